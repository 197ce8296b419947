set_option maxRecDepth 100000
/-! TimberHouseModel$Rips: 0 code, 1 step, 2 along, 3 across, 4 faults, 5 faces, 6 kinds, 7 fx, 8 fy, 9 fw, 10 fh, 11 pieces, 12 widths, 13 lows, 14 highs, 15 worths, 16 allowed, 17 needs, 18 prices, 19 lastPrices, 20 gangs, 21 ganged, 22 margin, 23 bow, 24 value0, 25 count0, 26 which0, 27 value1, 28 count1, 29 value2, 30 count2, 31 rest, 32 restCount, 33 made, 34 way, 35 stages, 36 size, 37 px, 38 py, 39 pdx, 40 pdy, 41 pwhich, 42 keptSize, 43 kept, 44 bound, 45 covered, 46 fewest; the array of field f has the key (f + 1, 0, 0) -/
def Ri_df : List wF := [(0, (0, 0, 0)), (0, (0, 0, 0)), (0, (0, 0, 0)), (0, (0, 0, 0)), (0, (0, 0, 0)), (2, (6, 0, 0)), (2, (7, 0, 0)), (2, (8, 0, 0)), (2, (9, 0, 0)), (2, (10, 0, 0)), (2, (11, 0, 0)), (0, (0, 0, 0)), (2, (13, 0, 0)), (2, (14, 0, 0)), (2, (15, 0, 0)), (2, (16, 0, 0)), (2, (17, 0, 0)), (2, (18, 0, 0)), (2, (19, 0, 0)), (2, (20, 0, 0)), (2, (21, 0, 0)), (0, (0, 0, 0)), (0, (0, 0, 0)), (0, (0, 0, 0)), (2, (25, 0, 0)), (2, (26, 0, 0)), (2, (27, 0, 0)), (2, (28, 0, 0)), (2, (29, 0, 0)), (2, (30, 0, 0)), (2, (31, 0, 0)), (2, (32, 0, 0)), (2, (33, 0, 0)), (0, (0, 0, 0)), (0, (0, 0, 0)), (0, (0, 0, 0)), (0, (0, 0, 0)), (2, (38, 0, 0)), (2, (39, 0, 0)), (2, (40, 0, 0)), (2, (41, 0, 0)), (2, (42, 0, 0)), (0, (0, 0, 0)), (2, (44, 0, 0)), (1, (0, 0, 0)), (2, (46, 0, 0)), (2, (47, 0, 0))]
def Ri_d : wK → Option wD := fun k => if k.2 = (0, 0) then (match k.1 with
  | 0 => some (.inl (27, Ri_df))
  | 6 => some (.inr (.inl (.int, 20)))
  | 7 => some (.inr (.inl (.int, 20)))
  | 8 => some (.inr (.inl (.int, 20)))
  | 9 => some (.inr (.inl (.int, 20)))
  | 10 => some (.inr (.inl (.int, 20)))
  | 11 => some (.inr (.inl (.int, 20)))
  | 13 => some (.inr (.inl (.int, 8)))
  | 14 => some (.inr (.inl (.int, 8)))
  | 15 => some (.inr (.inl (.int, 8)))
  | 16 => some (.inr (.inl (.long, 8)))
  | 17 => some (.inr (.inl (.boolean, 128)))
  | 18 => some (.inr (.inl (.int, 8)))
  | 19 => some (.inr (.inl (.long, 8)))
  | 20 => some (.inr (.inl (.long, 8)))
  | 21 => some (.inr (.inl (.boolean, 65537)))
  | 25 => some (.inr (.inl (.long, 75625)))
  | 26 => some (.inr (.inl (.int, 75625)))
  | 27 => some (.inr (.inl (.int, 75625)))
  | 28 => some (.inr (.inl (.long, 75625)))
  | 29 => some (.inr (.inl (.int, 75625)))
  | 30 => some (.inr (.inl (.long, 75625)))
  | 31 => some (.inr (.inl (.int, 75625)))
  | 32 => some (.inr (.inl (.long, 128)))
  | 33 => some (.inr (.inl (.int, 128)))
  | 38 => some (.inr (.inl (.int, 240)))
  | 39 => some (.inr (.inl (.int, 240)))
  | 40 => some (.inr (.inl (.int, 240)))
  | 41 => some (.inr (.inl (.int, 240)))
  | 42 => some (.inr (.inl (.int, 240)))
  | 44 => some (.inr (.inl (.int, 1200)))
  | 46 => some (.inr (.inl (.boolean, 240)))
  | 47 => some (.inr (.inl (.int, 24341)))
  | _ => none) else none
section
variable {A : wK → Nat} {S : wS} {h : pm_H} {m : Nat} {i v : Int32} {u : Int64}
theorem Ri_c (hA : wok A Ri_d m) : pm_cls (wput A Ri_d S h) (A (0, 0, 0)) = some 27 := w_cls hA rfl
theorem Ri_g0 (hA : wok A Ri_d m) : pm_gf pm_tab (wput A Ri_d S h) (A (0, 0, 0)) 27 0 = some (.int (S.1 (0, 0, 0) 0)) := w_g (f := (0, (0, 0, 0))) (fs := Ri_df) hA rfl rfl rfl
theorem Ri_p0 (hA : wok A Ri_d m) : pm_pf pm_tab (wput A Ri_d S h) (A (0, 0, 0)) 27 0 0 (.int v) = some (wput A Ri_d (sz S (0, 0, 0) 0 v) h) := w_p0 (q := (0, 0, 0)) (fs := Ri_df) (t := 0) hA rfl rfl rfl (by decide)
theorem Ri_g1 (hA : wok A Ri_d m) : pm_gf pm_tab (wput A Ri_d S h) (A (0, 0, 0)) 27 1 = some (.int (S.1 (0, 0, 0) 1)) := w_g (f := (0, (0, 0, 0))) (fs := Ri_df) hA rfl rfl rfl
theorem Ri_p1 (hA : wok A Ri_d m) : pm_pf pm_tab (wput A Ri_d S h) (A (0, 0, 0)) 27 1 0 (.int v) = some (wput A Ri_d (sz S (0, 0, 0) 1 v) h) := w_p0 (q := (0, 0, 0)) (fs := Ri_df) (t := 0) hA rfl rfl rfl (by decide)
theorem Ri_g2 (hA : wok A Ri_d m) : pm_gf pm_tab (wput A Ri_d S h) (A (0, 0, 0)) 27 2 = some (.int (S.1 (0, 0, 0) 2)) := w_g (f := (0, (0, 0, 0))) (fs := Ri_df) hA rfl rfl rfl
theorem Ri_p2 (hA : wok A Ri_d m) : pm_pf pm_tab (wput A Ri_d S h) (A (0, 0, 0)) 27 2 0 (.int v) = some (wput A Ri_d (sz S (0, 0, 0) 2 v) h) := w_p0 (q := (0, 0, 0)) (fs := Ri_df) (t := 0) hA rfl rfl rfl (by decide)
theorem Ri_g3 (hA : wok A Ri_d m) : pm_gf pm_tab (wput A Ri_d S h) (A (0, 0, 0)) 27 3 = some (.int (S.1 (0, 0, 0) 3)) := w_g (f := (0, (0, 0, 0))) (fs := Ri_df) hA rfl rfl rfl
theorem Ri_p3 (hA : wok A Ri_d m) : pm_pf pm_tab (wput A Ri_d S h) (A (0, 0, 0)) 27 3 0 (.int v) = some (wput A Ri_d (sz S (0, 0, 0) 3 v) h) := w_p0 (q := (0, 0, 0)) (fs := Ri_df) (t := 0) hA rfl rfl rfl (by decide)
theorem Ri_g4 (hA : wok A Ri_d m) : pm_gf pm_tab (wput A Ri_d S h) (A (0, 0, 0)) 27 4 = some (.int (S.1 (0, 0, 0) 4)) := w_g (f := (0, (0, 0, 0))) (fs := Ri_df) hA rfl rfl rfl
theorem Ri_p4 (hA : wok A Ri_d m) : pm_pf pm_tab (wput A Ri_d S h) (A (0, 0, 0)) 27 4 0 (.int v) = some (wput A Ri_d (sz S (0, 0, 0) 4 v) h) := w_p0 (q := (0, 0, 0)) (fs := Ri_df) (t := 0) hA rfl rfl rfl (by decide)
theorem Ri_g5 (hA : wok A Ri_d m) : pm_gf pm_tab (wput A Ri_d S h) (A (0, 0, 0)) 27 5 = some (.ref (A (6, 0, 0))) := w_g (f := (2, (6, 0, 0))) (fs := Ri_df) hA rfl rfl rfl
theorem Ri_g6 (hA : wok A Ri_d m) : pm_gf pm_tab (wput A Ri_d S h) (A (0, 0, 0)) 27 6 = some (.ref (A (7, 0, 0))) := w_g (f := (2, (7, 0, 0))) (fs := Ri_df) hA rfl rfl rfl
theorem Ri_g7 (hA : wok A Ri_d m) : pm_gf pm_tab (wput A Ri_d S h) (A (0, 0, 0)) 27 7 = some (.ref (A (8, 0, 0))) := w_g (f := (2, (8, 0, 0))) (fs := Ri_df) hA rfl rfl rfl
theorem Ri_g8 (hA : wok A Ri_d m) : pm_gf pm_tab (wput A Ri_d S h) (A (0, 0, 0)) 27 8 = some (.ref (A (9, 0, 0))) := w_g (f := (2, (9, 0, 0))) (fs := Ri_df) hA rfl rfl rfl
theorem Ri_g9 (hA : wok A Ri_d m) : pm_gf pm_tab (wput A Ri_d S h) (A (0, 0, 0)) 27 9 = some (.ref (A (10, 0, 0))) := w_g (f := (2, (10, 0, 0))) (fs := Ri_df) hA rfl rfl rfl
theorem Ri_g10 (hA : wok A Ri_d m) : pm_gf pm_tab (wput A Ri_d S h) (A (0, 0, 0)) 27 10 = some (.ref (A (11, 0, 0))) := w_g (f := (2, (11, 0, 0))) (fs := Ri_df) hA rfl rfl rfl
theorem Ri_g11 (hA : wok A Ri_d m) : pm_gf pm_tab (wput A Ri_d S h) (A (0, 0, 0)) 27 11 = some (.int (S.1 (0, 0, 0) 11)) := w_g (f := (0, (0, 0, 0))) (fs := Ri_df) hA rfl rfl rfl
theorem Ri_p11 (hA : wok A Ri_d m) : pm_pf pm_tab (wput A Ri_d S h) (A (0, 0, 0)) 27 11 0 (.int v) = some (wput A Ri_d (sz S (0, 0, 0) 11 v) h) := w_p0 (q := (0, 0, 0)) (fs := Ri_df) (t := 0) hA rfl rfl rfl (by decide)
theorem Ri_g12 (hA : wok A Ri_d m) : pm_gf pm_tab (wput A Ri_d S h) (A (0, 0, 0)) 27 12 = some (.ref (A (13, 0, 0))) := w_g (f := (2, (13, 0, 0))) (fs := Ri_df) hA rfl rfl rfl
theorem Ri_g13 (hA : wok A Ri_d m) : pm_gf pm_tab (wput A Ri_d S h) (A (0, 0, 0)) 27 13 = some (.ref (A (14, 0, 0))) := w_g (f := (2, (14, 0, 0))) (fs := Ri_df) hA rfl rfl rfl
theorem Ri_g14 (hA : wok A Ri_d m) : pm_gf pm_tab (wput A Ri_d S h) (A (0, 0, 0)) 27 14 = some (.ref (A (15, 0, 0))) := w_g (f := (2, (15, 0, 0))) (fs := Ri_df) hA rfl rfl rfl
theorem Ri_g15 (hA : wok A Ri_d m) : pm_gf pm_tab (wput A Ri_d S h) (A (0, 0, 0)) 27 15 = some (.ref (A (16, 0, 0))) := w_g (f := (2, (16, 0, 0))) (fs := Ri_df) hA rfl rfl rfl
theorem Ri_g16 (hA : wok A Ri_d m) : pm_gf pm_tab (wput A Ri_d S h) (A (0, 0, 0)) 27 16 = some (.ref (A (17, 0, 0))) := w_g (f := (2, (17, 0, 0))) (fs := Ri_df) hA rfl rfl rfl
theorem Ri_g17 (hA : wok A Ri_d m) : pm_gf pm_tab (wput A Ri_d S h) (A (0, 0, 0)) 27 17 = some (.ref (A (18, 0, 0))) := w_g (f := (2, (18, 0, 0))) (fs := Ri_df) hA rfl rfl rfl
theorem Ri_g18 (hA : wok A Ri_d m) : pm_gf pm_tab (wput A Ri_d S h) (A (0, 0, 0)) 27 18 = some (.ref (A (19, 0, 0))) := w_g (f := (2, (19, 0, 0))) (fs := Ri_df) hA rfl rfl rfl
theorem Ri_g19 (hA : wok A Ri_d m) : pm_gf pm_tab (wput A Ri_d S h) (A (0, 0, 0)) 27 19 = some (.ref (A (20, 0, 0))) := w_g (f := (2, (20, 0, 0))) (fs := Ri_df) hA rfl rfl rfl
theorem Ri_g20 (hA : wok A Ri_d m) : pm_gf pm_tab (wput A Ri_d S h) (A (0, 0, 0)) 27 20 = some (.ref (A (21, 0, 0))) := w_g (f := (2, (21, 0, 0))) (fs := Ri_df) hA rfl rfl rfl
theorem Ri_g21 (hA : wok A Ri_d m) : pm_gf pm_tab (wput A Ri_d S h) (A (0, 0, 0)) 27 21 = some (.int (S.1 (0, 0, 0) 21)) := w_g (f := (0, (0, 0, 0))) (fs := Ri_df) hA rfl rfl rfl
theorem Ri_p21 (hA : wok A Ri_d m) (hv : v = 0 ∨ v = 1) : pm_pf pm_tab (wput A Ri_d S h) (A (0, 0, 0)) 27 21 2 (.int v) = some (wput A Ri_d (sz S (0, 0, 0) 21 v) h) := (w_p0 (q := (0, 0, 0)) (fs := Ri_df) (t := 2) hA rfl rfl rfl (by decide)).trans (if_pos (by rw [pm_ok2]; exact hv))
theorem Ri_g22 (hA : wok A Ri_d m) : pm_gf pm_tab (wput A Ri_d S h) (A (0, 0, 0)) 27 22 = some (.int (S.1 (0, 0, 0) 22)) := w_g (f := (0, (0, 0, 0))) (fs := Ri_df) hA rfl rfl rfl
theorem Ri_p22 (hA : wok A Ri_d m) : pm_pf pm_tab (wput A Ri_d S h) (A (0, 0, 0)) 27 22 0 (.int v) = some (wput A Ri_d (sz S (0, 0, 0) 22 v) h) := w_p0 (q := (0, 0, 0)) (fs := Ri_df) (t := 0) hA rfl rfl rfl (by decide)
theorem Ri_g23 (hA : wok A Ri_d m) : pm_gf pm_tab (wput A Ri_d S h) (A (0, 0, 0)) 27 23 = some (.int (S.1 (0, 0, 0) 23)) := w_g (f := (0, (0, 0, 0))) (fs := Ri_df) hA rfl rfl rfl
theorem Ri_p23 (hA : wok A Ri_d m) : pm_pf pm_tab (wput A Ri_d S h) (A (0, 0, 0)) 27 23 0 (.int v) = some (wput A Ri_d (sz S (0, 0, 0) 23 v) h) := w_p0 (q := (0, 0, 0)) (fs := Ri_df) (t := 0) hA rfl rfl rfl (by decide)
theorem Ri_g24 (hA : wok A Ri_d m) : pm_gf pm_tab (wput A Ri_d S h) (A (0, 0, 0)) 27 24 = some (.ref (A (25, 0, 0))) := w_g (f := (2, (25, 0, 0))) (fs := Ri_df) hA rfl rfl rfl
theorem Ri_g25 (hA : wok A Ri_d m) : pm_gf pm_tab (wput A Ri_d S h) (A (0, 0, 0)) 27 25 = some (.ref (A (26, 0, 0))) := w_g (f := (2, (26, 0, 0))) (fs := Ri_df) hA rfl rfl rfl
theorem Ri_g26 (hA : wok A Ri_d m) : pm_gf pm_tab (wput A Ri_d S h) (A (0, 0, 0)) 27 26 = some (.ref (A (27, 0, 0))) := w_g (f := (2, (27, 0, 0))) (fs := Ri_df) hA rfl rfl rfl
theorem Ri_g27 (hA : wok A Ri_d m) : pm_gf pm_tab (wput A Ri_d S h) (A (0, 0, 0)) 27 27 = some (.ref (A (28, 0, 0))) := w_g (f := (2, (28, 0, 0))) (fs := Ri_df) hA rfl rfl rfl
theorem Ri_g28 (hA : wok A Ri_d m) : pm_gf pm_tab (wput A Ri_d S h) (A (0, 0, 0)) 27 28 = some (.ref (A (29, 0, 0))) := w_g (f := (2, (29, 0, 0))) (fs := Ri_df) hA rfl rfl rfl
theorem Ri_g29 (hA : wok A Ri_d m) : pm_gf pm_tab (wput A Ri_d S h) (A (0, 0, 0)) 27 29 = some (.ref (A (30, 0, 0))) := w_g (f := (2, (30, 0, 0))) (fs := Ri_df) hA rfl rfl rfl
theorem Ri_g30 (hA : wok A Ri_d m) : pm_gf pm_tab (wput A Ri_d S h) (A (0, 0, 0)) 27 30 = some (.ref (A (31, 0, 0))) := w_g (f := (2, (31, 0, 0))) (fs := Ri_df) hA rfl rfl rfl
theorem Ri_g31 (hA : wok A Ri_d m) : pm_gf pm_tab (wput A Ri_d S h) (A (0, 0, 0)) 27 31 = some (.ref (A (32, 0, 0))) := w_g (f := (2, (32, 0, 0))) (fs := Ri_df) hA rfl rfl rfl
theorem Ri_g32 (hA : wok A Ri_d m) : pm_gf pm_tab (wput A Ri_d S h) (A (0, 0, 0)) 27 32 = some (.ref (A (33, 0, 0))) := w_g (f := (2, (33, 0, 0))) (fs := Ri_df) hA rfl rfl rfl
theorem Ri_g33 (hA : wok A Ri_d m) : pm_gf pm_tab (wput A Ri_d S h) (A (0, 0, 0)) 27 33 = some (.int (S.1 (0, 0, 0) 33)) := w_g (f := (0, (0, 0, 0))) (fs := Ri_df) hA rfl rfl rfl
theorem Ri_p33 (hA : wok A Ri_d m) (hv : v = 0 ∨ v = 1) : pm_pf pm_tab (wput A Ri_d S h) (A (0, 0, 0)) 27 33 2 (.int v) = some (wput A Ri_d (sz S (0, 0, 0) 33 v) h) := (w_p0 (q := (0, 0, 0)) (fs := Ri_df) (t := 2) hA rfl rfl rfl (by decide)).trans (if_pos (by rw [pm_ok2]; exact hv))
theorem Ri_g34 (hA : wok A Ri_d m) : pm_gf pm_tab (wput A Ri_d S h) (A (0, 0, 0)) 27 34 = some (.int (S.1 (0, 0, 0) 34)) := w_g (f := (0, (0, 0, 0))) (fs := Ri_df) hA rfl rfl rfl
theorem Ri_p34 (hA : wok A Ri_d m) : pm_pf pm_tab (wput A Ri_d S h) (A (0, 0, 0)) 27 34 0 (.int v) = some (wput A Ri_d (sz S (0, 0, 0) 34 v) h) := w_p0 (q := (0, 0, 0)) (fs := Ri_df) (t := 0) hA rfl rfl rfl (by decide)
theorem Ri_g35 (hA : wok A Ri_d m) : pm_gf pm_tab (wput A Ri_d S h) (A (0, 0, 0)) 27 35 = some (.int (S.1 (0, 0, 0) 35)) := w_g (f := (0, (0, 0, 0))) (fs := Ri_df) hA rfl rfl rfl
theorem Ri_p35 (hA : wok A Ri_d m) : pm_pf pm_tab (wput A Ri_d S h) (A (0, 0, 0)) 27 35 0 (.int v) = some (wput A Ri_d (sz S (0, 0, 0) 35 v) h) := w_p0 (q := (0, 0, 0)) (fs := Ri_df) (t := 0) hA rfl rfl rfl (by decide)
theorem Ri_g36 (hA : wok A Ri_d m) : pm_gf pm_tab (wput A Ri_d S h) (A (0, 0, 0)) 27 36 = some (.int (S.1 (0, 0, 0) 36)) := w_g (f := (0, (0, 0, 0))) (fs := Ri_df) hA rfl rfl rfl
theorem Ri_p36 (hA : wok A Ri_d m) : pm_pf pm_tab (wput A Ri_d S h) (A (0, 0, 0)) 27 36 0 (.int v) = some (wput A Ri_d (sz S (0, 0, 0) 36 v) h) := w_p0 (q := (0, 0, 0)) (fs := Ri_df) (t := 0) hA rfl rfl rfl (by decide)
theorem Ri_g37 (hA : wok A Ri_d m) : pm_gf pm_tab (wput A Ri_d S h) (A (0, 0, 0)) 27 37 = some (.ref (A (38, 0, 0))) := w_g (f := (2, (38, 0, 0))) (fs := Ri_df) hA rfl rfl rfl
theorem Ri_g38 (hA : wok A Ri_d m) : pm_gf pm_tab (wput A Ri_d S h) (A (0, 0, 0)) 27 38 = some (.ref (A (39, 0, 0))) := w_g (f := (2, (39, 0, 0))) (fs := Ri_df) hA rfl rfl rfl
theorem Ri_g39 (hA : wok A Ri_d m) : pm_gf pm_tab (wput A Ri_d S h) (A (0, 0, 0)) 27 39 = some (.ref (A (40, 0, 0))) := w_g (f := (2, (40, 0, 0))) (fs := Ri_df) hA rfl rfl rfl
theorem Ri_g40 (hA : wok A Ri_d m) : pm_gf pm_tab (wput A Ri_d S h) (A (0, 0, 0)) 27 40 = some (.ref (A (41, 0, 0))) := w_g (f := (2, (41, 0, 0))) (fs := Ri_df) hA rfl rfl rfl
theorem Ri_g41 (hA : wok A Ri_d m) : pm_gf pm_tab (wput A Ri_d S h) (A (0, 0, 0)) 27 41 = some (.ref (A (42, 0, 0))) := w_g (f := (2, (42, 0, 0))) (fs := Ri_df) hA rfl rfl rfl
theorem Ri_g42 (hA : wok A Ri_d m) : pm_gf pm_tab (wput A Ri_d S h) (A (0, 0, 0)) 27 42 = some (.int (S.1 (0, 0, 0) 42)) := w_g (f := (0, (0, 0, 0))) (fs := Ri_df) hA rfl rfl rfl
theorem Ri_p42 (hA : wok A Ri_d m) : pm_pf pm_tab (wput A Ri_d S h) (A (0, 0, 0)) 27 42 0 (.int v) = some (wput A Ri_d (sz S (0, 0, 0) 42 v) h) := w_p0 (q := (0, 0, 0)) (fs := Ri_df) (t := 0) hA rfl rfl rfl (by decide)
theorem Ri_g43 (hA : wok A Ri_d m) : pm_gf pm_tab (wput A Ri_d S h) (A (0, 0, 0)) 27 43 = some (.ref (A (44, 0, 0))) := w_g (f := (2, (44, 0, 0))) (fs := Ri_df) hA rfl rfl rfl
theorem Ri_g44 (hA : wok A Ri_d m) : pm_gf pm_tab (wput A Ri_d S h) (A (0, 0, 0)) 27 44 = some (.long (S.2 (0, 0, 0) 44)) := w_g (f := (1, (0, 0, 0))) (fs := Ri_df) hA rfl rfl rfl
theorem Ri_p44 (hA : wok A Ri_d m) : pm_pf pm_tab (wput A Ri_d S h) (A (0, 0, 0)) 27 44 1 (.long u) = some (wput A Ri_d (sl S (0, 0, 0) 44 u) h) := w_p1 (q := (0, 0, 0)) (fs := Ri_df) hA rfl rfl rfl (by decide)
theorem Ri_g45 (hA : wok A Ri_d m) : pm_gf pm_tab (wput A Ri_d S h) (A (0, 0, 0)) 27 45 = some (.ref (A (46, 0, 0))) := w_g (f := (2, (46, 0, 0))) (fs := Ri_df) hA rfl rfl rfl
theorem Ri_g46 (hA : wok A Ri_d m) : pm_gf pm_tab (wput A Ri_d S h) (A (0, 0, 0)) 27 46 = some (.ref (A (47, 0, 0))) := w_g (f := (2, (47, 0, 0))) (fs := Ri_df) hA rfl rfl rfl
theorem Ri_l5 (hA : wok A Ri_d m) : pm_len (wput A Ri_d S h) (A (6, 0, 0)) = some 20 := w_len hA rfl (by decide)
theorem Ri_r5 (hA : wok A Ri_d m) (hi : 0 ≤ i ∧ i < 20) : pm_rd pm_isI (wput A Ri_d S h) (A (6, 0, 0)) i = some (S.1 (6, 0, 0) i) := (w_rd (n := 20) (t := .int) hA rfl rfl (by decide) (by decide)).trans (if_pos hi)
theorem Ri_w5 (hA : wok A Ri_d m) (hi : 0 ≤ i ∧ i < 20) : pm_wr pm_wI (wput A Ri_d S h) (A (6, 0, 0)) i v = some (wput A Ri_d (sz S (6, 0, 0) i v) h) := (w_wr (n := 20) (t := .int) hA rfl rfl (by decide) (by decide)).trans (if_pos hi)
theorem Ri_l6 (hA : wok A Ri_d m) : pm_len (wput A Ri_d S h) (A (7, 0, 0)) = some 20 := w_len hA rfl (by decide)
theorem Ri_r6 (hA : wok A Ri_d m) (hi : 0 ≤ i ∧ i < 20) : pm_rd pm_isI (wput A Ri_d S h) (A (7, 0, 0)) i = some (S.1 (7, 0, 0) i) := (w_rd (n := 20) (t := .int) hA rfl rfl (by decide) (by decide)).trans (if_pos hi)
theorem Ri_w6 (hA : wok A Ri_d m) (hi : 0 ≤ i ∧ i < 20) : pm_wr pm_wI (wput A Ri_d S h) (A (7, 0, 0)) i v = some (wput A Ri_d (sz S (7, 0, 0) i v) h) := (w_wr (n := 20) (t := .int) hA rfl rfl (by decide) (by decide)).trans (if_pos hi)
theorem Ri_l7 (hA : wok A Ri_d m) : pm_len (wput A Ri_d S h) (A (8, 0, 0)) = some 20 := w_len hA rfl (by decide)
theorem Ri_r7 (hA : wok A Ri_d m) (hi : 0 ≤ i ∧ i < 20) : pm_rd pm_isI (wput A Ri_d S h) (A (8, 0, 0)) i = some (S.1 (8, 0, 0) i) := (w_rd (n := 20) (t := .int) hA rfl rfl (by decide) (by decide)).trans (if_pos hi)
theorem Ri_w7 (hA : wok A Ri_d m) (hi : 0 ≤ i ∧ i < 20) : pm_wr pm_wI (wput A Ri_d S h) (A (8, 0, 0)) i v = some (wput A Ri_d (sz S (8, 0, 0) i v) h) := (w_wr (n := 20) (t := .int) hA rfl rfl (by decide) (by decide)).trans (if_pos hi)
theorem Ri_l8 (hA : wok A Ri_d m) : pm_len (wput A Ri_d S h) (A (9, 0, 0)) = some 20 := w_len hA rfl (by decide)
theorem Ri_r8 (hA : wok A Ri_d m) (hi : 0 ≤ i ∧ i < 20) : pm_rd pm_isI (wput A Ri_d S h) (A (9, 0, 0)) i = some (S.1 (9, 0, 0) i) := (w_rd (n := 20) (t := .int) hA rfl rfl (by decide) (by decide)).trans (if_pos hi)
theorem Ri_w8 (hA : wok A Ri_d m) (hi : 0 ≤ i ∧ i < 20) : pm_wr pm_wI (wput A Ri_d S h) (A (9, 0, 0)) i v = some (wput A Ri_d (sz S (9, 0, 0) i v) h) := (w_wr (n := 20) (t := .int) hA rfl rfl (by decide) (by decide)).trans (if_pos hi)
theorem Ri_l9 (hA : wok A Ri_d m) : pm_len (wput A Ri_d S h) (A (10, 0, 0)) = some 20 := w_len hA rfl (by decide)
theorem Ri_r9 (hA : wok A Ri_d m) (hi : 0 ≤ i ∧ i < 20) : pm_rd pm_isI (wput A Ri_d S h) (A (10, 0, 0)) i = some (S.1 (10, 0, 0) i) := (w_rd (n := 20) (t := .int) hA rfl rfl (by decide) (by decide)).trans (if_pos hi)
theorem Ri_w9 (hA : wok A Ri_d m) (hi : 0 ≤ i ∧ i < 20) : pm_wr pm_wI (wput A Ri_d S h) (A (10, 0, 0)) i v = some (wput A Ri_d (sz S (10, 0, 0) i v) h) := (w_wr (n := 20) (t := .int) hA rfl rfl (by decide) (by decide)).trans (if_pos hi)
theorem Ri_l10 (hA : wok A Ri_d m) : pm_len (wput A Ri_d S h) (A (11, 0, 0)) = some 20 := w_len hA rfl (by decide)
theorem Ri_r10 (hA : wok A Ri_d m) (hi : 0 ≤ i ∧ i < 20) : pm_rd pm_isI (wput A Ri_d S h) (A (11, 0, 0)) i = some (S.1 (11, 0, 0) i) := (w_rd (n := 20) (t := .int) hA rfl rfl (by decide) (by decide)).trans (if_pos hi)
theorem Ri_w10 (hA : wok A Ri_d m) (hi : 0 ≤ i ∧ i < 20) : pm_wr pm_wI (wput A Ri_d S h) (A (11, 0, 0)) i v = some (wput A Ri_d (sz S (11, 0, 0) i v) h) := (w_wr (n := 20) (t := .int) hA rfl rfl (by decide) (by decide)).trans (if_pos hi)
theorem Ri_l12 (hA : wok A Ri_d m) : pm_len (wput A Ri_d S h) (A (13, 0, 0)) = some 8 := w_len hA rfl (by decide)
theorem Ri_r12 (hA : wok A Ri_d m) (hi : 0 ≤ i ∧ i < 8) : pm_rd pm_isI (wput A Ri_d S h) (A (13, 0, 0)) i = some (S.1 (13, 0, 0) i) := (w_rd (n := 8) (t := .int) hA rfl rfl (by decide) (by decide)).trans (if_pos hi)
theorem Ri_w12 (hA : wok A Ri_d m) (hi : 0 ≤ i ∧ i < 8) : pm_wr pm_wI (wput A Ri_d S h) (A (13, 0, 0)) i v = some (wput A Ri_d (sz S (13, 0, 0) i v) h) := (w_wr (n := 8) (t := .int) hA rfl rfl (by decide) (by decide)).trans (if_pos hi)
theorem Ri_l13 (hA : wok A Ri_d m) : pm_len (wput A Ri_d S h) (A (14, 0, 0)) = some 8 := w_len hA rfl (by decide)
theorem Ri_r13 (hA : wok A Ri_d m) (hi : 0 ≤ i ∧ i < 8) : pm_rd pm_isI (wput A Ri_d S h) (A (14, 0, 0)) i = some (S.1 (14, 0, 0) i) := (w_rd (n := 8) (t := .int) hA rfl rfl (by decide) (by decide)).trans (if_pos hi)
theorem Ri_w13 (hA : wok A Ri_d m) (hi : 0 ≤ i ∧ i < 8) : pm_wr pm_wI (wput A Ri_d S h) (A (14, 0, 0)) i v = some (wput A Ri_d (sz S (14, 0, 0) i v) h) := (w_wr (n := 8) (t := .int) hA rfl rfl (by decide) (by decide)).trans (if_pos hi)
theorem Ri_l14 (hA : wok A Ri_d m) : pm_len (wput A Ri_d S h) (A (15, 0, 0)) = some 8 := w_len hA rfl (by decide)
theorem Ri_r14 (hA : wok A Ri_d m) (hi : 0 ≤ i ∧ i < 8) : pm_rd pm_isI (wput A Ri_d S h) (A (15, 0, 0)) i = some (S.1 (15, 0, 0) i) := (w_rd (n := 8) (t := .int) hA rfl rfl (by decide) (by decide)).trans (if_pos hi)
theorem Ri_w14 (hA : wok A Ri_d m) (hi : 0 ≤ i ∧ i < 8) : pm_wr pm_wI (wput A Ri_d S h) (A (15, 0, 0)) i v = some (wput A Ri_d (sz S (15, 0, 0) i v) h) := (w_wr (n := 8) (t := .int) hA rfl rfl (by decide) (by decide)).trans (if_pos hi)
theorem Ri_l15 (hA : wok A Ri_d m) : pm_len (wput A Ri_d S h) (A (16, 0, 0)) = some 8 := w_len hA rfl (by decide)
theorem Ri_r15 (hA : wok A Ri_d m) (hi : 0 ≤ i ∧ i < 8) : pm_rdL (wput A Ri_d S h) (A (16, 0, 0)) i = some (S.2 (16, 0, 0) i) := (w_rdL (n := 8) hA rfl (by decide)).trans (if_pos hi)
theorem Ri_w15 (hA : wok A Ri_d m) (hi : 0 ≤ i ∧ i < 8) : pm_wrL (wput A Ri_d S h) (A (16, 0, 0)) i u = some (wput A Ri_d (sl S (16, 0, 0) i u) h) := (w_wrL (n := 8) hA rfl (by decide)).trans (if_pos hi)
theorem Ri_l16 (hA : wok A Ri_d m) : pm_len (wput A Ri_d S h) (A (17, 0, 0)) = some 128 := w_len hA rfl (by decide)
theorem Ri_r16 (hA : wok A Ri_d m) (hi : 0 ≤ i ∧ i < 128) : pm_rd pm_isB (wput A Ri_d S h) (A (17, 0, 0)) i = some (S.1 (17, 0, 0) i) := (w_rd (n := 128) (t := .boolean) hA rfl rfl (by decide) (by decide)).trans (if_pos hi)
theorem Ri_w16 (hA : wok A Ri_d m) (hi : 0 ≤ i ∧ i < 128) : pm_wr pm_wB (wput A Ri_d S h) (A (17, 0, 0)) i v = some (wput A Ri_d (sz S (17, 0, 0) i (vp_nar .boolean v)) h) := (w_wr (n := 128) (t := .boolean) hA rfl rfl (by decide) (by decide)).trans (if_pos hi)
theorem Ri_l17 (hA : wok A Ri_d m) : pm_len (wput A Ri_d S h) (A (18, 0, 0)) = some 8 := w_len hA rfl (by decide)
theorem Ri_r17 (hA : wok A Ri_d m) (hi : 0 ≤ i ∧ i < 8) : pm_rd pm_isI (wput A Ri_d S h) (A (18, 0, 0)) i = some (S.1 (18, 0, 0) i) := (w_rd (n := 8) (t := .int) hA rfl rfl (by decide) (by decide)).trans (if_pos hi)
theorem Ri_w17 (hA : wok A Ri_d m) (hi : 0 ≤ i ∧ i < 8) : pm_wr pm_wI (wput A Ri_d S h) (A (18, 0, 0)) i v = some (wput A Ri_d (sz S (18, 0, 0) i v) h) := (w_wr (n := 8) (t := .int) hA rfl rfl (by decide) (by decide)).trans (if_pos hi)
theorem Ri_l18 (hA : wok A Ri_d m) : pm_len (wput A Ri_d S h) (A (19, 0, 0)) = some 8 := w_len hA rfl (by decide)
theorem Ri_r18 (hA : wok A Ri_d m) (hi : 0 ≤ i ∧ i < 8) : pm_rdL (wput A Ri_d S h) (A (19, 0, 0)) i = some (S.2 (19, 0, 0) i) := (w_rdL (n := 8) hA rfl (by decide)).trans (if_pos hi)
theorem Ri_w18 (hA : wok A Ri_d m) (hi : 0 ≤ i ∧ i < 8) : pm_wrL (wput A Ri_d S h) (A (19, 0, 0)) i u = some (wput A Ri_d (sl S (19, 0, 0) i u) h) := (w_wrL (n := 8) hA rfl (by decide)).trans (if_pos hi)
theorem Ri_l19 (hA : wok A Ri_d m) : pm_len (wput A Ri_d S h) (A (20, 0, 0)) = some 8 := w_len hA rfl (by decide)
theorem Ri_r19 (hA : wok A Ri_d m) (hi : 0 ≤ i ∧ i < 8) : pm_rdL (wput A Ri_d S h) (A (20, 0, 0)) i = some (S.2 (20, 0, 0) i) := (w_rdL (n := 8) hA rfl (by decide)).trans (if_pos hi)
theorem Ri_w19 (hA : wok A Ri_d m) (hi : 0 ≤ i ∧ i < 8) : pm_wrL (wput A Ri_d S h) (A (20, 0, 0)) i u = some (wput A Ri_d (sl S (20, 0, 0) i u) h) := (w_wrL (n := 8) hA rfl (by decide)).trans (if_pos hi)
theorem Ri_l20 (hA : wok A Ri_d m) : pm_len (wput A Ri_d S h) (A (21, 0, 0)) = some 65537 := w_len hA rfl (by decide)
theorem Ri_r20 (hA : wok A Ri_d m) (hi : 0 ≤ i ∧ i < 65537) : pm_rd pm_isB (wput A Ri_d S h) (A (21, 0, 0)) i = some (S.1 (21, 0, 0) i) := (w_rd (n := 65537) (t := .boolean) hA rfl rfl (by decide) (by decide)).trans (if_pos hi)
theorem Ri_w20 (hA : wok A Ri_d m) (hi : 0 ≤ i ∧ i < 65537) : pm_wr pm_wB (wput A Ri_d S h) (A (21, 0, 0)) i v = some (wput A Ri_d (sz S (21, 0, 0) i (vp_nar .boolean v)) h) := (w_wr (n := 65537) (t := .boolean) hA rfl rfl (by decide) (by decide)).trans (if_pos hi)
theorem Ri_l24 (hA : wok A Ri_d m) : pm_len (wput A Ri_d S h) (A (25, 0, 0)) = some 75625 := w_len hA rfl (by decide)
theorem Ri_r24 (hA : wok A Ri_d m) (hi : 0 ≤ i ∧ i < 75625) : pm_rdL (wput A Ri_d S h) (A (25, 0, 0)) i = some (S.2 (25, 0, 0) i) := (w_rdL (n := 75625) hA rfl (by decide)).trans (if_pos hi)
theorem Ri_w24 (hA : wok A Ri_d m) (hi : 0 ≤ i ∧ i < 75625) : pm_wrL (wput A Ri_d S h) (A (25, 0, 0)) i u = some (wput A Ri_d (sl S (25, 0, 0) i u) h) := (w_wrL (n := 75625) hA rfl (by decide)).trans (if_pos hi)
theorem Ri_l25 (hA : wok A Ri_d m) : pm_len (wput A Ri_d S h) (A (26, 0, 0)) = some 75625 := w_len hA rfl (by decide)
theorem Ri_r25 (hA : wok A Ri_d m) (hi : 0 ≤ i ∧ i < 75625) : pm_rd pm_isI (wput A Ri_d S h) (A (26, 0, 0)) i = some (S.1 (26, 0, 0) i) := (w_rd (n := 75625) (t := .int) hA rfl rfl (by decide) (by decide)).trans (if_pos hi)
theorem Ri_w25 (hA : wok A Ri_d m) (hi : 0 ≤ i ∧ i < 75625) : pm_wr pm_wI (wput A Ri_d S h) (A (26, 0, 0)) i v = some (wput A Ri_d (sz S (26, 0, 0) i v) h) := (w_wr (n := 75625) (t := .int) hA rfl rfl (by decide) (by decide)).trans (if_pos hi)
theorem Ri_l26 (hA : wok A Ri_d m) : pm_len (wput A Ri_d S h) (A (27, 0, 0)) = some 75625 := w_len hA rfl (by decide)
theorem Ri_r26 (hA : wok A Ri_d m) (hi : 0 ≤ i ∧ i < 75625) : pm_rd pm_isI (wput A Ri_d S h) (A (27, 0, 0)) i = some (S.1 (27, 0, 0) i) := (w_rd (n := 75625) (t := .int) hA rfl rfl (by decide) (by decide)).trans (if_pos hi)
theorem Ri_w26 (hA : wok A Ri_d m) (hi : 0 ≤ i ∧ i < 75625) : pm_wr pm_wI (wput A Ri_d S h) (A (27, 0, 0)) i v = some (wput A Ri_d (sz S (27, 0, 0) i v) h) := (w_wr (n := 75625) (t := .int) hA rfl rfl (by decide) (by decide)).trans (if_pos hi)
theorem Ri_l27 (hA : wok A Ri_d m) : pm_len (wput A Ri_d S h) (A (28, 0, 0)) = some 75625 := w_len hA rfl (by decide)
theorem Ri_r27 (hA : wok A Ri_d m) (hi : 0 ≤ i ∧ i < 75625) : pm_rdL (wput A Ri_d S h) (A (28, 0, 0)) i = some (S.2 (28, 0, 0) i) := (w_rdL (n := 75625) hA rfl (by decide)).trans (if_pos hi)
theorem Ri_w27 (hA : wok A Ri_d m) (hi : 0 ≤ i ∧ i < 75625) : pm_wrL (wput A Ri_d S h) (A (28, 0, 0)) i u = some (wput A Ri_d (sl S (28, 0, 0) i u) h) := (w_wrL (n := 75625) hA rfl (by decide)).trans (if_pos hi)
theorem Ri_l28 (hA : wok A Ri_d m) : pm_len (wput A Ri_d S h) (A (29, 0, 0)) = some 75625 := w_len hA rfl (by decide)
theorem Ri_r28 (hA : wok A Ri_d m) (hi : 0 ≤ i ∧ i < 75625) : pm_rd pm_isI (wput A Ri_d S h) (A (29, 0, 0)) i = some (S.1 (29, 0, 0) i) := (w_rd (n := 75625) (t := .int) hA rfl rfl (by decide) (by decide)).trans (if_pos hi)
theorem Ri_w28 (hA : wok A Ri_d m) (hi : 0 ≤ i ∧ i < 75625) : pm_wr pm_wI (wput A Ri_d S h) (A (29, 0, 0)) i v = some (wput A Ri_d (sz S (29, 0, 0) i v) h) := (w_wr (n := 75625) (t := .int) hA rfl rfl (by decide) (by decide)).trans (if_pos hi)
theorem Ri_l29 (hA : wok A Ri_d m) : pm_len (wput A Ri_d S h) (A (30, 0, 0)) = some 75625 := w_len hA rfl (by decide)
theorem Ri_r29 (hA : wok A Ri_d m) (hi : 0 ≤ i ∧ i < 75625) : pm_rdL (wput A Ri_d S h) (A (30, 0, 0)) i = some (S.2 (30, 0, 0) i) := (w_rdL (n := 75625) hA rfl (by decide)).trans (if_pos hi)
theorem Ri_w29 (hA : wok A Ri_d m) (hi : 0 ≤ i ∧ i < 75625) : pm_wrL (wput A Ri_d S h) (A (30, 0, 0)) i u = some (wput A Ri_d (sl S (30, 0, 0) i u) h) := (w_wrL (n := 75625) hA rfl (by decide)).trans (if_pos hi)
theorem Ri_l30 (hA : wok A Ri_d m) : pm_len (wput A Ri_d S h) (A (31, 0, 0)) = some 75625 := w_len hA rfl (by decide)
theorem Ri_r30 (hA : wok A Ri_d m) (hi : 0 ≤ i ∧ i < 75625) : pm_rd pm_isI (wput A Ri_d S h) (A (31, 0, 0)) i = some (S.1 (31, 0, 0) i) := (w_rd (n := 75625) (t := .int) hA rfl rfl (by decide) (by decide)).trans (if_pos hi)
theorem Ri_w30 (hA : wok A Ri_d m) (hi : 0 ≤ i ∧ i < 75625) : pm_wr pm_wI (wput A Ri_d S h) (A (31, 0, 0)) i v = some (wput A Ri_d (sz S (31, 0, 0) i v) h) := (w_wr (n := 75625) (t := .int) hA rfl rfl (by decide) (by decide)).trans (if_pos hi)
theorem Ri_l31 (hA : wok A Ri_d m) : pm_len (wput A Ri_d S h) (A (32, 0, 0)) = some 128 := w_len hA rfl (by decide)
theorem Ri_r31 (hA : wok A Ri_d m) (hi : 0 ≤ i ∧ i < 128) : pm_rdL (wput A Ri_d S h) (A (32, 0, 0)) i = some (S.2 (32, 0, 0) i) := (w_rdL (n := 128) hA rfl (by decide)).trans (if_pos hi)
theorem Ri_w31 (hA : wok A Ri_d m) (hi : 0 ≤ i ∧ i < 128) : pm_wrL (wput A Ri_d S h) (A (32, 0, 0)) i u = some (wput A Ri_d (sl S (32, 0, 0) i u) h) := (w_wrL (n := 128) hA rfl (by decide)).trans (if_pos hi)
theorem Ri_l32 (hA : wok A Ri_d m) : pm_len (wput A Ri_d S h) (A (33, 0, 0)) = some 128 := w_len hA rfl (by decide)
theorem Ri_r32 (hA : wok A Ri_d m) (hi : 0 ≤ i ∧ i < 128) : pm_rd pm_isI (wput A Ri_d S h) (A (33, 0, 0)) i = some (S.1 (33, 0, 0) i) := (w_rd (n := 128) (t := .int) hA rfl rfl (by decide) (by decide)).trans (if_pos hi)
theorem Ri_w32 (hA : wok A Ri_d m) (hi : 0 ≤ i ∧ i < 128) : pm_wr pm_wI (wput A Ri_d S h) (A (33, 0, 0)) i v = some (wput A Ri_d (sz S (33, 0, 0) i v) h) := (w_wr (n := 128) (t := .int) hA rfl rfl (by decide) (by decide)).trans (if_pos hi)
theorem Ri_l37 (hA : wok A Ri_d m) : pm_len (wput A Ri_d S h) (A (38, 0, 0)) = some 240 := w_len hA rfl (by decide)
theorem Ri_r37 (hA : wok A Ri_d m) (hi : 0 ≤ i ∧ i < 240) : pm_rd pm_isI (wput A Ri_d S h) (A (38, 0, 0)) i = some (S.1 (38, 0, 0) i) := (w_rd (n := 240) (t := .int) hA rfl rfl (by decide) (by decide)).trans (if_pos hi)
theorem Ri_w37 (hA : wok A Ri_d m) (hi : 0 ≤ i ∧ i < 240) : pm_wr pm_wI (wput A Ri_d S h) (A (38, 0, 0)) i v = some (wput A Ri_d (sz S (38, 0, 0) i v) h) := (w_wr (n := 240) (t := .int) hA rfl rfl (by decide) (by decide)).trans (if_pos hi)
theorem Ri_l38 (hA : wok A Ri_d m) : pm_len (wput A Ri_d S h) (A (39, 0, 0)) = some 240 := w_len hA rfl (by decide)
theorem Ri_r38 (hA : wok A Ri_d m) (hi : 0 ≤ i ∧ i < 240) : pm_rd pm_isI (wput A Ri_d S h) (A (39, 0, 0)) i = some (S.1 (39, 0, 0) i) := (w_rd (n := 240) (t := .int) hA rfl rfl (by decide) (by decide)).trans (if_pos hi)
theorem Ri_w38 (hA : wok A Ri_d m) (hi : 0 ≤ i ∧ i < 240) : pm_wr pm_wI (wput A Ri_d S h) (A (39, 0, 0)) i v = some (wput A Ri_d (sz S (39, 0, 0) i v) h) := (w_wr (n := 240) (t := .int) hA rfl rfl (by decide) (by decide)).trans (if_pos hi)
theorem Ri_l39 (hA : wok A Ri_d m) : pm_len (wput A Ri_d S h) (A (40, 0, 0)) = some 240 := w_len hA rfl (by decide)
theorem Ri_r39 (hA : wok A Ri_d m) (hi : 0 ≤ i ∧ i < 240) : pm_rd pm_isI (wput A Ri_d S h) (A (40, 0, 0)) i = some (S.1 (40, 0, 0) i) := (w_rd (n := 240) (t := .int) hA rfl rfl (by decide) (by decide)).trans (if_pos hi)
theorem Ri_w39 (hA : wok A Ri_d m) (hi : 0 ≤ i ∧ i < 240) : pm_wr pm_wI (wput A Ri_d S h) (A (40, 0, 0)) i v = some (wput A Ri_d (sz S (40, 0, 0) i v) h) := (w_wr (n := 240) (t := .int) hA rfl rfl (by decide) (by decide)).trans (if_pos hi)
theorem Ri_l40 (hA : wok A Ri_d m) : pm_len (wput A Ri_d S h) (A (41, 0, 0)) = some 240 := w_len hA rfl (by decide)
theorem Ri_r40 (hA : wok A Ri_d m) (hi : 0 ≤ i ∧ i < 240) : pm_rd pm_isI (wput A Ri_d S h) (A (41, 0, 0)) i = some (S.1 (41, 0, 0) i) := (w_rd (n := 240) (t := .int) hA rfl rfl (by decide) (by decide)).trans (if_pos hi)
theorem Ri_w40 (hA : wok A Ri_d m) (hi : 0 ≤ i ∧ i < 240) : pm_wr pm_wI (wput A Ri_d S h) (A (41, 0, 0)) i v = some (wput A Ri_d (sz S (41, 0, 0) i v) h) := (w_wr (n := 240) (t := .int) hA rfl rfl (by decide) (by decide)).trans (if_pos hi)
theorem Ri_l41 (hA : wok A Ri_d m) : pm_len (wput A Ri_d S h) (A (42, 0, 0)) = some 240 := w_len hA rfl (by decide)
theorem Ri_r41 (hA : wok A Ri_d m) (hi : 0 ≤ i ∧ i < 240) : pm_rd pm_isI (wput A Ri_d S h) (A (42, 0, 0)) i = some (S.1 (42, 0, 0) i) := (w_rd (n := 240) (t := .int) hA rfl rfl (by decide) (by decide)).trans (if_pos hi)
theorem Ri_w41 (hA : wok A Ri_d m) (hi : 0 ≤ i ∧ i < 240) : pm_wr pm_wI (wput A Ri_d S h) (A (42, 0, 0)) i v = some (wput A Ri_d (sz S (42, 0, 0) i v) h) := (w_wr (n := 240) (t := .int) hA rfl rfl (by decide) (by decide)).trans (if_pos hi)
theorem Ri_l43 (hA : wok A Ri_d m) : pm_len (wput A Ri_d S h) (A (44, 0, 0)) = some 1200 := w_len hA rfl (by decide)
theorem Ri_r43 (hA : wok A Ri_d m) (hi : 0 ≤ i ∧ i < 1200) : pm_rd pm_isI (wput A Ri_d S h) (A (44, 0, 0)) i = some (S.1 (44, 0, 0) i) := (w_rd (n := 1200) (t := .int) hA rfl rfl (by decide) (by decide)).trans (if_pos hi)
theorem Ri_w43 (hA : wok A Ri_d m) (hi : 0 ≤ i ∧ i < 1200) : pm_wr pm_wI (wput A Ri_d S h) (A (44, 0, 0)) i v = some (wput A Ri_d (sz S (44, 0, 0) i v) h) := (w_wr (n := 1200) (t := .int) hA rfl rfl (by decide) (by decide)).trans (if_pos hi)
theorem Ri_l45 (hA : wok A Ri_d m) : pm_len (wput A Ri_d S h) (A (46, 0, 0)) = some 240 := w_len hA rfl (by decide)
theorem Ri_r45 (hA : wok A Ri_d m) (hi : 0 ≤ i ∧ i < 240) : pm_rd pm_isB (wput A Ri_d S h) (A (46, 0, 0)) i = some (S.1 (46, 0, 0) i) := (w_rd (n := 240) (t := .boolean) hA rfl rfl (by decide) (by decide)).trans (if_pos hi)
theorem Ri_w45 (hA : wok A Ri_d m) (hi : 0 ≤ i ∧ i < 240) : pm_wr pm_wB (wput A Ri_d S h) (A (46, 0, 0)) i v = some (wput A Ri_d (sz S (46, 0, 0) i (vp_nar .boolean v)) h) := (w_wr (n := 240) (t := .boolean) hA rfl rfl (by decide) (by decide)).trans (if_pos hi)
theorem Ri_l46 (hA : wok A Ri_d m) : pm_len (wput A Ri_d S h) (A (47, 0, 0)) = some 24341 := w_len hA rfl (by decide)
theorem Ri_r46 (hA : wok A Ri_d m) (hi : 0 ≤ i ∧ i < 24341) : pm_rd pm_isI (wput A Ri_d S h) (A (47, 0, 0)) i = some (S.1 (47, 0, 0) i) := (w_rd (n := 24341) (t := .int) hA rfl rfl (by decide) (by decide)).trans (if_pos hi)
theorem Ri_w46 (hA : wok A Ri_d m) (hi : 0 ≤ i ∧ i < 24341) : pm_wr pm_wI (wput A Ri_d S h) (A (47, 0, 0)) i v = some (wput A Ri_d (sz S (47, 0, 0) i v) h) := (w_wr (n := 24341) (t := .int) hA rfl rfl (by decide) (by decide)).trans (if_pos hi)
end
/-- TimberHouseModel$Rips.thrown()I -/
theorem c1733 {d : Nat} {h : pm_H} {a : Nat} (hc : pm_cls h a = some 27) : pm_call pm_prog (d + 1) 1733 [.ref a] h = pm_ev pm_prog (pm_call pm_prog d) 1733 0 b1733_0 [.ref a] [] h := pm_cal (pm_rc1 hc rfl) rfl rfl rfl
/-- TimberHouseModel$Rips.thrown()I -/
noncomputable def f1733 (S : wS) : Option (Int32) :=
  some (S.1 (0, 0, 0) 0)
theorem x1733 {A : wK → Nat} {h : pm_H} {m D : Nat} {S : wS} {r : Int32} (hA : wok A Ri_d m) (hD : 1 ≤ D) (e : f1733 S = some r) : pm_call pm_prog D 1733 [.ref (A (0, 0, 0))] (wput A Ri_d S h) = some (.returned (some (.int r)), (wput A Ri_d S h)) := by
  obtain ⟨D, rfl⟩ : ∃ D', D = D' + 1 := ⟨D - 1, by omega⟩
  have hD : 0 ≤ D := by omega
  rw [c1733 (Ri_c hA), b1733_0]
  simp only [f1733] at e
  have e := Option.some.inj e; subst e
  simp -implicitDefEqProofs (disch := first | assumption | exact Nat.le_of_ble_eq_true rfl | decide) only [b1733_0, pe_aload0, pe_getfield, pm_prog_1, pm_ob_some, Nat.reduceDiv, Nat.reduceMod, Nat.reduceMul, Nat.reduceAdd, Int.reduceToNat, pm_kill_i, pm_kill_r, pm_kill_n, pm_kill_j, pm_kill_l, pm_kill_d, pm_cats_nil, pm_cats_i, pm_cats_r, pm_cats_n, pm_cats_l, pm_cats_d, sz_1, sz_2, sl_1, sl_2, lc_0, lc_lt, lc_le, li_ne, Int32.reduceOfInt, Int64.reduceOfInt, Int32.reduceOfNat, Int32.reduceLT, Int32.reduceLE, Prod.mk.injEq, Nat.reduceEqDiff, reduceCtorEq, and_true, true_and, and_false, false_and, and_self, ite_true, ite_false, ↓reduceIte, not_true_eq_false, not_false_eq_true, pe_ri, pe_rz, Ri_g0 hA]
/-- TimberHouseModel$Rips.none()Z -/
theorem c1772 {d : Nat} {h : pm_H} {a : Nat} (hc : pm_cls h a = some 27) : pm_call pm_prog (d + 1) 1772 [.ref a] h = pm_ev pm_prog (pm_call pm_prog d) 1772 0 b1772_0 [.ref a] [] h := pm_cal (pm_rc1 hc rfl) rfl rfl rfl
theorem g1772_1 {cl : pm_C} {ls st : List Value} {h : pm_H} : pm_go pm_prog cl 1772 1 ls st h = pm_ev pm_prog cl 1772 1 b1772_1 ls st h := pm_go_eq pm_prog cl 1772 1 ls st h
theorem g1772_2 {cl : pm_C} {ls st : List Value} {h : pm_H} : pm_go pm_prog cl 1772 2 ls st h = pm_ev pm_prog cl 1772 2 b1772_2 ls st h := pm_go_eq pm_prog cl 1772 2 ls st h
theorem g1772_3 {cl : pm_C} {ls st : List Value} {h : pm_H} : pm_go pm_prog cl 1772 3 ls st h = pm_ev pm_prog cl 1772 3 b1772_3 ls st h := pm_go_eq pm_prog cl 1772 3 ls st h
theorem g1772_4 {cl : pm_C} {ls st : List Value} {h : pm_H} : pm_go pm_prog cl 1772 4 ls st h = pm_ev pm_prog cl 1772 4 b1772_4 ls st h := pm_go_eq pm_prog cl 1772 4 ls st h
noncomputable def f1772_2 (S : wS) (y1 : Int32) : Option (Int32 × wS) :=
  if y1 ≤ 0 then
    some (0, (sz S (0, 0, 0) 0 y1))
  else
    some (1, (sz S (0, 0, 0) 0 y1))
/-- TimberHouseModel$Rips.none()Z -/
noncomputable def f1772 (S : wS) : Option (Int32 × wS) :=
  if (S.1 (0, 0, 0) 33) = 0 then
    f1772_2 S 1
  else
    f1772_2 S 0
theorem y1772_2 {A : wK → Nat} {h : pm_H} {m D : Nat} {S : wS} {y1 : Int32} {r : Int32 × wS} (hA : wok A Ri_d m) (hD : 0 ≤ D) (e : f1772_2 S y1 = some r) : pm_go pm_prog (pm_call pm_prog D) 1772 2 [.ref (A (0, 0, 0))] [.int y1, .ref (A (0, 0, 0))] (wput A Ri_d S h) = some (.returned (some (.int r.1)), (wput A Ri_d r.2 h)) := by
  simp only [f1772_2] at e
  rw [g1772_2, b1772_2]
  by_cases k1 : y1 ≤ 0
  · rw [if_pos k1] at e
    have e := Option.some.inj e; subst e
    simp -implicitDefEqProofs (disch := first | assumption | exact Nat.le_of_ble_eq_true rfl | decide) only [b1772_0, g1772_1, b1772_1, g1772_3, b1772_3, g1772_4, b1772_4, pe_aload0, pe_getfield, pe_if_eq, pe_sipush, pe_goto, pe_goto_w, pe_putfield, pe_if_le, pm_prog_1, pm_ob_some, Nat.reduceDiv, Nat.reduceMod, Nat.reduceMul, Nat.reduceAdd, Int.reduceToNat, pm_kill_i, pm_kill_r, pm_kill_n, pm_kill_j, pm_kill_l, pm_kill_d, pm_cats_nil, pm_cats_i, pm_cats_r, pm_cats_n, pm_cats_l, pm_cats_d, sz_1, sz_2, sl_1, sl_2, lc_0, lc_lt, lc_le, li_ne, Int32.reduceOfInt, Int64.reduceOfInt, Int32.reduceOfNat, Int32.reduceLT, Int32.reduceLE, Prod.mk.injEq, Nat.reduceEqDiff, reduceCtorEq, and_true, true_and, and_false, false_and, and_self, ite_true, ite_false, ↓reduceIte, not_true_eq_false, not_false_eq_true, pe_ri, pe_rz, Ri_g33 hA, Ri_p0 hA, Ri_g0 hA, eq_true k1]
  · rw [if_neg k1] at e
    have e := Option.some.inj e; subst e
    simp -implicitDefEqProofs (disch := first | assumption | exact Nat.le_of_ble_eq_true rfl | decide) only [b1772_0, g1772_1, b1772_1, g1772_3, b1772_3, g1772_4, b1772_4, pe_aload0, pe_getfield, pe_if_eq, pe_sipush, pe_goto, pe_goto_w, pe_putfield, pe_if_le, pm_prog_1, pm_ob_some, Nat.reduceDiv, Nat.reduceMod, Nat.reduceMul, Nat.reduceAdd, Int.reduceToNat, pm_kill_i, pm_kill_r, pm_kill_n, pm_kill_j, pm_kill_l, pm_kill_d, pm_cats_nil, pm_cats_i, pm_cats_r, pm_cats_n, pm_cats_l, pm_cats_d, sz_1, sz_2, sl_1, sl_2, lc_0, lc_lt, lc_le, li_ne, Int32.reduceOfInt, Int64.reduceOfInt, Int32.reduceOfNat, Int32.reduceLT, Int32.reduceLE, Prod.mk.injEq, Nat.reduceEqDiff, reduceCtorEq, and_true, true_and, and_false, false_and, and_self, ite_true, ite_false, ↓reduceIte, not_true_eq_false, not_false_eq_true, pe_ri, pe_rz, Ri_g33 hA, Ri_p0 hA, Ri_g0 hA, eq_false k1]
theorem x1772 {A : wK → Nat} {h : pm_H} {m D : Nat} {S : wS} {r : Int32 × wS} (hA : wok A Ri_d m) (hD : 1 ≤ D) (e : f1772 S = some r) : pm_call pm_prog D 1772 [.ref (A (0, 0, 0))] (wput A Ri_d S h) = some (.returned (some (.int r.1)), (wput A Ri_d r.2 h)) := by
  obtain ⟨D, rfl⟩ : ∃ D', D = D' + 1 := ⟨D - 1, by omega⟩
  have hD : 0 ≤ D := by omega
  rw [c1772 (Ri_c hA), b1772_0]
  simp only [f1772] at e
  by_cases k1 : (S.1 (0, 0, 0) 33) = 0
  · rw [if_pos k1] at e
    have k2 := y1772_2 (h := h) hA hD e
    simp -implicitDefEqProofs (disch := first | assumption | exact Nat.le_of_ble_eq_true rfl | decide) only [b1772_0, g1772_1, b1772_1, g1772_3, b1772_3, g1772_4, b1772_4, pe_aload0, pe_getfield, pe_if_eq, pe_sipush, pe_goto, pe_goto_w, pe_putfield, pe_if_le, pm_prog_1, pm_ob_some, Nat.reduceDiv, Nat.reduceMod, Nat.reduceMul, Nat.reduceAdd, Int.reduceToNat, pm_kill_i, pm_kill_r, pm_kill_n, pm_kill_j, pm_kill_l, pm_kill_d, pm_cats_nil, pm_cats_i, pm_cats_r, pm_cats_n, pm_cats_l, pm_cats_d, sz_1, sz_2, sl_1, sl_2, lc_0, lc_lt, lc_le, li_ne, Int32.reduceOfInt, Int64.reduceOfInt, Int32.reduceOfNat, Int32.reduceLT, Int32.reduceLE, Prod.mk.injEq, Nat.reduceEqDiff, reduceCtorEq, and_true, true_and, and_false, false_and, and_self, ite_true, ite_false, ↓reduceIte, not_true_eq_false, not_false_eq_true, pe_ri, pe_rz, Ri_g33 hA, Ri_p0 hA, Ri_g0 hA, eq_true k1, k2]
  · rw [if_neg k1] at e
    have k3 := y1772_2 (h := h) hA hD e
    simp -implicitDefEqProofs (disch := first | assumption | exact Nat.le_of_ble_eq_true rfl | decide) only [b1772_0, g1772_1, b1772_1, g1772_3, b1772_3, g1772_4, b1772_4, pe_aload0, pe_getfield, pe_if_eq, pe_sipush, pe_goto, pe_goto_w, pe_putfield, pe_if_le, pm_prog_1, pm_ob_some, Nat.reduceDiv, Nat.reduceMod, Nat.reduceMul, Nat.reduceAdd, Int.reduceToNat, pm_kill_i, pm_kill_r, pm_kill_n, pm_kill_j, pm_kill_l, pm_kill_d, pm_cats_nil, pm_cats_i, pm_cats_r, pm_cats_n, pm_cats_l, pm_cats_d, sz_1, sz_2, sl_1, sl_2, lc_0, lc_lt, lc_le, li_ne, Int32.reduceOfInt, Int64.reduceOfInt, Int32.reduceOfNat, Int32.reduceLT, Int32.reduceLE, Prod.mk.injEq, Nat.reduceEqDiff, reduceCtorEq, and_true, true_and, and_false, false_and, and_self, ite_true, ite_false, ↓reduceIte, not_true_eq_false, not_false_eq_true, pe_ri, pe_rz, Ri_g33 hA, Ri_p0 hA, Ri_g0 hA, eq_false k1, k3]
/-- TimberHouseModel$Rips.trueWorth()J -/
theorem c1765 {d : Nat} {h : pm_H} {a : Nat} (hc : pm_cls h a = some 27) : pm_call pm_prog (d + 1) 1765 [.ref a] h = pm_ev pm_prog (pm_call pm_prog d) 1765 0 b1765_0 [.ref a, pm_junk, pm_junk, pm_junk] [] h := pm_cal (pm_rc1 hc rfl) rfl rfl rfl
theorem g1765_1 {cl : pm_C} {ls st : List Value} {h : pm_H} : pm_go pm_prog cl 1765 1 ls st h = pm_ev pm_prog cl 1765 1 b1765_1 ls st h := pm_go_eq pm_prog cl 1765 1 ls st h
theorem g1765_2 {cl : pm_C} {ls st : List Value} {h : pm_H} : pm_go pm_prog cl 1765 2 ls st h = pm_ev pm_prog cl 1765 2 b1765_2 ls st h := pm_go_eq pm_prog cl 1765 2 ls st h
noncomputable def f1765_b1 (S : wS) : Int64 × Int32 → Option ((Int64 × Int32) ⊕ ((Int64))) := fun (x1, x3) =>
  if x3 < (S.1 (0, 0, 0) 36) then
    if 0 ≤ x3 ∧ x3 < 240 then
      if 0 ≤ (S.1 (42, 0, 0) x3) ∧ (S.1 (42, 0, 0) x3) < 8 then
        some (.inl ((x1 + ((S.2 (16, 0, 0) (S.1 (42, 0, 0) x3)) * (Int32.toInt64 (S.1 (40, 0, 0) x3)))), (x3 + 1)))
      else none
    else none
  else
    some (.inr x1)
/-- TimberHouseModel$Rips.trueWorth()J -/
noncomputable def f1765 (S : wS) : Option (Int64) :=
  (lp (f1765_b1 S) FU (0, 0)).bind fun v1 =>
  some v1
def go1765_1 (A : wK → Nat) (h : pm_H) (D : Nat) (R : Outcome × pm_H) (S : wS) : Int64 × Int32 → Prop := fun (x1, x3) => pm_go pm_prog (pm_call pm_prog D) 1765 1 [.ref (A (0, 0, 0)), .long x1, pm_junk, .int x3] [] (wput A Ri_d S h) = some R
def ex1765_1 (A : wK → Nat) (h : pm_H) (D : Nat) (R : Outcome × pm_H) (S : wS) : (Int64) → Prop := fun x1 => ∀ q3 : Value, pm_go pm_prog (pm_call pm_prog D) 1765 2 [.ref (A (0, 0, 0)), .long x1, pm_junk, q3] [] (wput A Ri_d S h) = some R
theorem y1765_b1 {A : wK → Nat} {h : pm_H} {m D : Nat} {R : Outcome × pm_H} {S : wS} (hA : wok A Ri_d m) (hD : 0 ≤ D) (a : Int64 × Int32) (r : (Int64 × Int32) ⊕ ((Int64))) (e : f1765_b1 S a = some r) (hc : Sum.elim (go1765_1 A h D R S) (ex1765_1 A h D R S) r) : go1765_1 A h D R S a := by
  obtain ⟨x1, x3⟩ := a
  dsimp only [go1765_1]
  simp only [f1765_b1] at e
  rw [g1765_1, b1765_1]
  by_cases k1 : x3 < (S.1 (0, 0, 0) 36)
  · rw [if_pos k1] at e
    by_cases k2 : 0 ≤ x3 ∧ x3 < 240
    · rw [if_pos k2] at e
      by_cases k3 : 0 ≤ (S.1 (42, 0, 0) x3) ∧ (S.1 (42, 0, 0) x3) < 8
      · rw [if_pos k3] at e
        have e := Option.some.inj e; subst e
        dsimp only [Sum.elim_inl, go1765_1] at hc
        simp -implicitDefEqProofs (disch := first | assumption | exact Nat.le_of_ble_eq_true rfl | decide) only [b1765_0, g1765_2, b1765_2, pe_bipush, pe_lstore1, pe_sipush, pe_istore3, pe_goto_w, pe_iload3, pe_aload0, pe_getfield, pe_icmp_ge, pe_lload1, pe_iaload, pe_laload, pe_i2l, pe_lmul, pe_ladd, pe_iinc3, pe_goto, pe_lreturn, pm_prog_1, pm_ob_some, Nat.reduceDiv, Nat.reduceMod, Nat.reduceMul, Nat.reduceAdd, Int.reduceToNat, pm_kill_i, pm_kill_r, pm_kill_n, pm_kill_j, pm_kill_l, pm_kill_d, pm_cats_nil, pm_cats_i, pm_cats_r, pm_cats_n, pm_cats_l, pm_cats_d, sz_1, sz_2, sl_1, sl_2, lc_0, lc_lt, lc_le, li_ne, Int32.reduceOfInt, Int64.reduceOfInt, Int32.reduceOfNat, Int32.reduceLT, Int32.reduceLE, Prod.mk.injEq, Nat.reduceEqDiff, reduceCtorEq, and_true, true_and, and_false, false_and, and_self, ite_true, ite_false, ↓reduceIte, not_true_eq_false, not_false_eq_true, pe_ri, pe_rz, Ri_g36 hA, Ri_g15 hA, Ri_g41 hA, Ri_g39 hA, Ri_r15 hA, Ri_w15 hA, Ri_l15 hA, Ri_r39 hA, Ri_w39 hA, Ri_l39 hA, Ri_r41 hA, Ri_w41 hA, Ri_l41 hA, eq_true k1, hc]
      · rw [if_neg k3] at e; cases e
    · rw [if_neg k2] at e; cases e
  · rw [if_neg k1] at e
    have e := Option.some.inj e; subst e
    dsimp only [Sum.elim_inr, ex1765_1] at hc
    simp -implicitDefEqProofs (disch := first | assumption | exact Nat.le_of_ble_eq_true rfl | decide) only [b1765_0, g1765_2, b1765_2, pe_bipush, pe_lstore1, pe_sipush, pe_istore3, pe_goto_w, pe_iload3, pe_aload0, pe_getfield, pe_icmp_ge, pe_lload1, pe_iaload, pe_laload, pe_i2l, pe_lmul, pe_ladd, pe_iinc3, pe_goto, pe_lreturn, pm_prog_1, pm_ob_some, Nat.reduceDiv, Nat.reduceMod, Nat.reduceMul, Nat.reduceAdd, Int.reduceToNat, pm_kill_i, pm_kill_r, pm_kill_n, pm_kill_j, pm_kill_l, pm_kill_d, pm_cats_nil, pm_cats_i, pm_cats_r, pm_cats_n, pm_cats_l, pm_cats_d, sz_1, sz_2, sl_1, sl_2, lc_0, lc_lt, lc_le, li_ne, Int32.reduceOfInt, Int64.reduceOfInt, Int32.reduceOfNat, Int32.reduceLT, Int32.reduceLE, Prod.mk.injEq, Nat.reduceEqDiff, reduceCtorEq, and_true, true_and, and_false, false_and, and_self, ite_true, ite_false, ↓reduceIte, not_true_eq_false, not_false_eq_true, pe_ri, pe_rz, Ri_g36 hA, Ri_g15 hA, Ri_g41 hA, Ri_g39 hA, Ri_r15 hA, Ri_w15 hA, Ri_l15 hA, Ri_r39 hA, Ri_w39 hA, Ri_l39 hA, Ri_r41 hA, Ri_w41 hA, Ri_l41 hA, eq_false k1, hc]
theorem z1765_1 {A : wK → Nat} {h : pm_H} {m D : Nat} {R : Outcome × pm_H} {S : wS} (hA : wok A Ri_d m) (hD : 0 ≤ D) {n : Nat} {a : Int64 × Int32} {b : (Int64)} (e : lp (f1765_b1 S) n a = some b) (hx : ex1765_1 A h D R S b) : go1765_1 A h D R S a := lp_run (fun a r => y1765_b1 hA hD a r) n a b e hx
theorem x1765 {A : wK → Nat} {h : pm_H} {m D : Nat} {S : wS} {r : Int64} (hA : wok A Ri_d m) (hD : 1 ≤ D) (e : f1765 S = some r) : pm_call pm_prog D 1765 [.ref (A (0, 0, 0))] (wput A Ri_d S h) = some (.returned (some (.long r)), (wput A Ri_d S h)) := by
  obtain ⟨D, rfl⟩ : ∃ D', D = D' + 1 := ⟨D - 1, by omega⟩
  have hD : 0 ≤ D := by omega
  rw [c1765 (Ri_c hA), b1765_0]
  simp only [f1765] at e
  obtain ⟨v1, k1, e⟩ := Option.bind_eq_some_iff.mp e
  try dsimp only at e
  try simp -implicitDefEqProofs (disch := first | assumption | exact Nat.le_of_ble_eq_true rfl | decide) only [b1765_0, g1765_2, b1765_2, pe_bipush, pe_lstore1, pe_sipush, pe_istore3, pe_goto_w, pe_iload3, pe_aload0, pe_getfield, pe_icmp_ge, pe_lload1, pe_iaload, pe_laload, pe_i2l, pe_lmul, pe_ladd, pe_iinc3, pe_goto, pe_lreturn, pm_prog_1, pm_ob_some, Nat.reduceDiv, Nat.reduceMod, Nat.reduceMul, Nat.reduceAdd, Int.reduceToNat, pm_kill_i, pm_kill_r, pm_kill_n, pm_kill_j, pm_kill_l, pm_kill_d, pm_cats_nil, pm_cats_i, pm_cats_r, pm_cats_n, pm_cats_l, pm_cats_d, sz_1, sz_2, sl_1, sl_2, lc_0, lc_lt, lc_le, li_ne, Int32.reduceOfInt, Int64.reduceOfInt, Int32.reduceOfNat, Int32.reduceLT, Int32.reduceLE, Prod.mk.injEq, Nat.reduceEqDiff, reduceCtorEq, and_true, true_and, and_false, false_and, and_self, ite_true, ite_false, ↓reduceIte, not_true_eq_false, not_false_eq_true, pe_ri, pe_rz, Ri_g36 hA, Ri_g15 hA, Ri_g41 hA, Ri_g39 hA, Ri_r15 hA, Ri_w15 hA, Ri_l15 hA, Ri_r39 hA, Ri_w39 hA, Ri_l39 hA, Ri_r41 hA, Ri_w41 hA, Ri_l41 hA]
  refine z1765_1 hA hD k1 ?_
  dsimp only [ex1765_1]
  intro q3
  have e := Option.some.inj e; subst e
  simp -implicitDefEqProofs (disch := first | assumption | exact Nat.le_of_ble_eq_true rfl | decide) only [b1765_0, g1765_2, b1765_2, pe_bipush, pe_lstore1, pe_sipush, pe_istore3, pe_goto_w, pe_iload3, pe_aload0, pe_getfield, pe_icmp_ge, pe_lload1, pe_iaload, pe_laload, pe_i2l, pe_lmul, pe_ladd, pe_iinc3, pe_goto, pe_lreturn, pm_prog_1, pm_ob_some, Nat.reduceDiv, Nat.reduceMod, Nat.reduceMul, Nat.reduceAdd, Int.reduceToNat, pm_kill_i, pm_kill_r, pm_kill_n, pm_kill_j, pm_kill_l, pm_kill_d, pm_cats_nil, pm_cats_i, pm_cats_r, pm_cats_n, pm_cats_l, pm_cats_d, sz_1, sz_2, sl_1, sl_2, lc_0, lc_lt, lc_le, li_ne, Int32.reduceOfInt, Int64.reduceOfInt, Int32.reduceOfNat, Int32.reduceLT, Int32.reduceLE, Prod.mk.injEq, Nat.reduceEqDiff, reduceCtorEq, and_true, true_and, and_false, false_and, and_self, ite_true, ite_false, ↓reduceIte, not_true_eq_false, not_false_eq_true, pe_ri, pe_rz, Ri_g36 hA, Ri_g15 hA, Ri_g41 hA, Ri_g39 hA, Ri_r15 hA, Ri_w15 hA, Ri_l15 hA, Ri_r39 hA, Ri_w39 hA, Ri_l39 hA, Ri_r41 hA, Ri_w41 hA, Ri_l41 hA]
/-- TimberHouseModel$Rips.worth()J -/
theorem c1771 {d : Nat} {h : pm_H} {a : Nat} (hc : pm_cls h a = some 27) : pm_call pm_prog (d + 1) 1771 [.ref a] h = pm_ev pm_prog (pm_call pm_prog d) 1771 0 b1771_0 [.ref a] [] h := pm_cal (pm_rc1 hc rfl) rfl rfl rfl
theorem g1771_1 {cl : pm_C} {ls st : List Value} {h : pm_H} : pm_go pm_prog cl 1771 1 ls st h = pm_ev pm_prog cl 1771 1 b1771_1 ls st h := pm_go_eq pm_prog cl 1771 1 ls st h
theorem g1771_2 {cl : pm_C} {ls st : List Value} {h : pm_H} : pm_go pm_prog cl 1771 2 ls st h = pm_ev pm_prog cl 1771 2 b1771_2 ls st h := pm_go_eq pm_prog cl 1771 2 ls st h
/-- TimberHouseModel$Rips.worth()J -/
noncomputable def f1771 (S : wS) : Option (Int64 × wS) :=
  (f1772 S).bind fun (v1, S2) =>
  if v1 = 0 then
    (f1765 S2).bind fun v3 =>
    some (v3, S2)
  else
    some (0, S2)
theorem x1771 {A : wK → Nat} {h : pm_H} {m D : Nat} {S : wS} {r : Int64 × wS} (hA : wok A Ri_d m) (hD : 2 ≤ D) (e : f1771 S = some r) : pm_call pm_prog D 1771 [.ref (A (0, 0, 0))] (wput A Ri_d S h) = some (.returned (some (.long r.1)), (wput A Ri_d r.2 h)) := by
  obtain ⟨D, rfl⟩ : ∃ D', D = D' + 1 := ⟨D - 1, by omega⟩
  have hD : 1 ≤ D := by omega
  rw [c1771 (Ri_c hA), b1771_0]
  simp only [f1771] at e
  obtain ⟨⟨v1, S2⟩, k1, e⟩ := Option.bind_eq_some_iff.mp e
  try dsimp only at e
  have z1 := x1772 (D := D) (h := h) hA (by omega) k1
  dsimp only at z1
  by_cases k2 : v1 = 0
  · rw [if_pos k2] at e
    obtain ⟨v3, k3, e⟩ := Option.bind_eq_some_iff.mp e
    try dsimp only at e
    have z3 := x1765 (D := D) (h := h) hA (by omega) k3
    have e := Option.some.inj e; subst e
    simp -implicitDefEqProofs (disch := first | assumption | exact Nat.le_of_ble_eq_true rfl | decide) only [b1771_0, g1771_1, b1771_1, g1771_2, b1771_2, pe_aload0, pe_call1, pm_af_ret, pm_af_void, pm_af_thr, pe_if_eq, pe_bipush, pe_goto, pe_goto_w, pe_lreturn, pm_prog_1, pm_ob_some, Nat.reduceDiv, Nat.reduceMod, Nat.reduceMul, Nat.reduceAdd, Int.reduceToNat, pm_kill_i, pm_kill_r, pm_kill_n, pm_kill_j, pm_kill_l, pm_kill_d, pm_cats_nil, pm_cats_i, pm_cats_r, pm_cats_n, pm_cats_l, pm_cats_d, sz_1, sz_2, sl_1, sl_2, lc_0, lc_lt, lc_le, li_ne, Int32.reduceOfInt, Int64.reduceOfInt, Int32.reduceOfNat, Int32.reduceLT, Int32.reduceLE, Prod.mk.injEq, Nat.reduceEqDiff, reduceCtorEq, and_true, true_and, and_false, false_and, and_self, ite_true, ite_false, ↓reduceIte, not_true_eq_false, not_false_eq_true, pe_ri, pe_rz, z1, eq_true k2, z3]
  · rw [if_neg k2] at e
    have e := Option.some.inj e; subst e
    simp -implicitDefEqProofs (disch := first | assumption | exact Nat.le_of_ble_eq_true rfl | decide) only [b1771_0, g1771_1, b1771_1, g1771_2, b1771_2, pe_aload0, pe_call1, pm_af_ret, pm_af_void, pm_af_thr, pe_if_eq, pe_bipush, pe_goto, pe_goto_w, pe_lreturn, pm_prog_1, pm_ob_some, Nat.reduceDiv, Nat.reduceMod, Nat.reduceMul, Nat.reduceAdd, Int.reduceToNat, pm_kill_i, pm_kill_r, pm_kill_n, pm_kill_j, pm_kill_l, pm_kill_d, pm_cats_nil, pm_cats_i, pm_cats_r, pm_cats_n, pm_cats_l, pm_cats_d, sz_1, sz_2, sl_1, sl_2, lc_0, lc_lt, lc_le, li_ne, Int32.reduceOfInt, Int64.reduceOfInt, Int32.reduceOfNat, Int32.reduceLT, Int32.reduceLE, Prod.mk.injEq, Nat.reduceEqDiff, reduceCtorEq, and_true, true_and, and_false, false_and, and_self, ite_true, ite_false, ↓reduceIte, not_true_eq_false, not_false_eq_true, pe_ri, pe_rz, z1, eq_false k2]
/-- TimberHouseModel$Rips.isIn(JJJ)Z -/
theorem c1731 {d : Nat} {h : pm_H} {x0 : Int64} {x1 : Int64} {x2 : Int64} : pm_call pm_prog (d + 1) 1731 [.long x0, .long x1, .long x2] h = pm_ev pm_prog (pm_call pm_prog d) 1731 0 b1731_0 [.long x0, pm_junk, .long x1, pm_junk, .long x2, pm_junk] [] h := pm_cal (pm_rc0 rfl) rfl rfl rfl
theorem g1731_1 {cl : pm_C} {ls st : List Value} {h : pm_H} : pm_go pm_prog cl 1731 1 ls st h = pm_ev pm_prog cl 1731 1 b1731_1 ls st h := pm_go_eq pm_prog cl 1731 1 ls st h
theorem g1731_2 {cl : pm_C} {ls st : List Value} {h : pm_H} : pm_go pm_prog cl 1731 2 ls st h = pm_ev pm_prog cl 1731 2 b1731_2 ls st h := pm_go_eq pm_prog cl 1731 2 ls st h
/-- TimberHouseModel$Rips.isIn(JJJ)Z -/
noncomputable def f1731 (x0 : Int64) (x2 : Int64) (x4 : Int64) : Option (Int32) :=
  if x0 < x2 then
    some 0
  else
    if x0 ≤ x4 then
      some 1
    else
      some 0
theorem x1731 {h : pm_H} {D : Nat} {x0 : Int64} {x2 : Int64} {x4 : Int64} {r : Int32} (hD : 1 ≤ D) (e : f1731 x0 x2 x4 = some r) : pm_call pm_prog D 1731 [.long x0, .long x2, .long x4] h = some (.returned (some (.int r)), h) := by
  obtain ⟨D, rfl⟩ : ∃ D', D = D' + 1 := ⟨D - 1, by omega⟩
  have hD : 0 ≤ D := by omega
  rw [c1731, b1731_0]
  simp only [f1731] at e
  by_cases k1 : x0 < x2
  · rw [if_pos k1] at e
    have e := Option.some.inj e; subst e
    simp -implicitDefEqProofs (disch := first | assumption | exact Nat.le_of_ble_eq_true rfl | decide) only [b1731_0, g1731_1, b1731_1, g1731_2, b1731_2, pe_lload0, pe_lload2, pe_lcmp, pe_if_lt, pe_lload4, pe_if_gt, pe_sipush, pe_goto, pe_goto_w, pm_prog_1, pm_ob_some, Nat.reduceDiv, Nat.reduceMod, Nat.reduceMul, Nat.reduceAdd, Int.reduceToNat, pm_kill_i, pm_kill_r, pm_kill_n, pm_kill_j, pm_kill_l, pm_kill_d, pm_cats_nil, pm_cats_i, pm_cats_r, pm_cats_n, pm_cats_l, pm_cats_d, sz_1, sz_2, sl_1, sl_2, lc_0, lc_lt, lc_le, li_ne, Int32.reduceOfInt, Int64.reduceOfInt, Int32.reduceOfNat, Int32.reduceLT, Int32.reduceLE, Prod.mk.injEq, Nat.reduceEqDiff, reduceCtorEq, and_true, true_and, and_false, false_and, and_self, ite_true, ite_false, ↓reduceIte, not_true_eq_false, not_false_eq_true, pe_ri, pe_rz, eq_true k1]
  · rw [if_neg k1] at e
    by_cases k2 : x0 ≤ x4
    · rw [if_pos k2] at e
      have e := Option.some.inj e; subst e
      simp -implicitDefEqProofs (disch := first | assumption | exact Nat.le_of_ble_eq_true rfl | decide) only [b1731_0, g1731_1, b1731_1, g1731_2, b1731_2, pe_lload0, pe_lload2, pe_lcmp, pe_if_lt, pe_lload4, pe_if_gt, pe_sipush, pe_goto, pe_goto_w, pm_prog_1, pm_ob_some, Nat.reduceDiv, Nat.reduceMod, Nat.reduceMul, Nat.reduceAdd, Int.reduceToNat, pm_kill_i, pm_kill_r, pm_kill_n, pm_kill_j, pm_kill_l, pm_kill_d, pm_cats_nil, pm_cats_i, pm_cats_r, pm_cats_n, pm_cats_l, pm_cats_d, sz_1, sz_2, sl_1, sl_2, lc_0, lc_lt, lc_le, li_ne, Int32.reduceOfInt, Int64.reduceOfInt, Int32.reduceOfNat, Int32.reduceLT, Int32.reduceLE, Prod.mk.injEq, Nat.reduceEqDiff, reduceCtorEq, and_true, true_and, and_false, false_and, and_self, ite_true, ite_false, ↓reduceIte, not_true_eq_false, not_false_eq_true, pe_ri, pe_rz, eq_false k1, eq_true k2]
    · rw [if_neg k2] at e
      have e := Option.some.inj e; subst e
      simp -implicitDefEqProofs (disch := first | assumption | exact Nat.le_of_ble_eq_true rfl | decide) only [b1731_0, g1731_1, b1731_1, g1731_2, b1731_2, pe_lload0, pe_lload2, pe_lcmp, pe_if_lt, pe_lload4, pe_if_gt, pe_sipush, pe_goto, pe_goto_w, pm_prog_1, pm_ob_some, Nat.reduceDiv, Nat.reduceMod, Nat.reduceMul, Nat.reduceAdd, Int.reduceToNat, pm_kill_i, pm_kill_r, pm_kill_n, pm_kill_j, pm_kill_l, pm_kill_d, pm_cats_nil, pm_cats_i, pm_cats_r, pm_cats_n, pm_cats_l, pm_cats_d, sz_1, sz_2, sl_1, sl_2, lc_0, lc_lt, lc_le, li_ne, Int32.reduceOfInt, Int64.reduceOfInt, Int32.reduceOfNat, Int32.reduceLT, Int32.reduceLE, Prod.mk.injEq, Nat.reduceEqDiff, reduceCtorEq, and_true, true_and, and_false, false_and, and_self, ite_true, ite_false, ↓reduceIte, not_true_eq_false, not_false_eq_true, pe_ri, pe_rz, eq_false k1, eq_false k2]
/-- TimberHouseModel$Rips.at(II)I -/
theorem c1773 {d : Nat} {h : pm_H} {a : Nat} {x0 : Int32} {x1 : Int32} (hc : pm_cls h a = some 27) : pm_call pm_prog (d + 1) 1773 [.ref a, .int x0, .int x1] h = pm_ev pm_prog (pm_call pm_prog d) 1773 0 b1773_0 [.ref a, .int x0, .int x1] [] h := pm_cal (pm_rc1 hc rfl) rfl rfl rfl
theorem g1773_1 {cl : pm_C} {ls st : List Value} {h : pm_H} : pm_go pm_prog cl 1773 1 ls st h = pm_ev pm_prog cl 1773 1 b1773_1 ls st h := pm_go_eq pm_prog cl 1773 1 ls st h
theorem g1773_2 {cl : pm_C} {ls st : List Value} {h : pm_H} : pm_go pm_prog cl 1773 2 ls st h = pm_ev pm_prog cl 1773 2 b1773_2 ls st h := pm_go_eq pm_prog cl 1773 2 ls st h
theorem g1773_3 {cl : pm_C} {ls st : List Value} {h : pm_H} : pm_go pm_prog cl 1773 3 ls st h = pm_ev pm_prog cl 1773 3 b1773_3 ls st h := pm_go_eq pm_prog cl 1773 3 ls st h
theorem g1773_4 {cl : pm_C} {ls st : List Value} {h : pm_H} : pm_go pm_prog cl 1773 4 ls st h = pm_ev pm_prog cl 1773 4 b1773_4 ls st h := pm_go_eq pm_prog cl 1773 4 ls st h
theorem g1773_5 {cl : pm_C} {ls st : List Value} {h : pm_H} : pm_go pm_prog cl 1773 5 ls st h = pm_ev pm_prog cl 1773 5 b1773_5 ls st h := pm_go_eq pm_prog cl 1773 5 ls st h
theorem g1773_6 {cl : pm_C} {ls st : List Value} {h : pm_H} : pm_go pm_prog cl 1773 6 ls st h = pm_ev pm_prog cl 1773 6 b1773_6 ls st h := pm_go_eq pm_prog cl 1773 6 ls st h
theorem g1773_7 {cl : pm_C} {ls st : List Value} {h : pm_H} : pm_go pm_prog cl 1773 7 ls st h = pm_ev pm_prog cl 1773 7 b1773_7 ls st h := pm_go_eq pm_prog cl 1773 7 ls st h
theorem g1773_8 {cl : pm_C} {ls st : List Value} {h : pm_H} : pm_go pm_prog cl 1773 8 ls st h = pm_ev pm_prog cl 1773 8 b1773_8 ls st h := pm_go_eq pm_prog cl 1773 8 ls st h
theorem g1773_9 {cl : pm_C} {ls st : List Value} {h : pm_H} : pm_go pm_prog cl 1773 9 ls st h = pm_ev pm_prog cl 1773 9 b1773_9 ls st h := pm_go_eq pm_prog cl 1773 9 ls st h
theorem g1773_10 {cl : pm_C} {ls st : List Value} {h : pm_H} : pm_go pm_prog cl 1773 10 ls st h = pm_ev pm_prog cl 1773 10 b1773_10 ls st h := pm_go_eq pm_prog cl 1773 10 ls st h
theorem g1773_11 {cl : pm_C} {ls st : List Value} {h : pm_H} : pm_go pm_prog cl 1773 11 ls st h = pm_ev pm_prog cl 1773 11 b1773_11 ls st h := pm_go_eq pm_prog cl 1773 11 ls st h
theorem g1773_12 {cl : pm_C} {ls st : List Value} {h : pm_H} : pm_go pm_prog cl 1773 12 ls st h = pm_ev pm_prog cl 1773 12 b1773_12 ls st h := pm_go_eq pm_prog cl 1773 12 ls st h
theorem g1773_13 {cl : pm_C} {ls st : List Value} {h : pm_H} : pm_go pm_prog cl 1773 13 ls st h = pm_ev pm_prog cl 1773 13 b1773_13 ls st h := pm_go_eq pm_prog cl 1773 13 ls st h
theorem g1773_14 {cl : pm_C} {ls st : List Value} {h : pm_H} : pm_go pm_prog cl 1773 14 ls st h = pm_ev pm_prog cl 1773 14 b1773_14 ls st h := pm_go_eq pm_prog cl 1773 14 ls st h
theorem g1773_15 {cl : pm_C} {ls st : List Value} {h : pm_H} : pm_go pm_prog cl 1773 15 ls st h = pm_ev pm_prog cl 1773 15 b1773_15 ls st h := pm_go_eq pm_prog cl 1773 15 ls st h
noncomputable def f1773_6 (S : wS) : Option (Int32 × wS) :=
  if (S.1 (0, 0, 0) 0) ≤ 0 then
    some ((S.1 (0, 0, 0) 36), S)
  else
    some (0, S)
noncomputable def f1773_5 (S : wS) (x1 : Int32) (x2 : Int32) (y1 : Int32) : Option (Int32 × wS) :=
  if y1 ≤ 0 then
    if x1 = (-1) then
      f1773_6 (sz S (0, 0, 0) 0 y1)
    else
      if x2 = 0 then
        if 0 ≤ x1 ∧ x1 < 240 then
          some ((S.1 (38, 0, 0) x1), (sz S (0, 0, 0) 0 y1))
        else none
      else
        if x2 = 1 then
          if 0 ≤ x1 ∧ x1 < 240 then
            some ((S.1 (39, 0, 0) x1), (sz S (0, 0, 0) 0 y1))
          else none
        else
          if x2 = 2 then
            if 0 ≤ x1 ∧ x1 < 240 then
              some ((S.1 (40, 0, 0) x1), (sz S (0, 0, 0) 0 y1))
            else none
          else
            if x2 = 3 then
              if 0 ≤ x1 ∧ x1 < 240 then
                some ((S.1 (41, 0, 0) x1), (sz S (0, 0, 0) 0 y1))
              else none
            else
              if x2 = 4 then
                if 0 ≤ x1 ∧ x1 < 240 then
                  some ((S.1 (42, 0, 0) x1), (sz S (0, 0, 0) 0 y1))
                else none
              else
                if 0 ≤ x1 ∧ x1 < 240 then
                  if 0 ≤ (S.1 (42, 0, 0) x1) ∧ (S.1 (42, 0, 0) x1) < 8 then
                    some ((Int64.toInt32 ((S.2 (16, 0, 0) (S.1 (42, 0, 0) x1)) * (Int32.toInt64 (S.1 (40, 0, 0) x1)))), (sz S (0, 0, 0) 0 y1))
                  else none
                else none
  else
    f1773_6 (sz S (0, 0, 0) 0 y1)
/-- TimberHouseModel$Rips.at(II)I -/
noncomputable def f1773 (S : wS) (x1 : Int32) (x2 : Int32) : Option (Int32 × wS) :=
  (f1772 S).bind fun (v1, S2) =>
  if v1 = 0 then
    if x1 < (-1) then
      f1773_5 S2 x1 x2 2
    else
      if x1 < (S2.1 (0, 0, 0) 36) then
        (f1731 (Int32.toInt64 x2) 0 5).bind fun v3 =>
        if v3 = 0 then
          f1773_5 S2 x1 x2 3
        else
          f1773_5 S2 x1 x2 0
      else
        f1773_5 S2 x1 x2 2
  else
    some (0, S2)
theorem y1773_6 {A : wK → Nat} {h : pm_H} {m D : Nat} {S : wS} {r : Int32 × wS} (hA : wok A Ri_d m) (hD : 1 ≤ D) (e : f1773_6 S = some r) : ∀ q1 q2 : Value, pm_go pm_prog (pm_call pm_prog D) 1773 6 [.ref (A (0, 0, 0)), q1, q2] [] (wput A Ri_d S h) = some (.returned (some (.int r.1)), (wput A Ri_d r.2 h)) := by
  intro q1 q2
  simp only [f1773_6] at e
  rw [g1773_6, b1773_6]
  by_cases k1 : (S.1 (0, 0, 0) 0) ≤ 0
  · rw [if_pos k1] at e
    have e := Option.some.inj e; subst e
    simp -implicitDefEqProofs (disch := first | assumption | exact Nat.le_of_ble_eq_true rfl | decide) only [b1773_0, g1773_1, b1773_1, g1773_2, b1773_2, g1773_3, b1773_3, g1773_4, b1773_4, g1773_7, b1773_7, g1773_8, b1773_8, g1773_9, b1773_9, g1773_10, b1773_10, g1773_11, b1773_11, g1773_12, b1773_12, g1773_13, b1773_13, g1773_14, b1773_14, g1773_15, b1773_15, pe_aload0, pe_call1, pm_af_ret, pm_af_void, pm_af_thr, pe_if_eq, pe_sipush, pe_iload1, pe_icmp_lt, pe_getfield, pe_goto_w, pe_goto, pe_iload2, pe_i2l, pe_bipush, pe_call3, pe_putfield, pe_if_gt, pe_icmp_ne, pe_if_le, pe_if_ne, pe_iaload, pe_laload, pe_lmul, pe_l2i, pm_prog_1, pm_ob_some, Nat.reduceDiv, Nat.reduceMod, Nat.reduceMul, Nat.reduceAdd, Int.reduceToNat, pm_kill_i, pm_kill_r, pm_kill_n, pm_kill_j, pm_kill_l, pm_kill_d, pm_cats_nil, pm_cats_i, pm_cats_r, pm_cats_n, pm_cats_l, pm_cats_d, sz_1, sz_2, sl_1, sl_2, lc_0, lc_lt, lc_le, li_ne, Int32.reduceOfInt, Int64.reduceOfInt, Int32.reduceOfNat, Int32.reduceLT, Int32.reduceLE, Prod.mk.injEq, Nat.reduceEqDiff, reduceCtorEq, and_true, true_and, and_false, false_and, and_self, ite_true, ite_false, ↓reduceIte, not_true_eq_false, not_false_eq_true, pe_ri, pe_rz, Ri_g36 hA, Ri_p0 hA, Ri_g0 hA, Ri_g37 hA, Ri_g38 hA, Ri_g39 hA, Ri_g40 hA, Ri_g41 hA, Ri_g15 hA, Ri_r15 hA, Ri_w15 hA, Ri_l15 hA, Ri_r37 hA, Ri_w37 hA, Ri_l37 hA, Ri_r38 hA, Ri_w38 hA, Ri_l38 hA, Ri_r39 hA, Ri_w39 hA, Ri_l39 hA, Ri_r40 hA, Ri_w40 hA, Ri_l40 hA, Ri_r41 hA, Ri_w41 hA, Ri_l41 hA, eq_true k1]
  · rw [if_neg k1] at e
    have e := Option.some.inj e; subst e
    simp -implicitDefEqProofs (disch := first | assumption | exact Nat.le_of_ble_eq_true rfl | decide) only [b1773_0, g1773_1, b1773_1, g1773_2, b1773_2, g1773_3, b1773_3, g1773_4, b1773_4, g1773_7, b1773_7, g1773_8, b1773_8, g1773_9, b1773_9, g1773_10, b1773_10, g1773_11, b1773_11, g1773_12, b1773_12, g1773_13, b1773_13, g1773_14, b1773_14, g1773_15, b1773_15, pe_aload0, pe_call1, pm_af_ret, pm_af_void, pm_af_thr, pe_if_eq, pe_sipush, pe_iload1, pe_icmp_lt, pe_getfield, pe_goto_w, pe_goto, pe_iload2, pe_i2l, pe_bipush, pe_call3, pe_putfield, pe_if_gt, pe_icmp_ne, pe_if_le, pe_if_ne, pe_iaload, pe_laload, pe_lmul, pe_l2i, pm_prog_1, pm_ob_some, Nat.reduceDiv, Nat.reduceMod, Nat.reduceMul, Nat.reduceAdd, Int.reduceToNat, pm_kill_i, pm_kill_r, pm_kill_n, pm_kill_j, pm_kill_l, pm_kill_d, pm_cats_nil, pm_cats_i, pm_cats_r, pm_cats_n, pm_cats_l, pm_cats_d, sz_1, sz_2, sl_1, sl_2, lc_0, lc_lt, lc_le, li_ne, Int32.reduceOfInt, Int64.reduceOfInt, Int32.reduceOfNat, Int32.reduceLT, Int32.reduceLE, Prod.mk.injEq, Nat.reduceEqDiff, reduceCtorEq, and_true, true_and, and_false, false_and, and_self, ite_true, ite_false, ↓reduceIte, not_true_eq_false, not_false_eq_true, pe_ri, pe_rz, Ri_g36 hA, Ri_p0 hA, Ri_g0 hA, Ri_g37 hA, Ri_g38 hA, Ri_g39 hA, Ri_g40 hA, Ri_g41 hA, Ri_g15 hA, Ri_r15 hA, Ri_w15 hA, Ri_l15 hA, Ri_r37 hA, Ri_w37 hA, Ri_l37 hA, Ri_r38 hA, Ri_w38 hA, Ri_l38 hA, Ri_r39 hA, Ri_w39 hA, Ri_l39 hA, Ri_r40 hA, Ri_w40 hA, Ri_l40 hA, Ri_r41 hA, Ri_w41 hA, Ri_l41 hA, eq_false k1]
theorem y1773_5 {A : wK → Nat} {h : pm_H} {m D : Nat} {S : wS} {x1 : Int32} {x2 : Int32} {y1 : Int32} {r : Int32 × wS} (hA : wok A Ri_d m) (hD : 1 ≤ D) (e : f1773_5 S x1 x2 y1 = some r) : pm_go pm_prog (pm_call pm_prog D) 1773 5 [.ref (A (0, 0, 0)), .int x1, .int x2] [.int y1, .ref (A (0, 0, 0))] (wput A Ri_d S h) = some (.returned (some (.int r.1)), (wput A Ri_d r.2 h)) := by
  simp only [f1773_5] at e
  rw [g1773_5, b1773_5]
  by_cases k1 : y1 ≤ 0
  · rw [if_pos k1] at e
    by_cases k2 : x1 = (-1)
    · rw [if_pos k2] at e
      have k3 := y1773_6 (h := h) hA hD e
      simp -implicitDefEqProofs (disch := first | assumption | exact Nat.le_of_ble_eq_true rfl | decide) only [b1773_0, g1773_1, b1773_1, g1773_2, b1773_2, g1773_3, b1773_3, g1773_4, b1773_4, g1773_7, b1773_7, g1773_8, b1773_8, g1773_9, b1773_9, g1773_10, b1773_10, g1773_11, b1773_11, g1773_12, b1773_12, g1773_13, b1773_13, g1773_14, b1773_14, g1773_15, b1773_15, pe_aload0, pe_call1, pm_af_ret, pm_af_void, pm_af_thr, pe_if_eq, pe_sipush, pe_iload1, pe_icmp_lt, pe_getfield, pe_goto_w, pe_goto, pe_iload2, pe_i2l, pe_bipush, pe_call3, pe_putfield, pe_if_gt, pe_icmp_ne, pe_if_le, pe_if_ne, pe_iaload, pe_laload, pe_lmul, pe_l2i, pm_prog_1, pm_ob_some, Nat.reduceDiv, Nat.reduceMod, Nat.reduceMul, Nat.reduceAdd, Int.reduceToNat, pm_kill_i, pm_kill_r, pm_kill_n, pm_kill_j, pm_kill_l, pm_kill_d, pm_cats_nil, pm_cats_i, pm_cats_r, pm_cats_n, pm_cats_l, pm_cats_d, sz_1, sz_2, sl_1, sl_2, lc_0, lc_lt, lc_le, li_ne, Int32.reduceOfInt, Int64.reduceOfInt, Int32.reduceOfNat, Int32.reduceLT, Int32.reduceLE, Prod.mk.injEq, Nat.reduceEqDiff, reduceCtorEq, and_true, true_and, and_false, false_and, and_self, ite_true, ite_false, ↓reduceIte, not_true_eq_false, not_false_eq_true, pe_ri, pe_rz, Ri_g36 hA, Ri_p0 hA, Ri_g0 hA, Ri_g37 hA, Ri_g38 hA, Ri_g39 hA, Ri_g40 hA, Ri_g41 hA, Ri_g15 hA, Ri_r15 hA, Ri_w15 hA, Ri_l15 hA, Ri_r37 hA, Ri_w37 hA, Ri_l37 hA, Ri_r38 hA, Ri_w38 hA, Ri_l38 hA, Ri_r39 hA, Ri_w39 hA, Ri_l39 hA, Ri_r40 hA, Ri_w40 hA, Ri_l40 hA, Ri_r41 hA, Ri_w41 hA, Ri_l41 hA, eq_true k1, eq_true k2, k3]
    · rw [if_neg k2] at e
      by_cases k4 : x2 = 0
      · rw [if_pos k4] at e
        by_cases k5 : 0 ≤ x1 ∧ x1 < 240
        · rw [if_pos k5] at e
          have e := Option.some.inj e; subst e
          simp -implicitDefEqProofs (disch := first | assumption | exact Nat.le_of_ble_eq_true rfl | decide) only [b1773_0, g1773_1, b1773_1, g1773_2, b1773_2, g1773_3, b1773_3, g1773_4, b1773_4, g1773_7, b1773_7, g1773_8, b1773_8, g1773_9, b1773_9, g1773_10, b1773_10, g1773_11, b1773_11, g1773_12, b1773_12, g1773_13, b1773_13, g1773_14, b1773_14, g1773_15, b1773_15, pe_aload0, pe_call1, pm_af_ret, pm_af_void, pm_af_thr, pe_if_eq, pe_sipush, pe_iload1, pe_icmp_lt, pe_getfield, pe_goto_w, pe_goto, pe_iload2, pe_i2l, pe_bipush, pe_call3, pe_putfield, pe_if_gt, pe_icmp_ne, pe_if_le, pe_if_ne, pe_iaload, pe_laload, pe_lmul, pe_l2i, pm_prog_1, pm_ob_some, Nat.reduceDiv, Nat.reduceMod, Nat.reduceMul, Nat.reduceAdd, Int.reduceToNat, pm_kill_i, pm_kill_r, pm_kill_n, pm_kill_j, pm_kill_l, pm_kill_d, pm_cats_nil, pm_cats_i, pm_cats_r, pm_cats_n, pm_cats_l, pm_cats_d, sz_1, sz_2, sl_1, sl_2, lc_0, lc_lt, lc_le, li_ne, Int32.reduceOfInt, Int64.reduceOfInt, Int32.reduceOfNat, Int32.reduceLT, Int32.reduceLE, Prod.mk.injEq, Nat.reduceEqDiff, reduceCtorEq, and_true, true_and, and_false, false_and, and_self, ite_true, ite_false, ↓reduceIte, not_true_eq_false, not_false_eq_true, pe_ri, pe_rz, Ri_g36 hA, Ri_p0 hA, Ri_g0 hA, Ri_g37 hA, Ri_g38 hA, Ri_g39 hA, Ri_g40 hA, Ri_g41 hA, Ri_g15 hA, Ri_r15 hA, Ri_w15 hA, Ri_l15 hA, Ri_r37 hA, Ri_w37 hA, Ri_l37 hA, Ri_r38 hA, Ri_w38 hA, Ri_l38 hA, Ri_r39 hA, Ri_w39 hA, Ri_l39 hA, Ri_r40 hA, Ri_w40 hA, Ri_l40 hA, Ri_r41 hA, Ri_w41 hA, Ri_l41 hA, eq_true k1, eq_false k2, eq_true k4]
        · rw [if_neg k5] at e; cases e
      · rw [if_neg k4] at e
        by_cases k6 : x2 = 1
        · rw [if_pos k6] at e
          by_cases k7 : 0 ≤ x1 ∧ x1 < 240
          · rw [if_pos k7] at e
            have e := Option.some.inj e; subst e
            simp -implicitDefEqProofs (disch := first | assumption | exact Nat.le_of_ble_eq_true rfl | decide) only [b1773_0, g1773_1, b1773_1, g1773_2, b1773_2, g1773_3, b1773_3, g1773_4, b1773_4, g1773_7, b1773_7, g1773_8, b1773_8, g1773_9, b1773_9, g1773_10, b1773_10, g1773_11, b1773_11, g1773_12, b1773_12, g1773_13, b1773_13, g1773_14, b1773_14, g1773_15, b1773_15, pe_aload0, pe_call1, pm_af_ret, pm_af_void, pm_af_thr, pe_if_eq, pe_sipush, pe_iload1, pe_icmp_lt, pe_getfield, pe_goto_w, pe_goto, pe_iload2, pe_i2l, pe_bipush, pe_call3, pe_putfield, pe_if_gt, pe_icmp_ne, pe_if_le, pe_if_ne, pe_iaload, pe_laload, pe_lmul, pe_l2i, pm_prog_1, pm_ob_some, Nat.reduceDiv, Nat.reduceMod, Nat.reduceMul, Nat.reduceAdd, Int.reduceToNat, pm_kill_i, pm_kill_r, pm_kill_n, pm_kill_j, pm_kill_l, pm_kill_d, pm_cats_nil, pm_cats_i, pm_cats_r, pm_cats_n, pm_cats_l, pm_cats_d, sz_1, sz_2, sl_1, sl_2, lc_0, lc_lt, lc_le, li_ne, Int32.reduceOfInt, Int64.reduceOfInt, Int32.reduceOfNat, Int32.reduceLT, Int32.reduceLE, Prod.mk.injEq, Nat.reduceEqDiff, reduceCtorEq, and_true, true_and, and_false, false_and, and_self, ite_true, ite_false, ↓reduceIte, not_true_eq_false, not_false_eq_true, pe_ri, pe_rz, Ri_g36 hA, Ri_p0 hA, Ri_g0 hA, Ri_g37 hA, Ri_g38 hA, Ri_g39 hA, Ri_g40 hA, Ri_g41 hA, Ri_g15 hA, Ri_r15 hA, Ri_w15 hA, Ri_l15 hA, Ri_r37 hA, Ri_w37 hA, Ri_l37 hA, Ri_r38 hA, Ri_w38 hA, Ri_l38 hA, Ri_r39 hA, Ri_w39 hA, Ri_l39 hA, Ri_r40 hA, Ri_w40 hA, Ri_l40 hA, Ri_r41 hA, Ri_w41 hA, Ri_l41 hA, eq_true k1, eq_false k2, eq_false k4, eq_true k6]
          · rw [if_neg k7] at e; cases e
        · rw [if_neg k6] at e
          by_cases k8 : x2 = 2
          · rw [if_pos k8] at e
            by_cases k9 : 0 ≤ x1 ∧ x1 < 240
            · rw [if_pos k9] at e
              have e := Option.some.inj e; subst e
              simp -implicitDefEqProofs (disch := first | assumption | exact Nat.le_of_ble_eq_true rfl | decide) only [b1773_0, g1773_1, b1773_1, g1773_2, b1773_2, g1773_3, b1773_3, g1773_4, b1773_4, g1773_7, b1773_7, g1773_8, b1773_8, g1773_9, b1773_9, g1773_10, b1773_10, g1773_11, b1773_11, g1773_12, b1773_12, g1773_13, b1773_13, g1773_14, b1773_14, g1773_15, b1773_15, pe_aload0, pe_call1, pm_af_ret, pm_af_void, pm_af_thr, pe_if_eq, pe_sipush, pe_iload1, pe_icmp_lt, pe_getfield, pe_goto_w, pe_goto, pe_iload2, pe_i2l, pe_bipush, pe_call3, pe_putfield, pe_if_gt, pe_icmp_ne, pe_if_le, pe_if_ne, pe_iaload, pe_laload, pe_lmul, pe_l2i, pm_prog_1, pm_ob_some, Nat.reduceDiv, Nat.reduceMod, Nat.reduceMul, Nat.reduceAdd, Int.reduceToNat, pm_kill_i, pm_kill_r, pm_kill_n, pm_kill_j, pm_kill_l, pm_kill_d, pm_cats_nil, pm_cats_i, pm_cats_r, pm_cats_n, pm_cats_l, pm_cats_d, sz_1, sz_2, sl_1, sl_2, lc_0, lc_lt, lc_le, li_ne, Int32.reduceOfInt, Int64.reduceOfInt, Int32.reduceOfNat, Int32.reduceLT, Int32.reduceLE, Prod.mk.injEq, Nat.reduceEqDiff, reduceCtorEq, and_true, true_and, and_false, false_and, and_self, ite_true, ite_false, ↓reduceIte, not_true_eq_false, not_false_eq_true, pe_ri, pe_rz, Ri_g36 hA, Ri_p0 hA, Ri_g0 hA, Ri_g37 hA, Ri_g38 hA, Ri_g39 hA, Ri_g40 hA, Ri_g41 hA, Ri_g15 hA, Ri_r15 hA, Ri_w15 hA, Ri_l15 hA, Ri_r37 hA, Ri_w37 hA, Ri_l37 hA, Ri_r38 hA, Ri_w38 hA, Ri_l38 hA, Ri_r39 hA, Ri_w39 hA, Ri_l39 hA, Ri_r40 hA, Ri_w40 hA, Ri_l40 hA, Ri_r41 hA, Ri_w41 hA, Ri_l41 hA, eq_true k1, eq_false k2, eq_false k4, eq_false k6, eq_true k8]
            · rw [if_neg k9] at e; cases e
          · rw [if_neg k8] at e
            by_cases k10 : x2 = 3
            · rw [if_pos k10] at e
              by_cases k11 : 0 ≤ x1 ∧ x1 < 240
              · rw [if_pos k11] at e
                have e := Option.some.inj e; subst e
                simp -implicitDefEqProofs (disch := first | assumption | exact Nat.le_of_ble_eq_true rfl | decide) only [b1773_0, g1773_1, b1773_1, g1773_2, b1773_2, g1773_3, b1773_3, g1773_4, b1773_4, g1773_7, b1773_7, g1773_8, b1773_8, g1773_9, b1773_9, g1773_10, b1773_10, g1773_11, b1773_11, g1773_12, b1773_12, g1773_13, b1773_13, g1773_14, b1773_14, g1773_15, b1773_15, pe_aload0, pe_call1, pm_af_ret, pm_af_void, pm_af_thr, pe_if_eq, pe_sipush, pe_iload1, pe_icmp_lt, pe_getfield, pe_goto_w, pe_goto, pe_iload2, pe_i2l, pe_bipush, pe_call3, pe_putfield, pe_if_gt, pe_icmp_ne, pe_if_le, pe_if_ne, pe_iaload, pe_laload, pe_lmul, pe_l2i, pm_prog_1, pm_ob_some, Nat.reduceDiv, Nat.reduceMod, Nat.reduceMul, Nat.reduceAdd, Int.reduceToNat, pm_kill_i, pm_kill_r, pm_kill_n, pm_kill_j, pm_kill_l, pm_kill_d, pm_cats_nil, pm_cats_i, pm_cats_r, pm_cats_n, pm_cats_l, pm_cats_d, sz_1, sz_2, sl_1, sl_2, lc_0, lc_lt, lc_le, li_ne, Int32.reduceOfInt, Int64.reduceOfInt, Int32.reduceOfNat, Int32.reduceLT, Int32.reduceLE, Prod.mk.injEq, Nat.reduceEqDiff, reduceCtorEq, and_true, true_and, and_false, false_and, and_self, ite_true, ite_false, ↓reduceIte, not_true_eq_false, not_false_eq_true, pe_ri, pe_rz, Ri_g36 hA, Ri_p0 hA, Ri_g0 hA, Ri_g37 hA, Ri_g38 hA, Ri_g39 hA, Ri_g40 hA, Ri_g41 hA, Ri_g15 hA, Ri_r15 hA, Ri_w15 hA, Ri_l15 hA, Ri_r37 hA, Ri_w37 hA, Ri_l37 hA, Ri_r38 hA, Ri_w38 hA, Ri_l38 hA, Ri_r39 hA, Ri_w39 hA, Ri_l39 hA, Ri_r40 hA, Ri_w40 hA, Ri_l40 hA, Ri_r41 hA, Ri_w41 hA, Ri_l41 hA, eq_true k1, eq_false k2, eq_false k4, eq_false k6, eq_false k8, eq_true k10]
              · rw [if_neg k11] at e; cases e
            · rw [if_neg k10] at e
              by_cases k12 : x2 = 4
              · rw [if_pos k12] at e
                by_cases k13 : 0 ≤ x1 ∧ x1 < 240
                · rw [if_pos k13] at e
                  have e := Option.some.inj e; subst e
                  simp -implicitDefEqProofs (disch := first | assumption | exact Nat.le_of_ble_eq_true rfl | decide) only [b1773_0, g1773_1, b1773_1, g1773_2, b1773_2, g1773_3, b1773_3, g1773_4, b1773_4, g1773_7, b1773_7, g1773_8, b1773_8, g1773_9, b1773_9, g1773_10, b1773_10, g1773_11, b1773_11, g1773_12, b1773_12, g1773_13, b1773_13, g1773_14, b1773_14, g1773_15, b1773_15, pe_aload0, pe_call1, pm_af_ret, pm_af_void, pm_af_thr, pe_if_eq, pe_sipush, pe_iload1, pe_icmp_lt, pe_getfield, pe_goto_w, pe_goto, pe_iload2, pe_i2l, pe_bipush, pe_call3, pe_putfield, pe_if_gt, pe_icmp_ne, pe_if_le, pe_if_ne, pe_iaload, pe_laload, pe_lmul, pe_l2i, pm_prog_1, pm_ob_some, Nat.reduceDiv, Nat.reduceMod, Nat.reduceMul, Nat.reduceAdd, Int.reduceToNat, pm_kill_i, pm_kill_r, pm_kill_n, pm_kill_j, pm_kill_l, pm_kill_d, pm_cats_nil, pm_cats_i, pm_cats_r, pm_cats_n, pm_cats_l, pm_cats_d, sz_1, sz_2, sl_1, sl_2, lc_0, lc_lt, lc_le, li_ne, Int32.reduceOfInt, Int64.reduceOfInt, Int32.reduceOfNat, Int32.reduceLT, Int32.reduceLE, Prod.mk.injEq, Nat.reduceEqDiff, reduceCtorEq, and_true, true_and, and_false, false_and, and_self, ite_true, ite_false, ↓reduceIte, not_true_eq_false, not_false_eq_true, pe_ri, pe_rz, Ri_g36 hA, Ri_p0 hA, Ri_g0 hA, Ri_g37 hA, Ri_g38 hA, Ri_g39 hA, Ri_g40 hA, Ri_g41 hA, Ri_g15 hA, Ri_r15 hA, Ri_w15 hA, Ri_l15 hA, Ri_r37 hA, Ri_w37 hA, Ri_l37 hA, Ri_r38 hA, Ri_w38 hA, Ri_l38 hA, Ri_r39 hA, Ri_w39 hA, Ri_l39 hA, Ri_r40 hA, Ri_w40 hA, Ri_l40 hA, Ri_r41 hA, Ri_w41 hA, Ri_l41 hA, eq_true k1, eq_false k2, eq_false k4, eq_false k6, eq_false k8, eq_false k10, eq_true k12]
                · rw [if_neg k13] at e; cases e
              · rw [if_neg k12] at e
                by_cases k14 : 0 ≤ x1 ∧ x1 < 240
                · rw [if_pos k14] at e
                  by_cases k15 : 0 ≤ (S.1 (42, 0, 0) x1) ∧ (S.1 (42, 0, 0) x1) < 8
                  · rw [if_pos k15] at e
                    have e := Option.some.inj e; subst e
                    simp -implicitDefEqProofs (disch := first | assumption | exact Nat.le_of_ble_eq_true rfl | decide) only [b1773_0, g1773_1, b1773_1, g1773_2, b1773_2, g1773_3, b1773_3, g1773_4, b1773_4, g1773_7, b1773_7, g1773_8, b1773_8, g1773_9, b1773_9, g1773_10, b1773_10, g1773_11, b1773_11, g1773_12, b1773_12, g1773_13, b1773_13, g1773_14, b1773_14, g1773_15, b1773_15, pe_aload0, pe_call1, pm_af_ret, pm_af_void, pm_af_thr, pe_if_eq, pe_sipush, pe_iload1, pe_icmp_lt, pe_getfield, pe_goto_w, pe_goto, pe_iload2, pe_i2l, pe_bipush, pe_call3, pe_putfield, pe_if_gt, pe_icmp_ne, pe_if_le, pe_if_ne, pe_iaload, pe_laload, pe_lmul, pe_l2i, pm_prog_1, pm_ob_some, Nat.reduceDiv, Nat.reduceMod, Nat.reduceMul, Nat.reduceAdd, Int.reduceToNat, pm_kill_i, pm_kill_r, pm_kill_n, pm_kill_j, pm_kill_l, pm_kill_d, pm_cats_nil, pm_cats_i, pm_cats_r, pm_cats_n, pm_cats_l, pm_cats_d, sz_1, sz_2, sl_1, sl_2, lc_0, lc_lt, lc_le, li_ne, Int32.reduceOfInt, Int64.reduceOfInt, Int32.reduceOfNat, Int32.reduceLT, Int32.reduceLE, Prod.mk.injEq, Nat.reduceEqDiff, reduceCtorEq, and_true, true_and, and_false, false_and, and_self, ite_true, ite_false, ↓reduceIte, not_true_eq_false, not_false_eq_true, pe_ri, pe_rz, Ri_g36 hA, Ri_p0 hA, Ri_g0 hA, Ri_g37 hA, Ri_g38 hA, Ri_g39 hA, Ri_g40 hA, Ri_g41 hA, Ri_g15 hA, Ri_r15 hA, Ri_w15 hA, Ri_l15 hA, Ri_r37 hA, Ri_w37 hA, Ri_l37 hA, Ri_r38 hA, Ri_w38 hA, Ri_l38 hA, Ri_r39 hA, Ri_w39 hA, Ri_l39 hA, Ri_r40 hA, Ri_w40 hA, Ri_l40 hA, Ri_r41 hA, Ri_w41 hA, Ri_l41 hA, eq_true k1, eq_false k2, eq_false k4, eq_false k6, eq_false k8, eq_false k10, eq_false k12]
                  · rw [if_neg k15] at e; cases e
                · rw [if_neg k14] at e; cases e
  · rw [if_neg k1] at e
    have k16 := y1773_6 (h := h) hA hD e
    simp -implicitDefEqProofs (disch := first | assumption | exact Nat.le_of_ble_eq_true rfl | decide) only [b1773_0, g1773_1, b1773_1, g1773_2, b1773_2, g1773_3, b1773_3, g1773_4, b1773_4, g1773_7, b1773_7, g1773_8, b1773_8, g1773_9, b1773_9, g1773_10, b1773_10, g1773_11, b1773_11, g1773_12, b1773_12, g1773_13, b1773_13, g1773_14, b1773_14, g1773_15, b1773_15, pe_aload0, pe_call1, pm_af_ret, pm_af_void, pm_af_thr, pe_if_eq, pe_sipush, pe_iload1, pe_icmp_lt, pe_getfield, pe_goto_w, pe_goto, pe_iload2, pe_i2l, pe_bipush, pe_call3, pe_putfield, pe_if_gt, pe_icmp_ne, pe_if_le, pe_if_ne, pe_iaload, pe_laload, pe_lmul, pe_l2i, pm_prog_1, pm_ob_some, Nat.reduceDiv, Nat.reduceMod, Nat.reduceMul, Nat.reduceAdd, Int.reduceToNat, pm_kill_i, pm_kill_r, pm_kill_n, pm_kill_j, pm_kill_l, pm_kill_d, pm_cats_nil, pm_cats_i, pm_cats_r, pm_cats_n, pm_cats_l, pm_cats_d, sz_1, sz_2, sl_1, sl_2, lc_0, lc_lt, lc_le, li_ne, Int32.reduceOfInt, Int64.reduceOfInt, Int32.reduceOfNat, Int32.reduceLT, Int32.reduceLE, Prod.mk.injEq, Nat.reduceEqDiff, reduceCtorEq, and_true, true_and, and_false, false_and, and_self, ite_true, ite_false, ↓reduceIte, not_true_eq_false, not_false_eq_true, pe_ri, pe_rz, Ri_g36 hA, Ri_p0 hA, Ri_g0 hA, Ri_g37 hA, Ri_g38 hA, Ri_g39 hA, Ri_g40 hA, Ri_g41 hA, Ri_g15 hA, Ri_r15 hA, Ri_w15 hA, Ri_l15 hA, Ri_r37 hA, Ri_w37 hA, Ri_l37 hA, Ri_r38 hA, Ri_w38 hA, Ri_l38 hA, Ri_r39 hA, Ri_w39 hA, Ri_l39 hA, Ri_r40 hA, Ri_w40 hA, Ri_l40 hA, Ri_r41 hA, Ri_w41 hA, Ri_l41 hA, eq_false k1, k16]
theorem x1773 {A : wK → Nat} {h : pm_H} {m D : Nat} {S : wS} {x1 : Int32} {x2 : Int32} {r : Int32 × wS} (hA : wok A Ri_d m) (hD : 2 ≤ D) (e : f1773 S x1 x2 = some r) : pm_call pm_prog D 1773 [.ref (A (0, 0, 0)), .int x1, .int x2] (wput A Ri_d S h) = some (.returned (some (.int r.1)), (wput A Ri_d r.2 h)) := by
  obtain ⟨D, rfl⟩ : ∃ D', D = D' + 1 := ⟨D - 1, by omega⟩
  have hD : 1 ≤ D := by omega
  rw [c1773 (Ri_c hA), b1773_0]
  simp only [f1773] at e
  obtain ⟨⟨v1, S2⟩, k1, e⟩ := Option.bind_eq_some_iff.mp e
  try dsimp only at e
  have z1 := x1772 (D := D) (h := h) hA (by omega) k1
  dsimp only at z1
  by_cases k2 : v1 = 0
  · rw [if_pos k2] at e
    by_cases k3 : x1 < (-1)
    · rw [if_pos k3] at e
      have k4 := y1773_5 (h := h) hA hD e
      simp -implicitDefEqProofs (disch := first | assumption | exact Nat.le_of_ble_eq_true rfl | decide) only [b1773_0, g1773_1, b1773_1, g1773_2, b1773_2, g1773_3, b1773_3, g1773_4, b1773_4, g1773_7, b1773_7, g1773_8, b1773_8, g1773_9, b1773_9, g1773_10, b1773_10, g1773_11, b1773_11, g1773_12, b1773_12, g1773_13, b1773_13, g1773_14, b1773_14, g1773_15, b1773_15, pe_aload0, pe_call1, pm_af_ret, pm_af_void, pm_af_thr, pe_if_eq, pe_sipush, pe_iload1, pe_icmp_lt, pe_getfield, pe_goto_w, pe_goto, pe_iload2, pe_i2l, pe_bipush, pe_call3, pe_putfield, pe_if_gt, pe_icmp_ne, pe_if_le, pe_if_ne, pe_iaload, pe_laload, pe_lmul, pe_l2i, pm_prog_1, pm_ob_some, Nat.reduceDiv, Nat.reduceMod, Nat.reduceMul, Nat.reduceAdd, Int.reduceToNat, pm_kill_i, pm_kill_r, pm_kill_n, pm_kill_j, pm_kill_l, pm_kill_d, pm_cats_nil, pm_cats_i, pm_cats_r, pm_cats_n, pm_cats_l, pm_cats_d, sz_1, sz_2, sl_1, sl_2, lc_0, lc_lt, lc_le, li_ne, Int32.reduceOfInt, Int64.reduceOfInt, Int32.reduceOfNat, Int32.reduceLT, Int32.reduceLE, Prod.mk.injEq, Nat.reduceEqDiff, reduceCtorEq, and_true, true_and, and_false, false_and, and_self, ite_true, ite_false, ↓reduceIte, not_true_eq_false, not_false_eq_true, pe_ri, pe_rz, Ri_g36 hA, Ri_p0 hA, Ri_g0 hA, Ri_g37 hA, Ri_g38 hA, Ri_g39 hA, Ri_g40 hA, Ri_g41 hA, Ri_g15 hA, Ri_r15 hA, Ri_w15 hA, Ri_l15 hA, Ri_r37 hA, Ri_w37 hA, Ri_l37 hA, Ri_r38 hA, Ri_w38 hA, Ri_l38 hA, Ri_r39 hA, Ri_w39 hA, Ri_l39 hA, Ri_r40 hA, Ri_w40 hA, Ri_l40 hA, Ri_r41 hA, Ri_w41 hA, Ri_l41 hA, z1, eq_true k2, eq_true k3, k4]
    · rw [if_neg k3] at e
      by_cases k5 : x1 < (S2.1 (0, 0, 0) 36)
      · rw [if_pos k5] at e
        obtain ⟨v3, k6, e⟩ := Option.bind_eq_some_iff.mp e
        try dsimp only at e
        have z6 := fun h => x1731 (D := D) (h := h) (by omega) k6
        by_cases k7 : v3 = 0
        · rw [if_pos k7] at e
          have k8 := y1773_5 (h := h) hA hD e
          simp -implicitDefEqProofs (disch := first | assumption | exact Nat.le_of_ble_eq_true rfl | decide) only [b1773_0, g1773_1, b1773_1, g1773_2, b1773_2, g1773_3, b1773_3, g1773_4, b1773_4, g1773_7, b1773_7, g1773_8, b1773_8, g1773_9, b1773_9, g1773_10, b1773_10, g1773_11, b1773_11, g1773_12, b1773_12, g1773_13, b1773_13, g1773_14, b1773_14, g1773_15, b1773_15, pe_aload0, pe_call1, pm_af_ret, pm_af_void, pm_af_thr, pe_if_eq, pe_sipush, pe_iload1, pe_icmp_lt, pe_getfield, pe_goto_w, pe_goto, pe_iload2, pe_i2l, pe_bipush, pe_call3, pe_putfield, pe_if_gt, pe_icmp_ne, pe_if_le, pe_if_ne, pe_iaload, pe_laload, pe_lmul, pe_l2i, pm_prog_1, pm_ob_some, Nat.reduceDiv, Nat.reduceMod, Nat.reduceMul, Nat.reduceAdd, Int.reduceToNat, pm_kill_i, pm_kill_r, pm_kill_n, pm_kill_j, pm_kill_l, pm_kill_d, pm_cats_nil, pm_cats_i, pm_cats_r, pm_cats_n, pm_cats_l, pm_cats_d, sz_1, sz_2, sl_1, sl_2, lc_0, lc_lt, lc_le, li_ne, Int32.reduceOfInt, Int64.reduceOfInt, Int32.reduceOfNat, Int32.reduceLT, Int32.reduceLE, Prod.mk.injEq, Nat.reduceEqDiff, reduceCtorEq, and_true, true_and, and_false, false_and, and_self, ite_true, ite_false, ↓reduceIte, not_true_eq_false, not_false_eq_true, pe_ri, pe_rz, Ri_g36 hA, Ri_p0 hA, Ri_g0 hA, Ri_g37 hA, Ri_g38 hA, Ri_g39 hA, Ri_g40 hA, Ri_g41 hA, Ri_g15 hA, Ri_r15 hA, Ri_w15 hA, Ri_l15 hA, Ri_r37 hA, Ri_w37 hA, Ri_l37 hA, Ri_r38 hA, Ri_w38 hA, Ri_l38 hA, Ri_r39 hA, Ri_w39 hA, Ri_l39 hA, Ri_r40 hA, Ri_w40 hA, Ri_l40 hA, Ri_r41 hA, Ri_w41 hA, Ri_l41 hA, z1, eq_true k2, eq_false k3, eq_true k5, z6, eq_true k7, k8]
        · rw [if_neg k7] at e
          have k9 := y1773_5 (h := h) hA hD e
          simp -implicitDefEqProofs (disch := first | assumption | exact Nat.le_of_ble_eq_true rfl | decide) only [b1773_0, g1773_1, b1773_1, g1773_2, b1773_2, g1773_3, b1773_3, g1773_4, b1773_4, g1773_7, b1773_7, g1773_8, b1773_8, g1773_9, b1773_9, g1773_10, b1773_10, g1773_11, b1773_11, g1773_12, b1773_12, g1773_13, b1773_13, g1773_14, b1773_14, g1773_15, b1773_15, pe_aload0, pe_call1, pm_af_ret, pm_af_void, pm_af_thr, pe_if_eq, pe_sipush, pe_iload1, pe_icmp_lt, pe_getfield, pe_goto_w, pe_goto, pe_iload2, pe_i2l, pe_bipush, pe_call3, pe_putfield, pe_if_gt, pe_icmp_ne, pe_if_le, pe_if_ne, pe_iaload, pe_laload, pe_lmul, pe_l2i, pm_prog_1, pm_ob_some, Nat.reduceDiv, Nat.reduceMod, Nat.reduceMul, Nat.reduceAdd, Int.reduceToNat, pm_kill_i, pm_kill_r, pm_kill_n, pm_kill_j, pm_kill_l, pm_kill_d, pm_cats_nil, pm_cats_i, pm_cats_r, pm_cats_n, pm_cats_l, pm_cats_d, sz_1, sz_2, sl_1, sl_2, lc_0, lc_lt, lc_le, li_ne, Int32.reduceOfInt, Int64.reduceOfInt, Int32.reduceOfNat, Int32.reduceLT, Int32.reduceLE, Prod.mk.injEq, Nat.reduceEqDiff, reduceCtorEq, and_true, true_and, and_false, false_and, and_self, ite_true, ite_false, ↓reduceIte, not_true_eq_false, not_false_eq_true, pe_ri, pe_rz, Ri_g36 hA, Ri_p0 hA, Ri_g0 hA, Ri_g37 hA, Ri_g38 hA, Ri_g39 hA, Ri_g40 hA, Ri_g41 hA, Ri_g15 hA, Ri_r15 hA, Ri_w15 hA, Ri_l15 hA, Ri_r37 hA, Ri_w37 hA, Ri_l37 hA, Ri_r38 hA, Ri_w38 hA, Ri_l38 hA, Ri_r39 hA, Ri_w39 hA, Ri_l39 hA, Ri_r40 hA, Ri_w40 hA, Ri_l40 hA, Ri_r41 hA, Ri_w41 hA, Ri_l41 hA, z1, eq_true k2, eq_false k3, eq_true k5, z6, eq_false k7, k9]
      · rw [if_neg k5] at e
        have k10 := y1773_5 (h := h) hA hD e
        simp -implicitDefEqProofs (disch := first | assumption | exact Nat.le_of_ble_eq_true rfl | decide) only [b1773_0, g1773_1, b1773_1, g1773_2, b1773_2, g1773_3, b1773_3, g1773_4, b1773_4, g1773_7, b1773_7, g1773_8, b1773_8, g1773_9, b1773_9, g1773_10, b1773_10, g1773_11, b1773_11, g1773_12, b1773_12, g1773_13, b1773_13, g1773_14, b1773_14, g1773_15, b1773_15, pe_aload0, pe_call1, pm_af_ret, pm_af_void, pm_af_thr, pe_if_eq, pe_sipush, pe_iload1, pe_icmp_lt, pe_getfield, pe_goto_w, pe_goto, pe_iload2, pe_i2l, pe_bipush, pe_call3, pe_putfield, pe_if_gt, pe_icmp_ne, pe_if_le, pe_if_ne, pe_iaload, pe_laload, pe_lmul, pe_l2i, pm_prog_1, pm_ob_some, Nat.reduceDiv, Nat.reduceMod, Nat.reduceMul, Nat.reduceAdd, Int.reduceToNat, pm_kill_i, pm_kill_r, pm_kill_n, pm_kill_j, pm_kill_l, pm_kill_d, pm_cats_nil, pm_cats_i, pm_cats_r, pm_cats_n, pm_cats_l, pm_cats_d, sz_1, sz_2, sl_1, sl_2, lc_0, lc_lt, lc_le, li_ne, Int32.reduceOfInt, Int64.reduceOfInt, Int32.reduceOfNat, Int32.reduceLT, Int32.reduceLE, Prod.mk.injEq, Nat.reduceEqDiff, reduceCtorEq, and_true, true_and, and_false, false_and, and_self, ite_true, ite_false, ↓reduceIte, not_true_eq_false, not_false_eq_true, pe_ri, pe_rz, Ri_g36 hA, Ri_p0 hA, Ri_g0 hA, Ri_g37 hA, Ri_g38 hA, Ri_g39 hA, Ri_g40 hA, Ri_g41 hA, Ri_g15 hA, Ri_r15 hA, Ri_w15 hA, Ri_l15 hA, Ri_r37 hA, Ri_w37 hA, Ri_l37 hA, Ri_r38 hA, Ri_w38 hA, Ri_l38 hA, Ri_r39 hA, Ri_w39 hA, Ri_l39 hA, Ri_r40 hA, Ri_w40 hA, Ri_l40 hA, Ri_r41 hA, Ri_w41 hA, Ri_l41 hA, z1, eq_true k2, eq_false k3, eq_false k5, k10]
  · rw [if_neg k2] at e
    have e := Option.some.inj e; subst e
    simp -implicitDefEqProofs (disch := first | assumption | exact Nat.le_of_ble_eq_true rfl | decide) only [b1773_0, g1773_1, b1773_1, g1773_2, b1773_2, g1773_3, b1773_3, g1773_4, b1773_4, g1773_7, b1773_7, g1773_8, b1773_8, g1773_9, b1773_9, g1773_10, b1773_10, g1773_11, b1773_11, g1773_12, b1773_12, g1773_13, b1773_13, g1773_14, b1773_14, g1773_15, b1773_15, pe_aload0, pe_call1, pm_af_ret, pm_af_void, pm_af_thr, pe_if_eq, pe_sipush, pe_iload1, pe_icmp_lt, pe_getfield, pe_goto_w, pe_goto, pe_iload2, pe_i2l, pe_bipush, pe_call3, pe_putfield, pe_if_gt, pe_icmp_ne, pe_if_le, pe_if_ne, pe_iaload, pe_laload, pe_lmul, pe_l2i, pm_prog_1, pm_ob_some, Nat.reduceDiv, Nat.reduceMod, Nat.reduceMul, Nat.reduceAdd, Int.reduceToNat, pm_kill_i, pm_kill_r, pm_kill_n, pm_kill_j, pm_kill_l, pm_kill_d, pm_cats_nil, pm_cats_i, pm_cats_r, pm_cats_n, pm_cats_l, pm_cats_d, sz_1, sz_2, sl_1, sl_2, lc_0, lc_lt, lc_le, li_ne, Int32.reduceOfInt, Int64.reduceOfInt, Int32.reduceOfNat, Int32.reduceLT, Int32.reduceLE, Prod.mk.injEq, Nat.reduceEqDiff, reduceCtorEq, and_true, true_and, and_false, false_and, and_self, ite_true, ite_false, ↓reduceIte, not_true_eq_false, not_false_eq_true, pe_ri, pe_rz, Ri_g36 hA, Ri_p0 hA, Ri_g0 hA, Ri_g37 hA, Ri_g38 hA, Ri_g39 hA, Ri_g40 hA, Ri_g41 hA, Ri_g15 hA, Ri_r15 hA, Ri_w15 hA, Ri_l15 hA, Ri_r37 hA, Ri_w37 hA, Ri_l37 hA, Ri_r38 hA, Ri_w38 hA, Ri_l38 hA, Ri_r39 hA, Ri_w39 hA, Ri_l39 hA, Ri_r40 hA, Ri_w40 hA, Ri_l40 hA, Ri_r41 hA, Ri_w41 hA, Ri_l41 hA, z1, eq_false k2]
/-- TimberHouseModel$Rips.nearest(I)I -/
theorem c1729 {d : Nat} {h : pm_H} {x0 : Int32} : pm_call pm_prog (d + 1) 1729 [.int x0] h = pm_ev pm_prog (pm_call pm_prog d) 1729 0 b1729_0 [.int x0] [] h := pm_cal (pm_rc0 rfl) rfl rfl rfl
theorem g1729_1 {cl : pm_C} {ls st : List Value} {h : pm_H} : pm_go pm_prog cl 1729 1 ls st h = pm_ev pm_prog cl 1729 1 b1729_1 ls st h := pm_go_eq pm_prog cl 1729 1 ls st h
theorem g1729_2 {cl : pm_C} {ls st : List Value} {h : pm_H} : pm_go pm_prog cl 1729 2 ls st h = pm_ev pm_prog cl 1729 2 b1729_2 ls st h := pm_go_eq pm_prog cl 1729 2 ls st h
theorem g1729_3 {cl : pm_C} {ls st : List Value} {h : pm_H} : pm_go pm_prog cl 1729 3 ls st h = pm_ev pm_prog cl 1729 3 b1729_3 ls st h := pm_go_eq pm_prog cl 1729 3 ls st h
/-- TimberHouseModel$Rips.nearest(I)I -/
noncomputable def f1729 (x0 : Int32) : Option (Int32) :=
  if x0 < 1 then
    some 1
  else
    if x0 ≤ 65536 then
      some x0
    else
      some 65536
theorem x1729 {h : pm_H} {D : Nat} {x0 : Int32} {r : Int32} (hD : 1 ≤ D) (e : f1729 x0 = some r) : pm_call pm_prog D 1729 [.int x0] h = some (.returned (some (.int r)), h) := by
  obtain ⟨D, rfl⟩ : ∃ D', D = D' + 1 := ⟨D - 1, by omega⟩
  have hD : 0 ≤ D := by omega
  rw [c1729, b1729_0]
  simp only [f1729] at e
  by_cases k1 : x0 < 1
  · rw [if_pos k1] at e
    have e := Option.some.inj e; subst e
    simp -implicitDefEqProofs (disch := first | assumption | exact Nat.le_of_ble_eq_true rfl | decide) only [b1729_0, g1729_1, b1729_1, g1729_2, b1729_2, g1729_3, b1729_3, pe_iload0, pe_sipush, pe_icmp_ge, pe_goto, pe_icmp_le, pe_goto_w, pm_prog_1, pm_ob_some, Nat.reduceDiv, Nat.reduceMod, Nat.reduceMul, Nat.reduceAdd, Int.reduceToNat, pm_kill_i, pm_kill_r, pm_kill_n, pm_kill_j, pm_kill_l, pm_kill_d, pm_cats_nil, pm_cats_i, pm_cats_r, pm_cats_n, pm_cats_l, pm_cats_d, sz_1, sz_2, sl_1, sl_2, lc_0, lc_lt, lc_le, li_ne, Int32.reduceOfInt, Int64.reduceOfInt, Int32.reduceOfNat, Int32.reduceLT, Int32.reduceLE, Prod.mk.injEq, Nat.reduceEqDiff, reduceCtorEq, and_true, true_and, and_false, false_and, and_self, ite_true, ite_false, ↓reduceIte, not_true_eq_false, not_false_eq_true, pe_ri, pe_rz, eq_true k1]
  · rw [if_neg k1] at e
    by_cases k2 : x0 ≤ 65536
    · rw [if_pos k2] at e
      have e := Option.some.inj e; subst e
      simp -implicitDefEqProofs (disch := first | assumption | exact Nat.le_of_ble_eq_true rfl | decide) only [b1729_0, g1729_1, b1729_1, g1729_2, b1729_2, g1729_3, b1729_3, pe_iload0, pe_sipush, pe_icmp_ge, pe_goto, pe_icmp_le, pe_goto_w, pm_prog_1, pm_ob_some, Nat.reduceDiv, Nat.reduceMod, Nat.reduceMul, Nat.reduceAdd, Int.reduceToNat, pm_kill_i, pm_kill_r, pm_kill_n, pm_kill_j, pm_kill_l, pm_kill_d, pm_cats_nil, pm_cats_i, pm_cats_r, pm_cats_n, pm_cats_l, pm_cats_d, sz_1, sz_2, sl_1, sl_2, lc_0, lc_lt, lc_le, li_ne, Int32.reduceOfInt, Int64.reduceOfInt, Int32.reduceOfNat, Int32.reduceLT, Int32.reduceLE, Prod.mk.injEq, Nat.reduceEqDiff, reduceCtorEq, and_true, true_and, and_false, false_and, and_self, ite_true, ite_false, ↓reduceIte, not_true_eq_false, not_false_eq_true, pe_ri, pe_rz, eq_false k1, eq_true k2]
    · rw [if_neg k2] at e
      have e := Option.some.inj e; subst e
      simp -implicitDefEqProofs (disch := first | assumption | exact Nat.le_of_ble_eq_true rfl | decide) only [b1729_0, g1729_1, b1729_1, g1729_2, b1729_2, g1729_3, b1729_3, pe_iload0, pe_sipush, pe_icmp_ge, pe_goto, pe_icmp_le, pe_goto_w, pm_prog_1, pm_ob_some, Nat.reduceDiv, Nat.reduceMod, Nat.reduceMul, Nat.reduceAdd, Int.reduceToNat, pm_kill_i, pm_kill_r, pm_kill_n, pm_kill_j, pm_kill_l, pm_kill_d, pm_cats_nil, pm_cats_i, pm_cats_r, pm_cats_n, pm_cats_l, pm_cats_d, sz_1, sz_2, sl_1, sl_2, lc_0, lc_lt, lc_le, li_ne, Int32.reduceOfInt, Int64.reduceOfInt, Int32.reduceOfNat, Int32.reduceLT, Int32.reduceLE, Prod.mk.injEq, Nat.reduceEqDiff, reduceCtorEq, and_true, true_and, and_false, false_and, and_self, ite_true, ite_false, ↓reduceIte, not_true_eq_false, not_false_eq_true, pe_ri, pe_rz, eq_false k1, eq_false k2]
/-- TimberHouseModel$Rips.greatest()Z -/
theorem c1781 {d : Nat} {h : pm_H} {a : Nat} (hc : pm_cls h a = some 27) : pm_call pm_prog (d + 1) 1781 [.ref a] h = pm_ev pm_prog (pm_call pm_prog d) 1781 0 b1781_0 [.ref a] [] h := pm_cal (pm_rc1 hc rfl) rfl rfl rfl
theorem g1781_1 {cl : pm_C} {ls st : List Value} {h : pm_H} : pm_go pm_prog cl 1781 1 ls st h = pm_ev pm_prog cl 1781 1 b1781_1 ls st h := pm_go_eq pm_prog cl 1781 1 ls st h
theorem g1781_2 {cl : pm_C} {ls st : List Value} {h : pm_H} : pm_go pm_prog cl 1781 2 ls st h = pm_ev pm_prog cl 1781 2 b1781_2 ls st h := pm_go_eq pm_prog cl 1781 2 ls st h
/-- TimberHouseModel$Rips.greatest()Z -/
noncomputable def f1781 (S : wS) : Option (Int32 × wS) :=
  (f1772 S).bind fun (v1, S2) =>
  if v1 = 0 then
    (f1765 S2).bind fun v3 =>
    if v3 = (S2.2 (0, 0, 0) 44) then
      some (1, S2)
    else
      some (0, S2)
  else
    some (0, S2)
theorem x1781 {A : wK → Nat} {h : pm_H} {m D : Nat} {S : wS} {r : Int32 × wS} (hA : wok A Ri_d m) (hD : 2 ≤ D) (e : f1781 S = some r) : pm_call pm_prog D 1781 [.ref (A (0, 0, 0))] (wput A Ri_d S h) = some (.returned (some (.int r.1)), (wput A Ri_d r.2 h)) := by
  obtain ⟨D, rfl⟩ : ∃ D', D = D' + 1 := ⟨D - 1, by omega⟩
  have hD : 1 ≤ D := by omega
  rw [c1781 (Ri_c hA), b1781_0]
  simp only [f1781] at e
  obtain ⟨⟨v1, S2⟩, k1, e⟩ := Option.bind_eq_some_iff.mp e
  try dsimp only at e
  have z1 := x1772 (D := D) (h := h) hA (by omega) k1
  dsimp only at z1
  by_cases k2 : v1 = 0
  · rw [if_pos k2] at e
    obtain ⟨v3, k3, e⟩ := Option.bind_eq_some_iff.mp e
    try dsimp only at e
    have z3 := x1765 (D := D) (h := h) hA (by omega) k3
    by_cases k4 : v3 = (S2.2 (0, 0, 0) 44)
    · rw [if_pos k4] at e
      have e := Option.some.inj e; subst e
      simp -implicitDefEqProofs (disch := first | assumption | exact Nat.le_of_ble_eq_true rfl | decide) only [b1781_0, g1781_1, b1781_1, g1781_2, b1781_2, pe_aload0, pe_call1, pm_af_ret, pm_af_void, pm_af_thr, pe_if_ne, pe_getfield, pe_lcmp, pe_sipush, pe_goto, pe_goto_w, pm_prog_1, pm_ob_some, Nat.reduceDiv, Nat.reduceMod, Nat.reduceMul, Nat.reduceAdd, Int.reduceToNat, pm_kill_i, pm_kill_r, pm_kill_n, pm_kill_j, pm_kill_l, pm_kill_d, pm_cats_nil, pm_cats_i, pm_cats_r, pm_cats_n, pm_cats_l, pm_cats_d, sz_1, sz_2, sl_1, sl_2, lc_0, lc_lt, lc_le, li_ne, Int32.reduceOfInt, Int64.reduceOfInt, Int32.reduceOfNat, Int32.reduceLT, Int32.reduceLE, Prod.mk.injEq, Nat.reduceEqDiff, reduceCtorEq, and_true, true_and, and_false, false_and, and_self, ite_true, ite_false, ↓reduceIte, not_true_eq_false, not_false_eq_true, pe_ri, pe_rz, Ri_g44 hA, z1, eq_true k2, z3, eq_true k4]
    · rw [if_neg k4] at e
      have e := Option.some.inj e; subst e
      simp -implicitDefEqProofs (disch := first | assumption | exact Nat.le_of_ble_eq_true rfl | decide) only [b1781_0, g1781_1, b1781_1, g1781_2, b1781_2, pe_aload0, pe_call1, pm_af_ret, pm_af_void, pm_af_thr, pe_if_ne, pe_getfield, pe_lcmp, pe_sipush, pe_goto, pe_goto_w, pm_prog_1, pm_ob_some, Nat.reduceDiv, Nat.reduceMod, Nat.reduceMul, Nat.reduceAdd, Int.reduceToNat, pm_kill_i, pm_kill_r, pm_kill_n, pm_kill_j, pm_kill_l, pm_kill_d, pm_cats_nil, pm_cats_i, pm_cats_r, pm_cats_n, pm_cats_l, pm_cats_d, sz_1, sz_2, sl_1, sl_2, lc_0, lc_lt, lc_le, li_ne, Int32.reduceOfInt, Int64.reduceOfInt, Int32.reduceOfNat, Int32.reduceLT, Int32.reduceLE, Prod.mk.injEq, Nat.reduceEqDiff, reduceCtorEq, and_true, true_and, and_false, false_and, and_self, ite_true, ite_false, ↓reduceIte, not_true_eq_false, not_false_eq_true, pe_ri, pe_rz, Ri_g44 hA, z1, eq_true k2, z3, eq_false k4]
  · rw [if_neg k2] at e
    have e := Option.some.inj e; subst e
    simp -implicitDefEqProofs (disch := first | assumption | exact Nat.le_of_ble_eq_true rfl | decide) only [b1781_0, g1781_1, b1781_1, g1781_2, b1781_2, pe_aload0, pe_call1, pm_af_ret, pm_af_void, pm_af_thr, pe_if_ne, pe_getfield, pe_lcmp, pe_sipush, pe_goto, pe_goto_w, pm_prog_1, pm_ob_some, Nat.reduceDiv, Nat.reduceMod, Nat.reduceMul, Nat.reduceAdd, Int.reduceToNat, pm_kill_i, pm_kill_r, pm_kill_n, pm_kill_j, pm_kill_l, pm_kill_d, pm_cats_nil, pm_cats_i, pm_cats_r, pm_cats_n, pm_cats_l, pm_cats_d, sz_1, sz_2, sl_1, sl_2, lc_0, lc_lt, lc_le, li_ne, Int32.reduceOfInt, Int64.reduceOfInt, Int32.reduceOfNat, Int32.reduceLT, Int32.reduceLE, Prod.mk.injEq, Nat.reduceEqDiff, reduceCtorEq, and_true, true_and, and_false, false_and, and_self, ite_true, ite_false, ↓reduceIte, not_true_eq_false, not_false_eq_true, pe_ri, pe_rz, Ri_g44 hA, z1, eq_false k2]
/-- TimberHouseModel$Rips.panel(II)I -/
theorem c1780 {d : Nat} {h : pm_H} {a : Nat} {x0 : Int32} {x1 : Int32} (hc : pm_cls h a = some 27) : pm_call pm_prog (d + 1) 1780 [.ref a, .int x0, .int x1] h = pm_ev pm_prog (pm_call pm_prog d) 1780 0 b1780_0 [.ref a, .int x0, .int x1, pm_junk, pm_junk, pm_junk] [] h := pm_cal (pm_rc1 hc rfl) rfl rfl rfl
theorem g1780_1 {cl : pm_C} {ls st : List Value} {h : pm_H} : pm_go pm_prog cl 1780 1 ls st h = pm_ev pm_prog cl 1780 1 b1780_1 ls st h := pm_go_eq pm_prog cl 1780 1 ls st h
theorem g1780_2 {cl : pm_C} {ls st : List Value} {h : pm_H} : pm_go pm_prog cl 1780 2 ls st h = pm_ev pm_prog cl 1780 2 b1780_2 ls st h := pm_go_eq pm_prog cl 1780 2 ls st h
theorem g1780_3 {cl : pm_C} {ls st : List Value} {h : pm_H} : pm_go pm_prog cl 1780 3 ls st h = pm_ev pm_prog cl 1780 3 b1780_3 ls st h := pm_go_eq pm_prog cl 1780 3 ls st h
theorem g1780_4 {cl : pm_C} {ls st : List Value} {h : pm_H} : pm_go pm_prog cl 1780 4 ls st h = pm_ev pm_prog cl 1780 4 b1780_4 ls st h := pm_go_eq pm_prog cl 1780 4 ls st h
theorem g1780_5 {cl : pm_C} {ls st : List Value} {h : pm_H} : pm_go pm_prog cl 1780 5 ls st h = pm_ev pm_prog cl 1780 5 b1780_5 ls st h := pm_go_eq pm_prog cl 1780 5 ls st h
theorem g1780_6 {cl : pm_C} {ls st : List Value} {h : pm_H} : pm_go pm_prog cl 1780 6 ls st h = pm_ev pm_prog cl 1780 6 b1780_6 ls st h := pm_go_eq pm_prog cl 1780 6 ls st h
theorem g1780_7 {cl : pm_C} {ls st : List Value} {h : pm_H} : pm_go pm_prog cl 1780 7 ls st h = pm_ev pm_prog cl 1780 7 b1780_7 ls st h := pm_go_eq pm_prog cl 1780 7 ls st h
theorem g1780_8 {cl : pm_C} {ls st : List Value} {h : pm_H} : pm_go pm_prog cl 1780 8 ls st h = pm_ev pm_prog cl 1780 8 b1780_8 ls st h := pm_go_eq pm_prog cl 1780 8 ls st h
theorem g1780_9 {cl : pm_C} {ls st : List Value} {h : pm_H} : pm_go pm_prog cl 1780 9 ls st h = pm_ev pm_prog cl 1780 9 b1780_9 ls st h := pm_go_eq pm_prog cl 1780 9 ls st h
theorem g1780_10 {cl : pm_C} {ls st : List Value} {h : pm_H} : pm_go pm_prog cl 1780 10 ls st h = pm_ev pm_prog cl 1780 10 b1780_10 ls st h := pm_go_eq pm_prog cl 1780 10 ls st h
theorem g1780_11 {cl : pm_C} {ls st : List Value} {h : pm_H} : pm_go pm_prog cl 1780 11 ls st h = pm_ev pm_prog cl 1780 11 b1780_11 ls st h := pm_go_eq pm_prog cl 1780 11 ls st h
theorem g1780_12 {cl : pm_C} {ls st : List Value} {h : pm_H} : pm_go pm_prog cl 1780 12 ls st h = pm_ev pm_prog cl 1780 12 b1780_12 ls st h := pm_go_eq pm_prog cl 1780 12 ls st h
theorem g1780_13 {cl : pm_C} {ls st : List Value} {h : pm_H} : pm_go pm_prog cl 1780 13 ls st h = pm_ev pm_prog cl 1780 13 b1780_13 ls st h := pm_go_eq pm_prog cl 1780 13 ls st h
theorem g1780_14 {cl : pm_C} {ls st : List Value} {h : pm_H} : pm_go pm_prog cl 1780 14 ls st h = pm_ev pm_prog cl 1780 14 b1780_14 ls st h := pm_go_eq pm_prog cl 1780 14 ls st h
theorem g1780_15 {cl : pm_C} {ls st : List Value} {h : pm_H} : pm_go pm_prog cl 1780 15 ls st h = pm_ev pm_prog cl 1780 15 b1780_15 ls st h := pm_go_eq pm_prog cl 1780 15 ls st h
theorem g1780_16 {cl : pm_C} {ls st : List Value} {h : pm_H} : pm_go pm_prog cl 1780 16 ls st h = pm_ev pm_prog cl 1780 16 b1780_16 ls st h := pm_go_eq pm_prog cl 1780 16 ls st h
theorem g1780_17 {cl : pm_C} {ls st : List Value} {h : pm_H} : pm_go pm_prog cl 1780 17 ls st h = pm_ev pm_prog cl 1780 17 b1780_17 ls st h := pm_go_eq pm_prog cl 1780 17 ls st h
noncomputable def f1780_10_6 (S : wS) (x1 : Int32) (x2 : Int32) (x3 : Int32) (x4 : Int32) (x5 : Int32) : Option ((Int32 × Int32 × Int32 × Int32 × wS) ⊕ ((Int32 × Int32 × Int32 × wS))) :=
  if 0 ≤ ((101 * x3) + x4) ∧ ((101 * x3) + x4) < 24341 then
    some (.inl (x1, x2, x3, (x4 + 1), (sz S (47, 0, 0) ((101 * x3) + x4) x5)))
  else none
noncomputable def f1780_9_6 (S : wS) (x1 : Int32) (x2 : Int32) (x3 : Int32) (x4 : Int32) (y0 : Int32) : Option ((Int32 × Int32 × Int32 × Int32 × wS) ⊕ ((Int32 × Int32 × Int32 × wS))) :=
  if x3 < (S.1 (0, 0, 0) 36) then
    if 0 ≤ x3 ∧ x3 < 240 then
      if x4 < (S.1 (41, 0, 0) x3) then
        f1780_10_6 S x1 x2 x3 x4 y0
      else
        if 0 ≤ (((101 * (x3 + 1)) + x4) - (S.1 (41, 0, 0) x3)) ∧ (((101 * (x3 + 1)) + x4) - (S.1 (41, 0, 0) x3)) < 24341 then
          if ((S.1 (47, 0, 0) (((101 * (x3 + 1)) + x4) - (S.1 (41, 0, 0) x3))) + 1) < y0 then
            f1780_10_6 S x1 x2 x3 x4 ((S.1 (47, 0, 0) (((101 * (x3 + 1)) + x4) - (S.1 (41, 0, 0) x3))) + 1)
          else
            f1780_10_6 S x1 x2 x3 x4 y0
        else none
    else none
  else
    f1780_10_6 S x1 x2 x3 x4 y0
noncomputable def f1780_b6 : Int32 × Int32 × Int32 × Int32 × wS → Option ((Int32 × Int32 × Int32 × Int32 × wS) ⊕ ((Int32 × Int32 × Int32 × wS))) := fun (x1, x2, x3, x4, S) =>
  if x4 ≤ x1 then
    if x4 = 0 then
      f1780_9_6 S x1 x2 x3 x4 0
    else
      if x3 = (S.1 (0, 0, 0) 36) then
        f1780_9_6 S x1 x2 x3 x4 1000
      else
        if 0 ≤ ((101 * (x3 + 1)) + x4) ∧ ((101 * (x3 + 1)) + x4) < 24341 then
          f1780_9_6 S x1 x2 x3 x4 (S.1 (47, 0, 0) ((101 * (x3 + 1)) + x4))
        else none
  else
    some (.inr (x1, x2, x3, S))
noncomputable def f1780_b5 : Int32 × Int32 × Int32 × wS → Option ((Int32 × Int32 × Int32 × wS) ⊕ ((Int32 × Int32 × wS))) := fun (x1, x2, x3, S) =>
  if x3 < 0 then
    some (.inr (x1, x2, S))
  else
    (lp (f1780_b6) FU (x1, x2, x3, 0, S)).bind fun (v4, v5, v6, S7) =>
    some (.inl (v4, v5, (v6 + (-1)), S7))
noncomputable def f1780_b14 (S : wS) : Int32 × Int32 × Int32 × Int32 → Option ((Int32 × Int32 × Int32 × Int32) ⊕ ((Int32) ⊕ (Unit))) := fun (x2, x3, x4, x5) =>
  if x5 < (S.1 (0, 0, 0) 36) then
    if 0 ≤ x5 ∧ x5 < 240 then
      if x3 < (S.1 (41, 0, 0) x5) then
        some (.inl (x2, x3, x4, (x5 + 1)))
      else
        if 0 ≤ (((101 * (x5 + 1)) + x3) - (S.1 (41, 0, 0) x5)) ∧ (((101 * (x5 + 1)) + x3) - (S.1 (41, 0, 0) x5)) < 24341 then
          if 0 ≤ ((101 * x5) + x3) ∧ ((101 * x5) + x3) < 24341 then
            if ((S.1 (47, 0, 0) (((101 * (x5 + 1)) + x3) - (S.1 (41, 0, 0) x5))) + 1) = (S.1 (47, 0, 0) ((101 * x5) + x3)) then
              if x4 = x2 then
                some (.inr (.inl x5))
              else
                some (.inl (x2, (x3 - (S.1 (41, 0, 0) x5)), (x4 + 1), (x5 + 1)))
            else
              some (.inl (x2, x3, x4, (x5 + 1)))
          else none
        else none
    else none
  else
    some (.inr (.inr (())))
noncomputable def f1780_3 (S : wS) (x1 : Int32) (x2 : Int32) (y1 : Int32) : Option (Int32 × wS) :=
  if y1 ≤ 0 then
    (lp (f1780_b5) FU (x1, x2, (S.1 (0, 0, 0) 36), (sz S (0, 0, 0) 0 y1))).bind fun (v8, v9, S10) =>
    if 0 ≤ v8 ∧ v8 < 24341 then
      if (S10.1 (47, 0, 0) v8) < 1000 then
        (lp (f1780_b14 S10) FU (v9, v8, 0, 0)).bind fun b => match b with
        | (.inl v11) =>
          some (v11, S10)
        | (.inr (())) =>
          some ((-1), S10)
      else
        some ((-1), S10)
    else none
  else
    some (0, (sz S (0, 0, 0) 0 y1))
/-- TimberHouseModel$Rips.panel(II)I -/
noncomputable def f1780 (S : wS) (x1 : Int32) (x2 : Int32) : Option (Int32 × wS) :=
  (f1772 S).bind fun (v1, S2) =>
  if v1 = 0 then
    (f1731 (Int32.toInt64 x1) 1 100).bind fun v3 =>
    if v3 = 0 then
      f1780_3 S2 x1 x2 2
    else
      if x2 < 0 then
        f1780_3 S2 x1 x2 2
      else
        f1780_3 S2 x1 x2 0
  else
    some (0, S2)
def go1780_6 (A : wK → Nat) (h : pm_H) (D : Nat) (R : Outcome × pm_H) : Int32 × Int32 × Int32 × Int32 × wS → Prop := fun (x1, x2, x3, x4, S) => ∀ q5 : Value, pm_go pm_prog (pm_call pm_prog D) 1780 6 [.ref (A (0, 0, 0)), .int x1, .int x2, .int x3, .int x4, q5] [] (wput A Ri_d S h) = some R
def ex1780_6 (A : wK → Nat) (h : pm_H) (D : Nat) (R : Outcome × pm_H) : (Int32 × Int32 × Int32 × wS) → Prop := fun (x1, x2, x3, S) => ∀ q4 q5 : Value, pm_go pm_prog (pm_call pm_prog D) 1780 11 [.ref (A (0, 0, 0)), .int x1, .int x2, .int x3, q4, q5] [] (wput A Ri_d S h) = some R
theorem y1780_10_6 {A : wK → Nat} {h : pm_H} {m D : Nat} {R : Outcome × pm_H} {S : wS} {x1 : Int32} {x2 : Int32} {x3 : Int32} {x4 : Int32} {x5 : Int32} {r : (Int32 × Int32 × Int32 × Int32 × wS) ⊕ ((Int32 × Int32 × Int32 × wS))} (hA : wok A Ri_d m) (hD : 1 ≤ D) (e : f1780_10_6 S x1 x2 x3 x4 x5 = some r) (hc : Sum.elim (go1780_6 A h D R) (ex1780_6 A h D R) r) : pm_go pm_prog (pm_call pm_prog D) 1780 10 [.ref (A (0, 0, 0)), .int x1, .int x2, .int x3, .int x4, .int x5] [] (wput A Ri_d S h) = some R := by
  simp only [f1780_10_6] at e
  rw [g1780_10, b1780_10]
  by_cases k1 : 0 ≤ ((101 * x3) + x4) ∧ ((101 * x3) + x4) < 24341
  · rw [if_pos k1] at e
    have e := Option.some.inj e; subst e
    dsimp only [Sum.elim_inl, go1780_6] at hc
    simp -implicitDefEqProofs (disch := first | assumption | exact Nat.le_of_ble_eq_true rfl | decide) only [b1780_0, g1780_1, b1780_1, g1780_2, b1780_2, g1780_4, b1780_4, g1780_7, b1780_7, g1780_8, b1780_8, g1780_11, b1780_11, g1780_12, b1780_12, g1780_13, b1780_13, g1780_15, b1780_15, g1780_16, b1780_16, g1780_17, b1780_17, pe_aload0, pe_call1, pm_af_ret, pm_af_void, pm_af_thr, pe_if_eq, pe_sipush, pe_iload1, pe_i2l, pe_bipush, pe_call3, pe_iload2, pe_if_lt, pe_goto, pe_goto_w, pe_putfield, pe_getfield, pe_if_le, pe_istore3, pe_iload3, pe_istore4, pe_iload4, pe_icmp_gt, pe_if_ne, pe_icmp_ne, pe_iadd, pe_imul, pe_iaload, pe_istore5, pe_icmp_ge, pe_icmp_lt, pe_isub, pe_iload5, pe_iastore, pe_iinc4, pe_iinc3, pe_iinc5, pm_prog_1, pm_ob_some, Nat.reduceDiv, Nat.reduceMod, Nat.reduceMul, Nat.reduceAdd, Int.reduceToNat, pm_kill_i, pm_kill_r, pm_kill_n, pm_kill_j, pm_kill_l, pm_kill_d, pm_cats_nil, pm_cats_i, pm_cats_r, pm_cats_n, pm_cats_l, pm_cats_d, sz_1, sz_2, sl_1, sl_2, lc_0, lc_lt, lc_le, li_ne, Int32.reduceOfInt, Int64.reduceOfInt, Int32.reduceOfNat, Int32.reduceLT, Int32.reduceLE, Prod.mk.injEq, Nat.reduceEqDiff, reduceCtorEq, and_true, true_and, and_false, false_and, and_self, ite_true, ite_false, ↓reduceIte, not_true_eq_false, not_false_eq_true, pe_ri, pe_rz, Ri_p0 hA, Ri_g0 hA, Ri_g36 hA, Ri_g46 hA, Ri_g40 hA, Ri_r40 hA, Ri_w40 hA, Ri_l40 hA, Ri_r46 hA, Ri_w46 hA, Ri_l46 hA, hc]
  · rw [if_neg k1] at e; cases e
theorem y1780_9_6 {A : wK → Nat} {h : pm_H} {m D : Nat} {R : Outcome × pm_H} {S : wS} {x1 : Int32} {x2 : Int32} {x3 : Int32} {x4 : Int32} {y0 : Int32} {r : (Int32 × Int32 × Int32 × Int32 × wS) ⊕ ((Int32 × Int32 × Int32 × wS))} (hA : wok A Ri_d m) (hD : 1 ≤ D) (e : f1780_9_6 S x1 x2 x3 x4 y0 = some r) (hc : Sum.elim (go1780_6 A h D R) (ex1780_6 A h D R) r) : ∀ q5 : Value, pm_go pm_prog (pm_call pm_prog D) 1780 9 [.ref (A (0, 0, 0)), .int x1, .int x2, .int x3, .int x4, q5] [.int y0] (wput A Ri_d S h) = some R := by
  intro q5
  simp only [f1780_9_6] at e
  rw [g1780_9, b1780_9]
  by_cases k1 : x3 < (S.1 (0, 0, 0) 36)
  · rw [if_pos k1] at e
    by_cases k2 : 0 ≤ x3 ∧ x3 < 240
    · rw [if_pos k2] at e
      by_cases k3 : x4 < (S.1 (41, 0, 0) x3)
      · rw [if_pos k3] at e
        have k4 := y1780_10_6 (h := h) hA hD e hc
        simp -implicitDefEqProofs (disch := first | assumption | exact Nat.le_of_ble_eq_true rfl | decide) only [b1780_0, g1780_1, b1780_1, g1780_2, b1780_2, g1780_4, b1780_4, g1780_7, b1780_7, g1780_8, b1780_8, g1780_11, b1780_11, g1780_12, b1780_12, g1780_13, b1780_13, g1780_15, b1780_15, g1780_16, b1780_16, g1780_17, b1780_17, pe_aload0, pe_call1, pm_af_ret, pm_af_void, pm_af_thr, pe_if_eq, pe_sipush, pe_iload1, pe_i2l, pe_bipush, pe_call3, pe_iload2, pe_if_lt, pe_goto, pe_goto_w, pe_putfield, pe_getfield, pe_if_le, pe_istore3, pe_iload3, pe_istore4, pe_iload4, pe_icmp_gt, pe_if_ne, pe_icmp_ne, pe_iadd, pe_imul, pe_iaload, pe_istore5, pe_icmp_ge, pe_icmp_lt, pe_isub, pe_iload5, pe_iastore, pe_iinc4, pe_iinc3, pe_iinc5, pm_prog_1, pm_ob_some, Nat.reduceDiv, Nat.reduceMod, Nat.reduceMul, Nat.reduceAdd, Int.reduceToNat, pm_kill_i, pm_kill_r, pm_kill_n, pm_kill_j, pm_kill_l, pm_kill_d, pm_cats_nil, pm_cats_i, pm_cats_r, pm_cats_n, pm_cats_l, pm_cats_d, sz_1, sz_2, sl_1, sl_2, lc_0, lc_lt, lc_le, li_ne, Int32.reduceOfInt, Int64.reduceOfInt, Int32.reduceOfNat, Int32.reduceLT, Int32.reduceLE, Prod.mk.injEq, Nat.reduceEqDiff, reduceCtorEq, and_true, true_and, and_false, false_and, and_self, ite_true, ite_false, ↓reduceIte, not_true_eq_false, not_false_eq_true, pe_ri, pe_rz, Ri_p0 hA, Ri_g0 hA, Ri_g36 hA, Ri_g46 hA, Ri_g40 hA, Ri_r40 hA, Ri_w40 hA, Ri_l40 hA, Ri_r46 hA, Ri_w46 hA, Ri_l46 hA, eq_true k1, eq_true k3, k4]
      · rw [if_neg k3] at e
        by_cases k5 : 0 ≤ (((101 * (x3 + 1)) + x4) - (S.1 (41, 0, 0) x3)) ∧ (((101 * (x3 + 1)) + x4) - (S.1 (41, 0, 0) x3)) < 24341
        · rw [if_pos k5] at e
          by_cases k6 : ((S.1 (47, 0, 0) (((101 * (x3 + 1)) + x4) - (S.1 (41, 0, 0) x3))) + 1) < y0
          · rw [if_pos k6] at e
            have k7 := y1780_10_6 (h := h) hA hD e hc
            simp -implicitDefEqProofs (disch := first | assumption | exact Nat.le_of_ble_eq_true rfl | decide) only [b1780_0, g1780_1, b1780_1, g1780_2, b1780_2, g1780_4, b1780_4, g1780_7, b1780_7, g1780_8, b1780_8, g1780_11, b1780_11, g1780_12, b1780_12, g1780_13, b1780_13, g1780_15, b1780_15, g1780_16, b1780_16, g1780_17, b1780_17, pe_aload0, pe_call1, pm_af_ret, pm_af_void, pm_af_thr, pe_if_eq, pe_sipush, pe_iload1, pe_i2l, pe_bipush, pe_call3, pe_iload2, pe_if_lt, pe_goto, pe_goto_w, pe_putfield, pe_getfield, pe_if_le, pe_istore3, pe_iload3, pe_istore4, pe_iload4, pe_icmp_gt, pe_if_ne, pe_icmp_ne, pe_iadd, pe_imul, pe_iaload, pe_istore5, pe_icmp_ge, pe_icmp_lt, pe_isub, pe_iload5, pe_iastore, pe_iinc4, pe_iinc3, pe_iinc5, pm_prog_1, pm_ob_some, Nat.reduceDiv, Nat.reduceMod, Nat.reduceMul, Nat.reduceAdd, Int.reduceToNat, pm_kill_i, pm_kill_r, pm_kill_n, pm_kill_j, pm_kill_l, pm_kill_d, pm_cats_nil, pm_cats_i, pm_cats_r, pm_cats_n, pm_cats_l, pm_cats_d, sz_1, sz_2, sl_1, sl_2, lc_0, lc_lt, lc_le, li_ne, Int32.reduceOfInt, Int64.reduceOfInt, Int32.reduceOfNat, Int32.reduceLT, Int32.reduceLE, Prod.mk.injEq, Nat.reduceEqDiff, reduceCtorEq, and_true, true_and, and_false, false_and, and_self, ite_true, ite_false, ↓reduceIte, not_true_eq_false, not_false_eq_true, pe_ri, pe_rz, Ri_p0 hA, Ri_g0 hA, Ri_g36 hA, Ri_g46 hA, Ri_g40 hA, Ri_r40 hA, Ri_w40 hA, Ri_l40 hA, Ri_r46 hA, Ri_w46 hA, Ri_l46 hA, eq_true k1, eq_false k3, eq_true k6, k7]
          · rw [if_neg k6] at e
            have k8 := y1780_10_6 (h := h) hA hD e hc
            simp -implicitDefEqProofs (disch := first | assumption | exact Nat.le_of_ble_eq_true rfl | decide) only [b1780_0, g1780_1, b1780_1, g1780_2, b1780_2, g1780_4, b1780_4, g1780_7, b1780_7, g1780_8, b1780_8, g1780_11, b1780_11, g1780_12, b1780_12, g1780_13, b1780_13, g1780_15, b1780_15, g1780_16, b1780_16, g1780_17, b1780_17, pe_aload0, pe_call1, pm_af_ret, pm_af_void, pm_af_thr, pe_if_eq, pe_sipush, pe_iload1, pe_i2l, pe_bipush, pe_call3, pe_iload2, pe_if_lt, pe_goto, pe_goto_w, pe_putfield, pe_getfield, pe_if_le, pe_istore3, pe_iload3, pe_istore4, pe_iload4, pe_icmp_gt, pe_if_ne, pe_icmp_ne, pe_iadd, pe_imul, pe_iaload, pe_istore5, pe_icmp_ge, pe_icmp_lt, pe_isub, pe_iload5, pe_iastore, pe_iinc4, pe_iinc3, pe_iinc5, pm_prog_1, pm_ob_some, Nat.reduceDiv, Nat.reduceMod, Nat.reduceMul, Nat.reduceAdd, Int.reduceToNat, pm_kill_i, pm_kill_r, pm_kill_n, pm_kill_j, pm_kill_l, pm_kill_d, pm_cats_nil, pm_cats_i, pm_cats_r, pm_cats_n, pm_cats_l, pm_cats_d, sz_1, sz_2, sl_1, sl_2, lc_0, lc_lt, lc_le, li_ne, Int32.reduceOfInt, Int64.reduceOfInt, Int32.reduceOfNat, Int32.reduceLT, Int32.reduceLE, Prod.mk.injEq, Nat.reduceEqDiff, reduceCtorEq, and_true, true_and, and_false, false_and, and_self, ite_true, ite_false, ↓reduceIte, not_true_eq_false, not_false_eq_true, pe_ri, pe_rz, Ri_p0 hA, Ri_g0 hA, Ri_g36 hA, Ri_g46 hA, Ri_g40 hA, Ri_r40 hA, Ri_w40 hA, Ri_l40 hA, Ri_r46 hA, Ri_w46 hA, Ri_l46 hA, eq_true k1, eq_false k3, eq_false k6, k8]
        · rw [if_neg k5] at e; cases e
    · rw [if_neg k2] at e; cases e
  · rw [if_neg k1] at e
    have k9 := y1780_10_6 (h := h) hA hD e hc
    simp -implicitDefEqProofs (disch := first | assumption | exact Nat.le_of_ble_eq_true rfl | decide) only [b1780_0, g1780_1, b1780_1, g1780_2, b1780_2, g1780_4, b1780_4, g1780_7, b1780_7, g1780_8, b1780_8, g1780_11, b1780_11, g1780_12, b1780_12, g1780_13, b1780_13, g1780_15, b1780_15, g1780_16, b1780_16, g1780_17, b1780_17, pe_aload0, pe_call1, pm_af_ret, pm_af_void, pm_af_thr, pe_if_eq, pe_sipush, pe_iload1, pe_i2l, pe_bipush, pe_call3, pe_iload2, pe_if_lt, pe_goto, pe_goto_w, pe_putfield, pe_getfield, pe_if_le, pe_istore3, pe_iload3, pe_istore4, pe_iload4, pe_icmp_gt, pe_if_ne, pe_icmp_ne, pe_iadd, pe_imul, pe_iaload, pe_istore5, pe_icmp_ge, pe_icmp_lt, pe_isub, pe_iload5, pe_iastore, pe_iinc4, pe_iinc3, pe_iinc5, pm_prog_1, pm_ob_some, Nat.reduceDiv, Nat.reduceMod, Nat.reduceMul, Nat.reduceAdd, Int.reduceToNat, pm_kill_i, pm_kill_r, pm_kill_n, pm_kill_j, pm_kill_l, pm_kill_d, pm_cats_nil, pm_cats_i, pm_cats_r, pm_cats_n, pm_cats_l, pm_cats_d, sz_1, sz_2, sl_1, sl_2, lc_0, lc_lt, lc_le, li_ne, Int32.reduceOfInt, Int64.reduceOfInt, Int32.reduceOfNat, Int32.reduceLT, Int32.reduceLE, Prod.mk.injEq, Nat.reduceEqDiff, reduceCtorEq, and_true, true_and, and_false, false_and, and_self, ite_true, ite_false, ↓reduceIte, not_true_eq_false, not_false_eq_true, pe_ri, pe_rz, Ri_p0 hA, Ri_g0 hA, Ri_g36 hA, Ri_g46 hA, Ri_g40 hA, Ri_r40 hA, Ri_w40 hA, Ri_l40 hA, Ri_r46 hA, Ri_w46 hA, Ri_l46 hA, eq_false k1, k9]
theorem y1780_b6 {A : wK → Nat} {h : pm_H} {m D : Nat} {R : Outcome × pm_H} (hA : wok A Ri_d m) (hD : 1 ≤ D) (a : Int32 × Int32 × Int32 × Int32 × wS) (r : (Int32 × Int32 × Int32 × Int32 × wS) ⊕ ((Int32 × Int32 × Int32 × wS))) (e : f1780_b6 a = some r) (hc : Sum.elim (go1780_6 A h D R) (ex1780_6 A h D R) r) : go1780_6 A h D R a := by
  obtain ⟨x1, x2, x3, x4, S⟩ := a
  dsimp only [go1780_6]
  intro q5
  simp only [f1780_b6] at e
  rw [g1780_6, b1780_6]
  by_cases k1 : x4 ≤ x1
  · rw [if_pos k1] at e
    by_cases k2 : x4 = 0
    · rw [if_pos k2] at e
      have k3 := y1780_9_6 (h := h) hA hD e hc
      simp -implicitDefEqProofs (disch := first | assumption | exact Nat.le_of_ble_eq_true rfl | decide) only [b1780_0, g1780_1, b1780_1, g1780_2, b1780_2, g1780_4, b1780_4, g1780_7, b1780_7, g1780_8, b1780_8, g1780_11, b1780_11, g1780_12, b1780_12, g1780_13, b1780_13, g1780_15, b1780_15, g1780_16, b1780_16, g1780_17, b1780_17, pe_aload0, pe_call1, pm_af_ret, pm_af_void, pm_af_thr, pe_if_eq, pe_sipush, pe_iload1, pe_i2l, pe_bipush, pe_call3, pe_iload2, pe_if_lt, pe_goto, pe_goto_w, pe_putfield, pe_getfield, pe_if_le, pe_istore3, pe_iload3, pe_istore4, pe_iload4, pe_icmp_gt, pe_if_ne, pe_icmp_ne, pe_iadd, pe_imul, pe_iaload, pe_istore5, pe_icmp_ge, pe_icmp_lt, pe_isub, pe_iload5, pe_iastore, pe_iinc4, pe_iinc3, pe_iinc5, pm_prog_1, pm_ob_some, Nat.reduceDiv, Nat.reduceMod, Nat.reduceMul, Nat.reduceAdd, Int.reduceToNat, pm_kill_i, pm_kill_r, pm_kill_n, pm_kill_j, pm_kill_l, pm_kill_d, pm_cats_nil, pm_cats_i, pm_cats_r, pm_cats_n, pm_cats_l, pm_cats_d, sz_1, sz_2, sl_1, sl_2, lc_0, lc_lt, lc_le, li_ne, Int32.reduceOfInt, Int64.reduceOfInt, Int32.reduceOfNat, Int32.reduceLT, Int32.reduceLE, Prod.mk.injEq, Nat.reduceEqDiff, reduceCtorEq, and_true, true_and, and_false, false_and, and_self, ite_true, ite_false, ↓reduceIte, not_true_eq_false, not_false_eq_true, pe_ri, pe_rz, Ri_p0 hA, Ri_g0 hA, Ri_g36 hA, Ri_g46 hA, Ri_g40 hA, Ri_r40 hA, Ri_w40 hA, Ri_l40 hA, Ri_r46 hA, Ri_w46 hA, Ri_l46 hA, eq_true k1, eq_true k2, k3]
    · rw [if_neg k2] at e
      by_cases k4 : x3 = (S.1 (0, 0, 0) 36)
      · rw [if_pos k4] at e
        have k5 := y1780_9_6 (h := h) hA hD e hc
        simp -implicitDefEqProofs (disch := first | assumption | exact Nat.le_of_ble_eq_true rfl | decide) only [b1780_0, g1780_1, b1780_1, g1780_2, b1780_2, g1780_4, b1780_4, g1780_7, b1780_7, g1780_8, b1780_8, g1780_11, b1780_11, g1780_12, b1780_12, g1780_13, b1780_13, g1780_15, b1780_15, g1780_16, b1780_16, g1780_17, b1780_17, pe_aload0, pe_call1, pm_af_ret, pm_af_void, pm_af_thr, pe_if_eq, pe_sipush, pe_iload1, pe_i2l, pe_bipush, pe_call3, pe_iload2, pe_if_lt, pe_goto, pe_goto_w, pe_putfield, pe_getfield, pe_if_le, pe_istore3, pe_iload3, pe_istore4, pe_iload4, pe_icmp_gt, pe_if_ne, pe_icmp_ne, pe_iadd, pe_imul, pe_iaload, pe_istore5, pe_icmp_ge, pe_icmp_lt, pe_isub, pe_iload5, pe_iastore, pe_iinc4, pe_iinc3, pe_iinc5, pm_prog_1, pm_ob_some, Nat.reduceDiv, Nat.reduceMod, Nat.reduceMul, Nat.reduceAdd, Int.reduceToNat, pm_kill_i, pm_kill_r, pm_kill_n, pm_kill_j, pm_kill_l, pm_kill_d, pm_cats_nil, pm_cats_i, pm_cats_r, pm_cats_n, pm_cats_l, pm_cats_d, sz_1, sz_2, sl_1, sl_2, lc_0, lc_lt, lc_le, li_ne, Int32.reduceOfInt, Int64.reduceOfInt, Int32.reduceOfNat, Int32.reduceLT, Int32.reduceLE, Prod.mk.injEq, Nat.reduceEqDiff, reduceCtorEq, and_true, true_and, and_false, false_and, and_self, ite_true, ite_false, ↓reduceIte, not_true_eq_false, not_false_eq_true, pe_ri, pe_rz, Ri_p0 hA, Ri_g0 hA, Ri_g36 hA, Ri_g46 hA, Ri_g40 hA, Ri_r40 hA, Ri_w40 hA, Ri_l40 hA, Ri_r46 hA, Ri_w46 hA, Ri_l46 hA, eq_true k1, eq_false k2, eq_true k4, k5]
      · rw [if_neg k4] at e
        by_cases k6 : 0 ≤ ((101 * (x3 + 1)) + x4) ∧ ((101 * (x3 + 1)) + x4) < 24341
        · rw [if_pos k6] at e
          have k7 := y1780_9_6 (h := h) hA hD e hc
          simp -implicitDefEqProofs (disch := first | assumption | exact Nat.le_of_ble_eq_true rfl | decide) only [b1780_0, g1780_1, b1780_1, g1780_2, b1780_2, g1780_4, b1780_4, g1780_7, b1780_7, g1780_8, b1780_8, g1780_11, b1780_11, g1780_12, b1780_12, g1780_13, b1780_13, g1780_15, b1780_15, g1780_16, b1780_16, g1780_17, b1780_17, pe_aload0, pe_call1, pm_af_ret, pm_af_void, pm_af_thr, pe_if_eq, pe_sipush, pe_iload1, pe_i2l, pe_bipush, pe_call3, pe_iload2, pe_if_lt, pe_goto, pe_goto_w, pe_putfield, pe_getfield, pe_if_le, pe_istore3, pe_iload3, pe_istore4, pe_iload4, pe_icmp_gt, pe_if_ne, pe_icmp_ne, pe_iadd, pe_imul, pe_iaload, pe_istore5, pe_icmp_ge, pe_icmp_lt, pe_isub, pe_iload5, pe_iastore, pe_iinc4, pe_iinc3, pe_iinc5, pm_prog_1, pm_ob_some, Nat.reduceDiv, Nat.reduceMod, Nat.reduceMul, Nat.reduceAdd, Int.reduceToNat, pm_kill_i, pm_kill_r, pm_kill_n, pm_kill_j, pm_kill_l, pm_kill_d, pm_cats_nil, pm_cats_i, pm_cats_r, pm_cats_n, pm_cats_l, pm_cats_d, sz_1, sz_2, sl_1, sl_2, lc_0, lc_lt, lc_le, li_ne, Int32.reduceOfInt, Int64.reduceOfInt, Int32.reduceOfNat, Int32.reduceLT, Int32.reduceLE, Prod.mk.injEq, Nat.reduceEqDiff, reduceCtorEq, and_true, true_and, and_false, false_and, and_self, ite_true, ite_false, ↓reduceIte, not_true_eq_false, not_false_eq_true, pe_ri, pe_rz, Ri_p0 hA, Ri_g0 hA, Ri_g36 hA, Ri_g46 hA, Ri_g40 hA, Ri_r40 hA, Ri_w40 hA, Ri_l40 hA, Ri_r46 hA, Ri_w46 hA, Ri_l46 hA, eq_true k1, eq_false k2, eq_false k4, k7]
        · rw [if_neg k6] at e; cases e
  · rw [if_neg k1] at e
    have e := Option.some.inj e; subst e
    dsimp only [Sum.elim_inr, ex1780_6] at hc
    simp -implicitDefEqProofs (disch := first | assumption | exact Nat.le_of_ble_eq_true rfl | decide) only [b1780_0, g1780_1, b1780_1, g1780_2, b1780_2, g1780_4, b1780_4, g1780_7, b1780_7, g1780_8, b1780_8, g1780_11, b1780_11, g1780_12, b1780_12, g1780_13, b1780_13, g1780_15, b1780_15, g1780_16, b1780_16, g1780_17, b1780_17, pe_aload0, pe_call1, pm_af_ret, pm_af_void, pm_af_thr, pe_if_eq, pe_sipush, pe_iload1, pe_i2l, pe_bipush, pe_call3, pe_iload2, pe_if_lt, pe_goto, pe_goto_w, pe_putfield, pe_getfield, pe_if_le, pe_istore3, pe_iload3, pe_istore4, pe_iload4, pe_icmp_gt, pe_if_ne, pe_icmp_ne, pe_iadd, pe_imul, pe_iaload, pe_istore5, pe_icmp_ge, pe_icmp_lt, pe_isub, pe_iload5, pe_iastore, pe_iinc4, pe_iinc3, pe_iinc5, pm_prog_1, pm_ob_some, Nat.reduceDiv, Nat.reduceMod, Nat.reduceMul, Nat.reduceAdd, Int.reduceToNat, pm_kill_i, pm_kill_r, pm_kill_n, pm_kill_j, pm_kill_l, pm_kill_d, pm_cats_nil, pm_cats_i, pm_cats_r, pm_cats_n, pm_cats_l, pm_cats_d, sz_1, sz_2, sl_1, sl_2, lc_0, lc_lt, lc_le, li_ne, Int32.reduceOfInt, Int64.reduceOfInt, Int32.reduceOfNat, Int32.reduceLT, Int32.reduceLE, Prod.mk.injEq, Nat.reduceEqDiff, reduceCtorEq, and_true, true_and, and_false, false_and, and_self, ite_true, ite_false, ↓reduceIte, not_true_eq_false, not_false_eq_true, pe_ri, pe_rz, Ri_p0 hA, Ri_g0 hA, Ri_g36 hA, Ri_g46 hA, Ri_g40 hA, Ri_r40 hA, Ri_w40 hA, Ri_l40 hA, Ri_r46 hA, Ri_w46 hA, Ri_l46 hA, eq_false k1, hc]
theorem z1780_6 {A : wK → Nat} {h : pm_H} {m D : Nat} {R : Outcome × pm_H} (hA : wok A Ri_d m) (hD : 1 ≤ D) {n : Nat} {a : Int32 × Int32 × Int32 × Int32 × wS} {b : (Int32 × Int32 × Int32 × wS)} (e : lp (f1780_b6) n a = some b) (hx : ex1780_6 A h D R b) : go1780_6 A h D R a := lp_run (fun a r => y1780_b6 hA hD a r) n a b e hx
def go1780_5 (A : wK → Nat) (h : pm_H) (D : Nat) (R : Outcome × pm_H) : Int32 × Int32 × Int32 × wS → Prop := fun (x1, x2, x3, S) => ∀ q4 q5 : Value, pm_go pm_prog (pm_call pm_prog D) 1780 5 [.ref (A (0, 0, 0)), .int x1, .int x2, .int x3, q4, q5] [] (wput A Ri_d S h) = some R
def ex1780_5 (A : wK → Nat) (h : pm_H) (D : Nat) (R : Outcome × pm_H) : (Int32 × Int32 × wS) → Prop := fun (x1, x2, S) => ∀ q3 q4 q5 : Value, pm_go pm_prog (pm_call pm_prog D) 1780 12 [.ref (A (0, 0, 0)), .int x1, .int x2, q3, q4, q5] [] (wput A Ri_d S h) = some R
theorem y1780_b5 {A : wK → Nat} {h : pm_H} {m D : Nat} {R : Outcome × pm_H} (hA : wok A Ri_d m) (hD : 1 ≤ D) (a : Int32 × Int32 × Int32 × wS) (r : (Int32 × Int32 × Int32 × wS) ⊕ ((Int32 × Int32 × wS))) (e : f1780_b5 a = some r) (hc : Sum.elim (go1780_5 A h D R) (ex1780_5 A h D R) r) : go1780_5 A h D R a := by
  obtain ⟨x1, x2, x3, S⟩ := a
  dsimp only [go1780_5]
  intro q4 q5
  simp only [f1780_b5] at e
  rw [g1780_5, b1780_5]
  by_cases k1 : x3 < 0
  · rw [if_pos k1] at e
    have e := Option.some.inj e; subst e
    dsimp only [Sum.elim_inr, ex1780_5] at hc
    simp -implicitDefEqProofs (disch := first | assumption | exact Nat.le_of_ble_eq_true rfl | decide) only [b1780_0, g1780_1, b1780_1, g1780_2, b1780_2, g1780_4, b1780_4, g1780_7, b1780_7, g1780_8, b1780_8, g1780_11, b1780_11, g1780_12, b1780_12, g1780_13, b1780_13, g1780_15, b1780_15, g1780_16, b1780_16, g1780_17, b1780_17, pe_aload0, pe_call1, pm_af_ret, pm_af_void, pm_af_thr, pe_if_eq, pe_sipush, pe_iload1, pe_i2l, pe_bipush, pe_call3, pe_iload2, pe_if_lt, pe_goto, pe_goto_w, pe_putfield, pe_getfield, pe_if_le, pe_istore3, pe_iload3, pe_istore4, pe_iload4, pe_icmp_gt, pe_if_ne, pe_icmp_ne, pe_iadd, pe_imul, pe_iaload, pe_istore5, pe_icmp_ge, pe_icmp_lt, pe_isub, pe_iload5, pe_iastore, pe_iinc4, pe_iinc3, pe_iinc5, pm_prog_1, pm_ob_some, Nat.reduceDiv, Nat.reduceMod, Nat.reduceMul, Nat.reduceAdd, Int.reduceToNat, pm_kill_i, pm_kill_r, pm_kill_n, pm_kill_j, pm_kill_l, pm_kill_d, pm_cats_nil, pm_cats_i, pm_cats_r, pm_cats_n, pm_cats_l, pm_cats_d, sz_1, sz_2, sl_1, sl_2, lc_0, lc_lt, lc_le, li_ne, Int32.reduceOfInt, Int64.reduceOfInt, Int32.reduceOfNat, Int32.reduceLT, Int32.reduceLE, Prod.mk.injEq, Nat.reduceEqDiff, reduceCtorEq, and_true, true_and, and_false, false_and, and_self, ite_true, ite_false, ↓reduceIte, not_true_eq_false, not_false_eq_true, pe_ri, pe_rz, Ri_p0 hA, Ri_g0 hA, Ri_g36 hA, Ri_g46 hA, Ri_g40 hA, Ri_r40 hA, Ri_w40 hA, Ri_l40 hA, Ri_r46 hA, Ri_w46 hA, Ri_l46 hA, eq_true k1, hc]
  · rw [if_neg k1] at e
    obtain ⟨⟨v4, v5, v6, S7⟩, k2, e⟩ := Option.bind_eq_some_iff.mp e
    try dsimp only at e
    try simp -implicitDefEqProofs (disch := first | assumption | exact Nat.le_of_ble_eq_true rfl | decide) only [b1780_0, g1780_1, b1780_1, g1780_2, b1780_2, g1780_4, b1780_4, g1780_7, b1780_7, g1780_8, b1780_8, g1780_11, b1780_11, g1780_12, b1780_12, g1780_13, b1780_13, g1780_15, b1780_15, g1780_16, b1780_16, g1780_17, b1780_17, pe_aload0, pe_call1, pm_af_ret, pm_af_void, pm_af_thr, pe_if_eq, pe_sipush, pe_iload1, pe_i2l, pe_bipush, pe_call3, pe_iload2, pe_if_lt, pe_goto, pe_goto_w, pe_putfield, pe_getfield, pe_if_le, pe_istore3, pe_iload3, pe_istore4, pe_iload4, pe_icmp_gt, pe_if_ne, pe_icmp_ne, pe_iadd, pe_imul, pe_iaload, pe_istore5, pe_icmp_ge, pe_icmp_lt, pe_isub, pe_iload5, pe_iastore, pe_iinc4, pe_iinc3, pe_iinc5, pm_prog_1, pm_ob_some, Nat.reduceDiv, Nat.reduceMod, Nat.reduceMul, Nat.reduceAdd, Int.reduceToNat, pm_kill_i, pm_kill_r, pm_kill_n, pm_kill_j, pm_kill_l, pm_kill_d, pm_cats_nil, pm_cats_i, pm_cats_r, pm_cats_n, pm_cats_l, pm_cats_d, sz_1, sz_2, sl_1, sl_2, lc_0, lc_lt, lc_le, li_ne, Int32.reduceOfInt, Int64.reduceOfInt, Int32.reduceOfNat, Int32.reduceLT, Int32.reduceLE, Prod.mk.injEq, Nat.reduceEqDiff, reduceCtorEq, and_true, true_and, and_false, false_and, and_self, ite_true, ite_false, ↓reduceIte, not_true_eq_false, not_false_eq_true, pe_ri, pe_rz, Ri_p0 hA, Ri_g0 hA, Ri_g36 hA, Ri_g46 hA, Ri_g40 hA, Ri_r40 hA, Ri_w40 hA, Ri_l40 hA, Ri_r46 hA, Ri_w46 hA, Ri_l46 hA, eq_false k1]
    refine z1780_6 hA hD k2 ?_ _
    dsimp only [ex1780_6]
    intro q4 q5
    have e := Option.some.inj e; subst e
    dsimp only [Sum.elim_inl, go1780_5] at hc
    simp -implicitDefEqProofs (disch := first | assumption | exact Nat.le_of_ble_eq_true rfl | decide) only [b1780_0, g1780_1, b1780_1, g1780_2, b1780_2, g1780_4, b1780_4, g1780_7, b1780_7, g1780_8, b1780_8, g1780_11, b1780_11, g1780_12, b1780_12, g1780_13, b1780_13, g1780_15, b1780_15, g1780_16, b1780_16, g1780_17, b1780_17, pe_aload0, pe_call1, pm_af_ret, pm_af_void, pm_af_thr, pe_if_eq, pe_sipush, pe_iload1, pe_i2l, pe_bipush, pe_call3, pe_iload2, pe_if_lt, pe_goto, pe_goto_w, pe_putfield, pe_getfield, pe_if_le, pe_istore3, pe_iload3, pe_istore4, pe_iload4, pe_icmp_gt, pe_if_ne, pe_icmp_ne, pe_iadd, pe_imul, pe_iaload, pe_istore5, pe_icmp_ge, pe_icmp_lt, pe_isub, pe_iload5, pe_iastore, pe_iinc4, pe_iinc3, pe_iinc5, pm_prog_1, pm_ob_some, Nat.reduceDiv, Nat.reduceMod, Nat.reduceMul, Nat.reduceAdd, Int.reduceToNat, pm_kill_i, pm_kill_r, pm_kill_n, pm_kill_j, pm_kill_l, pm_kill_d, pm_cats_nil, pm_cats_i, pm_cats_r, pm_cats_n, pm_cats_l, pm_cats_d, sz_1, sz_2, sl_1, sl_2, lc_0, lc_lt, lc_le, li_ne, Int32.reduceOfInt, Int64.reduceOfInt, Int32.reduceOfNat, Int32.reduceLT, Int32.reduceLE, Prod.mk.injEq, Nat.reduceEqDiff, reduceCtorEq, and_true, true_and, and_false, false_and, and_self, ite_true, ite_false, ↓reduceIte, not_true_eq_false, not_false_eq_true, pe_ri, pe_rz, Ri_p0 hA, Ri_g0 hA, Ri_g36 hA, Ri_g46 hA, Ri_g40 hA, Ri_r40 hA, Ri_w40 hA, Ri_l40 hA, Ri_r46 hA, Ri_w46 hA, Ri_l46 hA, eq_false k1, hc]
theorem z1780_5 {A : wK → Nat} {h : pm_H} {m D : Nat} {R : Outcome × pm_H} (hA : wok A Ri_d m) (hD : 1 ≤ D) {n : Nat} {a : Int32 × Int32 × Int32 × wS} {b : (Int32 × Int32 × wS)} (e : lp (f1780_b5) n a = some b) (hx : ex1780_5 A h D R b) : go1780_5 A h D R a := lp_run (fun a r => y1780_b5 hA hD a r) n a b e hx
def go1780_14 (A : wK → Nat) (h : pm_H) (D : Nat) (R : Outcome × pm_H) (S : wS) : Int32 × Int32 × Int32 × Int32 → Prop := fun (x2, x3, x4, x5) => ∀ q1 : Value, pm_go pm_prog (pm_call pm_prog D) 1780 14 [.ref (A (0, 0, 0)), q1, .int x2, .int x3, .int x4, .int x5] [] (wput A Ri_d S h) = some R
def ex1780_14 (A : wK → Nat) (h : pm_H) (D : Nat) (R : Outcome × pm_H) (S : wS) : (Int32) ⊕ (Unit) → Prop := fun b => match b with
  | (.inl xr) => some (Outcome.returned (some (.int xr)), (wput A Ri_d S h)) = some R
  | (.inr (_)) => ∀ q1 q2 q3 q4 q5 : Value, pm_go pm_prog (pm_call pm_prog D) 1780 17 [.ref (A (0, 0, 0)), q1, q2, q3, q4, q5] [] (wput A Ri_d S h) = some R
theorem y1780_b14 {A : wK → Nat} {h : pm_H} {m D : Nat} {R : Outcome × pm_H} {S : wS} (hA : wok A Ri_d m) (hD : 1 ≤ D) (a : Int32 × Int32 × Int32 × Int32) (r : (Int32 × Int32 × Int32 × Int32) ⊕ ((Int32) ⊕ (Unit))) (e : f1780_b14 S a = some r) (hc : Sum.elim (go1780_14 A h D R S) (ex1780_14 A h D R S) r) : go1780_14 A h D R S a := by
  obtain ⟨x2, x3, x4, x5⟩ := a
  dsimp only [go1780_14]
  intro q1
  simp only [f1780_b14] at e
  rw [g1780_14, b1780_14]
  by_cases k1 : x5 < (S.1 (0, 0, 0) 36)
  · rw [if_pos k1] at e
    by_cases k2 : 0 ≤ x5 ∧ x5 < 240
    · rw [if_pos k2] at e
      by_cases k3 : x3 < (S.1 (41, 0, 0) x5)
      · rw [if_pos k3] at e
        have e := Option.some.inj e; subst e
        dsimp only [Sum.elim_inl, go1780_14] at hc
        simp -implicitDefEqProofs (disch := first | assumption | exact Nat.le_of_ble_eq_true rfl | decide) only [b1780_0, g1780_1, b1780_1, g1780_2, b1780_2, g1780_4, b1780_4, g1780_7, b1780_7, g1780_8, b1780_8, g1780_11, b1780_11, g1780_12, b1780_12, g1780_13, b1780_13, g1780_15, b1780_15, g1780_16, b1780_16, g1780_17, b1780_17, pe_aload0, pe_call1, pm_af_ret, pm_af_void, pm_af_thr, pe_if_eq, pe_sipush, pe_iload1, pe_i2l, pe_bipush, pe_call3, pe_iload2, pe_if_lt, pe_goto, pe_goto_w, pe_putfield, pe_getfield, pe_if_le, pe_istore3, pe_iload3, pe_istore4, pe_iload4, pe_icmp_gt, pe_if_ne, pe_icmp_ne, pe_iadd, pe_imul, pe_iaload, pe_istore5, pe_icmp_ge, pe_icmp_lt, pe_isub, pe_iload5, pe_iastore, pe_iinc4, pe_iinc3, pe_iinc5, pm_prog_1, pm_ob_some, Nat.reduceDiv, Nat.reduceMod, Nat.reduceMul, Nat.reduceAdd, Int.reduceToNat, pm_kill_i, pm_kill_r, pm_kill_n, pm_kill_j, pm_kill_l, pm_kill_d, pm_cats_nil, pm_cats_i, pm_cats_r, pm_cats_n, pm_cats_l, pm_cats_d, sz_1, sz_2, sl_1, sl_2, lc_0, lc_lt, lc_le, li_ne, Int32.reduceOfInt, Int64.reduceOfInt, Int32.reduceOfNat, Int32.reduceLT, Int32.reduceLE, Prod.mk.injEq, Nat.reduceEqDiff, reduceCtorEq, and_true, true_and, and_false, false_and, and_self, ite_true, ite_false, ↓reduceIte, not_true_eq_false, not_false_eq_true, pe_ri, pe_rz, Ri_p0 hA, Ri_g0 hA, Ri_g36 hA, Ri_g46 hA, Ri_g40 hA, Ri_r40 hA, Ri_w40 hA, Ri_l40 hA, Ri_r46 hA, Ri_w46 hA, Ri_l46 hA, eq_true k1, eq_true k3, hc]
      · rw [if_neg k3] at e
        by_cases k4 : 0 ≤ (((101 * (x5 + 1)) + x3) - (S.1 (41, 0, 0) x5)) ∧ (((101 * (x5 + 1)) + x3) - (S.1 (41, 0, 0) x5)) < 24341
        · rw [if_pos k4] at e
          by_cases k5 : 0 ≤ ((101 * x5) + x3) ∧ ((101 * x5) + x3) < 24341
          · rw [if_pos k5] at e
            by_cases k6 : ((S.1 (47, 0, 0) (((101 * (x5 + 1)) + x3) - (S.1 (41, 0, 0) x5))) + 1) = (S.1 (47, 0, 0) ((101 * x5) + x3))
            · rw [if_pos k6] at e
              by_cases k7 : x4 = x2
              · rw [if_pos k7] at e
                have e := Option.some.inj e; subst e
                dsimp only [Sum.elim_inr, ex1780_14] at hc
                simp -implicitDefEqProofs (disch := first | assumption | exact Nat.le_of_ble_eq_true rfl | decide) only [b1780_0, g1780_1, b1780_1, g1780_2, b1780_2, g1780_4, b1780_4, g1780_7, b1780_7, g1780_8, b1780_8, g1780_11, b1780_11, g1780_12, b1780_12, g1780_13, b1780_13, g1780_15, b1780_15, g1780_16, b1780_16, g1780_17, b1780_17, pe_aload0, pe_call1, pm_af_ret, pm_af_void, pm_af_thr, pe_if_eq, pe_sipush, pe_iload1, pe_i2l, pe_bipush, pe_call3, pe_iload2, pe_if_lt, pe_goto, pe_goto_w, pe_putfield, pe_getfield, pe_if_le, pe_istore3, pe_iload3, pe_istore4, pe_iload4, pe_icmp_gt, pe_if_ne, pe_icmp_ne, pe_iadd, pe_imul, pe_iaload, pe_istore5, pe_icmp_ge, pe_icmp_lt, pe_isub, pe_iload5, pe_iastore, pe_iinc4, pe_iinc3, pe_iinc5, pm_prog_1, pm_ob_some, Nat.reduceDiv, Nat.reduceMod, Nat.reduceMul, Nat.reduceAdd, Int.reduceToNat, pm_kill_i, pm_kill_r, pm_kill_n, pm_kill_j, pm_kill_l, pm_kill_d, pm_cats_nil, pm_cats_i, pm_cats_r, pm_cats_n, pm_cats_l, pm_cats_d, sz_1, sz_2, sl_1, sl_2, lc_0, lc_lt, lc_le, li_ne, Int32.reduceOfInt, Int64.reduceOfInt, Int32.reduceOfNat, Int32.reduceLT, Int32.reduceLE, Prod.mk.injEq, Nat.reduceEqDiff, reduceCtorEq, and_true, true_and, and_false, false_and, and_self, ite_true, ite_false, ↓reduceIte, not_true_eq_false, not_false_eq_true, pe_ri, pe_rz, Ri_p0 hA, Ri_g0 hA, Ri_g36 hA, Ri_g46 hA, Ri_g40 hA, Ri_r40 hA, Ri_w40 hA, Ri_l40 hA, Ri_r46 hA, Ri_w46 hA, Ri_l46 hA, eq_true k1, eq_false k3, eq_true k6, eq_true k7, hc]
              · rw [if_neg k7] at e
                have e := Option.some.inj e; subst e
                dsimp only [Sum.elim_inl, go1780_14] at hc
                simp -implicitDefEqProofs (disch := first | assumption | exact Nat.le_of_ble_eq_true rfl | decide) only [b1780_0, g1780_1, b1780_1, g1780_2, b1780_2, g1780_4, b1780_4, g1780_7, b1780_7, g1780_8, b1780_8, g1780_11, b1780_11, g1780_12, b1780_12, g1780_13, b1780_13, g1780_15, b1780_15, g1780_16, b1780_16, g1780_17, b1780_17, pe_aload0, pe_call1, pm_af_ret, pm_af_void, pm_af_thr, pe_if_eq, pe_sipush, pe_iload1, pe_i2l, pe_bipush, pe_call3, pe_iload2, pe_if_lt, pe_goto, pe_goto_w, pe_putfield, pe_getfield, pe_if_le, pe_istore3, pe_iload3, pe_istore4, pe_iload4, pe_icmp_gt, pe_if_ne, pe_icmp_ne, pe_iadd, pe_imul, pe_iaload, pe_istore5, pe_icmp_ge, pe_icmp_lt, pe_isub, pe_iload5, pe_iastore, pe_iinc4, pe_iinc3, pe_iinc5, pm_prog_1, pm_ob_some, Nat.reduceDiv, Nat.reduceMod, Nat.reduceMul, Nat.reduceAdd, Int.reduceToNat, pm_kill_i, pm_kill_r, pm_kill_n, pm_kill_j, pm_kill_l, pm_kill_d, pm_cats_nil, pm_cats_i, pm_cats_r, pm_cats_n, pm_cats_l, pm_cats_d, sz_1, sz_2, sl_1, sl_2, lc_0, lc_lt, lc_le, li_ne, Int32.reduceOfInt, Int64.reduceOfInt, Int32.reduceOfNat, Int32.reduceLT, Int32.reduceLE, Prod.mk.injEq, Nat.reduceEqDiff, reduceCtorEq, and_true, true_and, and_false, false_and, and_self, ite_true, ite_false, ↓reduceIte, not_true_eq_false, not_false_eq_true, pe_ri, pe_rz, Ri_p0 hA, Ri_g0 hA, Ri_g36 hA, Ri_g46 hA, Ri_g40 hA, Ri_r40 hA, Ri_w40 hA, Ri_l40 hA, Ri_r46 hA, Ri_w46 hA, Ri_l46 hA, eq_true k1, eq_false k3, eq_true k6, eq_false k7, hc]
            · rw [if_neg k6] at e
              have e := Option.some.inj e; subst e
              dsimp only [Sum.elim_inl, go1780_14] at hc
              simp -implicitDefEqProofs (disch := first | assumption | exact Nat.le_of_ble_eq_true rfl | decide) only [b1780_0, g1780_1, b1780_1, g1780_2, b1780_2, g1780_4, b1780_4, g1780_7, b1780_7, g1780_8, b1780_8, g1780_11, b1780_11, g1780_12, b1780_12, g1780_13, b1780_13, g1780_15, b1780_15, g1780_16, b1780_16, g1780_17, b1780_17, pe_aload0, pe_call1, pm_af_ret, pm_af_void, pm_af_thr, pe_if_eq, pe_sipush, pe_iload1, pe_i2l, pe_bipush, pe_call3, pe_iload2, pe_if_lt, pe_goto, pe_goto_w, pe_putfield, pe_getfield, pe_if_le, pe_istore3, pe_iload3, pe_istore4, pe_iload4, pe_icmp_gt, pe_if_ne, pe_icmp_ne, pe_iadd, pe_imul, pe_iaload, pe_istore5, pe_icmp_ge, pe_icmp_lt, pe_isub, pe_iload5, pe_iastore, pe_iinc4, pe_iinc3, pe_iinc5, pm_prog_1, pm_ob_some, Nat.reduceDiv, Nat.reduceMod, Nat.reduceMul, Nat.reduceAdd, Int.reduceToNat, pm_kill_i, pm_kill_r, pm_kill_n, pm_kill_j, pm_kill_l, pm_kill_d, pm_cats_nil, pm_cats_i, pm_cats_r, pm_cats_n, pm_cats_l, pm_cats_d, sz_1, sz_2, sl_1, sl_2, lc_0, lc_lt, lc_le, li_ne, Int32.reduceOfInt, Int64.reduceOfInt, Int32.reduceOfNat, Int32.reduceLT, Int32.reduceLE, Prod.mk.injEq, Nat.reduceEqDiff, reduceCtorEq, and_true, true_and, and_false, false_and, and_self, ite_true, ite_false, ↓reduceIte, not_true_eq_false, not_false_eq_true, pe_ri, pe_rz, Ri_p0 hA, Ri_g0 hA, Ri_g36 hA, Ri_g46 hA, Ri_g40 hA, Ri_r40 hA, Ri_w40 hA, Ri_l40 hA, Ri_r46 hA, Ri_w46 hA, Ri_l46 hA, eq_true k1, eq_false k3, eq_false k6, hc]
          · rw [if_neg k5] at e; cases e
        · rw [if_neg k4] at e; cases e
    · rw [if_neg k2] at e; cases e
  · rw [if_neg k1] at e
    have e := Option.some.inj e; subst e
    dsimp only [Sum.elim_inr, ex1780_14] at hc
    simp -implicitDefEqProofs (disch := first | assumption | exact Nat.le_of_ble_eq_true rfl | decide) only [b1780_0, g1780_1, b1780_1, g1780_2, b1780_2, g1780_4, b1780_4, g1780_7, b1780_7, g1780_8, b1780_8, g1780_11, b1780_11, g1780_12, b1780_12, g1780_13, b1780_13, g1780_15, b1780_15, g1780_16, b1780_16, g1780_17, b1780_17, pe_aload0, pe_call1, pm_af_ret, pm_af_void, pm_af_thr, pe_if_eq, pe_sipush, pe_iload1, pe_i2l, pe_bipush, pe_call3, pe_iload2, pe_if_lt, pe_goto, pe_goto_w, pe_putfield, pe_getfield, pe_if_le, pe_istore3, pe_iload3, pe_istore4, pe_iload4, pe_icmp_gt, pe_if_ne, pe_icmp_ne, pe_iadd, pe_imul, pe_iaload, pe_istore5, pe_icmp_ge, pe_icmp_lt, pe_isub, pe_iload5, pe_iastore, pe_iinc4, pe_iinc3, pe_iinc5, pm_prog_1, pm_ob_some, Nat.reduceDiv, Nat.reduceMod, Nat.reduceMul, Nat.reduceAdd, Int.reduceToNat, pm_kill_i, pm_kill_r, pm_kill_n, pm_kill_j, pm_kill_l, pm_kill_d, pm_cats_nil, pm_cats_i, pm_cats_r, pm_cats_n, pm_cats_l, pm_cats_d, sz_1, sz_2, sl_1, sl_2, lc_0, lc_lt, lc_le, li_ne, Int32.reduceOfInt, Int64.reduceOfInt, Int32.reduceOfNat, Int32.reduceLT, Int32.reduceLE, Prod.mk.injEq, Nat.reduceEqDiff, reduceCtorEq, and_true, true_and, and_false, false_and, and_self, ite_true, ite_false, ↓reduceIte, not_true_eq_false, not_false_eq_true, pe_ri, pe_rz, Ri_p0 hA, Ri_g0 hA, Ri_g36 hA, Ri_g46 hA, Ri_g40 hA, Ri_r40 hA, Ri_w40 hA, Ri_l40 hA, Ri_r46 hA, Ri_w46 hA, Ri_l46 hA, eq_false k1, hc]
theorem z1780_14 {A : wK → Nat} {h : pm_H} {m D : Nat} {R : Outcome × pm_H} {S : wS} (hA : wok A Ri_d m) (hD : 1 ≤ D) {n : Nat} {a : Int32 × Int32 × Int32 × Int32} {b : (Int32) ⊕ (Unit)} (e : lp (f1780_b14 S) n a = some b) (hx : ex1780_14 A h D R S b) : go1780_14 A h D R S a := lp_run (fun a r => y1780_b14 hA hD a r) n a b e hx
theorem y1780_3 {A : wK → Nat} {h : pm_H} {m D : Nat} {S : wS} {x1 : Int32} {x2 : Int32} {y1 : Int32} {r : Int32 × wS} (hA : wok A Ri_d m) (hD : 1 ≤ D) (e : f1780_3 S x1 x2 y1 = some r) : ∀ q3 q4 q5 : Value, pm_go pm_prog (pm_call pm_prog D) 1780 3 [.ref (A (0, 0, 0)), .int x1, .int x2, q3, q4, q5] [.int y1, .ref (A (0, 0, 0))] (wput A Ri_d S h) = some (.returned (some (.int r.1)), (wput A Ri_d r.2 h)) := by
  intro q3 q4 q5
  simp only [f1780_3] at e
  rw [g1780_3, b1780_3]
  by_cases k1 : y1 ≤ 0
  · rw [if_pos k1] at e
    obtain ⟨⟨v8, v9, S10⟩, k2, e⟩ := Option.bind_eq_some_iff.mp e
    try dsimp only at e
    try simp -implicitDefEqProofs (disch := first | assumption | exact Nat.le_of_ble_eq_true rfl | decide) only [b1780_0, g1780_1, b1780_1, g1780_2, b1780_2, g1780_4, b1780_4, g1780_7, b1780_7, g1780_8, b1780_8, g1780_11, b1780_11, g1780_12, b1780_12, g1780_13, b1780_13, g1780_15, b1780_15, g1780_16, b1780_16, g1780_17, b1780_17, pe_aload0, pe_call1, pm_af_ret, pm_af_void, pm_af_thr, pe_if_eq, pe_sipush, pe_iload1, pe_i2l, pe_bipush, pe_call3, pe_iload2, pe_if_lt, pe_goto, pe_goto_w, pe_putfield, pe_getfield, pe_if_le, pe_istore3, pe_iload3, pe_istore4, pe_iload4, pe_icmp_gt, pe_if_ne, pe_icmp_ne, pe_iadd, pe_imul, pe_iaload, pe_istore5, pe_icmp_ge, pe_icmp_lt, pe_isub, pe_iload5, pe_iastore, pe_iinc4, pe_iinc3, pe_iinc5, pm_prog_1, pm_ob_some, Nat.reduceDiv, Nat.reduceMod, Nat.reduceMul, Nat.reduceAdd, Int.reduceToNat, pm_kill_i, pm_kill_r, pm_kill_n, pm_kill_j, pm_kill_l, pm_kill_d, pm_cats_nil, pm_cats_i, pm_cats_r, pm_cats_n, pm_cats_l, pm_cats_d, sz_1, sz_2, sl_1, sl_2, lc_0, lc_lt, lc_le, li_ne, Int32.reduceOfInt, Int64.reduceOfInt, Int32.reduceOfNat, Int32.reduceLT, Int32.reduceLE, Prod.mk.injEq, Nat.reduceEqDiff, reduceCtorEq, and_true, true_and, and_false, false_and, and_self, ite_true, ite_false, ↓reduceIte, not_true_eq_false, not_false_eq_true, pe_ri, pe_rz, Ri_p0 hA, Ri_g0 hA, Ri_g36 hA, Ri_g46 hA, Ri_g40 hA, Ri_r40 hA, Ri_w40 hA, Ri_l40 hA, Ri_r46 hA, Ri_w46 hA, Ri_l46 hA, eq_true k1]
    refine z1780_5 hA hD k2 ?_ _ _
    dsimp only [ex1780_5]
    intro q3 q4 q5
    by_cases k3 : 0 ≤ v8 ∧ v8 < 24341
    · rw [if_pos k3] at e
      by_cases k4 : (S10.1 (47, 0, 0) v8) < 1000
      · rw [if_pos k4] at e
        obtain ⟨b, k5, e⟩ := Option.bind_eq_some_iff.mp e
        rcases b with v11 | _
        ·
          try dsimp only at e
          try simp -implicitDefEqProofs (disch := first | assumption | exact Nat.le_of_ble_eq_true rfl | decide) only [b1780_0, g1780_1, b1780_1, g1780_2, b1780_2, g1780_4, b1780_4, g1780_7, b1780_7, g1780_8, b1780_8, g1780_11, b1780_11, g1780_12, b1780_12, g1780_13, b1780_13, g1780_15, b1780_15, g1780_16, b1780_16, g1780_17, b1780_17, pe_aload0, pe_call1, pm_af_ret, pm_af_void, pm_af_thr, pe_if_eq, pe_sipush, pe_iload1, pe_i2l, pe_bipush, pe_call3, pe_iload2, pe_if_lt, pe_goto, pe_goto_w, pe_putfield, pe_getfield, pe_if_le, pe_istore3, pe_iload3, pe_istore4, pe_iload4, pe_icmp_gt, pe_if_ne, pe_icmp_ne, pe_iadd, pe_imul, pe_iaload, pe_istore5, pe_icmp_ge, pe_icmp_lt, pe_isub, pe_iload5, pe_iastore, pe_iinc4, pe_iinc3, pe_iinc5, pm_prog_1, pm_ob_some, Nat.reduceDiv, Nat.reduceMod, Nat.reduceMul, Nat.reduceAdd, Int.reduceToNat, pm_kill_i, pm_kill_r, pm_kill_n, pm_kill_j, pm_kill_l, pm_kill_d, pm_cats_nil, pm_cats_i, pm_cats_r, pm_cats_n, pm_cats_l, pm_cats_d, sz_1, sz_2, sl_1, sl_2, lc_0, lc_lt, lc_le, li_ne, Int32.reduceOfInt, Int64.reduceOfInt, Int32.reduceOfNat, Int32.reduceLT, Int32.reduceLE, Prod.mk.injEq, Nat.reduceEqDiff, reduceCtorEq, and_true, true_and, and_false, false_and, and_self, ite_true, ite_false, ↓reduceIte, not_true_eq_false, not_false_eq_true, pe_ri, pe_rz, Ri_p0 hA, Ri_g0 hA, Ri_g36 hA, Ri_g46 hA, Ri_g40 hA, Ri_r40 hA, Ri_w40 hA, Ri_l40 hA, Ri_r46 hA, Ri_w46 hA, Ri_l46 hA, eq_true k1, eq_true k4]
          refine z1780_14 hA hD k5 ?_ _
          dsimp only [ex1780_14]
          have e := Option.some.inj e; subst e
          simp -implicitDefEqProofs (disch := first | assumption | exact Nat.le_of_ble_eq_true rfl | decide) only [b1780_0, g1780_1, b1780_1, g1780_2, b1780_2, g1780_4, b1780_4, g1780_7, b1780_7, g1780_8, b1780_8, g1780_11, b1780_11, g1780_12, b1780_12, g1780_13, b1780_13, g1780_15, b1780_15, g1780_16, b1780_16, g1780_17, b1780_17, pe_aload0, pe_call1, pm_af_ret, pm_af_void, pm_af_thr, pe_if_eq, pe_sipush, pe_iload1, pe_i2l, pe_bipush, pe_call3, pe_iload2, pe_if_lt, pe_goto, pe_goto_w, pe_putfield, pe_getfield, pe_if_le, pe_istore3, pe_iload3, pe_istore4, pe_iload4, pe_icmp_gt, pe_if_ne, pe_icmp_ne, pe_iadd, pe_imul, pe_iaload, pe_istore5, pe_icmp_ge, pe_icmp_lt, pe_isub, pe_iload5, pe_iastore, pe_iinc4, pe_iinc3, pe_iinc5, pm_prog_1, pm_ob_some, Nat.reduceDiv, Nat.reduceMod, Nat.reduceMul, Nat.reduceAdd, Int.reduceToNat, pm_kill_i, pm_kill_r, pm_kill_n, pm_kill_j, pm_kill_l, pm_kill_d, pm_cats_nil, pm_cats_i, pm_cats_r, pm_cats_n, pm_cats_l, pm_cats_d, sz_1, sz_2, sl_1, sl_2, lc_0, lc_lt, lc_le, li_ne, Int32.reduceOfInt, Int64.reduceOfInt, Int32.reduceOfNat, Int32.reduceLT, Int32.reduceLE, Prod.mk.injEq, Nat.reduceEqDiff, reduceCtorEq, and_true, true_and, and_false, false_and, and_self, ite_true, ite_false, ↓reduceIte, not_true_eq_false, not_false_eq_true, pe_ri, pe_rz, Ri_p0 hA, Ri_g0 hA, Ri_g36 hA, Ri_g46 hA, Ri_g40 hA, Ri_r40 hA, Ri_w40 hA, Ri_l40 hA, Ri_r46 hA, Ri_w46 hA, Ri_l46 hA, eq_true k1, eq_true k4]
        ·
          try dsimp only at e
          try simp -implicitDefEqProofs (disch := first | assumption | exact Nat.le_of_ble_eq_true rfl | decide) only [b1780_0, g1780_1, b1780_1, g1780_2, b1780_2, g1780_4, b1780_4, g1780_7, b1780_7, g1780_8, b1780_8, g1780_11, b1780_11, g1780_12, b1780_12, g1780_13, b1780_13, g1780_15, b1780_15, g1780_16, b1780_16, g1780_17, b1780_17, pe_aload0, pe_call1, pm_af_ret, pm_af_void, pm_af_thr, pe_if_eq, pe_sipush, pe_iload1, pe_i2l, pe_bipush, pe_call3, pe_iload2, pe_if_lt, pe_goto, pe_goto_w, pe_putfield, pe_getfield, pe_if_le, pe_istore3, pe_iload3, pe_istore4, pe_iload4, pe_icmp_gt, pe_if_ne, pe_icmp_ne, pe_iadd, pe_imul, pe_iaload, pe_istore5, pe_icmp_ge, pe_icmp_lt, pe_isub, pe_iload5, pe_iastore, pe_iinc4, pe_iinc3, pe_iinc5, pm_prog_1, pm_ob_some, Nat.reduceDiv, Nat.reduceMod, Nat.reduceMul, Nat.reduceAdd, Int.reduceToNat, pm_kill_i, pm_kill_r, pm_kill_n, pm_kill_j, pm_kill_l, pm_kill_d, pm_cats_nil, pm_cats_i, pm_cats_r, pm_cats_n, pm_cats_l, pm_cats_d, sz_1, sz_2, sl_1, sl_2, lc_0, lc_lt, lc_le, li_ne, Int32.reduceOfInt, Int64.reduceOfInt, Int32.reduceOfNat, Int32.reduceLT, Int32.reduceLE, Prod.mk.injEq, Nat.reduceEqDiff, reduceCtorEq, and_true, true_and, and_false, false_and, and_self, ite_true, ite_false, ↓reduceIte, not_true_eq_false, not_false_eq_true, pe_ri, pe_rz, Ri_p0 hA, Ri_g0 hA, Ri_g36 hA, Ri_g46 hA, Ri_g40 hA, Ri_r40 hA, Ri_w40 hA, Ri_l40 hA, Ri_r46 hA, Ri_w46 hA, Ri_l46 hA, eq_true k1, eq_true k4]
          refine z1780_14 hA hD k5 ?_ _
          dsimp only [ex1780_14]
          intro q1 q2 q3 q4 q5
          have e := Option.some.inj e; subst e
          simp -implicitDefEqProofs (disch := first | assumption | exact Nat.le_of_ble_eq_true rfl | decide) only [b1780_0, g1780_1, b1780_1, g1780_2, b1780_2, g1780_4, b1780_4, g1780_7, b1780_7, g1780_8, b1780_8, g1780_11, b1780_11, g1780_12, b1780_12, g1780_13, b1780_13, g1780_15, b1780_15, g1780_16, b1780_16, g1780_17, b1780_17, pe_aload0, pe_call1, pm_af_ret, pm_af_void, pm_af_thr, pe_if_eq, pe_sipush, pe_iload1, pe_i2l, pe_bipush, pe_call3, pe_iload2, pe_if_lt, pe_goto, pe_goto_w, pe_putfield, pe_getfield, pe_if_le, pe_istore3, pe_iload3, pe_istore4, pe_iload4, pe_icmp_gt, pe_if_ne, pe_icmp_ne, pe_iadd, pe_imul, pe_iaload, pe_istore5, pe_icmp_ge, pe_icmp_lt, pe_isub, pe_iload5, pe_iastore, pe_iinc4, pe_iinc3, pe_iinc5, pm_prog_1, pm_ob_some, Nat.reduceDiv, Nat.reduceMod, Nat.reduceMul, Nat.reduceAdd, Int.reduceToNat, pm_kill_i, pm_kill_r, pm_kill_n, pm_kill_j, pm_kill_l, pm_kill_d, pm_cats_nil, pm_cats_i, pm_cats_r, pm_cats_n, pm_cats_l, pm_cats_d, sz_1, sz_2, sl_1, sl_2, lc_0, lc_lt, lc_le, li_ne, Int32.reduceOfInt, Int64.reduceOfInt, Int32.reduceOfNat, Int32.reduceLT, Int32.reduceLE, Prod.mk.injEq, Nat.reduceEqDiff, reduceCtorEq, and_true, true_and, and_false, false_and, and_self, ite_true, ite_false, ↓reduceIte, not_true_eq_false, not_false_eq_true, pe_ri, pe_rz, Ri_p0 hA, Ri_g0 hA, Ri_g36 hA, Ri_g46 hA, Ri_g40 hA, Ri_r40 hA, Ri_w40 hA, Ri_l40 hA, Ri_r46 hA, Ri_w46 hA, Ri_l46 hA, eq_true k1, eq_true k4]
      · rw [if_neg k4] at e
        have e := Option.some.inj e; subst e
        simp -implicitDefEqProofs (disch := first | assumption | exact Nat.le_of_ble_eq_true rfl | decide) only [b1780_0, g1780_1, b1780_1, g1780_2, b1780_2, g1780_4, b1780_4, g1780_7, b1780_7, g1780_8, b1780_8, g1780_11, b1780_11, g1780_12, b1780_12, g1780_13, b1780_13, g1780_15, b1780_15, g1780_16, b1780_16, g1780_17, b1780_17, pe_aload0, pe_call1, pm_af_ret, pm_af_void, pm_af_thr, pe_if_eq, pe_sipush, pe_iload1, pe_i2l, pe_bipush, pe_call3, pe_iload2, pe_if_lt, pe_goto, pe_goto_w, pe_putfield, pe_getfield, pe_if_le, pe_istore3, pe_iload3, pe_istore4, pe_iload4, pe_icmp_gt, pe_if_ne, pe_icmp_ne, pe_iadd, pe_imul, pe_iaload, pe_istore5, pe_icmp_ge, pe_icmp_lt, pe_isub, pe_iload5, pe_iastore, pe_iinc4, pe_iinc3, pe_iinc5, pm_prog_1, pm_ob_some, Nat.reduceDiv, Nat.reduceMod, Nat.reduceMul, Nat.reduceAdd, Int.reduceToNat, pm_kill_i, pm_kill_r, pm_kill_n, pm_kill_j, pm_kill_l, pm_kill_d, pm_cats_nil, pm_cats_i, pm_cats_r, pm_cats_n, pm_cats_l, pm_cats_d, sz_1, sz_2, sl_1, sl_2, lc_0, lc_lt, lc_le, li_ne, Int32.reduceOfInt, Int64.reduceOfInt, Int32.reduceOfNat, Int32.reduceLT, Int32.reduceLE, Prod.mk.injEq, Nat.reduceEqDiff, reduceCtorEq, and_true, true_and, and_false, false_and, and_self, ite_true, ite_false, ↓reduceIte, not_true_eq_false, not_false_eq_true, pe_ri, pe_rz, Ri_p0 hA, Ri_g0 hA, Ri_g36 hA, Ri_g46 hA, Ri_g40 hA, Ri_r40 hA, Ri_w40 hA, Ri_l40 hA, Ri_r46 hA, Ri_w46 hA, Ri_l46 hA, eq_true k1, eq_false k4]
    · rw [if_neg k3] at e; cases e
  · rw [if_neg k1] at e
    have e := Option.some.inj e; subst e
    simp -implicitDefEqProofs (disch := first | assumption | exact Nat.le_of_ble_eq_true rfl | decide) only [b1780_0, g1780_1, b1780_1, g1780_2, b1780_2, g1780_4, b1780_4, g1780_7, b1780_7, g1780_8, b1780_8, g1780_11, b1780_11, g1780_12, b1780_12, g1780_13, b1780_13, g1780_15, b1780_15, g1780_16, b1780_16, g1780_17, b1780_17, pe_aload0, pe_call1, pm_af_ret, pm_af_void, pm_af_thr, pe_if_eq, pe_sipush, pe_iload1, pe_i2l, pe_bipush, pe_call3, pe_iload2, pe_if_lt, pe_goto, pe_goto_w, pe_putfield, pe_getfield, pe_if_le, pe_istore3, pe_iload3, pe_istore4, pe_iload4, pe_icmp_gt, pe_if_ne, pe_icmp_ne, pe_iadd, pe_imul, pe_iaload, pe_istore5, pe_icmp_ge, pe_icmp_lt, pe_isub, pe_iload5, pe_iastore, pe_iinc4, pe_iinc3, pe_iinc5, pm_prog_1, pm_ob_some, Nat.reduceDiv, Nat.reduceMod, Nat.reduceMul, Nat.reduceAdd, Int.reduceToNat, pm_kill_i, pm_kill_r, pm_kill_n, pm_kill_j, pm_kill_l, pm_kill_d, pm_cats_nil, pm_cats_i, pm_cats_r, pm_cats_n, pm_cats_l, pm_cats_d, sz_1, sz_2, sl_1, sl_2, lc_0, lc_lt, lc_le, li_ne, Int32.reduceOfInt, Int64.reduceOfInt, Int32.reduceOfNat, Int32.reduceLT, Int32.reduceLE, Prod.mk.injEq, Nat.reduceEqDiff, reduceCtorEq, and_true, true_and, and_false, false_and, and_self, ite_true, ite_false, ↓reduceIte, not_true_eq_false, not_false_eq_true, pe_ri, pe_rz, Ri_p0 hA, Ri_g0 hA, Ri_g36 hA, Ri_g46 hA, Ri_g40 hA, Ri_r40 hA, Ri_w40 hA, Ri_l40 hA, Ri_r46 hA, Ri_w46 hA, Ri_l46 hA, eq_false k1]
theorem x1780 {A : wK → Nat} {h : pm_H} {m D : Nat} {S : wS} {x1 : Int32} {x2 : Int32} {r : Int32 × wS} (hA : wok A Ri_d m) (hD : 2 ≤ D) (e : f1780 S x1 x2 = some r) : pm_call pm_prog D 1780 [.ref (A (0, 0, 0)), .int x1, .int x2] (wput A Ri_d S h) = some (.returned (some (.int r.1)), (wput A Ri_d r.2 h)) := by
  obtain ⟨D, rfl⟩ : ∃ D', D = D' + 1 := ⟨D - 1, by omega⟩
  have hD : 1 ≤ D := by omega
  rw [c1780 (Ri_c hA), b1780_0]
  simp only [f1780] at e
  obtain ⟨⟨v1, S2⟩, k1, e⟩ := Option.bind_eq_some_iff.mp e
  try dsimp only at e
  have z1 := x1772 (D := D) (h := h) hA (by omega) k1
  dsimp only at z1
  by_cases k2 : v1 = 0
  · rw [if_pos k2] at e
    obtain ⟨v3, k3, e⟩ := Option.bind_eq_some_iff.mp e
    try dsimp only at e
    have z3 := fun h => x1731 (D := D) (h := h) (by omega) k3
    by_cases k4 : v3 = 0
    · rw [if_pos k4] at e
      have k5 := y1780_3 (h := h) hA hD e
      simp -implicitDefEqProofs (disch := first | assumption | exact Nat.le_of_ble_eq_true rfl | decide) only [b1780_0, g1780_1, b1780_1, g1780_2, b1780_2, g1780_4, b1780_4, g1780_7, b1780_7, g1780_8, b1780_8, g1780_11, b1780_11, g1780_12, b1780_12, g1780_13, b1780_13, g1780_15, b1780_15, g1780_16, b1780_16, g1780_17, b1780_17, pe_aload0, pe_call1, pm_af_ret, pm_af_void, pm_af_thr, pe_if_eq, pe_sipush, pe_iload1, pe_i2l, pe_bipush, pe_call3, pe_iload2, pe_if_lt, pe_goto, pe_goto_w, pe_putfield, pe_getfield, pe_if_le, pe_istore3, pe_iload3, pe_istore4, pe_iload4, pe_icmp_gt, pe_if_ne, pe_icmp_ne, pe_iadd, pe_imul, pe_iaload, pe_istore5, pe_icmp_ge, pe_icmp_lt, pe_isub, pe_iload5, pe_iastore, pe_iinc4, pe_iinc3, pe_iinc5, pm_prog_1, pm_ob_some, Nat.reduceDiv, Nat.reduceMod, Nat.reduceMul, Nat.reduceAdd, Int.reduceToNat, pm_kill_i, pm_kill_r, pm_kill_n, pm_kill_j, pm_kill_l, pm_kill_d, pm_cats_nil, pm_cats_i, pm_cats_r, pm_cats_n, pm_cats_l, pm_cats_d, sz_1, sz_2, sl_1, sl_2, lc_0, lc_lt, lc_le, li_ne, Int32.reduceOfInt, Int64.reduceOfInt, Int32.reduceOfNat, Int32.reduceLT, Int32.reduceLE, Prod.mk.injEq, Nat.reduceEqDiff, reduceCtorEq, and_true, true_and, and_false, false_and, and_self, ite_true, ite_false, ↓reduceIte, not_true_eq_false, not_false_eq_true, pe_ri, pe_rz, Ri_p0 hA, Ri_g0 hA, Ri_g36 hA, Ri_g46 hA, Ri_g40 hA, Ri_r40 hA, Ri_w40 hA, Ri_l40 hA, Ri_r46 hA, Ri_w46 hA, Ri_l46 hA, z1, eq_true k2, z3, eq_true k4, k5]
    · rw [if_neg k4] at e
      by_cases k6 : x2 < 0
      · rw [if_pos k6] at e
        have k7 := y1780_3 (h := h) hA hD e
        simp -implicitDefEqProofs (disch := first | assumption | exact Nat.le_of_ble_eq_true rfl | decide) only [b1780_0, g1780_1, b1780_1, g1780_2, b1780_2, g1780_4, b1780_4, g1780_7, b1780_7, g1780_8, b1780_8, g1780_11, b1780_11, g1780_12, b1780_12, g1780_13, b1780_13, g1780_15, b1780_15, g1780_16, b1780_16, g1780_17, b1780_17, pe_aload0, pe_call1, pm_af_ret, pm_af_void, pm_af_thr, pe_if_eq, pe_sipush, pe_iload1, pe_i2l, pe_bipush, pe_call3, pe_iload2, pe_if_lt, pe_goto, pe_goto_w, pe_putfield, pe_getfield, pe_if_le, pe_istore3, pe_iload3, pe_istore4, pe_iload4, pe_icmp_gt, pe_if_ne, pe_icmp_ne, pe_iadd, pe_imul, pe_iaload, pe_istore5, pe_icmp_ge, pe_icmp_lt, pe_isub, pe_iload5, pe_iastore, pe_iinc4, pe_iinc3, pe_iinc5, pm_prog_1, pm_ob_some, Nat.reduceDiv, Nat.reduceMod, Nat.reduceMul, Nat.reduceAdd, Int.reduceToNat, pm_kill_i, pm_kill_r, pm_kill_n, pm_kill_j, pm_kill_l, pm_kill_d, pm_cats_nil, pm_cats_i, pm_cats_r, pm_cats_n, pm_cats_l, pm_cats_d, sz_1, sz_2, sl_1, sl_2, lc_0, lc_lt, lc_le, li_ne, Int32.reduceOfInt, Int64.reduceOfInt, Int32.reduceOfNat, Int32.reduceLT, Int32.reduceLE, Prod.mk.injEq, Nat.reduceEqDiff, reduceCtorEq, and_true, true_and, and_false, false_and, and_self, ite_true, ite_false, ↓reduceIte, not_true_eq_false, not_false_eq_true, pe_ri, pe_rz, Ri_p0 hA, Ri_g0 hA, Ri_g36 hA, Ri_g46 hA, Ri_g40 hA, Ri_r40 hA, Ri_w40 hA, Ri_l40 hA, Ri_r46 hA, Ri_w46 hA, Ri_l46 hA, z1, eq_true k2, z3, eq_false k4, eq_true k6, k7]
      · rw [if_neg k6] at e
        have k8 := y1780_3 (h := h) hA hD e
        simp -implicitDefEqProofs (disch := first | assumption | exact Nat.le_of_ble_eq_true rfl | decide) only [b1780_0, g1780_1, b1780_1, g1780_2, b1780_2, g1780_4, b1780_4, g1780_7, b1780_7, g1780_8, b1780_8, g1780_11, b1780_11, g1780_12, b1780_12, g1780_13, b1780_13, g1780_15, b1780_15, g1780_16, b1780_16, g1780_17, b1780_17, pe_aload0, pe_call1, pm_af_ret, pm_af_void, pm_af_thr, pe_if_eq, pe_sipush, pe_iload1, pe_i2l, pe_bipush, pe_call3, pe_iload2, pe_if_lt, pe_goto, pe_goto_w, pe_putfield, pe_getfield, pe_if_le, pe_istore3, pe_iload3, pe_istore4, pe_iload4, pe_icmp_gt, pe_if_ne, pe_icmp_ne, pe_iadd, pe_imul, pe_iaload, pe_istore5, pe_icmp_ge, pe_icmp_lt, pe_isub, pe_iload5, pe_iastore, pe_iinc4, pe_iinc3, pe_iinc5, pm_prog_1, pm_ob_some, Nat.reduceDiv, Nat.reduceMod, Nat.reduceMul, Nat.reduceAdd, Int.reduceToNat, pm_kill_i, pm_kill_r, pm_kill_n, pm_kill_j, pm_kill_l, pm_kill_d, pm_cats_nil, pm_cats_i, pm_cats_r, pm_cats_n, pm_cats_l, pm_cats_d, sz_1, sz_2, sl_1, sl_2, lc_0, lc_lt, lc_le, li_ne, Int32.reduceOfInt, Int64.reduceOfInt, Int32.reduceOfNat, Int32.reduceLT, Int32.reduceLE, Prod.mk.injEq, Nat.reduceEqDiff, reduceCtorEq, and_true, true_and, and_false, false_and, and_self, ite_true, ite_false, ↓reduceIte, not_true_eq_false, not_false_eq_true, pe_ri, pe_rz, Ri_p0 hA, Ri_g0 hA, Ri_g36 hA, Ri_g46 hA, Ri_g40 hA, Ri_r40 hA, Ri_w40 hA, Ri_l40 hA, Ri_r46 hA, Ri_w46 hA, Ri_l46 hA, z1, eq_true k2, z3, eq_false k4, eq_false k6, k8]
  · rw [if_neg k2] at e
    have e := Option.some.inj e; subst e
    simp -implicitDefEqProofs (disch := first | assumption | exact Nat.le_of_ble_eq_true rfl | decide) only [b1780_0, g1780_1, b1780_1, g1780_2, b1780_2, g1780_4, b1780_4, g1780_7, b1780_7, g1780_8, b1780_8, g1780_11, b1780_11, g1780_12, b1780_12, g1780_13, b1780_13, g1780_15, b1780_15, g1780_16, b1780_16, g1780_17, b1780_17, pe_aload0, pe_call1, pm_af_ret, pm_af_void, pm_af_thr, pe_if_eq, pe_sipush, pe_iload1, pe_i2l, pe_bipush, pe_call3, pe_iload2, pe_if_lt, pe_goto, pe_goto_w, pe_putfield, pe_getfield, pe_if_le, pe_istore3, pe_iload3, pe_istore4, pe_iload4, pe_icmp_gt, pe_if_ne, pe_icmp_ne, pe_iadd, pe_imul, pe_iaload, pe_istore5, pe_icmp_ge, pe_icmp_lt, pe_isub, pe_iload5, pe_iastore, pe_iinc4, pe_iinc3, pe_iinc5, pm_prog_1, pm_ob_some, Nat.reduceDiv, Nat.reduceMod, Nat.reduceMul, Nat.reduceAdd, Int.reduceToNat, pm_kill_i, pm_kill_r, pm_kill_n, pm_kill_j, pm_kill_l, pm_kill_d, pm_cats_nil, pm_cats_i, pm_cats_r, pm_cats_n, pm_cats_l, pm_cats_d, sz_1, sz_2, sl_1, sl_2, lc_0, lc_lt, lc_le, li_ne, Int32.reduceOfInt, Int64.reduceOfInt, Int32.reduceOfNat, Int32.reduceLT, Int32.reduceLE, Prod.mk.injEq, Nat.reduceEqDiff, reduceCtorEq, and_true, true_and, and_false, false_and, and_self, ite_true, ite_false, ↓reduceIte, not_true_eq_false, not_false_eq_true, pe_ri, pe_rz, Ri_p0 hA, Ri_g0 hA, Ri_g36 hA, Ri_g46 hA, Ri_g40 hA, Ri_r40 hA, Ri_w40 hA, Ri_l40 hA, Ri_r46 hA, Ri_w46 hA, Ri_l46 hA, z1, eq_false k2]
/-- TimberHouseModel$Rips.cover()V -/
theorem c1778 {d : Nat} {h : pm_H} {a : Nat} (hc : pm_cls h a = some 27) : pm_call pm_prog (d + 1) 1778 [.ref a] h = pm_ev pm_prog (pm_call pm_prog d) 1778 0 b1778_0 [.ref a, pm_junk, pm_junk, pm_junk] [] h := pm_cal (pm_rc1 hc rfl) rfl rfl rfl
theorem g1778_1 {cl : pm_C} {ls st : List Value} {h : pm_H} : pm_go pm_prog cl 1778 1 ls st h = pm_ev pm_prog cl 1778 1 b1778_1 ls st h := pm_go_eq pm_prog cl 1778 1 ls st h
theorem g1778_2 {cl : pm_C} {ls st : List Value} {h : pm_H} : pm_go pm_prog cl 1778 2 ls st h = pm_ev pm_prog cl 1778 2 b1778_2 ls st h := pm_go_eq pm_prog cl 1778 2 ls st h
theorem g1778_3 {cl : pm_C} {ls st : List Value} {h : pm_H} : pm_go pm_prog cl 1778 3 ls st h = pm_ev pm_prog cl 1778 3 b1778_3 ls st h := pm_go_eq pm_prog cl 1778 3 ls st h
theorem g1778_4 {cl : pm_C} {ls st : List Value} {h : pm_H} : pm_go pm_prog cl 1778 4 ls st h = pm_ev pm_prog cl 1778 4 b1778_4 ls st h := pm_go_eq pm_prog cl 1778 4 ls st h
theorem g1778_5 {cl : pm_C} {ls st : List Value} {h : pm_H} : pm_go pm_prog cl 1778 5 ls st h = pm_ev pm_prog cl 1778 5 b1778_5 ls st h := pm_go_eq pm_prog cl 1778 5 ls st h
theorem g1778_6 {cl : pm_C} {ls st : List Value} {h : pm_H} : pm_go pm_prog cl 1778 6 ls st h = pm_ev pm_prog cl 1778 6 b1778_6 ls st h := pm_go_eq pm_prog cl 1778 6 ls st h
theorem g1778_7 {cl : pm_C} {ls st : List Value} {h : pm_H} : pm_go pm_prog cl 1778 7 ls st h = pm_ev pm_prog cl 1778 7 b1778_7 ls st h := pm_go_eq pm_prog cl 1778 7 ls st h
theorem g1778_8 {cl : pm_C} {ls st : List Value} {h : pm_H} : pm_go pm_prog cl 1778 8 ls st h = pm_ev pm_prog cl 1778 8 b1778_8 ls st h := pm_go_eq pm_prog cl 1778 8 ls st h
noncomputable def f1778_b1 : Int32 × wS → Option ((Int32 × wS) ⊕ ((wS))) := fun (x1, S) =>
  if x1 < 240 then
    if 0 ≤ x1 ∧ x1 < 240 then
      some (.inl ((x1 + 1), (sz S (46, 0, 0) x1 (vp_nar .boolean 0))))
    else none
  else
    some (.inr S)
noncomputable def f1778_b5 : Int32 × Int32 × Int32 × wS → Option ((Int32 × Int32 × Int32 × wS) ⊕ ((Int32 × Int32 × wS))) := fun (x1, x2, x3, S) =>
  if 0 ≤ x1 ∧ x1 < 240 then
    if x3 < ((S.1 (39, 0, 0) x1) + (S.1 (41, 0, 0) x1)) then
      if 0 ≤ ((24 * x3) + x2) ∧ ((24 * x3) + x2) < 240 then
        some (.inl (x1, x2, (x3 + 1), (sz S (46, 0, 0) ((24 * x3) + x2) (vp_nar .boolean 1))))
      else none
    else
      some (.inr (x1, x2, S))
  else none
noncomputable def f1778_b4 : Int32 × Int32 × wS → Option ((Int32 × Int32 × wS) ⊕ ((Int32 × wS))) := fun (x1, x2, S) =>
  if 0 ≤ x1 ∧ x1 < 240 then
    if x2 < ((S.1 (38, 0, 0) x1) + (S.1 (40, 0, 0) x1)) then
      (lp (f1778_b5) FU (x1, x2, (S.1 (39, 0, 0) x1), S)).bind fun (v2, v3, S4) =>
      some (.inl (v2, (v3 + 1), S4))
    else
      some (.inr (x1, S))
  else none
noncomputable def f1778_b3 : Int32 × wS → Option ((Int32 × wS) ⊕ ((wS))) := fun (x1, S) =>
  if x1 < (S.1 (0, 0, 0) 36) then
    if 0 ≤ x1 ∧ x1 < 240 then
      (lp (f1778_b4) FU (x1, (S.1 (38, 0, 0) x1), S)).bind fun (v5, S6) =>
      some (.inl ((v5 + 1), S6))
    else none
  else
    some (.inr S)
/-- TimberHouseModel$Rips.cover()V -/
noncomputable def f1778 (S : wS) : Option (wS) :=
  (lp (f1778_b1) FU (0, S)).bind fun S1 =>
  (lp (f1778_b3) FU (0, S1)).bind fun S7 =>
  some S7
def go1778_1 (A : wK → Nat) (h : pm_H) (D : Nat) (R : Outcome × pm_H) : Int32 × wS → Prop := fun (x1, S) => ∀ q2 q3 : Value, pm_go pm_prog (pm_call pm_prog D) 1778 1 [.ref (A (0, 0, 0)), .int x1, q2, q3] [] (wput A Ri_d S h) = some R
def ex1778_1 (A : wK → Nat) (h : pm_H) (D : Nat) (R : Outcome × pm_H) : (wS) → Prop := fun S => ∀ q1 q2 q3 : Value, pm_go pm_prog (pm_call pm_prog D) 1778 2 [.ref (A (0, 0, 0)), q1, q2, q3] [] (wput A Ri_d S h) = some R
theorem y1778_b1 {A : wK → Nat} {h : pm_H} {m D : Nat} {R : Outcome × pm_H} (hA : wok A Ri_d m) (hD : 0 ≤ D) (a : Int32 × wS) (r : (Int32 × wS) ⊕ ((wS))) (e : f1778_b1 a = some r) (hc : Sum.elim (go1778_1 A h D R) (ex1778_1 A h D R) r) : go1778_1 A h D R a := by
  obtain ⟨x1, S⟩ := a
  dsimp only [go1778_1]
  intro q2 q3
  simp only [f1778_b1] at e
  rw [g1778_1, b1778_1]
  by_cases k1 : x1 < 240
  · rw [if_pos k1] at e
    by_cases k2 : 0 ≤ x1 ∧ x1 < 240
    · rw [if_pos k2] at e
      have e := Option.some.inj e; subst e
      dsimp only [Sum.elim_inl, go1778_1] at hc
      simp -implicitDefEqProofs (disch := first | assumption | exact Nat.le_of_ble_eq_true rfl | decide) only [b1778_0, g1778_2, b1778_2, g1778_6, b1778_6, g1778_7, b1778_7, g1778_8, b1778_8, pe_sipush, pe_istore1, pe_goto_w, pe_iload1, pe_icmp_ge, pe_aload0, pe_getfield, pe_bastore, pe_iinc1, pe_goto, pe_iaload, pe_istore2, pe_iload2, pe_iadd, pe_istore3, pe_iload3, pe_imul, pe_iinc3, pe_iinc2, pe_return, pm_prog_1, pm_ob_some, Nat.reduceDiv, Nat.reduceMod, Nat.reduceMul, Nat.reduceAdd, Int.reduceToNat, pm_kill_i, pm_kill_r, pm_kill_n, pm_kill_j, pm_kill_l, pm_kill_d, pm_cats_nil, pm_cats_i, pm_cats_r, pm_cats_n, pm_cats_l, pm_cats_d, sz_1, sz_2, sl_1, sl_2, lc_0, lc_lt, lc_le, li_ne, Int32.reduceOfInt, Int64.reduceOfInt, Int32.reduceOfNat, Int32.reduceLT, Int32.reduceLE, Prod.mk.injEq, Nat.reduceEqDiff, reduceCtorEq, and_true, true_and, and_false, false_and, and_self, ite_true, ite_false, ↓reduceIte, not_true_eq_false, not_false_eq_true, pe_ri, pe_rz, Ri_g45 hA, Ri_g36 hA, Ri_g37 hA, Ri_g39 hA, Ri_g38 hA, Ri_g40 hA, Ri_r37 hA, Ri_w37 hA, Ri_l37 hA, Ri_r38 hA, Ri_w38 hA, Ri_l38 hA, Ri_r39 hA, Ri_w39 hA, Ri_l39 hA, Ri_r40 hA, Ri_w40 hA, Ri_l40 hA, Ri_r45 hA, Ri_w45 hA, Ri_l45 hA, eq_true k1, hc]
    · rw [if_neg k2] at e; cases e
  · rw [if_neg k1] at e
    have e := Option.some.inj e; subst e
    dsimp only [Sum.elim_inr, ex1778_1] at hc
    simp -implicitDefEqProofs (disch := first | assumption | exact Nat.le_of_ble_eq_true rfl | decide) only [b1778_0, g1778_2, b1778_2, g1778_6, b1778_6, g1778_7, b1778_7, g1778_8, b1778_8, pe_sipush, pe_istore1, pe_goto_w, pe_iload1, pe_icmp_ge, pe_aload0, pe_getfield, pe_bastore, pe_iinc1, pe_goto, pe_iaload, pe_istore2, pe_iload2, pe_iadd, pe_istore3, pe_iload3, pe_imul, pe_iinc3, pe_iinc2, pe_return, pm_prog_1, pm_ob_some, Nat.reduceDiv, Nat.reduceMod, Nat.reduceMul, Nat.reduceAdd, Int.reduceToNat, pm_kill_i, pm_kill_r, pm_kill_n, pm_kill_j, pm_kill_l, pm_kill_d, pm_cats_nil, pm_cats_i, pm_cats_r, pm_cats_n, pm_cats_l, pm_cats_d, sz_1, sz_2, sl_1, sl_2, lc_0, lc_lt, lc_le, li_ne, Int32.reduceOfInt, Int64.reduceOfInt, Int32.reduceOfNat, Int32.reduceLT, Int32.reduceLE, Prod.mk.injEq, Nat.reduceEqDiff, reduceCtorEq, and_true, true_and, and_false, false_and, and_self, ite_true, ite_false, ↓reduceIte, not_true_eq_false, not_false_eq_true, pe_ri, pe_rz, Ri_g45 hA, Ri_g36 hA, Ri_g37 hA, Ri_g39 hA, Ri_g38 hA, Ri_g40 hA, Ri_r37 hA, Ri_w37 hA, Ri_l37 hA, Ri_r38 hA, Ri_w38 hA, Ri_l38 hA, Ri_r39 hA, Ri_w39 hA, Ri_l39 hA, Ri_r40 hA, Ri_w40 hA, Ri_l40 hA, Ri_r45 hA, Ri_w45 hA, Ri_l45 hA, eq_false k1, hc]
theorem z1778_1 {A : wK → Nat} {h : pm_H} {m D : Nat} {R : Outcome × pm_H} (hA : wok A Ri_d m) (hD : 0 ≤ D) {n : Nat} {a : Int32 × wS} {b : (wS)} (e : lp (f1778_b1) n a = some b) (hx : ex1778_1 A h D R b) : go1778_1 A h D R a := lp_run (fun a r => y1778_b1 hA hD a r) n a b e hx
def go1778_5 (A : wK → Nat) (h : pm_H) (D : Nat) (R : Outcome × pm_H) : Int32 × Int32 × Int32 × wS → Prop := fun (x1, x2, x3, S) => pm_go pm_prog (pm_call pm_prog D) 1778 5 [.ref (A (0, 0, 0)), .int x1, .int x2, .int x3] [] (wput A Ri_d S h) = some R
def ex1778_5 (A : wK → Nat) (h : pm_H) (D : Nat) (R : Outcome × pm_H) : (Int32 × Int32 × wS) → Prop := fun (x1, x2, S) => ∀ q3 : Value, pm_go pm_prog (pm_call pm_prog D) 1778 6 [.ref (A (0, 0, 0)), .int x1, .int x2, q3] [] (wput A Ri_d S h) = some R
theorem y1778_b5 {A : wK → Nat} {h : pm_H} {m D : Nat} {R : Outcome × pm_H} (hA : wok A Ri_d m) (hD : 0 ≤ D) (a : Int32 × Int32 × Int32 × wS) (r : (Int32 × Int32 × Int32 × wS) ⊕ ((Int32 × Int32 × wS))) (e : f1778_b5 a = some r) (hc : Sum.elim (go1778_5 A h D R) (ex1778_5 A h D R) r) : go1778_5 A h D R a := by
  obtain ⟨x1, x2, x3, S⟩ := a
  dsimp only [go1778_5]
  simp only [f1778_b5] at e
  rw [g1778_5, b1778_5]
  by_cases k1 : 0 ≤ x1 ∧ x1 < 240
  · rw [if_pos k1] at e
    by_cases k2 : x3 < ((S.1 (39, 0, 0) x1) + (S.1 (41, 0, 0) x1))
    · rw [if_pos k2] at e
      by_cases k3 : 0 ≤ ((24 * x3) + x2) ∧ ((24 * x3) + x2) < 240
      · rw [if_pos k3] at e
        have e := Option.some.inj e; subst e
        dsimp only [Sum.elim_inl, go1778_5] at hc
        simp -implicitDefEqProofs (disch := first | assumption | exact Nat.le_of_ble_eq_true rfl | decide) only [b1778_0, g1778_2, b1778_2, g1778_6, b1778_6, g1778_7, b1778_7, g1778_8, b1778_8, pe_sipush, pe_istore1, pe_goto_w, pe_iload1, pe_icmp_ge, pe_aload0, pe_getfield, pe_bastore, pe_iinc1, pe_goto, pe_iaload, pe_istore2, pe_iload2, pe_iadd, pe_istore3, pe_iload3, pe_imul, pe_iinc3, pe_iinc2, pe_return, pm_prog_1, pm_ob_some, Nat.reduceDiv, Nat.reduceMod, Nat.reduceMul, Nat.reduceAdd, Int.reduceToNat, pm_kill_i, pm_kill_r, pm_kill_n, pm_kill_j, pm_kill_l, pm_kill_d, pm_cats_nil, pm_cats_i, pm_cats_r, pm_cats_n, pm_cats_l, pm_cats_d, sz_1, sz_2, sl_1, sl_2, lc_0, lc_lt, lc_le, li_ne, Int32.reduceOfInt, Int64.reduceOfInt, Int32.reduceOfNat, Int32.reduceLT, Int32.reduceLE, Prod.mk.injEq, Nat.reduceEqDiff, reduceCtorEq, and_true, true_and, and_false, false_and, and_self, ite_true, ite_false, ↓reduceIte, not_true_eq_false, not_false_eq_true, pe_ri, pe_rz, Ri_g45 hA, Ri_g36 hA, Ri_g37 hA, Ri_g39 hA, Ri_g38 hA, Ri_g40 hA, Ri_r37 hA, Ri_w37 hA, Ri_l37 hA, Ri_r38 hA, Ri_w38 hA, Ri_l38 hA, Ri_r39 hA, Ri_w39 hA, Ri_l39 hA, Ri_r40 hA, Ri_w40 hA, Ri_l40 hA, Ri_r45 hA, Ri_w45 hA, Ri_l45 hA, eq_true k2, hc]
      · rw [if_neg k3] at e; cases e
    · rw [if_neg k2] at e
      have e := Option.some.inj e; subst e
      dsimp only [Sum.elim_inr, ex1778_5] at hc
      simp -implicitDefEqProofs (disch := first | assumption | exact Nat.le_of_ble_eq_true rfl | decide) only [b1778_0, g1778_2, b1778_2, g1778_6, b1778_6, g1778_7, b1778_7, g1778_8, b1778_8, pe_sipush, pe_istore1, pe_goto_w, pe_iload1, pe_icmp_ge, pe_aload0, pe_getfield, pe_bastore, pe_iinc1, pe_goto, pe_iaload, pe_istore2, pe_iload2, pe_iadd, pe_istore3, pe_iload3, pe_imul, pe_iinc3, pe_iinc2, pe_return, pm_prog_1, pm_ob_some, Nat.reduceDiv, Nat.reduceMod, Nat.reduceMul, Nat.reduceAdd, Int.reduceToNat, pm_kill_i, pm_kill_r, pm_kill_n, pm_kill_j, pm_kill_l, pm_kill_d, pm_cats_nil, pm_cats_i, pm_cats_r, pm_cats_n, pm_cats_l, pm_cats_d, sz_1, sz_2, sl_1, sl_2, lc_0, lc_lt, lc_le, li_ne, Int32.reduceOfInt, Int64.reduceOfInt, Int32.reduceOfNat, Int32.reduceLT, Int32.reduceLE, Prod.mk.injEq, Nat.reduceEqDiff, reduceCtorEq, and_true, true_and, and_false, false_and, and_self, ite_true, ite_false, ↓reduceIte, not_true_eq_false, not_false_eq_true, pe_ri, pe_rz, Ri_g45 hA, Ri_g36 hA, Ri_g37 hA, Ri_g39 hA, Ri_g38 hA, Ri_g40 hA, Ri_r37 hA, Ri_w37 hA, Ri_l37 hA, Ri_r38 hA, Ri_w38 hA, Ri_l38 hA, Ri_r39 hA, Ri_w39 hA, Ri_l39 hA, Ri_r40 hA, Ri_w40 hA, Ri_l40 hA, Ri_r45 hA, Ri_w45 hA, Ri_l45 hA, eq_false k2, hc]
  · rw [if_neg k1] at e; cases e
theorem z1778_5 {A : wK → Nat} {h : pm_H} {m D : Nat} {R : Outcome × pm_H} (hA : wok A Ri_d m) (hD : 0 ≤ D) {n : Nat} {a : Int32 × Int32 × Int32 × wS} {b : (Int32 × Int32 × wS)} (e : lp (f1778_b5) n a = some b) (hx : ex1778_5 A h D R b) : go1778_5 A h D R a := lp_run (fun a r => y1778_b5 hA hD a r) n a b e hx
def go1778_4 (A : wK → Nat) (h : pm_H) (D : Nat) (R : Outcome × pm_H) : Int32 × Int32 × wS → Prop := fun (x1, x2, S) => ∀ q3 : Value, pm_go pm_prog (pm_call pm_prog D) 1778 4 [.ref (A (0, 0, 0)), .int x1, .int x2, q3] [] (wput A Ri_d S h) = some R
def ex1778_4 (A : wK → Nat) (h : pm_H) (D : Nat) (R : Outcome × pm_H) : (Int32 × wS) → Prop := fun (x1, S) => ∀ q2 q3 : Value, pm_go pm_prog (pm_call pm_prog D) 1778 7 [.ref (A (0, 0, 0)), .int x1, q2, q3] [] (wput A Ri_d S h) = some R
theorem y1778_b4 {A : wK → Nat} {h : pm_H} {m D : Nat} {R : Outcome × pm_H} (hA : wok A Ri_d m) (hD : 0 ≤ D) (a : Int32 × Int32 × wS) (r : (Int32 × Int32 × wS) ⊕ ((Int32 × wS))) (e : f1778_b4 a = some r) (hc : Sum.elim (go1778_4 A h D R) (ex1778_4 A h D R) r) : go1778_4 A h D R a := by
  obtain ⟨x1, x2, S⟩ := a
  dsimp only [go1778_4]
  intro q3
  simp only [f1778_b4] at e
  rw [g1778_4, b1778_4]
  by_cases k1 : 0 ≤ x1 ∧ x1 < 240
  · rw [if_pos k1] at e
    by_cases k2 : x2 < ((S.1 (38, 0, 0) x1) + (S.1 (40, 0, 0) x1))
    · rw [if_pos k2] at e
      obtain ⟨⟨v2, v3, S4⟩, k3, e⟩ := Option.bind_eq_some_iff.mp e
      try dsimp only at e
      try simp -implicitDefEqProofs (disch := first | assumption | exact Nat.le_of_ble_eq_true rfl | decide) only [b1778_0, g1778_2, b1778_2, g1778_6, b1778_6, g1778_7, b1778_7, g1778_8, b1778_8, pe_sipush, pe_istore1, pe_goto_w, pe_iload1, pe_icmp_ge, pe_aload0, pe_getfield, pe_bastore, pe_iinc1, pe_goto, pe_iaload, pe_istore2, pe_iload2, pe_iadd, pe_istore3, pe_iload3, pe_imul, pe_iinc3, pe_iinc2, pe_return, pm_prog_1, pm_ob_some, Nat.reduceDiv, Nat.reduceMod, Nat.reduceMul, Nat.reduceAdd, Int.reduceToNat, pm_kill_i, pm_kill_r, pm_kill_n, pm_kill_j, pm_kill_l, pm_kill_d, pm_cats_nil, pm_cats_i, pm_cats_r, pm_cats_n, pm_cats_l, pm_cats_d, sz_1, sz_2, sl_1, sl_2, lc_0, lc_lt, lc_le, li_ne, Int32.reduceOfInt, Int64.reduceOfInt, Int32.reduceOfNat, Int32.reduceLT, Int32.reduceLE, Prod.mk.injEq, Nat.reduceEqDiff, reduceCtorEq, and_true, true_and, and_false, false_and, and_self, ite_true, ite_false, ↓reduceIte, not_true_eq_false, not_false_eq_true, pe_ri, pe_rz, Ri_g45 hA, Ri_g36 hA, Ri_g37 hA, Ri_g39 hA, Ri_g38 hA, Ri_g40 hA, Ri_r37 hA, Ri_w37 hA, Ri_l37 hA, Ri_r38 hA, Ri_w38 hA, Ri_l38 hA, Ri_r39 hA, Ri_w39 hA, Ri_l39 hA, Ri_r40 hA, Ri_w40 hA, Ri_l40 hA, Ri_r45 hA, Ri_w45 hA, Ri_l45 hA, eq_true k2]
      refine z1778_5 hA hD k3 ?_
      dsimp only [ex1778_5]
      intro q3
      have e := Option.some.inj e; subst e
      dsimp only [Sum.elim_inl, go1778_4] at hc
      simp -implicitDefEqProofs (disch := first | assumption | exact Nat.le_of_ble_eq_true rfl | decide) only [b1778_0, g1778_2, b1778_2, g1778_6, b1778_6, g1778_7, b1778_7, g1778_8, b1778_8, pe_sipush, pe_istore1, pe_goto_w, pe_iload1, pe_icmp_ge, pe_aload0, pe_getfield, pe_bastore, pe_iinc1, pe_goto, pe_iaload, pe_istore2, pe_iload2, pe_iadd, pe_istore3, pe_iload3, pe_imul, pe_iinc3, pe_iinc2, pe_return, pm_prog_1, pm_ob_some, Nat.reduceDiv, Nat.reduceMod, Nat.reduceMul, Nat.reduceAdd, Int.reduceToNat, pm_kill_i, pm_kill_r, pm_kill_n, pm_kill_j, pm_kill_l, pm_kill_d, pm_cats_nil, pm_cats_i, pm_cats_r, pm_cats_n, pm_cats_l, pm_cats_d, sz_1, sz_2, sl_1, sl_2, lc_0, lc_lt, lc_le, li_ne, Int32.reduceOfInt, Int64.reduceOfInt, Int32.reduceOfNat, Int32.reduceLT, Int32.reduceLE, Prod.mk.injEq, Nat.reduceEqDiff, reduceCtorEq, and_true, true_and, and_false, false_and, and_self, ite_true, ite_false, ↓reduceIte, not_true_eq_false, not_false_eq_true, pe_ri, pe_rz, Ri_g45 hA, Ri_g36 hA, Ri_g37 hA, Ri_g39 hA, Ri_g38 hA, Ri_g40 hA, Ri_r37 hA, Ri_w37 hA, Ri_l37 hA, Ri_r38 hA, Ri_w38 hA, Ri_l38 hA, Ri_r39 hA, Ri_w39 hA, Ri_l39 hA, Ri_r40 hA, Ri_w40 hA, Ri_l40 hA, Ri_r45 hA, Ri_w45 hA, Ri_l45 hA, eq_true k2, hc]
    · rw [if_neg k2] at e
      have e := Option.some.inj e; subst e
      dsimp only [Sum.elim_inr, ex1778_4] at hc
      simp -implicitDefEqProofs (disch := first | assumption | exact Nat.le_of_ble_eq_true rfl | decide) only [b1778_0, g1778_2, b1778_2, g1778_6, b1778_6, g1778_7, b1778_7, g1778_8, b1778_8, pe_sipush, pe_istore1, pe_goto_w, pe_iload1, pe_icmp_ge, pe_aload0, pe_getfield, pe_bastore, pe_iinc1, pe_goto, pe_iaload, pe_istore2, pe_iload2, pe_iadd, pe_istore3, pe_iload3, pe_imul, pe_iinc3, pe_iinc2, pe_return, pm_prog_1, pm_ob_some, Nat.reduceDiv, Nat.reduceMod, Nat.reduceMul, Nat.reduceAdd, Int.reduceToNat, pm_kill_i, pm_kill_r, pm_kill_n, pm_kill_j, pm_kill_l, pm_kill_d, pm_cats_nil, pm_cats_i, pm_cats_r, pm_cats_n, pm_cats_l, pm_cats_d, sz_1, sz_2, sl_1, sl_2, lc_0, lc_lt, lc_le, li_ne, Int32.reduceOfInt, Int64.reduceOfInt, Int32.reduceOfNat, Int32.reduceLT, Int32.reduceLE, Prod.mk.injEq, Nat.reduceEqDiff, reduceCtorEq, and_true, true_and, and_false, false_and, and_self, ite_true, ite_false, ↓reduceIte, not_true_eq_false, not_false_eq_true, pe_ri, pe_rz, Ri_g45 hA, Ri_g36 hA, Ri_g37 hA, Ri_g39 hA, Ri_g38 hA, Ri_g40 hA, Ri_r37 hA, Ri_w37 hA, Ri_l37 hA, Ri_r38 hA, Ri_w38 hA, Ri_l38 hA, Ri_r39 hA, Ri_w39 hA, Ri_l39 hA, Ri_r40 hA, Ri_w40 hA, Ri_l40 hA, Ri_r45 hA, Ri_w45 hA, Ri_l45 hA, eq_false k2, hc]
  · rw [if_neg k1] at e; cases e
theorem z1778_4 {A : wK → Nat} {h : pm_H} {m D : Nat} {R : Outcome × pm_H} (hA : wok A Ri_d m) (hD : 0 ≤ D) {n : Nat} {a : Int32 × Int32 × wS} {b : (Int32 × wS)} (e : lp (f1778_b4) n a = some b) (hx : ex1778_4 A h D R b) : go1778_4 A h D R a := lp_run (fun a r => y1778_b4 hA hD a r) n a b e hx
def go1778_3 (A : wK → Nat) (h : pm_H) (D : Nat) (R : Outcome × pm_H) : Int32 × wS → Prop := fun (x1, S) => ∀ q2 q3 : Value, pm_go pm_prog (pm_call pm_prog D) 1778 3 [.ref (A (0, 0, 0)), .int x1, q2, q3] [] (wput A Ri_d S h) = some R
def ex1778_3 (A : wK → Nat) (h : pm_H) (D : Nat) (R : Outcome × pm_H) : (wS) → Prop := fun S => ∀ q1 q2 q3 : Value, pm_go pm_prog (pm_call pm_prog D) 1778 8 [.ref (A (0, 0, 0)), q1, q2, q3] [] (wput A Ri_d S h) = some R
theorem y1778_b3 {A : wK → Nat} {h : pm_H} {m D : Nat} {R : Outcome × pm_H} (hA : wok A Ri_d m) (hD : 0 ≤ D) (a : Int32 × wS) (r : (Int32 × wS) ⊕ ((wS))) (e : f1778_b3 a = some r) (hc : Sum.elim (go1778_3 A h D R) (ex1778_3 A h D R) r) : go1778_3 A h D R a := by
  obtain ⟨x1, S⟩ := a
  dsimp only [go1778_3]
  intro q2 q3
  simp only [f1778_b3] at e
  rw [g1778_3, b1778_3]
  by_cases k1 : x1 < (S.1 (0, 0, 0) 36)
  · rw [if_pos k1] at e
    by_cases k2 : 0 ≤ x1 ∧ x1 < 240
    · rw [if_pos k2] at e
      obtain ⟨⟨v5, S6⟩, k3, e⟩ := Option.bind_eq_some_iff.mp e
      try dsimp only at e
      try simp -implicitDefEqProofs (disch := first | assumption | exact Nat.le_of_ble_eq_true rfl | decide) only [b1778_0, g1778_2, b1778_2, g1778_6, b1778_6, g1778_7, b1778_7, g1778_8, b1778_8, pe_sipush, pe_istore1, pe_goto_w, pe_iload1, pe_icmp_ge, pe_aload0, pe_getfield, pe_bastore, pe_iinc1, pe_goto, pe_iaload, pe_istore2, pe_iload2, pe_iadd, pe_istore3, pe_iload3, pe_imul, pe_iinc3, pe_iinc2, pe_return, pm_prog_1, pm_ob_some, Nat.reduceDiv, Nat.reduceMod, Nat.reduceMul, Nat.reduceAdd, Int.reduceToNat, pm_kill_i, pm_kill_r, pm_kill_n, pm_kill_j, pm_kill_l, pm_kill_d, pm_cats_nil, pm_cats_i, pm_cats_r, pm_cats_n, pm_cats_l, pm_cats_d, sz_1, sz_2, sl_1, sl_2, lc_0, lc_lt, lc_le, li_ne, Int32.reduceOfInt, Int64.reduceOfInt, Int32.reduceOfNat, Int32.reduceLT, Int32.reduceLE, Prod.mk.injEq, Nat.reduceEqDiff, reduceCtorEq, and_true, true_and, and_false, false_and, and_self, ite_true, ite_false, ↓reduceIte, not_true_eq_false, not_false_eq_true, pe_ri, pe_rz, Ri_g45 hA, Ri_g36 hA, Ri_g37 hA, Ri_g39 hA, Ri_g38 hA, Ri_g40 hA, Ri_r37 hA, Ri_w37 hA, Ri_l37 hA, Ri_r38 hA, Ri_w38 hA, Ri_l38 hA, Ri_r39 hA, Ri_w39 hA, Ri_l39 hA, Ri_r40 hA, Ri_w40 hA, Ri_l40 hA, Ri_r45 hA, Ri_w45 hA, Ri_l45 hA, eq_true k1]
      refine z1778_4 hA hD k3 ?_ _
      dsimp only [ex1778_4]
      intro q2 q3
      have e := Option.some.inj e; subst e
      dsimp only [Sum.elim_inl, go1778_3] at hc
      simp -implicitDefEqProofs (disch := first | assumption | exact Nat.le_of_ble_eq_true rfl | decide) only [b1778_0, g1778_2, b1778_2, g1778_6, b1778_6, g1778_7, b1778_7, g1778_8, b1778_8, pe_sipush, pe_istore1, pe_goto_w, pe_iload1, pe_icmp_ge, pe_aload0, pe_getfield, pe_bastore, pe_iinc1, pe_goto, pe_iaload, pe_istore2, pe_iload2, pe_iadd, pe_istore3, pe_iload3, pe_imul, pe_iinc3, pe_iinc2, pe_return, pm_prog_1, pm_ob_some, Nat.reduceDiv, Nat.reduceMod, Nat.reduceMul, Nat.reduceAdd, Int.reduceToNat, pm_kill_i, pm_kill_r, pm_kill_n, pm_kill_j, pm_kill_l, pm_kill_d, pm_cats_nil, pm_cats_i, pm_cats_r, pm_cats_n, pm_cats_l, pm_cats_d, sz_1, sz_2, sl_1, sl_2, lc_0, lc_lt, lc_le, li_ne, Int32.reduceOfInt, Int64.reduceOfInt, Int32.reduceOfNat, Int32.reduceLT, Int32.reduceLE, Prod.mk.injEq, Nat.reduceEqDiff, reduceCtorEq, and_true, true_and, and_false, false_and, and_self, ite_true, ite_false, ↓reduceIte, not_true_eq_false, not_false_eq_true, pe_ri, pe_rz, Ri_g45 hA, Ri_g36 hA, Ri_g37 hA, Ri_g39 hA, Ri_g38 hA, Ri_g40 hA, Ri_r37 hA, Ri_w37 hA, Ri_l37 hA, Ri_r38 hA, Ri_w38 hA, Ri_l38 hA, Ri_r39 hA, Ri_w39 hA, Ri_l39 hA, Ri_r40 hA, Ri_w40 hA, Ri_l40 hA, Ri_r45 hA, Ri_w45 hA, Ri_l45 hA, eq_true k1, hc]
    · rw [if_neg k2] at e; cases e
  · rw [if_neg k1] at e
    have e := Option.some.inj e; subst e
    dsimp only [Sum.elim_inr, ex1778_3] at hc
    simp -implicitDefEqProofs (disch := first | assumption | exact Nat.le_of_ble_eq_true rfl | decide) only [b1778_0, g1778_2, b1778_2, g1778_6, b1778_6, g1778_7, b1778_7, g1778_8, b1778_8, pe_sipush, pe_istore1, pe_goto_w, pe_iload1, pe_icmp_ge, pe_aload0, pe_getfield, pe_bastore, pe_iinc1, pe_goto, pe_iaload, pe_istore2, pe_iload2, pe_iadd, pe_istore3, pe_iload3, pe_imul, pe_iinc3, pe_iinc2, pe_return, pm_prog_1, pm_ob_some, Nat.reduceDiv, Nat.reduceMod, Nat.reduceMul, Nat.reduceAdd, Int.reduceToNat, pm_kill_i, pm_kill_r, pm_kill_n, pm_kill_j, pm_kill_l, pm_kill_d, pm_cats_nil, pm_cats_i, pm_cats_r, pm_cats_n, pm_cats_l, pm_cats_d, sz_1, sz_2, sl_1, sl_2, lc_0, lc_lt, lc_le, li_ne, Int32.reduceOfInt, Int64.reduceOfInt, Int32.reduceOfNat, Int32.reduceLT, Int32.reduceLE, Prod.mk.injEq, Nat.reduceEqDiff, reduceCtorEq, and_true, true_and, and_false, false_and, and_self, ite_true, ite_false, ↓reduceIte, not_true_eq_false, not_false_eq_true, pe_ri, pe_rz, Ri_g45 hA, Ri_g36 hA, Ri_g37 hA, Ri_g39 hA, Ri_g38 hA, Ri_g40 hA, Ri_r37 hA, Ri_w37 hA, Ri_l37 hA, Ri_r38 hA, Ri_w38 hA, Ri_l38 hA, Ri_r39 hA, Ri_w39 hA, Ri_l39 hA, Ri_r40 hA, Ri_w40 hA, Ri_l40 hA, Ri_r45 hA, Ri_w45 hA, Ri_l45 hA, eq_false k1, hc]
theorem z1778_3 {A : wK → Nat} {h : pm_H} {m D : Nat} {R : Outcome × pm_H} (hA : wok A Ri_d m) (hD : 0 ≤ D) {n : Nat} {a : Int32 × wS} {b : (wS)} (e : lp (f1778_b3) n a = some b) (hx : ex1778_3 A h D R b) : go1778_3 A h D R a := lp_run (fun a r => y1778_b3 hA hD a r) n a b e hx
theorem x1778 {A : wK → Nat} {h : pm_H} {m D : Nat} {S : wS} {r : wS} (hA : wok A Ri_d m) (hD : 1 ≤ D) (e : f1778 S = some r) : pm_call pm_prog D 1778 [.ref (A (0, 0, 0))] (wput A Ri_d S h) = some (.returned none, (wput A Ri_d r h)) := by
  obtain ⟨D, rfl⟩ : ∃ D', D = D' + 1 := ⟨D - 1, by omega⟩
  have hD : 0 ≤ D := by omega
  rw [c1778 (Ri_c hA), b1778_0]
  simp only [f1778] at e
  obtain ⟨S1, k1, e⟩ := Option.bind_eq_some_iff.mp e
  try dsimp only at e
  try simp -implicitDefEqProofs (disch := first | assumption | exact Nat.le_of_ble_eq_true rfl | decide) only [b1778_0, g1778_2, b1778_2, g1778_6, b1778_6, g1778_7, b1778_7, g1778_8, b1778_8, pe_sipush, pe_istore1, pe_goto_w, pe_iload1, pe_icmp_ge, pe_aload0, pe_getfield, pe_bastore, pe_iinc1, pe_goto, pe_iaload, pe_istore2, pe_iload2, pe_iadd, pe_istore3, pe_iload3, pe_imul, pe_iinc3, pe_iinc2, pe_return, pm_prog_1, pm_ob_some, Nat.reduceDiv, Nat.reduceMod, Nat.reduceMul, Nat.reduceAdd, Int.reduceToNat, pm_kill_i, pm_kill_r, pm_kill_n, pm_kill_j, pm_kill_l, pm_kill_d, pm_cats_nil, pm_cats_i, pm_cats_r, pm_cats_n, pm_cats_l, pm_cats_d, sz_1, sz_2, sl_1, sl_2, lc_0, lc_lt, lc_le, li_ne, Int32.reduceOfInt, Int64.reduceOfInt, Int32.reduceOfNat, Int32.reduceLT, Int32.reduceLE, Prod.mk.injEq, Nat.reduceEqDiff, reduceCtorEq, and_true, true_and, and_false, false_and, and_self, ite_true, ite_false, ↓reduceIte, not_true_eq_false, not_false_eq_true, pe_ri, pe_rz, Ri_g45 hA, Ri_g36 hA, Ri_g37 hA, Ri_g39 hA, Ri_g38 hA, Ri_g40 hA, Ri_r37 hA, Ri_w37 hA, Ri_l37 hA, Ri_r38 hA, Ri_w38 hA, Ri_l38 hA, Ri_r39 hA, Ri_w39 hA, Ri_l39 hA, Ri_r40 hA, Ri_w40 hA, Ri_l40 hA, Ri_r45 hA, Ri_w45 hA, Ri_l45 hA]
  refine z1778_1 hA hD k1 ?_ _ _
  dsimp only [ex1778_1]
  intro q1 q2 q3
  obtain ⟨S7, k2, e⟩ := Option.bind_eq_some_iff.mp e
  try dsimp only at e
  try simp -implicitDefEqProofs (disch := first | assumption | exact Nat.le_of_ble_eq_true rfl | decide) only [b1778_0, g1778_2, b1778_2, g1778_6, b1778_6, g1778_7, b1778_7, g1778_8, b1778_8, pe_sipush, pe_istore1, pe_goto_w, pe_iload1, pe_icmp_ge, pe_aload0, pe_getfield, pe_bastore, pe_iinc1, pe_goto, pe_iaload, pe_istore2, pe_iload2, pe_iadd, pe_istore3, pe_iload3, pe_imul, pe_iinc3, pe_iinc2, pe_return, pm_prog_1, pm_ob_some, Nat.reduceDiv, Nat.reduceMod, Nat.reduceMul, Nat.reduceAdd, Int.reduceToNat, pm_kill_i, pm_kill_r, pm_kill_n, pm_kill_j, pm_kill_l, pm_kill_d, pm_cats_nil, pm_cats_i, pm_cats_r, pm_cats_n, pm_cats_l, pm_cats_d, sz_1, sz_2, sl_1, sl_2, lc_0, lc_lt, lc_le, li_ne, Int32.reduceOfInt, Int64.reduceOfInt, Int32.reduceOfNat, Int32.reduceLT, Int32.reduceLE, Prod.mk.injEq, Nat.reduceEqDiff, reduceCtorEq, and_true, true_and, and_false, false_and, and_self, ite_true, ite_false, ↓reduceIte, not_true_eq_false, not_false_eq_true, pe_ri, pe_rz, Ri_g45 hA, Ri_g36 hA, Ri_g37 hA, Ri_g39 hA, Ri_g38 hA, Ri_g40 hA, Ri_r37 hA, Ri_w37 hA, Ri_l37 hA, Ri_r38 hA, Ri_w38 hA, Ri_l38 hA, Ri_r39 hA, Ri_w39 hA, Ri_l39 hA, Ri_r40 hA, Ri_w40 hA, Ri_l40 hA, Ri_r45 hA, Ri_w45 hA, Ri_l45 hA]
  refine z1778_3 hA hD k2 ?_ _ _
  dsimp only [ex1778_3]
  intro q1 q2 q3
  have e := Option.some.inj e; subst e
  simp -implicitDefEqProofs (disch := first | assumption | exact Nat.le_of_ble_eq_true rfl | decide) only [b1778_0, g1778_2, b1778_2, g1778_6, b1778_6, g1778_7, b1778_7, g1778_8, b1778_8, pe_sipush, pe_istore1, pe_goto_w, pe_iload1, pe_icmp_ge, pe_aload0, pe_getfield, pe_bastore, pe_iinc1, pe_goto, pe_iaload, pe_istore2, pe_iload2, pe_iadd, pe_istore3, pe_iload3, pe_imul, pe_iinc3, pe_iinc2, pe_return, pm_prog_1, pm_ob_some, Nat.reduceDiv, Nat.reduceMod, Nat.reduceMul, Nat.reduceAdd, Int.reduceToNat, pm_kill_i, pm_kill_r, pm_kill_n, pm_kill_j, pm_kill_l, pm_kill_d, pm_cats_nil, pm_cats_i, pm_cats_r, pm_cats_n, pm_cats_l, pm_cats_d, sz_1, sz_2, sl_1, sl_2, lc_0, lc_lt, lc_le, li_ne, Int32.reduceOfInt, Int64.reduceOfInt, Int32.reduceOfNat, Int32.reduceLT, Int32.reduceLE, Prod.mk.injEq, Nat.reduceEqDiff, reduceCtorEq, and_true, true_and, and_false, false_and, and_self, ite_true, ite_false, ↓reduceIte, not_true_eq_false, not_false_eq_true, pe_ri, pe_rz, Ri_g45 hA, Ri_g36 hA, Ri_g37 hA, Ri_g39 hA, Ri_g38 hA, Ri_g40 hA, Ri_r37 hA, Ri_w37 hA, Ri_l37 hA, Ri_r38 hA, Ri_w38 hA, Ri_l38 hA, Ri_r39 hA, Ri_w39 hA, Ri_l39 hA, Ri_r40 hA, Ri_w40 hA, Ri_l40 hA, Ri_r45 hA, Ri_w45 hA, Ri_l45 hA]
/-- TimberHouseModel$Rips.begins(II)Z -/
theorem c1779 {d : Nat} {h : pm_H} {a : Nat} {x0 : Int32} {x1 : Int32} (hc : pm_cls h a = some 27) : pm_call pm_prog (d + 1) 1779 [.ref a, .int x0, .int x1] h = pm_ev pm_prog (pm_call pm_prog d) 1779 0 b1779_0 [.ref a, .int x0, .int x1] [] h := pm_cal (pm_rc1 hc rfl) rfl rfl rfl
theorem g1779_1 {cl : pm_C} {ls st : List Value} {h : pm_H} : pm_go pm_prog cl 1779 1 ls st h = pm_ev pm_prog cl 1779 1 b1779_1 ls st h := pm_go_eq pm_prog cl 1779 1 ls st h
theorem g1779_2 {cl : pm_C} {ls st : List Value} {h : pm_H} : pm_go pm_prog cl 1779 2 ls st h = pm_ev pm_prog cl 1779 2 b1779_2 ls st h := pm_go_eq pm_prog cl 1779 2 ls st h
theorem g1779_3 {cl : pm_C} {ls st : List Value} {h : pm_H} : pm_go pm_prog cl 1779 3 ls st h = pm_ev pm_prog cl 1779 3 b1779_3 ls st h := pm_go_eq pm_prog cl 1779 3 ls st h
/-- TimberHouseModel$Rips.begins(II)Z -/
noncomputable def f1779 (S : wS) (x1 : Int32) (x2 : Int32) : Option (Int32) :=
  if 0 ≤ ((24 * x2) + x1) ∧ ((24 * x2) + x1) < 240 then
    if (S.1 (46, 0, 0) ((24 * x2) + x1)) = 0 then
      if x1 = 0 then
        some 1
      else
        if 0 ≤ (((24 * x2) + x1) - 1) ∧ (((24 * x2) + x1) - 1) < 240 then
          if (S.1 (46, 0, 0) (((24 * x2) + x1) - 1)) = 0 then
            some 0
          else
            some 1
        else none
    else
      some 0
  else none
theorem x1779 {A : wK → Nat} {h : pm_H} {m D : Nat} {S : wS} {x1 : Int32} {x2 : Int32} {r : Int32} (hA : wok A Ri_d m) (hD : 1 ≤ D) (e : f1779 S x1 x2 = some r) : pm_call pm_prog D 1779 [.ref (A (0, 0, 0)), .int x1, .int x2] (wput A Ri_d S h) = some (.returned (some (.int r)), (wput A Ri_d S h)) := by
  obtain ⟨D, rfl⟩ : ∃ D', D = D' + 1 := ⟨D - 1, by omega⟩
  have hD : 0 ≤ D := by omega
  rw [c1779 (Ri_c hA), b1779_0]
  simp only [f1779] at e
  by_cases k1 : 0 ≤ ((24 * x2) + x1) ∧ ((24 * x2) + x1) < 240
  · rw [if_pos k1] at e
    by_cases k2 : (S.1 (46, 0, 0) ((24 * x2) + x1)) = 0
    · rw [if_pos k2] at e
      by_cases k3 : x1 = 0
      · rw [if_pos k3] at e
        have e := Option.some.inj e; subst e
        simp -implicitDefEqProofs (disch := first | assumption | exact Nat.le_of_ble_eq_true rfl | decide) only [b1779_0, g1779_1, b1779_1, g1779_2, b1779_2, g1779_3, b1779_3, pe_aload0, pe_getfield, pe_sipush, pe_iload2, pe_imul, pe_iload1, pe_iadd, pe_baload, pe_if_ne, pe_if_eq, pe_isub, pe_goto_w, pe_goto, pm_prog_1, pm_ob_some, Nat.reduceDiv, Nat.reduceMod, Nat.reduceMul, Nat.reduceAdd, Int.reduceToNat, pm_kill_i, pm_kill_r, pm_kill_n, pm_kill_j, pm_kill_l, pm_kill_d, pm_cats_nil, pm_cats_i, pm_cats_r, pm_cats_n, pm_cats_l, pm_cats_d, sz_1, sz_2, sl_1, sl_2, lc_0, lc_lt, lc_le, li_ne, Int32.reduceOfInt, Int64.reduceOfInt, Int32.reduceOfNat, Int32.reduceLT, Int32.reduceLE, Prod.mk.injEq, Nat.reduceEqDiff, reduceCtorEq, and_true, true_and, and_false, false_and, and_self, ite_true, ite_false, ↓reduceIte, not_true_eq_false, not_false_eq_true, pe_ri, pe_rz, Ri_g45 hA, Ri_r45 hA, Ri_w45 hA, Ri_l45 hA, eq_true k2, eq_true k3]
      · rw [if_neg k3] at e
        by_cases k4 : 0 ≤ (((24 * x2) + x1) - 1) ∧ (((24 * x2) + x1) - 1) < 240
        · rw [if_pos k4] at e
          by_cases k5 : (S.1 (46, 0, 0) (((24 * x2) + x1) - 1)) = 0
          · rw [if_pos k5] at e
            have e := Option.some.inj e; subst e
            simp -implicitDefEqProofs (disch := first | assumption | exact Nat.le_of_ble_eq_true rfl | decide) only [b1779_0, g1779_1, b1779_1, g1779_2, b1779_2, g1779_3, b1779_3, pe_aload0, pe_getfield, pe_sipush, pe_iload2, pe_imul, pe_iload1, pe_iadd, pe_baload, pe_if_ne, pe_if_eq, pe_isub, pe_goto_w, pe_goto, pm_prog_1, pm_ob_some, Nat.reduceDiv, Nat.reduceMod, Nat.reduceMul, Nat.reduceAdd, Int.reduceToNat, pm_kill_i, pm_kill_r, pm_kill_n, pm_kill_j, pm_kill_l, pm_kill_d, pm_cats_nil, pm_cats_i, pm_cats_r, pm_cats_n, pm_cats_l, pm_cats_d, sz_1, sz_2, sl_1, sl_2, lc_0, lc_lt, lc_le, li_ne, Int32.reduceOfInt, Int64.reduceOfInt, Int32.reduceOfNat, Int32.reduceLT, Int32.reduceLE, Prod.mk.injEq, Nat.reduceEqDiff, reduceCtorEq, and_true, true_and, and_false, false_and, and_self, ite_true, ite_false, ↓reduceIte, not_true_eq_false, not_false_eq_true, pe_ri, pe_rz, Ri_g45 hA, Ri_r45 hA, Ri_w45 hA, Ri_l45 hA, eq_true k2, eq_false k3, eq_true k5]
          · rw [if_neg k5] at e
            have e := Option.some.inj e; subst e
            simp -implicitDefEqProofs (disch := first | assumption | exact Nat.le_of_ble_eq_true rfl | decide) only [b1779_0, g1779_1, b1779_1, g1779_2, b1779_2, g1779_3, b1779_3, pe_aload0, pe_getfield, pe_sipush, pe_iload2, pe_imul, pe_iload1, pe_iadd, pe_baload, pe_if_ne, pe_if_eq, pe_isub, pe_goto_w, pe_goto, pm_prog_1, pm_ob_some, Nat.reduceDiv, Nat.reduceMod, Nat.reduceMul, Nat.reduceAdd, Int.reduceToNat, pm_kill_i, pm_kill_r, pm_kill_n, pm_kill_j, pm_kill_l, pm_kill_d, pm_cats_nil, pm_cats_i, pm_cats_r, pm_cats_n, pm_cats_l, pm_cats_d, sz_1, sz_2, sl_1, sl_2, lc_0, lc_lt, lc_le, li_ne, Int32.reduceOfInt, Int64.reduceOfInt, Int32.reduceOfNat, Int32.reduceLT, Int32.reduceLE, Prod.mk.injEq, Nat.reduceEqDiff, reduceCtorEq, and_true, true_and, and_false, false_and, and_self, ite_true, ite_false, ↓reduceIte, not_true_eq_false, not_false_eq_true, pe_ri, pe_rz, Ri_g45 hA, Ri_r45 hA, Ri_w45 hA, Ri_l45 hA, eq_true k2, eq_false k3, eq_false k5]
        · rw [if_neg k4] at e; cases e
    · rw [if_neg k2] at e
      have e := Option.some.inj e; subst e
      simp -implicitDefEqProofs (disch := first | assumption | exact Nat.le_of_ble_eq_true rfl | decide) only [b1779_0, g1779_1, b1779_1, g1779_2, b1779_2, g1779_3, b1779_3, pe_aload0, pe_getfield, pe_sipush, pe_iload2, pe_imul, pe_iload1, pe_iadd, pe_baload, pe_if_ne, pe_if_eq, pe_isub, pe_goto_w, pe_goto, pm_prog_1, pm_ob_some, Nat.reduceDiv, Nat.reduceMod, Nat.reduceMul, Nat.reduceAdd, Int.reduceToNat, pm_kill_i, pm_kill_r, pm_kill_n, pm_kill_j, pm_kill_l, pm_kill_d, pm_cats_nil, pm_cats_i, pm_cats_r, pm_cats_n, pm_cats_l, pm_cats_d, sz_1, sz_2, sl_1, sl_2, lc_0, lc_lt, lc_le, li_ne, Int32.reduceOfInt, Int64.reduceOfInt, Int32.reduceOfNat, Int32.reduceLT, Int32.reduceLE, Prod.mk.injEq, Nat.reduceEqDiff, reduceCtorEq, and_true, true_and, and_false, false_and, and_self, ite_true, ite_false, ↓reduceIte, not_true_eq_false, not_false_eq_true, pe_ri, pe_rz, Ri_g45 hA, Ri_r45 hA, Ri_w45 hA, Ri_l45 hA, eq_false k2]
  · rw [if_neg k1] at e; cases e
/-- TimberHouseModel$Rips.salvage(II)I -/
theorem c1777 {d : Nat} {h : pm_H} {a : Nat} {x0 : Int32} {x1 : Int32} (hc : pm_cls h a = some 27) : pm_call pm_prog (d + 1) 1777 [.ref a, .int x0, .int x1] h = pm_ev pm_prog (pm_call pm_prog d) 1777 0 b1777_0 [.ref a, .int x0, .int x1, pm_junk, pm_junk, pm_junk, pm_junk, pm_junk] [] h := pm_cal (pm_rc1 hc rfl) rfl rfl rfl
theorem g1777_1 {cl : pm_C} {ls st : List Value} {h : pm_H} : pm_go pm_prog cl 1777 1 ls st h = pm_ev pm_prog cl 1777 1 b1777_1 ls st h := pm_go_eq pm_prog cl 1777 1 ls st h
theorem g1777_2 {cl : pm_C} {ls st : List Value} {h : pm_H} : pm_go pm_prog cl 1777 2 ls st h = pm_ev pm_prog cl 1777 2 b1777_2 ls st h := pm_go_eq pm_prog cl 1777 2 ls st h
theorem g1777_3 {cl : pm_C} {ls st : List Value} {h : pm_H} : pm_go pm_prog cl 1777 3 ls st h = pm_ev pm_prog cl 1777 3 b1777_3 ls st h := pm_go_eq pm_prog cl 1777 3 ls st h
theorem g1777_4 {cl : pm_C} {ls st : List Value} {h : pm_H} : pm_go pm_prog cl 1777 4 ls st h = pm_ev pm_prog cl 1777 4 b1777_4 ls st h := pm_go_eq pm_prog cl 1777 4 ls st h
theorem g1777_5 {cl : pm_C} {ls st : List Value} {h : pm_H} : pm_go pm_prog cl 1777 5 ls st h = pm_ev pm_prog cl 1777 5 b1777_5 ls st h := pm_go_eq pm_prog cl 1777 5 ls st h
theorem g1777_6 {cl : pm_C} {ls st : List Value} {h : pm_H} : pm_go pm_prog cl 1777 6 ls st h = pm_ev pm_prog cl 1777 6 b1777_6 ls st h := pm_go_eq pm_prog cl 1777 6 ls st h
theorem g1777_7 {cl : pm_C} {ls st : List Value} {h : pm_H} : pm_go pm_prog cl 1777 7 ls st h = pm_ev pm_prog cl 1777 7 b1777_7 ls st h := pm_go_eq pm_prog cl 1777 7 ls st h
theorem g1777_8 {cl : pm_C} {ls st : List Value} {h : pm_H} : pm_go pm_prog cl 1777 8 ls st h = pm_ev pm_prog cl 1777 8 b1777_8 ls st h := pm_go_eq pm_prog cl 1777 8 ls st h
theorem g1777_9 {cl : pm_C} {ls st : List Value} {h : pm_H} : pm_go pm_prog cl 1777 9 ls st h = pm_ev pm_prog cl 1777 9 b1777_9 ls st h := pm_go_eq pm_prog cl 1777 9 ls st h
theorem g1777_10 {cl : pm_C} {ls st : List Value} {h : pm_H} : pm_go pm_prog cl 1777 10 ls st h = pm_ev pm_prog cl 1777 10 b1777_10 ls st h := pm_go_eq pm_prog cl 1777 10 ls st h
theorem g1777_11 {cl : pm_C} {ls st : List Value} {h : pm_H} : pm_go pm_prog cl 1777 11 ls st h = pm_ev pm_prog cl 1777 11 b1777_11 ls st h := pm_go_eq pm_prog cl 1777 11 ls st h
theorem g1777_12 {cl : pm_C} {ls st : List Value} {h : pm_H} : pm_go pm_prog cl 1777 12 ls st h = pm_ev pm_prog cl 1777 12 b1777_12 ls st h := pm_go_eq pm_prog cl 1777 12 ls st h
theorem g1777_13 {cl : pm_C} {ls st : List Value} {h : pm_H} : pm_go pm_prog cl 1777 13 ls st h = pm_ev pm_prog cl 1777 13 b1777_13 ls st h := pm_go_eq pm_prog cl 1777 13 ls st h
theorem g1777_14 {cl : pm_C} {ls st : List Value} {h : pm_H} : pm_go pm_prog cl 1777 14 ls st h = pm_ev pm_prog cl 1777 14 b1777_14 ls st h := pm_go_eq pm_prog cl 1777 14 ls st h
theorem g1777_15 {cl : pm_C} {ls st : List Value} {h : pm_H} : pm_go pm_prog cl 1777 15 ls st h = pm_ev pm_prog cl 1777 15 b1777_15 ls st h := pm_go_eq pm_prog cl 1777 15 ls st h
theorem g1777_16 {cl : pm_C} {ls st : List Value} {h : pm_H} : pm_go pm_prog cl 1777 16 ls st h = pm_ev pm_prog cl 1777 16 b1777_16 ls st h := pm_go_eq pm_prog cl 1777 16 ls st h
theorem g1777_17 {cl : pm_C} {ls st : List Value} {h : pm_H} : pm_go pm_prog cl 1777 17 ls st h = pm_ev pm_prog cl 1777 17 b1777_17 ls st h := pm_go_eq pm_prog cl 1777 17 ls st h
theorem g1777_18 {cl : pm_C} {ls st : List Value} {h : pm_H} : pm_go pm_prog cl 1777 18 ls st h = pm_ev pm_prog cl 1777 18 b1777_18 ls st h := pm_go_eq pm_prog cl 1777 18 ls st h
theorem g1777_19 {cl : pm_C} {ls st : List Value} {h : pm_H} : pm_go pm_prog cl 1777 19 ls st h = pm_ev pm_prog cl 1777 19 b1777_19 ls st h := pm_go_eq pm_prog cl 1777 19 ls st h
theorem g1777_20 {cl : pm_C} {ls st : List Value} {h : pm_H} : pm_go pm_prog cl 1777 20 ls st h = pm_ev pm_prog cl 1777 20 b1777_20 ls st h := pm_go_eq pm_prog cl 1777 20 ls st h
theorem g1777_21 {cl : pm_C} {ls st : List Value} {h : pm_H} : pm_go pm_prog cl 1777 21 ls st h = pm_ev pm_prog cl 1777 21 b1777_21 ls st h := pm_go_eq pm_prog cl 1777 21 ls st h
theorem g1777_22 {cl : pm_C} {ls st : List Value} {h : pm_H} : pm_go pm_prog cl 1777 22 ls st h = pm_ev pm_prog cl 1777 22 b1777_22 ls st h := pm_go_eq pm_prog cl 1777 22 ls st h
theorem g1777_23 {cl : pm_C} {ls st : List Value} {h : pm_H} : pm_go pm_prog cl 1777 23 ls st h = pm_ev pm_prog cl 1777 23 b1777_23 ls st h := pm_go_eq pm_prog cl 1777 23 ls st h
noncomputable def f1777_5_3 (S : wS) (x1 : Int32) (x2 : Int32) (x3 : Int32) (x5 : Int32) (x6 : Int32) (x7 : Int32) (y0 : Int32) : Option ((Int32 × Int32 × Int32 × Int32 × Int32 × Int32 × Int32) ⊕ ((Int32 × Int32 × Int32 × Int32 × Int32 × Int32))) :=
  if x3 = x1 then
    some (.inl (x1, x2, (x3 + 1), y0, x6, x6, (x7 + 1)))
  else
    some (.inl (x1, x2, (x3 + 1), y0, x5, x6, (x7 + 1)))
noncomputable def f1777_b3 (S : wS) : Int32 × Int32 × Int32 × Int32 × Int32 × Int32 × Int32 → Option ((Int32 × Int32 × Int32 × Int32 × Int32 × Int32 × Int32) ⊕ ((Int32 × Int32 × Int32 × Int32 × Int32 × Int32))) := fun (x1, x2, x3, x4, x5, x6, x7) =>
  if x7 < (S.1 (0, 0, 0) 2) then
    (f1779 S x7 x6).bind fun v4 =>
    if v4 = 0 then
      some (.inl (x1, x2, x3, x4, x5, x6, (x7 + 1)))
    else
      if x3 = x1 then
        f1777_5_3 S x1 x2 x3 x5 x6 x7 x7
      else
        f1777_5_3 S x1 x2 x3 x5 x6 x7 x4
  else
    some (.inr (x1, x2, x3, x4, x5, x6))
noncomputable def f1777_b2 (S : wS) : Int32 × Int32 × Int32 × Int32 × Int32 × Int32 → Option ((Int32 × Int32 × Int32 × Int32 × Int32 × Int32) ⊕ ((Int32 × Int32 × Int32 × Int32 × Int32))) := fun (x1, x2, x3, x4, x5, x6) =>
  if x6 < (S.1 (0, 0, 0) 3) then
    (lp (f1777_b3 S) FU (x1, x2, x3, x4, x5, x6, 0)).bind fun (v5, v6, v7, v8, v9, v10) =>
    some (.inl (v5, v6, v7, v8, v9, (v10 + 1)))
  else
    some (.inr (x1, x2, x3, x4, x5))
noncomputable def f1777_15 (S : wS) (x3 : Int32) : Option (Int32 × wS) :=
  if (S.1 (0, 0, 0) 0) ≤ 0 then
    some (x3, S)
  else
    some (0, S)
noncomputable def f1777_b19 (S : wS) : Int32 × Int32 × Int32 × Int32 → Option ((Int32 × Int32 × Int32 × Int32) ⊕ ((Int32 × Int32 × Int32 × Int32))) := fun (x2, x4, x5, x6) =>
  if x6 < (S.1 (0, 0, 0) 2) then
    if 0 ≤ ((24 * x5) + x6) ∧ ((24 * x5) + x6) < 240 then
      if (S.1 (46, 0, 0) ((24 * x5) + x6)) = 0 then
        some (.inl (x2, x4, x5, (x6 + 1)))
      else
        some (.inr (x2, x4, x5, x6))
    else none
  else
    some (.inr (x2, x4, x5, x6))
noncomputable def f1777_20 (S : wS) (x2 : Int32) (x4 : Int32) (x5 : Int32) (x6 : Int32) : Option (Int32 × wS) :=
  if x2 = 0 then
    some (x4, S)
  else
    if x2 = 1 then
      some (x5, S)
    else
      some ((x6 - x4), S)
noncomputable def f1777_14 (S : wS) (x1 : Int32) (x2 : Int32) (x3 : Int32) (x4 : Int32) (x5 : Int32) (y1 : Int32) : Option (Int32 × wS) :=
  if y1 ≤ 0 then
    if x1 = (-1) then
      f1777_15 (sz S (0, 0, 0) 0 y1) x3
    else
      (lp (f1777_b19 (sz S (0, 0, 0) 0 y1)) FU (x2, x4, x5, x4)).bind fun (v16, v17, v18, v19) =>
      f1777_20 (sz S (0, 0, 0) 0 y1) v16 v17 v18 v19
  else
    f1777_15 (sz S (0, 0, 0) 0 y1) x3
/-- TimberHouseModel$Rips.salvage(II)I -/
noncomputable def f1777 (S : wS) (x1 : Int32) (x2 : Int32) : Option (Int32 × wS) :=
  (f1772 S).bind fun (v1, S2) =>
  if v1 = 0 then
    (f1778 S2).bind fun S3 =>
    (lp (f1777_b2 S3) FU (x1, x2, 0, 0, 0, 0)).bind fun (v11, v12, v13, v14, v15) =>
    if v11 < (-1) then
      f1777_14 S3 v11 v12 v13 v14 v15 2
    else
      if v11 < v13 then
        (f1731 (Int32.toInt64 v12) 0 2).bind fun v20 =>
        if v20 = 0 then
          f1777_14 S3 v11 v12 v13 v14 v15 3
        else
          f1777_14 S3 v11 v12 v13 v14 v15 0
      else
        f1777_14 S3 v11 v12 v13 v14 v15 2
  else
    some (0, S2)
def go1777_3 (A : wK → Nat) (h : pm_H) (D : Nat) (R : Outcome × pm_H) (S : wS) : Int32 × Int32 × Int32 × Int32 × Int32 × Int32 × Int32 → Prop := fun (x1, x2, x3, x4, x5, x6, x7) => pm_go pm_prog (pm_call pm_prog D) 1777 3 [.ref (A (0, 0, 0)), .int x1, .int x2, .int x3, .int x4, .int x5, .int x6, .int x7] [] (wput A Ri_d S h) = some R
def ex1777_3 (A : wK → Nat) (h : pm_H) (D : Nat) (R : Outcome × pm_H) (S : wS) : (Int32 × Int32 × Int32 × Int32 × Int32 × Int32) → Prop := fun (x1, x2, x3, x4, x5, x6) => ∀ q7 : Value, pm_go pm_prog (pm_call pm_prog D) 1777 9 [.ref (A (0, 0, 0)), .int x1, .int x2, .int x3, .int x4, .int x5, .int x6, q7] [] (wput A Ri_d S h) = some R
theorem y1777_5_3 {A : wK → Nat} {h : pm_H} {m D : Nat} {R : Outcome × pm_H} {S : wS} {x1 : Int32} {x2 : Int32} {x3 : Int32} {x5 : Int32} {x6 : Int32} {x7 : Int32} {y0 : Int32} {r : (Int32 × Int32 × Int32 × Int32 × Int32 × Int32 × Int32) ⊕ ((Int32 × Int32 × Int32 × Int32 × Int32 × Int32))} (hA : wok A Ri_d m) (hD : 1 ≤ D) (e : f1777_5_3 S x1 x2 x3 x5 x6 x7 y0 = some r) (hc : Sum.elim (go1777_3 A h D R S) (ex1777_3 A h D R S) r) : ∀ q4 : Value, pm_go pm_prog (pm_call pm_prog D) 1777 5 [.ref (A (0, 0, 0)), .int x1, .int x2, .int x3, q4, .int x5, .int x6, .int x7] [.int y0] (wput A Ri_d S h) = some R := by
  intro q4
  simp only [f1777_5_3] at e
  rw [g1777_5, b1777_5]
  by_cases k1 : x3 = x1
  · rw [if_pos k1] at e
    have e := Option.some.inj e; subst e
    dsimp only [Sum.elim_inl, go1777_3] at hc
    simp -implicitDefEqProofs (disch := first | assumption | exact Nat.le_of_ble_eq_true rfl | decide) only [b1777_0, g1777_1, b1777_1, g1777_4, b1777_4, g1777_6, b1777_6, g1777_7, b1777_7, g1777_8, b1777_8, g1777_9, b1777_9, g1777_10, b1777_10, g1777_11, b1777_11, g1777_12, b1777_12, g1777_13, b1777_13, g1777_16, b1777_16, g1777_17, b1777_17, g1777_18, b1777_18, g1777_21, b1777_21, g1777_22, b1777_22, g1777_23, b1777_23, pe_aload0, pe_call1, pm_af_ret, pm_af_void, pm_af_thr, pe_if_eq, pe_sipush, pe_istore3, pe_istore4, pe_istore5, pe_istore6, pe_goto_w, pe_iload6, pe_getfield, pe_icmp_ge, pe_istore7, pe_iload7, pe_call3, pe_iload3, pe_iload1, pe_icmp_ne, pe_goto, pe_iload4, pe_iload5, pe_iinc3, pe_iinc7, pe_iinc6, pe_icmp_lt, pe_iload2, pe_i2l, pe_bipush, pe_putfield, pe_if_gt, pe_if_le, pe_imul, pe_iadd, pe_baload, pe_if_ne, pe_isub, pm_prog_1, pm_ob_some, Nat.reduceDiv, Nat.reduceMod, Nat.reduceMul, Nat.reduceAdd, Int.reduceToNat, pm_kill_i, pm_kill_r, pm_kill_n, pm_kill_j, pm_kill_l, pm_kill_d, pm_cats_nil, pm_cats_i, pm_cats_r, pm_cats_n, pm_cats_l, pm_cats_d, sz_1, sz_2, sl_1, sl_2, lc_0, lc_lt, lc_le, li_ne, Int32.reduceOfInt, Int64.reduceOfInt, Int32.reduceOfNat, Int32.reduceLT, Int32.reduceLE, Prod.mk.injEq, Nat.reduceEqDiff, reduceCtorEq, and_true, true_and, and_false, false_and, and_self, ite_true, ite_false, ↓reduceIte, not_true_eq_false, not_false_eq_true, pe_ri, pe_rz, Ri_g3 hA, Ri_g2 hA, Ri_p0 hA, Ri_g0 hA, Ri_g45 hA, Ri_r45 hA, Ri_w45 hA, Ri_l45 hA, eq_true k1, hc]
  · rw [if_neg k1] at e
    have e := Option.some.inj e; subst e
    dsimp only [Sum.elim_inl, go1777_3] at hc
    simp -implicitDefEqProofs (disch := first | assumption | exact Nat.le_of_ble_eq_true rfl | decide) only [b1777_0, g1777_1, b1777_1, g1777_4, b1777_4, g1777_6, b1777_6, g1777_7, b1777_7, g1777_8, b1777_8, g1777_9, b1777_9, g1777_10, b1777_10, g1777_11, b1777_11, g1777_12, b1777_12, g1777_13, b1777_13, g1777_16, b1777_16, g1777_17, b1777_17, g1777_18, b1777_18, g1777_21, b1777_21, g1777_22, b1777_22, g1777_23, b1777_23, pe_aload0, pe_call1, pm_af_ret, pm_af_void, pm_af_thr, pe_if_eq, pe_sipush, pe_istore3, pe_istore4, pe_istore5, pe_istore6, pe_goto_w, pe_iload6, pe_getfield, pe_icmp_ge, pe_istore7, pe_iload7, pe_call3, pe_iload3, pe_iload1, pe_icmp_ne, pe_goto, pe_iload4, pe_iload5, pe_iinc3, pe_iinc7, pe_iinc6, pe_icmp_lt, pe_iload2, pe_i2l, pe_bipush, pe_putfield, pe_if_gt, pe_if_le, pe_imul, pe_iadd, pe_baload, pe_if_ne, pe_isub, pm_prog_1, pm_ob_some, Nat.reduceDiv, Nat.reduceMod, Nat.reduceMul, Nat.reduceAdd, Int.reduceToNat, pm_kill_i, pm_kill_r, pm_kill_n, pm_kill_j, pm_kill_l, pm_kill_d, pm_cats_nil, pm_cats_i, pm_cats_r, pm_cats_n, pm_cats_l, pm_cats_d, sz_1, sz_2, sl_1, sl_2, lc_0, lc_lt, lc_le, li_ne, Int32.reduceOfInt, Int64.reduceOfInt, Int32.reduceOfNat, Int32.reduceLT, Int32.reduceLE, Prod.mk.injEq, Nat.reduceEqDiff, reduceCtorEq, and_true, true_and, and_false, false_and, and_self, ite_true, ite_false, ↓reduceIte, not_true_eq_false, not_false_eq_true, pe_ri, pe_rz, Ri_g3 hA, Ri_g2 hA, Ri_p0 hA, Ri_g0 hA, Ri_g45 hA, Ri_r45 hA, Ri_w45 hA, Ri_l45 hA, eq_false k1, hc]
theorem y1777_b3 {A : wK → Nat} {h : pm_H} {m D : Nat} {R : Outcome × pm_H} {S : wS} (hA : wok A Ri_d m) (hD : 1 ≤ D) (a : Int32 × Int32 × Int32 × Int32 × Int32 × Int32 × Int32) (r : (Int32 × Int32 × Int32 × Int32 × Int32 × Int32 × Int32) ⊕ ((Int32 × Int32 × Int32 × Int32 × Int32 × Int32))) (e : f1777_b3 S a = some r) (hc : Sum.elim (go1777_3 A h D R S) (ex1777_3 A h D R S) r) : go1777_3 A h D R S a := by
  obtain ⟨x1, x2, x3, x4, x5, x6, x7⟩ := a
  dsimp only [go1777_3]
  simp only [f1777_b3] at e
  rw [g1777_3, b1777_3]
  by_cases k1 : x7 < (S.1 (0, 0, 0) 2)
  · rw [if_pos k1] at e
    obtain ⟨v4, k2, e⟩ := Option.bind_eq_some_iff.mp e
    try dsimp only at e
    have z2 := x1779 (D := D) (h := h) hA (by omega) k2
    by_cases k3 : v4 = 0
    · rw [if_pos k3] at e
      have e := Option.some.inj e; subst e
      dsimp only [Sum.elim_inl, go1777_3] at hc
      simp -implicitDefEqProofs (disch := first | assumption | exact Nat.le_of_ble_eq_true rfl | decide) only [b1777_0, g1777_1, b1777_1, g1777_4, b1777_4, g1777_6, b1777_6, g1777_7, b1777_7, g1777_8, b1777_8, g1777_9, b1777_9, g1777_10, b1777_10, g1777_11, b1777_11, g1777_12, b1777_12, g1777_13, b1777_13, g1777_16, b1777_16, g1777_17, b1777_17, g1777_18, b1777_18, g1777_21, b1777_21, g1777_22, b1777_22, g1777_23, b1777_23, pe_aload0, pe_call1, pm_af_ret, pm_af_void, pm_af_thr, pe_if_eq, pe_sipush, pe_istore3, pe_istore4, pe_istore5, pe_istore6, pe_goto_w, pe_iload6, pe_getfield, pe_icmp_ge, pe_istore7, pe_iload7, pe_call3, pe_iload3, pe_iload1, pe_icmp_ne, pe_goto, pe_iload4, pe_iload5, pe_iinc3, pe_iinc7, pe_iinc6, pe_icmp_lt, pe_iload2, pe_i2l, pe_bipush, pe_putfield, pe_if_gt, pe_if_le, pe_imul, pe_iadd, pe_baload, pe_if_ne, pe_isub, pm_prog_1, pm_ob_some, Nat.reduceDiv, Nat.reduceMod, Nat.reduceMul, Nat.reduceAdd, Int.reduceToNat, pm_kill_i, pm_kill_r, pm_kill_n, pm_kill_j, pm_kill_l, pm_kill_d, pm_cats_nil, pm_cats_i, pm_cats_r, pm_cats_n, pm_cats_l, pm_cats_d, sz_1, sz_2, sl_1, sl_2, lc_0, lc_lt, lc_le, li_ne, Int32.reduceOfInt, Int64.reduceOfInt, Int32.reduceOfNat, Int32.reduceLT, Int32.reduceLE, Prod.mk.injEq, Nat.reduceEqDiff, reduceCtorEq, and_true, true_and, and_false, false_and, and_self, ite_true, ite_false, ↓reduceIte, not_true_eq_false, not_false_eq_true, pe_ri, pe_rz, Ri_g3 hA, Ri_g2 hA, Ri_p0 hA, Ri_g0 hA, Ri_g45 hA, Ri_r45 hA, Ri_w45 hA, Ri_l45 hA, eq_true k1, z2, eq_true k3, hc]
    · rw [if_neg k3] at e
      by_cases k4 : x3 = x1
      · rw [if_pos k4] at e
        have k5 := y1777_5_3 (h := h) hA hD e hc
        simp -implicitDefEqProofs (disch := first | assumption | exact Nat.le_of_ble_eq_true rfl | decide) only [b1777_0, g1777_1, b1777_1, g1777_4, b1777_4, g1777_6, b1777_6, g1777_7, b1777_7, g1777_8, b1777_8, g1777_9, b1777_9, g1777_10, b1777_10, g1777_11, b1777_11, g1777_12, b1777_12, g1777_13, b1777_13, g1777_16, b1777_16, g1777_17, b1777_17, g1777_18, b1777_18, g1777_21, b1777_21, g1777_22, b1777_22, g1777_23, b1777_23, pe_aload0, pe_call1, pm_af_ret, pm_af_void, pm_af_thr, pe_if_eq, pe_sipush, pe_istore3, pe_istore4, pe_istore5, pe_istore6, pe_goto_w, pe_iload6, pe_getfield, pe_icmp_ge, pe_istore7, pe_iload7, pe_call3, pe_iload3, pe_iload1, pe_icmp_ne, pe_goto, pe_iload4, pe_iload5, pe_iinc3, pe_iinc7, pe_iinc6, pe_icmp_lt, pe_iload2, pe_i2l, pe_bipush, pe_putfield, pe_if_gt, pe_if_le, pe_imul, pe_iadd, pe_baload, pe_if_ne, pe_isub, pm_prog_1, pm_ob_some, Nat.reduceDiv, Nat.reduceMod, Nat.reduceMul, Nat.reduceAdd, Int.reduceToNat, pm_kill_i, pm_kill_r, pm_kill_n, pm_kill_j, pm_kill_l, pm_kill_d, pm_cats_nil, pm_cats_i, pm_cats_r, pm_cats_n, pm_cats_l, pm_cats_d, sz_1, sz_2, sl_1, sl_2, lc_0, lc_lt, lc_le, li_ne, Int32.reduceOfInt, Int64.reduceOfInt, Int32.reduceOfNat, Int32.reduceLT, Int32.reduceLE, Prod.mk.injEq, Nat.reduceEqDiff, reduceCtorEq, and_true, true_and, and_false, false_and, and_self, ite_true, ite_false, ↓reduceIte, not_true_eq_false, not_false_eq_true, pe_ri, pe_rz, Ri_g3 hA, Ri_g2 hA, Ri_p0 hA, Ri_g0 hA, Ri_g45 hA, Ri_r45 hA, Ri_w45 hA, Ri_l45 hA, eq_true k1, z2, eq_false k3, eq_true k4, k5]
      · rw [if_neg k4] at e
        have k6 := y1777_5_3 (h := h) hA hD e hc
        simp -implicitDefEqProofs (disch := first | assumption | exact Nat.le_of_ble_eq_true rfl | decide) only [b1777_0, g1777_1, b1777_1, g1777_4, b1777_4, g1777_6, b1777_6, g1777_7, b1777_7, g1777_8, b1777_8, g1777_9, b1777_9, g1777_10, b1777_10, g1777_11, b1777_11, g1777_12, b1777_12, g1777_13, b1777_13, g1777_16, b1777_16, g1777_17, b1777_17, g1777_18, b1777_18, g1777_21, b1777_21, g1777_22, b1777_22, g1777_23, b1777_23, pe_aload0, pe_call1, pm_af_ret, pm_af_void, pm_af_thr, pe_if_eq, pe_sipush, pe_istore3, pe_istore4, pe_istore5, pe_istore6, pe_goto_w, pe_iload6, pe_getfield, pe_icmp_ge, pe_istore7, pe_iload7, pe_call3, pe_iload3, pe_iload1, pe_icmp_ne, pe_goto, pe_iload4, pe_iload5, pe_iinc3, pe_iinc7, pe_iinc6, pe_icmp_lt, pe_iload2, pe_i2l, pe_bipush, pe_putfield, pe_if_gt, pe_if_le, pe_imul, pe_iadd, pe_baload, pe_if_ne, pe_isub, pm_prog_1, pm_ob_some, Nat.reduceDiv, Nat.reduceMod, Nat.reduceMul, Nat.reduceAdd, Int.reduceToNat, pm_kill_i, pm_kill_r, pm_kill_n, pm_kill_j, pm_kill_l, pm_kill_d, pm_cats_nil, pm_cats_i, pm_cats_r, pm_cats_n, pm_cats_l, pm_cats_d, sz_1, sz_2, sl_1, sl_2, lc_0, lc_lt, lc_le, li_ne, Int32.reduceOfInt, Int64.reduceOfInt, Int32.reduceOfNat, Int32.reduceLT, Int32.reduceLE, Prod.mk.injEq, Nat.reduceEqDiff, reduceCtorEq, and_true, true_and, and_false, false_and, and_self, ite_true, ite_false, ↓reduceIte, not_true_eq_false, not_false_eq_true, pe_ri, pe_rz, Ri_g3 hA, Ri_g2 hA, Ri_p0 hA, Ri_g0 hA, Ri_g45 hA, Ri_r45 hA, Ri_w45 hA, Ri_l45 hA, eq_true k1, z2, eq_false k3, eq_false k4, k6]
  · rw [if_neg k1] at e
    have e := Option.some.inj e; subst e
    dsimp only [Sum.elim_inr, ex1777_3] at hc
    simp -implicitDefEqProofs (disch := first | assumption | exact Nat.le_of_ble_eq_true rfl | decide) only [b1777_0, g1777_1, b1777_1, g1777_4, b1777_4, g1777_6, b1777_6, g1777_7, b1777_7, g1777_8, b1777_8, g1777_9, b1777_9, g1777_10, b1777_10, g1777_11, b1777_11, g1777_12, b1777_12, g1777_13, b1777_13, g1777_16, b1777_16, g1777_17, b1777_17, g1777_18, b1777_18, g1777_21, b1777_21, g1777_22, b1777_22, g1777_23, b1777_23, pe_aload0, pe_call1, pm_af_ret, pm_af_void, pm_af_thr, pe_if_eq, pe_sipush, pe_istore3, pe_istore4, pe_istore5, pe_istore6, pe_goto_w, pe_iload6, pe_getfield, pe_icmp_ge, pe_istore7, pe_iload7, pe_call3, pe_iload3, pe_iload1, pe_icmp_ne, pe_goto, pe_iload4, pe_iload5, pe_iinc3, pe_iinc7, pe_iinc6, pe_icmp_lt, pe_iload2, pe_i2l, pe_bipush, pe_putfield, pe_if_gt, pe_if_le, pe_imul, pe_iadd, pe_baload, pe_if_ne, pe_isub, pm_prog_1, pm_ob_some, Nat.reduceDiv, Nat.reduceMod, Nat.reduceMul, Nat.reduceAdd, Int.reduceToNat, pm_kill_i, pm_kill_r, pm_kill_n, pm_kill_j, pm_kill_l, pm_kill_d, pm_cats_nil, pm_cats_i, pm_cats_r, pm_cats_n, pm_cats_l, pm_cats_d, sz_1, sz_2, sl_1, sl_2, lc_0, lc_lt, lc_le, li_ne, Int32.reduceOfInt, Int64.reduceOfInt, Int32.reduceOfNat, Int32.reduceLT, Int32.reduceLE, Prod.mk.injEq, Nat.reduceEqDiff, reduceCtorEq, and_true, true_and, and_false, false_and, and_self, ite_true, ite_false, ↓reduceIte, not_true_eq_false, not_false_eq_true, pe_ri, pe_rz, Ri_g3 hA, Ri_g2 hA, Ri_p0 hA, Ri_g0 hA, Ri_g45 hA, Ri_r45 hA, Ri_w45 hA, Ri_l45 hA, eq_false k1, hc]
theorem z1777_3 {A : wK → Nat} {h : pm_H} {m D : Nat} {R : Outcome × pm_H} {S : wS} (hA : wok A Ri_d m) (hD : 1 ≤ D) {n : Nat} {a : Int32 × Int32 × Int32 × Int32 × Int32 × Int32 × Int32} {b : (Int32 × Int32 × Int32 × Int32 × Int32 × Int32)} (e : lp (f1777_b3 S) n a = some b) (hx : ex1777_3 A h D R S b) : go1777_3 A h D R S a := lp_run (fun a r => y1777_b3 hA hD a r) n a b e hx
def go1777_2 (A : wK → Nat) (h : pm_H) (D : Nat) (R : Outcome × pm_H) (S : wS) : Int32 × Int32 × Int32 × Int32 × Int32 × Int32 → Prop := fun (x1, x2, x3, x4, x5, x6) => ∀ q7 : Value, pm_go pm_prog (pm_call pm_prog D) 1777 2 [.ref (A (0, 0, 0)), .int x1, .int x2, .int x3, .int x4, .int x5, .int x6, q7] [] (wput A Ri_d S h) = some R
def ex1777_2 (A : wK → Nat) (h : pm_H) (D : Nat) (R : Outcome × pm_H) (S : wS) : (Int32 × Int32 × Int32 × Int32 × Int32) → Prop := fun (x1, x2, x3, x4, x5) => ∀ q6 q7 : Value, pm_go pm_prog (pm_call pm_prog D) 1777 10 [.ref (A (0, 0, 0)), .int x1, .int x2, .int x3, .int x4, .int x5, q6, q7] [] (wput A Ri_d S h) = some R
theorem y1777_b2 {A : wK → Nat} {h : pm_H} {m D : Nat} {R : Outcome × pm_H} {S : wS} (hA : wok A Ri_d m) (hD : 1 ≤ D) (a : Int32 × Int32 × Int32 × Int32 × Int32 × Int32) (r : (Int32 × Int32 × Int32 × Int32 × Int32 × Int32) ⊕ ((Int32 × Int32 × Int32 × Int32 × Int32))) (e : f1777_b2 S a = some r) (hc : Sum.elim (go1777_2 A h D R S) (ex1777_2 A h D R S) r) : go1777_2 A h D R S a := by
  obtain ⟨x1, x2, x3, x4, x5, x6⟩ := a
  dsimp only [go1777_2]
  intro q7
  simp only [f1777_b2] at e
  rw [g1777_2, b1777_2]
  by_cases k1 : x6 < (S.1 (0, 0, 0) 3)
  · rw [if_pos k1] at e
    obtain ⟨⟨v5, v6, v7, v8, v9, v10⟩, k2, e⟩ := Option.bind_eq_some_iff.mp e
    try dsimp only at e
    try simp -implicitDefEqProofs (disch := first | assumption | exact Nat.le_of_ble_eq_true rfl | decide) only [b1777_0, g1777_1, b1777_1, g1777_4, b1777_4, g1777_6, b1777_6, g1777_7, b1777_7, g1777_8, b1777_8, g1777_9, b1777_9, g1777_10, b1777_10, g1777_11, b1777_11, g1777_12, b1777_12, g1777_13, b1777_13, g1777_16, b1777_16, g1777_17, b1777_17, g1777_18, b1777_18, g1777_21, b1777_21, g1777_22, b1777_22, g1777_23, b1777_23, pe_aload0, pe_call1, pm_af_ret, pm_af_void, pm_af_thr, pe_if_eq, pe_sipush, pe_istore3, pe_istore4, pe_istore5, pe_istore6, pe_goto_w, pe_iload6, pe_getfield, pe_icmp_ge, pe_istore7, pe_iload7, pe_call3, pe_iload3, pe_iload1, pe_icmp_ne, pe_goto, pe_iload4, pe_iload5, pe_iinc3, pe_iinc7, pe_iinc6, pe_icmp_lt, pe_iload2, pe_i2l, pe_bipush, pe_putfield, pe_if_gt, pe_if_le, pe_imul, pe_iadd, pe_baload, pe_if_ne, pe_isub, pm_prog_1, pm_ob_some, Nat.reduceDiv, Nat.reduceMod, Nat.reduceMul, Nat.reduceAdd, Int.reduceToNat, pm_kill_i, pm_kill_r, pm_kill_n, pm_kill_j, pm_kill_l, pm_kill_d, pm_cats_nil, pm_cats_i, pm_cats_r, pm_cats_n, pm_cats_l, pm_cats_d, sz_1, sz_2, sl_1, sl_2, lc_0, lc_lt, lc_le, li_ne, Int32.reduceOfInt, Int64.reduceOfInt, Int32.reduceOfNat, Int32.reduceLT, Int32.reduceLE, Prod.mk.injEq, Nat.reduceEqDiff, reduceCtorEq, and_true, true_and, and_false, false_and, and_self, ite_true, ite_false, ↓reduceIte, not_true_eq_false, not_false_eq_true, pe_ri, pe_rz, Ri_g3 hA, Ri_g2 hA, Ri_p0 hA, Ri_g0 hA, Ri_g45 hA, Ri_r45 hA, Ri_w45 hA, Ri_l45 hA, eq_true k1]
    refine z1777_3 hA hD k2 ?_
    dsimp only [ex1777_3]
    intro q7
    have e := Option.some.inj e; subst e
    dsimp only [Sum.elim_inl, go1777_2] at hc
    simp -implicitDefEqProofs (disch := first | assumption | exact Nat.le_of_ble_eq_true rfl | decide) only [b1777_0, g1777_1, b1777_1, g1777_4, b1777_4, g1777_6, b1777_6, g1777_7, b1777_7, g1777_8, b1777_8, g1777_9, b1777_9, g1777_10, b1777_10, g1777_11, b1777_11, g1777_12, b1777_12, g1777_13, b1777_13, g1777_16, b1777_16, g1777_17, b1777_17, g1777_18, b1777_18, g1777_21, b1777_21, g1777_22, b1777_22, g1777_23, b1777_23, pe_aload0, pe_call1, pm_af_ret, pm_af_void, pm_af_thr, pe_if_eq, pe_sipush, pe_istore3, pe_istore4, pe_istore5, pe_istore6, pe_goto_w, pe_iload6, pe_getfield, pe_icmp_ge, pe_istore7, pe_iload7, pe_call3, pe_iload3, pe_iload1, pe_icmp_ne, pe_goto, pe_iload4, pe_iload5, pe_iinc3, pe_iinc7, pe_iinc6, pe_icmp_lt, pe_iload2, pe_i2l, pe_bipush, pe_putfield, pe_if_gt, pe_if_le, pe_imul, pe_iadd, pe_baload, pe_if_ne, pe_isub, pm_prog_1, pm_ob_some, Nat.reduceDiv, Nat.reduceMod, Nat.reduceMul, Nat.reduceAdd, Int.reduceToNat, pm_kill_i, pm_kill_r, pm_kill_n, pm_kill_j, pm_kill_l, pm_kill_d, pm_cats_nil, pm_cats_i, pm_cats_r, pm_cats_n, pm_cats_l, pm_cats_d, sz_1, sz_2, sl_1, sl_2, lc_0, lc_lt, lc_le, li_ne, Int32.reduceOfInt, Int64.reduceOfInt, Int32.reduceOfNat, Int32.reduceLT, Int32.reduceLE, Prod.mk.injEq, Nat.reduceEqDiff, reduceCtorEq, and_true, true_and, and_false, false_and, and_self, ite_true, ite_false, ↓reduceIte, not_true_eq_false, not_false_eq_true, pe_ri, pe_rz, Ri_g3 hA, Ri_g2 hA, Ri_p0 hA, Ri_g0 hA, Ri_g45 hA, Ri_r45 hA, Ri_w45 hA, Ri_l45 hA, eq_true k1, hc]
  · rw [if_neg k1] at e
    have e := Option.some.inj e; subst e
    dsimp only [Sum.elim_inr, ex1777_2] at hc
    simp -implicitDefEqProofs (disch := first | assumption | exact Nat.le_of_ble_eq_true rfl | decide) only [b1777_0, g1777_1, b1777_1, g1777_4, b1777_4, g1777_6, b1777_6, g1777_7, b1777_7, g1777_8, b1777_8, g1777_9, b1777_9, g1777_10, b1777_10, g1777_11, b1777_11, g1777_12, b1777_12, g1777_13, b1777_13, g1777_16, b1777_16, g1777_17, b1777_17, g1777_18, b1777_18, g1777_21, b1777_21, g1777_22, b1777_22, g1777_23, b1777_23, pe_aload0, pe_call1, pm_af_ret, pm_af_void, pm_af_thr, pe_if_eq, pe_sipush, pe_istore3, pe_istore4, pe_istore5, pe_istore6, pe_goto_w, pe_iload6, pe_getfield, pe_icmp_ge, pe_istore7, pe_iload7, pe_call3, pe_iload3, pe_iload1, pe_icmp_ne, pe_goto, pe_iload4, pe_iload5, pe_iinc3, pe_iinc7, pe_iinc6, pe_icmp_lt, pe_iload2, pe_i2l, pe_bipush, pe_putfield, pe_if_gt, pe_if_le, pe_imul, pe_iadd, pe_baload, pe_if_ne, pe_isub, pm_prog_1, pm_ob_some, Nat.reduceDiv, Nat.reduceMod, Nat.reduceMul, Nat.reduceAdd, Int.reduceToNat, pm_kill_i, pm_kill_r, pm_kill_n, pm_kill_j, pm_kill_l, pm_kill_d, pm_cats_nil, pm_cats_i, pm_cats_r, pm_cats_n, pm_cats_l, pm_cats_d, sz_1, sz_2, sl_1, sl_2, lc_0, lc_lt, lc_le, li_ne, Int32.reduceOfInt, Int64.reduceOfInt, Int32.reduceOfNat, Int32.reduceLT, Int32.reduceLE, Prod.mk.injEq, Nat.reduceEqDiff, reduceCtorEq, and_true, true_and, and_false, false_and, and_self, ite_true, ite_false, ↓reduceIte, not_true_eq_false, not_false_eq_true, pe_ri, pe_rz, Ri_g3 hA, Ri_g2 hA, Ri_p0 hA, Ri_g0 hA, Ri_g45 hA, Ri_r45 hA, Ri_w45 hA, Ri_l45 hA, eq_false k1, hc]
theorem z1777_2 {A : wK → Nat} {h : pm_H} {m D : Nat} {R : Outcome × pm_H} {S : wS} (hA : wok A Ri_d m) (hD : 1 ≤ D) {n : Nat} {a : Int32 × Int32 × Int32 × Int32 × Int32 × Int32} {b : (Int32 × Int32 × Int32 × Int32 × Int32)} (e : lp (f1777_b2 S) n a = some b) (hx : ex1777_2 A h D R S b) : go1777_2 A h D R S a := lp_run (fun a r => y1777_b2 hA hD a r) n a b e hx
theorem y1777_15 {A : wK → Nat} {h : pm_H} {m D : Nat} {S : wS} {x3 : Int32} {r : Int32 × wS} (hA : wok A Ri_d m) (hD : 1 ≤ D) (e : f1777_15 S x3 = some r) : ∀ q1 q2 q4 q5 q6 q7 : Value, pm_go pm_prog (pm_call pm_prog D) 1777 15 [.ref (A (0, 0, 0)), q1, q2, .int x3, q4, q5, q6, q7] [] (wput A Ri_d S h) = some (.returned (some (.int r.1)), (wput A Ri_d r.2 h)) := by
  intro q1 q2 q4 q5 q6 q7
  simp only [f1777_15] at e
  rw [g1777_15, b1777_15]
  by_cases k1 : (S.1 (0, 0, 0) 0) ≤ 0
  · rw [if_pos k1] at e
    have e := Option.some.inj e; subst e
    simp -implicitDefEqProofs (disch := first | assumption | exact Nat.le_of_ble_eq_true rfl | decide) only [b1777_0, g1777_1, b1777_1, g1777_4, b1777_4, g1777_6, b1777_6, g1777_7, b1777_7, g1777_8, b1777_8, g1777_9, b1777_9, g1777_10, b1777_10, g1777_11, b1777_11, g1777_12, b1777_12, g1777_13, b1777_13, g1777_16, b1777_16, g1777_17, b1777_17, g1777_18, b1777_18, g1777_21, b1777_21, g1777_22, b1777_22, g1777_23, b1777_23, pe_aload0, pe_call1, pm_af_ret, pm_af_void, pm_af_thr, pe_if_eq, pe_sipush, pe_istore3, pe_istore4, pe_istore5, pe_istore6, pe_goto_w, pe_iload6, pe_getfield, pe_icmp_ge, pe_istore7, pe_iload7, pe_call3, pe_iload3, pe_iload1, pe_icmp_ne, pe_goto, pe_iload4, pe_iload5, pe_iinc3, pe_iinc7, pe_iinc6, pe_icmp_lt, pe_iload2, pe_i2l, pe_bipush, pe_putfield, pe_if_gt, pe_if_le, pe_imul, pe_iadd, pe_baload, pe_if_ne, pe_isub, pm_prog_1, pm_ob_some, Nat.reduceDiv, Nat.reduceMod, Nat.reduceMul, Nat.reduceAdd, Int.reduceToNat, pm_kill_i, pm_kill_r, pm_kill_n, pm_kill_j, pm_kill_l, pm_kill_d, pm_cats_nil, pm_cats_i, pm_cats_r, pm_cats_n, pm_cats_l, pm_cats_d, sz_1, sz_2, sl_1, sl_2, lc_0, lc_lt, lc_le, li_ne, Int32.reduceOfInt, Int64.reduceOfInt, Int32.reduceOfNat, Int32.reduceLT, Int32.reduceLE, Prod.mk.injEq, Nat.reduceEqDiff, reduceCtorEq, and_true, true_and, and_false, false_and, and_self, ite_true, ite_false, ↓reduceIte, not_true_eq_false, not_false_eq_true, pe_ri, pe_rz, Ri_g3 hA, Ri_g2 hA, Ri_p0 hA, Ri_g0 hA, Ri_g45 hA, Ri_r45 hA, Ri_w45 hA, Ri_l45 hA, eq_true k1]
  · rw [if_neg k1] at e
    have e := Option.some.inj e; subst e
    simp -implicitDefEqProofs (disch := first | assumption | exact Nat.le_of_ble_eq_true rfl | decide) only [b1777_0, g1777_1, b1777_1, g1777_4, b1777_4, g1777_6, b1777_6, g1777_7, b1777_7, g1777_8, b1777_8, g1777_9, b1777_9, g1777_10, b1777_10, g1777_11, b1777_11, g1777_12, b1777_12, g1777_13, b1777_13, g1777_16, b1777_16, g1777_17, b1777_17, g1777_18, b1777_18, g1777_21, b1777_21, g1777_22, b1777_22, g1777_23, b1777_23, pe_aload0, pe_call1, pm_af_ret, pm_af_void, pm_af_thr, pe_if_eq, pe_sipush, pe_istore3, pe_istore4, pe_istore5, pe_istore6, pe_goto_w, pe_iload6, pe_getfield, pe_icmp_ge, pe_istore7, pe_iload7, pe_call3, pe_iload3, pe_iload1, pe_icmp_ne, pe_goto, pe_iload4, pe_iload5, pe_iinc3, pe_iinc7, pe_iinc6, pe_icmp_lt, pe_iload2, pe_i2l, pe_bipush, pe_putfield, pe_if_gt, pe_if_le, pe_imul, pe_iadd, pe_baload, pe_if_ne, pe_isub, pm_prog_1, pm_ob_some, Nat.reduceDiv, Nat.reduceMod, Nat.reduceMul, Nat.reduceAdd, Int.reduceToNat, pm_kill_i, pm_kill_r, pm_kill_n, pm_kill_j, pm_kill_l, pm_kill_d, pm_cats_nil, pm_cats_i, pm_cats_r, pm_cats_n, pm_cats_l, pm_cats_d, sz_1, sz_2, sl_1, sl_2, lc_0, lc_lt, lc_le, li_ne, Int32.reduceOfInt, Int64.reduceOfInt, Int32.reduceOfNat, Int32.reduceLT, Int32.reduceLE, Prod.mk.injEq, Nat.reduceEqDiff, reduceCtorEq, and_true, true_and, and_false, false_and, and_self, ite_true, ite_false, ↓reduceIte, not_true_eq_false, not_false_eq_true, pe_ri, pe_rz, Ri_g3 hA, Ri_g2 hA, Ri_p0 hA, Ri_g0 hA, Ri_g45 hA, Ri_r45 hA, Ri_w45 hA, Ri_l45 hA, eq_false k1]
def go1777_19 (A : wK → Nat) (h : pm_H) (D : Nat) (R : Outcome × pm_H) (S : wS) : Int32 × Int32 × Int32 × Int32 → Prop := fun (x2, x4, x5, x6) => ∀ q1 q3 q7 : Value, pm_go pm_prog (pm_call pm_prog D) 1777 19 [.ref (A (0, 0, 0)), q1, .int x2, q3, .int x4, .int x5, .int x6, q7] [] (wput A Ri_d S h) = some R
def ex1777_19 (A : wK → Nat) (h : pm_H) (D : Nat) (R : Outcome × pm_H) (S : wS) : (Int32 × Int32 × Int32 × Int32) → Prop := fun (x2, x4, x5, x6) => ∀ q1 q3 q7 : Value, pm_go pm_prog (pm_call pm_prog D) 1777 20 [.ref (A (0, 0, 0)), q1, .int x2, q3, .int x4, .int x5, .int x6, q7] [] (wput A Ri_d S h) = some R
theorem y1777_b19 {A : wK → Nat} {h : pm_H} {m D : Nat} {R : Outcome × pm_H} {S : wS} (hA : wok A Ri_d m) (hD : 1 ≤ D) (a : Int32 × Int32 × Int32 × Int32) (r : (Int32 × Int32 × Int32 × Int32) ⊕ ((Int32 × Int32 × Int32 × Int32))) (e : f1777_b19 S a = some r) (hc : Sum.elim (go1777_19 A h D R S) (ex1777_19 A h D R S) r) : go1777_19 A h D R S a := by
  obtain ⟨x2, x4, x5, x6⟩ := a
  dsimp only [go1777_19]
  intro q1 q3 q7
  simp only [f1777_b19] at e
  rw [g1777_19, b1777_19]
  by_cases k1 : x6 < (S.1 (0, 0, 0) 2)
  · rw [if_pos k1] at e
    by_cases k2 : 0 ≤ ((24 * x5) + x6) ∧ ((24 * x5) + x6) < 240
    · rw [if_pos k2] at e
      by_cases k3 : (S.1 (46, 0, 0) ((24 * x5) + x6)) = 0
      · rw [if_pos k3] at e
        have e := Option.some.inj e; subst e
        dsimp only [Sum.elim_inl, go1777_19] at hc
        simp -implicitDefEqProofs (disch := first | assumption | exact Nat.le_of_ble_eq_true rfl | decide) only [b1777_0, g1777_1, b1777_1, g1777_4, b1777_4, g1777_6, b1777_6, g1777_7, b1777_7, g1777_8, b1777_8, g1777_9, b1777_9, g1777_10, b1777_10, g1777_11, b1777_11, g1777_12, b1777_12, g1777_13, b1777_13, g1777_16, b1777_16, g1777_17, b1777_17, g1777_18, b1777_18, g1777_21, b1777_21, g1777_22, b1777_22, g1777_23, b1777_23, pe_aload0, pe_call1, pm_af_ret, pm_af_void, pm_af_thr, pe_if_eq, pe_sipush, pe_istore3, pe_istore4, pe_istore5, pe_istore6, pe_goto_w, pe_iload6, pe_getfield, pe_icmp_ge, pe_istore7, pe_iload7, pe_call3, pe_iload3, pe_iload1, pe_icmp_ne, pe_goto, pe_iload4, pe_iload5, pe_iinc3, pe_iinc7, pe_iinc6, pe_icmp_lt, pe_iload2, pe_i2l, pe_bipush, pe_putfield, pe_if_gt, pe_if_le, pe_imul, pe_iadd, pe_baload, pe_if_ne, pe_isub, pm_prog_1, pm_ob_some, Nat.reduceDiv, Nat.reduceMod, Nat.reduceMul, Nat.reduceAdd, Int.reduceToNat, pm_kill_i, pm_kill_r, pm_kill_n, pm_kill_j, pm_kill_l, pm_kill_d, pm_cats_nil, pm_cats_i, pm_cats_r, pm_cats_n, pm_cats_l, pm_cats_d, sz_1, sz_2, sl_1, sl_2, lc_0, lc_lt, lc_le, li_ne, Int32.reduceOfInt, Int64.reduceOfInt, Int32.reduceOfNat, Int32.reduceLT, Int32.reduceLE, Prod.mk.injEq, Nat.reduceEqDiff, reduceCtorEq, and_true, true_and, and_false, false_and, and_self, ite_true, ite_false, ↓reduceIte, not_true_eq_false, not_false_eq_true, pe_ri, pe_rz, Ri_g3 hA, Ri_g2 hA, Ri_p0 hA, Ri_g0 hA, Ri_g45 hA, Ri_r45 hA, Ri_w45 hA, Ri_l45 hA, eq_true k1, eq_true k3, hc]
      · rw [if_neg k3] at e
        have e := Option.some.inj e; subst e
        dsimp only [Sum.elim_inr, ex1777_19] at hc
        simp -implicitDefEqProofs (disch := first | assumption | exact Nat.le_of_ble_eq_true rfl | decide) only [b1777_0, g1777_1, b1777_1, g1777_4, b1777_4, g1777_6, b1777_6, g1777_7, b1777_7, g1777_8, b1777_8, g1777_9, b1777_9, g1777_10, b1777_10, g1777_11, b1777_11, g1777_12, b1777_12, g1777_13, b1777_13, g1777_16, b1777_16, g1777_17, b1777_17, g1777_18, b1777_18, g1777_21, b1777_21, g1777_22, b1777_22, g1777_23, b1777_23, pe_aload0, pe_call1, pm_af_ret, pm_af_void, pm_af_thr, pe_if_eq, pe_sipush, pe_istore3, pe_istore4, pe_istore5, pe_istore6, pe_goto_w, pe_iload6, pe_getfield, pe_icmp_ge, pe_istore7, pe_iload7, pe_call3, pe_iload3, pe_iload1, pe_icmp_ne, pe_goto, pe_iload4, pe_iload5, pe_iinc3, pe_iinc7, pe_iinc6, pe_icmp_lt, pe_iload2, pe_i2l, pe_bipush, pe_putfield, pe_if_gt, pe_if_le, pe_imul, pe_iadd, pe_baload, pe_if_ne, pe_isub, pm_prog_1, pm_ob_some, Nat.reduceDiv, Nat.reduceMod, Nat.reduceMul, Nat.reduceAdd, Int.reduceToNat, pm_kill_i, pm_kill_r, pm_kill_n, pm_kill_j, pm_kill_l, pm_kill_d, pm_cats_nil, pm_cats_i, pm_cats_r, pm_cats_n, pm_cats_l, pm_cats_d, sz_1, sz_2, sl_1, sl_2, lc_0, lc_lt, lc_le, li_ne, Int32.reduceOfInt, Int64.reduceOfInt, Int32.reduceOfNat, Int32.reduceLT, Int32.reduceLE, Prod.mk.injEq, Nat.reduceEqDiff, reduceCtorEq, and_true, true_and, and_false, false_and, and_self, ite_true, ite_false, ↓reduceIte, not_true_eq_false, not_false_eq_true, pe_ri, pe_rz, Ri_g3 hA, Ri_g2 hA, Ri_p0 hA, Ri_g0 hA, Ri_g45 hA, Ri_r45 hA, Ri_w45 hA, Ri_l45 hA, eq_true k1, eq_false k3, hc]
    · rw [if_neg k2] at e; cases e
  · rw [if_neg k1] at e
    have e := Option.some.inj e; subst e
    dsimp only [Sum.elim_inr, ex1777_19] at hc
    simp -implicitDefEqProofs (disch := first | assumption | exact Nat.le_of_ble_eq_true rfl | decide) only [b1777_0, g1777_1, b1777_1, g1777_4, b1777_4, g1777_6, b1777_6, g1777_7, b1777_7, g1777_8, b1777_8, g1777_9, b1777_9, g1777_10, b1777_10, g1777_11, b1777_11, g1777_12, b1777_12, g1777_13, b1777_13, g1777_16, b1777_16, g1777_17, b1777_17, g1777_18, b1777_18, g1777_21, b1777_21, g1777_22, b1777_22, g1777_23, b1777_23, pe_aload0, pe_call1, pm_af_ret, pm_af_void, pm_af_thr, pe_if_eq, pe_sipush, pe_istore3, pe_istore4, pe_istore5, pe_istore6, pe_goto_w, pe_iload6, pe_getfield, pe_icmp_ge, pe_istore7, pe_iload7, pe_call3, pe_iload3, pe_iload1, pe_icmp_ne, pe_goto, pe_iload4, pe_iload5, pe_iinc3, pe_iinc7, pe_iinc6, pe_icmp_lt, pe_iload2, pe_i2l, pe_bipush, pe_putfield, pe_if_gt, pe_if_le, pe_imul, pe_iadd, pe_baload, pe_if_ne, pe_isub, pm_prog_1, pm_ob_some, Nat.reduceDiv, Nat.reduceMod, Nat.reduceMul, Nat.reduceAdd, Int.reduceToNat, pm_kill_i, pm_kill_r, pm_kill_n, pm_kill_j, pm_kill_l, pm_kill_d, pm_cats_nil, pm_cats_i, pm_cats_r, pm_cats_n, pm_cats_l, pm_cats_d, sz_1, sz_2, sl_1, sl_2, lc_0, lc_lt, lc_le, li_ne, Int32.reduceOfInt, Int64.reduceOfInt, Int32.reduceOfNat, Int32.reduceLT, Int32.reduceLE, Prod.mk.injEq, Nat.reduceEqDiff, reduceCtorEq, and_true, true_and, and_false, false_and, and_self, ite_true, ite_false, ↓reduceIte, not_true_eq_false, not_false_eq_true, pe_ri, pe_rz, Ri_g3 hA, Ri_g2 hA, Ri_p0 hA, Ri_g0 hA, Ri_g45 hA, Ri_r45 hA, Ri_w45 hA, Ri_l45 hA, eq_false k1, hc]
theorem z1777_19 {A : wK → Nat} {h : pm_H} {m D : Nat} {R : Outcome × pm_H} {S : wS} (hA : wok A Ri_d m) (hD : 1 ≤ D) {n : Nat} {a : Int32 × Int32 × Int32 × Int32} {b : (Int32 × Int32 × Int32 × Int32)} (e : lp (f1777_b19 S) n a = some b) (hx : ex1777_19 A h D R S b) : go1777_19 A h D R S a := lp_run (fun a r => y1777_b19 hA hD a r) n a b e hx
theorem y1777_20 {A : wK → Nat} {h : pm_H} {m D : Nat} {S : wS} {x2 : Int32} {x4 : Int32} {x5 : Int32} {x6 : Int32} {r : Int32 × wS} (hA : wok A Ri_d m) (hD : 1 ≤ D) (e : f1777_20 S x2 x4 x5 x6 = some r) : ∀ q1 q3 q7 : Value, pm_go pm_prog (pm_call pm_prog D) 1777 20 [.ref (A (0, 0, 0)), q1, .int x2, q3, .int x4, .int x5, .int x6, q7] [] (wput A Ri_d S h) = some (.returned (some (.int r.1)), (wput A Ri_d r.2 h)) := by
  intro q1 q3 q7
  simp only [f1777_20] at e
  rw [g1777_20, b1777_20]
  by_cases k1 : x2 = 0
  · rw [if_pos k1] at e
    have e := Option.some.inj e; subst e
    simp -implicitDefEqProofs (disch := first | assumption | exact Nat.le_of_ble_eq_true rfl | decide) only [b1777_0, g1777_1, b1777_1, g1777_4, b1777_4, g1777_6, b1777_6, g1777_7, b1777_7, g1777_8, b1777_8, g1777_9, b1777_9, g1777_10, b1777_10, g1777_11, b1777_11, g1777_12, b1777_12, g1777_13, b1777_13, g1777_16, b1777_16, g1777_17, b1777_17, g1777_18, b1777_18, g1777_21, b1777_21, g1777_22, b1777_22, g1777_23, b1777_23, pe_aload0, pe_call1, pm_af_ret, pm_af_void, pm_af_thr, pe_if_eq, pe_sipush, pe_istore3, pe_istore4, pe_istore5, pe_istore6, pe_goto_w, pe_iload6, pe_getfield, pe_icmp_ge, pe_istore7, pe_iload7, pe_call3, pe_iload3, pe_iload1, pe_icmp_ne, pe_goto, pe_iload4, pe_iload5, pe_iinc3, pe_iinc7, pe_iinc6, pe_icmp_lt, pe_iload2, pe_i2l, pe_bipush, pe_putfield, pe_if_gt, pe_if_le, pe_imul, pe_iadd, pe_baload, pe_if_ne, pe_isub, pm_prog_1, pm_ob_some, Nat.reduceDiv, Nat.reduceMod, Nat.reduceMul, Nat.reduceAdd, Int.reduceToNat, pm_kill_i, pm_kill_r, pm_kill_n, pm_kill_j, pm_kill_l, pm_kill_d, pm_cats_nil, pm_cats_i, pm_cats_r, pm_cats_n, pm_cats_l, pm_cats_d, sz_1, sz_2, sl_1, sl_2, lc_0, lc_lt, lc_le, li_ne, Int32.reduceOfInt, Int64.reduceOfInt, Int32.reduceOfNat, Int32.reduceLT, Int32.reduceLE, Prod.mk.injEq, Nat.reduceEqDiff, reduceCtorEq, and_true, true_and, and_false, false_and, and_self, ite_true, ite_false, ↓reduceIte, not_true_eq_false, not_false_eq_true, pe_ri, pe_rz, Ri_g3 hA, Ri_g2 hA, Ri_p0 hA, Ri_g0 hA, Ri_g45 hA, Ri_r45 hA, Ri_w45 hA, Ri_l45 hA, eq_true k1]
  · rw [if_neg k1] at e
    by_cases k2 : x2 = 1
    · rw [if_pos k2] at e
      have e := Option.some.inj e; subst e
      simp -implicitDefEqProofs (disch := first | assumption | exact Nat.le_of_ble_eq_true rfl | decide) only [b1777_0, g1777_1, b1777_1, g1777_4, b1777_4, g1777_6, b1777_6, g1777_7, b1777_7, g1777_8, b1777_8, g1777_9, b1777_9, g1777_10, b1777_10, g1777_11, b1777_11, g1777_12, b1777_12, g1777_13, b1777_13, g1777_16, b1777_16, g1777_17, b1777_17, g1777_18, b1777_18, g1777_21, b1777_21, g1777_22, b1777_22, g1777_23, b1777_23, pe_aload0, pe_call1, pm_af_ret, pm_af_void, pm_af_thr, pe_if_eq, pe_sipush, pe_istore3, pe_istore4, pe_istore5, pe_istore6, pe_goto_w, pe_iload6, pe_getfield, pe_icmp_ge, pe_istore7, pe_iload7, pe_call3, pe_iload3, pe_iload1, pe_icmp_ne, pe_goto, pe_iload4, pe_iload5, pe_iinc3, pe_iinc7, pe_iinc6, pe_icmp_lt, pe_iload2, pe_i2l, pe_bipush, pe_putfield, pe_if_gt, pe_if_le, pe_imul, pe_iadd, pe_baload, pe_if_ne, pe_isub, pm_prog_1, pm_ob_some, Nat.reduceDiv, Nat.reduceMod, Nat.reduceMul, Nat.reduceAdd, Int.reduceToNat, pm_kill_i, pm_kill_r, pm_kill_n, pm_kill_j, pm_kill_l, pm_kill_d, pm_cats_nil, pm_cats_i, pm_cats_r, pm_cats_n, pm_cats_l, pm_cats_d, sz_1, sz_2, sl_1, sl_2, lc_0, lc_lt, lc_le, li_ne, Int32.reduceOfInt, Int64.reduceOfInt, Int32.reduceOfNat, Int32.reduceLT, Int32.reduceLE, Prod.mk.injEq, Nat.reduceEqDiff, reduceCtorEq, and_true, true_and, and_false, false_and, and_self, ite_true, ite_false, ↓reduceIte, not_true_eq_false, not_false_eq_true, pe_ri, pe_rz, Ri_g3 hA, Ri_g2 hA, Ri_p0 hA, Ri_g0 hA, Ri_g45 hA, Ri_r45 hA, Ri_w45 hA, Ri_l45 hA, eq_false k1, eq_true k2]
    · rw [if_neg k2] at e
      have e := Option.some.inj e; subst e
      simp -implicitDefEqProofs (disch := first | assumption | exact Nat.le_of_ble_eq_true rfl | decide) only [b1777_0, g1777_1, b1777_1, g1777_4, b1777_4, g1777_6, b1777_6, g1777_7, b1777_7, g1777_8, b1777_8, g1777_9, b1777_9, g1777_10, b1777_10, g1777_11, b1777_11, g1777_12, b1777_12, g1777_13, b1777_13, g1777_16, b1777_16, g1777_17, b1777_17, g1777_18, b1777_18, g1777_21, b1777_21, g1777_22, b1777_22, g1777_23, b1777_23, pe_aload0, pe_call1, pm_af_ret, pm_af_void, pm_af_thr, pe_if_eq, pe_sipush, pe_istore3, pe_istore4, pe_istore5, pe_istore6, pe_goto_w, pe_iload6, pe_getfield, pe_icmp_ge, pe_istore7, pe_iload7, pe_call3, pe_iload3, pe_iload1, pe_icmp_ne, pe_goto, pe_iload4, pe_iload5, pe_iinc3, pe_iinc7, pe_iinc6, pe_icmp_lt, pe_iload2, pe_i2l, pe_bipush, pe_putfield, pe_if_gt, pe_if_le, pe_imul, pe_iadd, pe_baload, pe_if_ne, pe_isub, pm_prog_1, pm_ob_some, Nat.reduceDiv, Nat.reduceMod, Nat.reduceMul, Nat.reduceAdd, Int.reduceToNat, pm_kill_i, pm_kill_r, pm_kill_n, pm_kill_j, pm_kill_l, pm_kill_d, pm_cats_nil, pm_cats_i, pm_cats_r, pm_cats_n, pm_cats_l, pm_cats_d, sz_1, sz_2, sl_1, sl_2, lc_0, lc_lt, lc_le, li_ne, Int32.reduceOfInt, Int64.reduceOfInt, Int32.reduceOfNat, Int32.reduceLT, Int32.reduceLE, Prod.mk.injEq, Nat.reduceEqDiff, reduceCtorEq, and_true, true_and, and_false, false_and, and_self, ite_true, ite_false, ↓reduceIte, not_true_eq_false, not_false_eq_true, pe_ri, pe_rz, Ri_g3 hA, Ri_g2 hA, Ri_p0 hA, Ri_g0 hA, Ri_g45 hA, Ri_r45 hA, Ri_w45 hA, Ri_l45 hA, eq_false k1, eq_false k2]
theorem y1777_14 {A : wK → Nat} {h : pm_H} {m D : Nat} {S : wS} {x1 : Int32} {x2 : Int32} {x3 : Int32} {x4 : Int32} {x5 : Int32} {y1 : Int32} {r : Int32 × wS} (hA : wok A Ri_d m) (hD : 1 ≤ D) (e : f1777_14 S x1 x2 x3 x4 x5 y1 = some r) : ∀ q6 q7 : Value, pm_go pm_prog (pm_call pm_prog D) 1777 14 [.ref (A (0, 0, 0)), .int x1, .int x2, .int x3, .int x4, .int x5, q6, q7] [.int y1, .ref (A (0, 0, 0))] (wput A Ri_d S h) = some (.returned (some (.int r.1)), (wput A Ri_d r.2 h)) := by
  intro q6 q7
  simp only [f1777_14] at e
  rw [g1777_14, b1777_14]
  by_cases k1 : y1 ≤ 0
  · rw [if_pos k1] at e
    by_cases k2 : x1 = (-1)
    · rw [if_pos k2] at e
      have k3 := y1777_15 (h := h) hA hD e
      simp -implicitDefEqProofs (disch := first | assumption | exact Nat.le_of_ble_eq_true rfl | decide) only [b1777_0, g1777_1, b1777_1, g1777_4, b1777_4, g1777_6, b1777_6, g1777_7, b1777_7, g1777_8, b1777_8, g1777_9, b1777_9, g1777_10, b1777_10, g1777_11, b1777_11, g1777_12, b1777_12, g1777_13, b1777_13, g1777_16, b1777_16, g1777_17, b1777_17, g1777_18, b1777_18, g1777_21, b1777_21, g1777_22, b1777_22, g1777_23, b1777_23, pe_aload0, pe_call1, pm_af_ret, pm_af_void, pm_af_thr, pe_if_eq, pe_sipush, pe_istore3, pe_istore4, pe_istore5, pe_istore6, pe_goto_w, pe_iload6, pe_getfield, pe_icmp_ge, pe_istore7, pe_iload7, pe_call3, pe_iload3, pe_iload1, pe_icmp_ne, pe_goto, pe_iload4, pe_iload5, pe_iinc3, pe_iinc7, pe_iinc6, pe_icmp_lt, pe_iload2, pe_i2l, pe_bipush, pe_putfield, pe_if_gt, pe_if_le, pe_imul, pe_iadd, pe_baload, pe_if_ne, pe_isub, pm_prog_1, pm_ob_some, Nat.reduceDiv, Nat.reduceMod, Nat.reduceMul, Nat.reduceAdd, Int.reduceToNat, pm_kill_i, pm_kill_r, pm_kill_n, pm_kill_j, pm_kill_l, pm_kill_d, pm_cats_nil, pm_cats_i, pm_cats_r, pm_cats_n, pm_cats_l, pm_cats_d, sz_1, sz_2, sl_1, sl_2, lc_0, lc_lt, lc_le, li_ne, Int32.reduceOfInt, Int64.reduceOfInt, Int32.reduceOfNat, Int32.reduceLT, Int32.reduceLE, Prod.mk.injEq, Nat.reduceEqDiff, reduceCtorEq, and_true, true_and, and_false, false_and, and_self, ite_true, ite_false, ↓reduceIte, not_true_eq_false, not_false_eq_true, pe_ri, pe_rz, Ri_g3 hA, Ri_g2 hA, Ri_p0 hA, Ri_g0 hA, Ri_g45 hA, Ri_r45 hA, Ri_w45 hA, Ri_l45 hA, eq_true k1, eq_true k2, k3]
    · rw [if_neg k2] at e
      obtain ⟨⟨v16, v17, v18, v19⟩, k4, e⟩ := Option.bind_eq_some_iff.mp e
      try dsimp only at e
      try simp -implicitDefEqProofs (disch := first | assumption | exact Nat.le_of_ble_eq_true rfl | decide) only [b1777_0, g1777_1, b1777_1, g1777_4, b1777_4, g1777_6, b1777_6, g1777_7, b1777_7, g1777_8, b1777_8, g1777_9, b1777_9, g1777_10, b1777_10, g1777_11, b1777_11, g1777_12, b1777_12, g1777_13, b1777_13, g1777_16, b1777_16, g1777_17, b1777_17, g1777_18, b1777_18, g1777_21, b1777_21, g1777_22, b1777_22, g1777_23, b1777_23, pe_aload0, pe_call1, pm_af_ret, pm_af_void, pm_af_thr, pe_if_eq, pe_sipush, pe_istore3, pe_istore4, pe_istore5, pe_istore6, pe_goto_w, pe_iload6, pe_getfield, pe_icmp_ge, pe_istore7, pe_iload7, pe_call3, pe_iload3, pe_iload1, pe_icmp_ne, pe_goto, pe_iload4, pe_iload5, pe_iinc3, pe_iinc7, pe_iinc6, pe_icmp_lt, pe_iload2, pe_i2l, pe_bipush, pe_putfield, pe_if_gt, pe_if_le, pe_imul, pe_iadd, pe_baload, pe_if_ne, pe_isub, pm_prog_1, pm_ob_some, Nat.reduceDiv, Nat.reduceMod, Nat.reduceMul, Nat.reduceAdd, Int.reduceToNat, pm_kill_i, pm_kill_r, pm_kill_n, pm_kill_j, pm_kill_l, pm_kill_d, pm_cats_nil, pm_cats_i, pm_cats_r, pm_cats_n, pm_cats_l, pm_cats_d, sz_1, sz_2, sl_1, sl_2, lc_0, lc_lt, lc_le, li_ne, Int32.reduceOfInt, Int64.reduceOfInt, Int32.reduceOfNat, Int32.reduceLT, Int32.reduceLE, Prod.mk.injEq, Nat.reduceEqDiff, reduceCtorEq, and_true, true_and, and_false, false_and, and_self, ite_true, ite_false, ↓reduceIte, not_true_eq_false, not_false_eq_true, pe_ri, pe_rz, Ri_g3 hA, Ri_g2 hA, Ri_p0 hA, Ri_g0 hA, Ri_g45 hA, Ri_r45 hA, Ri_w45 hA, Ri_l45 hA, eq_true k1, eq_false k2]
      refine z1777_19 hA hD k4 ?_ _ _ _
      dsimp only [ex1777_19]
      intro q1 q3 q7
      have k5 := y1777_20 (h := h) hA hD e
      simp -implicitDefEqProofs (disch := first | assumption | exact Nat.le_of_ble_eq_true rfl | decide) only [b1777_0, g1777_1, b1777_1, g1777_4, b1777_4, g1777_6, b1777_6, g1777_7, b1777_7, g1777_8, b1777_8, g1777_9, b1777_9, g1777_10, b1777_10, g1777_11, b1777_11, g1777_12, b1777_12, g1777_13, b1777_13, g1777_16, b1777_16, g1777_17, b1777_17, g1777_18, b1777_18, g1777_21, b1777_21, g1777_22, b1777_22, g1777_23, b1777_23, pe_aload0, pe_call1, pm_af_ret, pm_af_void, pm_af_thr, pe_if_eq, pe_sipush, pe_istore3, pe_istore4, pe_istore5, pe_istore6, pe_goto_w, pe_iload6, pe_getfield, pe_icmp_ge, pe_istore7, pe_iload7, pe_call3, pe_iload3, pe_iload1, pe_icmp_ne, pe_goto, pe_iload4, pe_iload5, pe_iinc3, pe_iinc7, pe_iinc6, pe_icmp_lt, pe_iload2, pe_i2l, pe_bipush, pe_putfield, pe_if_gt, pe_if_le, pe_imul, pe_iadd, pe_baload, pe_if_ne, pe_isub, pm_prog_1, pm_ob_some, Nat.reduceDiv, Nat.reduceMod, Nat.reduceMul, Nat.reduceAdd, Int.reduceToNat, pm_kill_i, pm_kill_r, pm_kill_n, pm_kill_j, pm_kill_l, pm_kill_d, pm_cats_nil, pm_cats_i, pm_cats_r, pm_cats_n, pm_cats_l, pm_cats_d, sz_1, sz_2, sl_1, sl_2, lc_0, lc_lt, lc_le, li_ne, Int32.reduceOfInt, Int64.reduceOfInt, Int32.reduceOfNat, Int32.reduceLT, Int32.reduceLE, Prod.mk.injEq, Nat.reduceEqDiff, reduceCtorEq, and_true, true_and, and_false, false_and, and_self, ite_true, ite_false, ↓reduceIte, not_true_eq_false, not_false_eq_true, pe_ri, pe_rz, Ri_g3 hA, Ri_g2 hA, Ri_p0 hA, Ri_g0 hA, Ri_g45 hA, Ri_r45 hA, Ri_w45 hA, Ri_l45 hA, eq_true k1, eq_false k2, k5]
  · rw [if_neg k1] at e
    have k6 := y1777_15 (h := h) hA hD e
    simp -implicitDefEqProofs (disch := first | assumption | exact Nat.le_of_ble_eq_true rfl | decide) only [b1777_0, g1777_1, b1777_1, g1777_4, b1777_4, g1777_6, b1777_6, g1777_7, b1777_7, g1777_8, b1777_8, g1777_9, b1777_9, g1777_10, b1777_10, g1777_11, b1777_11, g1777_12, b1777_12, g1777_13, b1777_13, g1777_16, b1777_16, g1777_17, b1777_17, g1777_18, b1777_18, g1777_21, b1777_21, g1777_22, b1777_22, g1777_23, b1777_23, pe_aload0, pe_call1, pm_af_ret, pm_af_void, pm_af_thr, pe_if_eq, pe_sipush, pe_istore3, pe_istore4, pe_istore5, pe_istore6, pe_goto_w, pe_iload6, pe_getfield, pe_icmp_ge, pe_istore7, pe_iload7, pe_call3, pe_iload3, pe_iload1, pe_icmp_ne, pe_goto, pe_iload4, pe_iload5, pe_iinc3, pe_iinc7, pe_iinc6, pe_icmp_lt, pe_iload2, pe_i2l, pe_bipush, pe_putfield, pe_if_gt, pe_if_le, pe_imul, pe_iadd, pe_baload, pe_if_ne, pe_isub, pm_prog_1, pm_ob_some, Nat.reduceDiv, Nat.reduceMod, Nat.reduceMul, Nat.reduceAdd, Int.reduceToNat, pm_kill_i, pm_kill_r, pm_kill_n, pm_kill_j, pm_kill_l, pm_kill_d, pm_cats_nil, pm_cats_i, pm_cats_r, pm_cats_n, pm_cats_l, pm_cats_d, sz_1, sz_2, sl_1, sl_2, lc_0, lc_lt, lc_le, li_ne, Int32.reduceOfInt, Int64.reduceOfInt, Int32.reduceOfNat, Int32.reduceLT, Int32.reduceLE, Prod.mk.injEq, Nat.reduceEqDiff, reduceCtorEq, and_true, true_and, and_false, false_and, and_self, ite_true, ite_false, ↓reduceIte, not_true_eq_false, not_false_eq_true, pe_ri, pe_rz, Ri_g3 hA, Ri_g2 hA, Ri_p0 hA, Ri_g0 hA, Ri_g45 hA, Ri_r45 hA, Ri_w45 hA, Ri_l45 hA, eq_false k1, k6]
theorem x1777 {A : wK → Nat} {h : pm_H} {m D : Nat} {S : wS} {x1 : Int32} {x2 : Int32} {r : Int32 × wS} (hA : wok A Ri_d m) (hD : 2 ≤ D) (e : f1777 S x1 x2 = some r) : pm_call pm_prog D 1777 [.ref (A (0, 0, 0)), .int x1, .int x2] (wput A Ri_d S h) = some (.returned (some (.int r.1)), (wput A Ri_d r.2 h)) := by
  obtain ⟨D, rfl⟩ : ∃ D', D = D' + 1 := ⟨D - 1, by omega⟩
  have hD : 1 ≤ D := by omega
  rw [c1777 (Ri_c hA), b1777_0]
  simp only [f1777] at e
  obtain ⟨⟨v1, S2⟩, k1, e⟩ := Option.bind_eq_some_iff.mp e
  try dsimp only at e
  have z1 := x1772 (D := D) (h := h) hA (by omega) k1
  dsimp only at z1
  by_cases k2 : v1 = 0
  · rw [if_pos k2] at e
    obtain ⟨S3, k3, e⟩ := Option.bind_eq_some_iff.mp e
    try dsimp only at e
    have z3 := x1778 (D := D) (h := h) hA (by omega) k3
    obtain ⟨⟨v11, v12, v13, v14, v15⟩, k4, e⟩ := Option.bind_eq_some_iff.mp e
    try dsimp only at e
    try simp -implicitDefEqProofs (disch := first | assumption | exact Nat.le_of_ble_eq_true rfl | decide) only [b1777_0, g1777_1, b1777_1, g1777_4, b1777_4, g1777_6, b1777_6, g1777_7, b1777_7, g1777_8, b1777_8, g1777_9, b1777_9, g1777_10, b1777_10, g1777_11, b1777_11, g1777_12, b1777_12, g1777_13, b1777_13, g1777_16, b1777_16, g1777_17, b1777_17, g1777_18, b1777_18, g1777_21, b1777_21, g1777_22, b1777_22, g1777_23, b1777_23, pe_aload0, pe_call1, pm_af_ret, pm_af_void, pm_af_thr, pe_if_eq, pe_sipush, pe_istore3, pe_istore4, pe_istore5, pe_istore6, pe_goto_w, pe_iload6, pe_getfield, pe_icmp_ge, pe_istore7, pe_iload7, pe_call3, pe_iload3, pe_iload1, pe_icmp_ne, pe_goto, pe_iload4, pe_iload5, pe_iinc3, pe_iinc7, pe_iinc6, pe_icmp_lt, pe_iload2, pe_i2l, pe_bipush, pe_putfield, pe_if_gt, pe_if_le, pe_imul, pe_iadd, pe_baload, pe_if_ne, pe_isub, pm_prog_1, pm_ob_some, Nat.reduceDiv, Nat.reduceMod, Nat.reduceMul, Nat.reduceAdd, Int.reduceToNat, pm_kill_i, pm_kill_r, pm_kill_n, pm_kill_j, pm_kill_l, pm_kill_d, pm_cats_nil, pm_cats_i, pm_cats_r, pm_cats_n, pm_cats_l, pm_cats_d, sz_1, sz_2, sl_1, sl_2, lc_0, lc_lt, lc_le, li_ne, Int32.reduceOfInt, Int64.reduceOfInt, Int32.reduceOfNat, Int32.reduceLT, Int32.reduceLE, Prod.mk.injEq, Nat.reduceEqDiff, reduceCtorEq, and_true, true_and, and_false, false_and, and_self, ite_true, ite_false, ↓reduceIte, not_true_eq_false, not_false_eq_true, pe_ri, pe_rz, Ri_g3 hA, Ri_g2 hA, Ri_p0 hA, Ri_g0 hA, Ri_g45 hA, Ri_r45 hA, Ri_w45 hA, Ri_l45 hA, z1, eq_true k2, z3]
    refine z1777_2 hA hD k4 ?_ _
    dsimp only [ex1777_2]
    intro q6 q7
    by_cases k5 : v11 < (-1)
    · rw [if_pos k5] at e
      have k6 := y1777_14 (h := h) hA hD e
      simp -implicitDefEqProofs (disch := first | assumption | exact Nat.le_of_ble_eq_true rfl | decide) only [b1777_0, g1777_1, b1777_1, g1777_4, b1777_4, g1777_6, b1777_6, g1777_7, b1777_7, g1777_8, b1777_8, g1777_9, b1777_9, g1777_10, b1777_10, g1777_11, b1777_11, g1777_12, b1777_12, g1777_13, b1777_13, g1777_16, b1777_16, g1777_17, b1777_17, g1777_18, b1777_18, g1777_21, b1777_21, g1777_22, b1777_22, g1777_23, b1777_23, pe_aload0, pe_call1, pm_af_ret, pm_af_void, pm_af_thr, pe_if_eq, pe_sipush, pe_istore3, pe_istore4, pe_istore5, pe_istore6, pe_goto_w, pe_iload6, pe_getfield, pe_icmp_ge, pe_istore7, pe_iload7, pe_call3, pe_iload3, pe_iload1, pe_icmp_ne, pe_goto, pe_iload4, pe_iload5, pe_iinc3, pe_iinc7, pe_iinc6, pe_icmp_lt, pe_iload2, pe_i2l, pe_bipush, pe_putfield, pe_if_gt, pe_if_le, pe_imul, pe_iadd, pe_baload, pe_if_ne, pe_isub, pm_prog_1, pm_ob_some, Nat.reduceDiv, Nat.reduceMod, Nat.reduceMul, Nat.reduceAdd, Int.reduceToNat, pm_kill_i, pm_kill_r, pm_kill_n, pm_kill_j, pm_kill_l, pm_kill_d, pm_cats_nil, pm_cats_i, pm_cats_r, pm_cats_n, pm_cats_l, pm_cats_d, sz_1, sz_2, sl_1, sl_2, lc_0, lc_lt, lc_le, li_ne, Int32.reduceOfInt, Int64.reduceOfInt, Int32.reduceOfNat, Int32.reduceLT, Int32.reduceLE, Prod.mk.injEq, Nat.reduceEqDiff, reduceCtorEq, and_true, true_and, and_false, false_and, and_self, ite_true, ite_false, ↓reduceIte, not_true_eq_false, not_false_eq_true, pe_ri, pe_rz, Ri_g3 hA, Ri_g2 hA, Ri_p0 hA, Ri_g0 hA, Ri_g45 hA, Ri_r45 hA, Ri_w45 hA, Ri_l45 hA, z1, eq_true k2, z3, eq_true k5, k6]
    · rw [if_neg k5] at e
      by_cases k7 : v11 < v13
      · rw [if_pos k7] at e
        obtain ⟨v20, k8, e⟩ := Option.bind_eq_some_iff.mp e
        try dsimp only at e
        have z8 := fun h => x1731 (D := D) (h := h) (by omega) k8
        by_cases k9 : v20 = 0
        · rw [if_pos k9] at e
          have k10 := y1777_14 (h := h) hA hD e
          simp -implicitDefEqProofs (disch := first | assumption | exact Nat.le_of_ble_eq_true rfl | decide) only [b1777_0, g1777_1, b1777_1, g1777_4, b1777_4, g1777_6, b1777_6, g1777_7, b1777_7, g1777_8, b1777_8, g1777_9, b1777_9, g1777_10, b1777_10, g1777_11, b1777_11, g1777_12, b1777_12, g1777_13, b1777_13, g1777_16, b1777_16, g1777_17, b1777_17, g1777_18, b1777_18, g1777_21, b1777_21, g1777_22, b1777_22, g1777_23, b1777_23, pe_aload0, pe_call1, pm_af_ret, pm_af_void, pm_af_thr, pe_if_eq, pe_sipush, pe_istore3, pe_istore4, pe_istore5, pe_istore6, pe_goto_w, pe_iload6, pe_getfield, pe_icmp_ge, pe_istore7, pe_iload7, pe_call3, pe_iload3, pe_iload1, pe_icmp_ne, pe_goto, pe_iload4, pe_iload5, pe_iinc3, pe_iinc7, pe_iinc6, pe_icmp_lt, pe_iload2, pe_i2l, pe_bipush, pe_putfield, pe_if_gt, pe_if_le, pe_imul, pe_iadd, pe_baload, pe_if_ne, pe_isub, pm_prog_1, pm_ob_some, Nat.reduceDiv, Nat.reduceMod, Nat.reduceMul, Nat.reduceAdd, Int.reduceToNat, pm_kill_i, pm_kill_r, pm_kill_n, pm_kill_j, pm_kill_l, pm_kill_d, pm_cats_nil, pm_cats_i, pm_cats_r, pm_cats_n, pm_cats_l, pm_cats_d, sz_1, sz_2, sl_1, sl_2, lc_0, lc_lt, lc_le, li_ne, Int32.reduceOfInt, Int64.reduceOfInt, Int32.reduceOfNat, Int32.reduceLT, Int32.reduceLE, Prod.mk.injEq, Nat.reduceEqDiff, reduceCtorEq, and_true, true_and, and_false, false_and, and_self, ite_true, ite_false, ↓reduceIte, not_true_eq_false, not_false_eq_true, pe_ri, pe_rz, Ri_g3 hA, Ri_g2 hA, Ri_p0 hA, Ri_g0 hA, Ri_g45 hA, Ri_r45 hA, Ri_w45 hA, Ri_l45 hA, z1, eq_true k2, z3, eq_false k5, eq_true k7, z8, eq_true k9, k10]
        · rw [if_neg k9] at e
          have k11 := y1777_14 (h := h) hA hD e
          simp -implicitDefEqProofs (disch := first | assumption | exact Nat.le_of_ble_eq_true rfl | decide) only [b1777_0, g1777_1, b1777_1, g1777_4, b1777_4, g1777_6, b1777_6, g1777_7, b1777_7, g1777_8, b1777_8, g1777_9, b1777_9, g1777_10, b1777_10, g1777_11, b1777_11, g1777_12, b1777_12, g1777_13, b1777_13, g1777_16, b1777_16, g1777_17, b1777_17, g1777_18, b1777_18, g1777_21, b1777_21, g1777_22, b1777_22, g1777_23, b1777_23, pe_aload0, pe_call1, pm_af_ret, pm_af_void, pm_af_thr, pe_if_eq, pe_sipush, pe_istore3, pe_istore4, pe_istore5, pe_istore6, pe_goto_w, pe_iload6, pe_getfield, pe_icmp_ge, pe_istore7, pe_iload7, pe_call3, pe_iload3, pe_iload1, pe_icmp_ne, pe_goto, pe_iload4, pe_iload5, pe_iinc3, pe_iinc7, pe_iinc6, pe_icmp_lt, pe_iload2, pe_i2l, pe_bipush, pe_putfield, pe_if_gt, pe_if_le, pe_imul, pe_iadd, pe_baload, pe_if_ne, pe_isub, pm_prog_1, pm_ob_some, Nat.reduceDiv, Nat.reduceMod, Nat.reduceMul, Nat.reduceAdd, Int.reduceToNat, pm_kill_i, pm_kill_r, pm_kill_n, pm_kill_j, pm_kill_l, pm_kill_d, pm_cats_nil, pm_cats_i, pm_cats_r, pm_cats_n, pm_cats_l, pm_cats_d, sz_1, sz_2, sl_1, sl_2, lc_0, lc_lt, lc_le, li_ne, Int32.reduceOfInt, Int64.reduceOfInt, Int32.reduceOfNat, Int32.reduceLT, Int32.reduceLE, Prod.mk.injEq, Nat.reduceEqDiff, reduceCtorEq, and_true, true_and, and_false, false_and, and_self, ite_true, ite_false, ↓reduceIte, not_true_eq_false, not_false_eq_true, pe_ri, pe_rz, Ri_g3 hA, Ri_g2 hA, Ri_p0 hA, Ri_g0 hA, Ri_g45 hA, Ri_r45 hA, Ri_w45 hA, Ri_l45 hA, z1, eq_true k2, z3, eq_false k5, eq_true k7, z8, eq_false k9, k11]
      · rw [if_neg k7] at e
        have k12 := y1777_14 (h := h) hA hD e
        simp -implicitDefEqProofs (disch := first | assumption | exact Nat.le_of_ble_eq_true rfl | decide) only [b1777_0, g1777_1, b1777_1, g1777_4, b1777_4, g1777_6, b1777_6, g1777_7, b1777_7, g1777_8, b1777_8, g1777_9, b1777_9, g1777_10, b1777_10, g1777_11, b1777_11, g1777_12, b1777_12, g1777_13, b1777_13, g1777_16, b1777_16, g1777_17, b1777_17, g1777_18, b1777_18, g1777_21, b1777_21, g1777_22, b1777_22, g1777_23, b1777_23, pe_aload0, pe_call1, pm_af_ret, pm_af_void, pm_af_thr, pe_if_eq, pe_sipush, pe_istore3, pe_istore4, pe_istore5, pe_istore6, pe_goto_w, pe_iload6, pe_getfield, pe_icmp_ge, pe_istore7, pe_iload7, pe_call3, pe_iload3, pe_iload1, pe_icmp_ne, pe_goto, pe_iload4, pe_iload5, pe_iinc3, pe_iinc7, pe_iinc6, pe_icmp_lt, pe_iload2, pe_i2l, pe_bipush, pe_putfield, pe_if_gt, pe_if_le, pe_imul, pe_iadd, pe_baload, pe_if_ne, pe_isub, pm_prog_1, pm_ob_some, Nat.reduceDiv, Nat.reduceMod, Nat.reduceMul, Nat.reduceAdd, Int.reduceToNat, pm_kill_i, pm_kill_r, pm_kill_n, pm_kill_j, pm_kill_l, pm_kill_d, pm_cats_nil, pm_cats_i, pm_cats_r, pm_cats_n, pm_cats_l, pm_cats_d, sz_1, sz_2, sl_1, sl_2, lc_0, lc_lt, lc_le, li_ne, Int32.reduceOfInt, Int64.reduceOfInt, Int32.reduceOfNat, Int32.reduceLT, Int32.reduceLE, Prod.mk.injEq, Nat.reduceEqDiff, reduceCtorEq, and_true, true_and, and_false, false_and, and_self, ite_true, ite_false, ↓reduceIte, not_true_eq_false, not_false_eq_true, pe_ri, pe_rz, Ri_g3 hA, Ri_g2 hA, Ri_p0 hA, Ri_g0 hA, Ri_g45 hA, Ri_r45 hA, Ri_w45 hA, Ri_l45 hA, z1, eq_true k2, z3, eq_false k5, eq_false k7, k12]
  · rw [if_neg k2] at e
    have e := Option.some.inj e; subst e
    simp -implicitDefEqProofs (disch := first | assumption | exact Nat.le_of_ble_eq_true rfl | decide) only [b1777_0, g1777_1, b1777_1, g1777_4, b1777_4, g1777_6, b1777_6, g1777_7, b1777_7, g1777_8, b1777_8, g1777_9, b1777_9, g1777_10, b1777_10, g1777_11, b1777_11, g1777_12, b1777_12, g1777_13, b1777_13, g1777_16, b1777_16, g1777_17, b1777_17, g1777_18, b1777_18, g1777_21, b1777_21, g1777_22, b1777_22, g1777_23, b1777_23, pe_aload0, pe_call1, pm_af_ret, pm_af_void, pm_af_thr, pe_if_eq, pe_sipush, pe_istore3, pe_istore4, pe_istore5, pe_istore6, pe_goto_w, pe_iload6, pe_getfield, pe_icmp_ge, pe_istore7, pe_iload7, pe_call3, pe_iload3, pe_iload1, pe_icmp_ne, pe_goto, pe_iload4, pe_iload5, pe_iinc3, pe_iinc7, pe_iinc6, pe_icmp_lt, pe_iload2, pe_i2l, pe_bipush, pe_putfield, pe_if_gt, pe_if_le, pe_imul, pe_iadd, pe_baload, pe_if_ne, pe_isub, pm_prog_1, pm_ob_some, Nat.reduceDiv, Nat.reduceMod, Nat.reduceMul, Nat.reduceAdd, Int.reduceToNat, pm_kill_i, pm_kill_r, pm_kill_n, pm_kill_j, pm_kill_l, pm_kill_d, pm_cats_nil, pm_cats_i, pm_cats_r, pm_cats_n, pm_cats_l, pm_cats_d, sz_1, sz_2, sl_1, sl_2, lc_0, lc_lt, lc_le, li_ne, Int32.reduceOfInt, Int64.reduceOfInt, Int32.reduceOfNat, Int32.reduceLT, Int32.reduceLE, Prod.mk.injEq, Nat.reduceEqDiff, reduceCtorEq, and_true, true_and, and_false, false_and, and_self, ite_true, ite_false, ↓reduceIte, not_true_eq_false, not_false_eq_true, pe_ri, pe_rz, Ri_g3 hA, Ri_g2 hA, Ri_p0 hA, Ri_g0 hA, Ri_g45 hA, Ri_r45 hA, Ri_w45 hA, Ri_l45 hA, z1, eq_false k2]
/-- TimberHouseModel$Rips.countOf(I)I -/
theorem c1764 {d : Nat} {h : pm_H} {a : Nat} {x0 : Int32} (hc : pm_cls h a = some 27) : pm_call pm_prog (d + 1) 1764 [.ref a, .int x0] h = pm_ev pm_prog (pm_call pm_prog d) 1764 0 b1764_0 [.ref a, .int x0, pm_junk, pm_junk] [] h := pm_cal (pm_rc1 hc rfl) rfl rfl rfl
theorem g1764_1 {cl : pm_C} {ls st : List Value} {h : pm_H} : pm_go pm_prog cl 1764 1 ls st h = pm_ev pm_prog cl 1764 1 b1764_1 ls st h := pm_go_eq pm_prog cl 1764 1 ls st h
theorem g1764_2 {cl : pm_C} {ls st : List Value} {h : pm_H} : pm_go pm_prog cl 1764 2 ls st h = pm_ev pm_prog cl 1764 2 b1764_2 ls st h := pm_go_eq pm_prog cl 1764 2 ls st h
theorem g1764_3 {cl : pm_C} {ls st : List Value} {h : pm_H} : pm_go pm_prog cl 1764 3 ls st h = pm_ev pm_prog cl 1764 3 b1764_3 ls st h := pm_go_eq pm_prog cl 1764 3 ls st h
theorem g1764_4 {cl : pm_C} {ls st : List Value} {h : pm_H} : pm_go pm_prog cl 1764 4 ls st h = pm_ev pm_prog cl 1764 4 b1764_4 ls st h := pm_go_eq pm_prog cl 1764 4 ls st h
noncomputable def f1764_b1 (S : wS) : Int32 × Int32 × Int32 → Option ((Int32 × Int32 × Int32) ⊕ ((Int32))) := fun (x1, x2, x3) =>
  if x3 < (S.1 (0, 0, 0) 36) then
    if 0 ≤ x3 ∧ x3 < 240 then
      if (S.1 (42, 0, 0) x3) = x1 then
        some (.inl (x1, (x2 + 1), (x3 + 1)))
      else
        some (.inl (x1, x2, (x3 + 1)))
    else none
  else
    some (.inr x2)
/-- TimberHouseModel$Rips.countOf(I)I -/
noncomputable def f1764 (S : wS) (x1 : Int32) : Option (Int32) :=
  (lp (f1764_b1 S) FU (x1, 0, 0)).bind fun v1 =>
  some v1
def go1764_1 (A : wK → Nat) (h : pm_H) (D : Nat) (R : Outcome × pm_H) (S : wS) : Int32 × Int32 × Int32 → Prop := fun (x1, x2, x3) => pm_go pm_prog (pm_call pm_prog D) 1764 1 [.ref (A (0, 0, 0)), .int x1, .int x2, .int x3] [] (wput A Ri_d S h) = some R
def ex1764_1 (A : wK → Nat) (h : pm_H) (D : Nat) (R : Outcome × pm_H) (S : wS) : (Int32) → Prop := fun x2 => ∀ q1 q3 : Value, pm_go pm_prog (pm_call pm_prog D) 1764 4 [.ref (A (0, 0, 0)), q1, .int x2, q3] [] (wput A Ri_d S h) = some R
theorem y1764_b1 {A : wK → Nat} {h : pm_H} {m D : Nat} {R : Outcome × pm_H} {S : wS} (hA : wok A Ri_d m) (hD : 0 ≤ D) (a : Int32 × Int32 × Int32) (r : (Int32 × Int32 × Int32) ⊕ ((Int32))) (e : f1764_b1 S a = some r) (hc : Sum.elim (go1764_1 A h D R S) (ex1764_1 A h D R S) r) : go1764_1 A h D R S a := by
  obtain ⟨x1, x2, x3⟩ := a
  dsimp only [go1764_1]
  simp only [f1764_b1] at e
  rw [g1764_1, b1764_1]
  by_cases k1 : x3 < (S.1 (0, 0, 0) 36)
  · rw [if_pos k1] at e
    by_cases k2 : 0 ≤ x3 ∧ x3 < 240
    · rw [if_pos k2] at e
      by_cases k3 : (S.1 (42, 0, 0) x3) = x1
      · rw [if_pos k3] at e
        have e := Option.some.inj e; subst e
        dsimp only [Sum.elim_inl, go1764_1] at hc
        simp -implicitDefEqProofs (disch := first | assumption | exact Nat.le_of_ble_eq_true rfl | decide) only [b1764_0, g1764_2, b1764_2, g1764_3, b1764_3, g1764_4, b1764_4, pe_sipush, pe_istore2, pe_istore3, pe_goto_w, pe_iload3, pe_aload0, pe_getfield, pe_icmp_ge, pe_iaload, pe_iload1, pe_icmp_ne, pe_iload2, pe_iadd, pe_goto, pe_iinc3, pm_prog_1, pm_ob_some, Nat.reduceDiv, Nat.reduceMod, Nat.reduceMul, Nat.reduceAdd, Int.reduceToNat, pm_kill_i, pm_kill_r, pm_kill_n, pm_kill_j, pm_kill_l, pm_kill_d, pm_cats_nil, pm_cats_i, pm_cats_r, pm_cats_n, pm_cats_l, pm_cats_d, sz_1, sz_2, sl_1, sl_2, lc_0, lc_lt, lc_le, li_ne, Int32.reduceOfInt, Int64.reduceOfInt, Int32.reduceOfNat, Int32.reduceLT, Int32.reduceLE, Prod.mk.injEq, Nat.reduceEqDiff, reduceCtorEq, and_true, true_and, and_false, false_and, and_self, ite_true, ite_false, ↓reduceIte, not_true_eq_false, not_false_eq_true, pe_ri, pe_rz, Ri_g36 hA, Ri_g41 hA, Ri_r41 hA, Ri_w41 hA, Ri_l41 hA, eq_true k1, eq_true k3, hc]
      · rw [if_neg k3] at e
        have e := Option.some.inj e; subst e
        dsimp only [Sum.elim_inl, go1764_1] at hc
        simp -implicitDefEqProofs (disch := first | assumption | exact Nat.le_of_ble_eq_true rfl | decide) only [b1764_0, g1764_2, b1764_2, g1764_3, b1764_3, g1764_4, b1764_4, pe_sipush, pe_istore2, pe_istore3, pe_goto_w, pe_iload3, pe_aload0, pe_getfield, pe_icmp_ge, pe_iaload, pe_iload1, pe_icmp_ne, pe_iload2, pe_iadd, pe_goto, pe_iinc3, pm_prog_1, pm_ob_some, Nat.reduceDiv, Nat.reduceMod, Nat.reduceMul, Nat.reduceAdd, Int.reduceToNat, pm_kill_i, pm_kill_r, pm_kill_n, pm_kill_j, pm_kill_l, pm_kill_d, pm_cats_nil, pm_cats_i, pm_cats_r, pm_cats_n, pm_cats_l, pm_cats_d, sz_1, sz_2, sl_1, sl_2, lc_0, lc_lt, lc_le, li_ne, Int32.reduceOfInt, Int64.reduceOfInt, Int32.reduceOfNat, Int32.reduceLT, Int32.reduceLE, Prod.mk.injEq, Nat.reduceEqDiff, reduceCtorEq, and_true, true_and, and_false, false_and, and_self, ite_true, ite_false, ↓reduceIte, not_true_eq_false, not_false_eq_true, pe_ri, pe_rz, Ri_g36 hA, Ri_g41 hA, Ri_r41 hA, Ri_w41 hA, Ri_l41 hA, eq_true k1, eq_false k3, hc]
    · rw [if_neg k2] at e; cases e
  · rw [if_neg k1] at e
    have e := Option.some.inj e; subst e
    dsimp only [Sum.elim_inr, ex1764_1] at hc
    simp -implicitDefEqProofs (disch := first | assumption | exact Nat.le_of_ble_eq_true rfl | decide) only [b1764_0, g1764_2, b1764_2, g1764_3, b1764_3, g1764_4, b1764_4, pe_sipush, pe_istore2, pe_istore3, pe_goto_w, pe_iload3, pe_aload0, pe_getfield, pe_icmp_ge, pe_iaload, pe_iload1, pe_icmp_ne, pe_iload2, pe_iadd, pe_goto, pe_iinc3, pm_prog_1, pm_ob_some, Nat.reduceDiv, Nat.reduceMod, Nat.reduceMul, Nat.reduceAdd, Int.reduceToNat, pm_kill_i, pm_kill_r, pm_kill_n, pm_kill_j, pm_kill_l, pm_kill_d, pm_cats_nil, pm_cats_i, pm_cats_r, pm_cats_n, pm_cats_l, pm_cats_d, sz_1, sz_2, sl_1, sl_2, lc_0, lc_lt, lc_le, li_ne, Int32.reduceOfInt, Int64.reduceOfInt, Int32.reduceOfNat, Int32.reduceLT, Int32.reduceLE, Prod.mk.injEq, Nat.reduceEqDiff, reduceCtorEq, and_true, true_and, and_false, false_and, and_self, ite_true, ite_false, ↓reduceIte, not_true_eq_false, not_false_eq_true, pe_ri, pe_rz, Ri_g36 hA, Ri_g41 hA, Ri_r41 hA, Ri_w41 hA, Ri_l41 hA, eq_false k1, hc]
theorem z1764_1 {A : wK → Nat} {h : pm_H} {m D : Nat} {R : Outcome × pm_H} {S : wS} (hA : wok A Ri_d m) (hD : 0 ≤ D) {n : Nat} {a : Int32 × Int32 × Int32} {b : (Int32)} (e : lp (f1764_b1 S) n a = some b) (hx : ex1764_1 A h D R S b) : go1764_1 A h D R S a := lp_run (fun a r => y1764_b1 hA hD a r) n a b e hx
theorem x1764 {A : wK → Nat} {h : pm_H} {m D : Nat} {S : wS} {x1 : Int32} {r : Int32} (hA : wok A Ri_d m) (hD : 1 ≤ D) (e : f1764 S x1 = some r) : pm_call pm_prog D 1764 [.ref (A (0, 0, 0)), .int x1] (wput A Ri_d S h) = some (.returned (some (.int r)), (wput A Ri_d S h)) := by
  obtain ⟨D, rfl⟩ : ∃ D', D = D' + 1 := ⟨D - 1, by omega⟩
  have hD : 0 ≤ D := by omega
  rw [c1764 (Ri_c hA), b1764_0]
  simp only [f1764] at e
  obtain ⟨v1, k1, e⟩ := Option.bind_eq_some_iff.mp e
  try dsimp only at e
  try simp -implicitDefEqProofs (disch := first | assumption | exact Nat.le_of_ble_eq_true rfl | decide) only [b1764_0, g1764_2, b1764_2, g1764_3, b1764_3, g1764_4, b1764_4, pe_sipush, pe_istore2, pe_istore3, pe_goto_w, pe_iload3, pe_aload0, pe_getfield, pe_icmp_ge, pe_iaload, pe_iload1, pe_icmp_ne, pe_iload2, pe_iadd, pe_goto, pe_iinc3, pm_prog_1, pm_ob_some, Nat.reduceDiv, Nat.reduceMod, Nat.reduceMul, Nat.reduceAdd, Int.reduceToNat, pm_kill_i, pm_kill_r, pm_kill_n, pm_kill_j, pm_kill_l, pm_kill_d, pm_cats_nil, pm_cats_i, pm_cats_r, pm_cats_n, pm_cats_l, pm_cats_d, sz_1, sz_2, sl_1, sl_2, lc_0, lc_lt, lc_le, li_ne, Int32.reduceOfInt, Int64.reduceOfInt, Int32.reduceOfNat, Int32.reduceLT, Int32.reduceLE, Prod.mk.injEq, Nat.reduceEqDiff, reduceCtorEq, and_true, true_and, and_false, false_and, and_self, ite_true, ite_false, ↓reduceIte, not_true_eq_false, not_false_eq_true, pe_ri, pe_rz, Ri_g36 hA, Ri_g41 hA, Ri_r41 hA, Ri_w41 hA, Ri_l41 hA]
  refine z1764_1 hA hD k1 ?_
  dsimp only [ex1764_1]
  intro q1 q3
  have e := Option.some.inj e; subst e
  simp -implicitDefEqProofs (disch := first | assumption | exact Nat.le_of_ble_eq_true rfl | decide) only [b1764_0, g1764_2, b1764_2, g1764_3, b1764_3, g1764_4, b1764_4, pe_sipush, pe_istore2, pe_istore3, pe_goto_w, pe_iload3, pe_aload0, pe_getfield, pe_icmp_ge, pe_iaload, pe_iload1, pe_icmp_ne, pe_iload2, pe_iadd, pe_goto, pe_iinc3, pm_prog_1, pm_ob_some, Nat.reduceDiv, Nat.reduceMod, Nat.reduceMul, Nat.reduceAdd, Int.reduceToNat, pm_kill_i, pm_kill_r, pm_kill_n, pm_kill_j, pm_kill_l, pm_kill_d, pm_cats_nil, pm_cats_i, pm_cats_r, pm_cats_n, pm_cats_l, pm_cats_d, sz_1, sz_2, sl_1, sl_2, lc_0, lc_lt, lc_le, li_ne, Int32.reduceOfInt, Int64.reduceOfInt, Int32.reduceOfNat, Int32.reduceLT, Int32.reduceLE, Prod.mk.injEq, Nat.reduceEqDiff, reduceCtorEq, and_true, true_and, and_false, false_and, and_self, ite_true, ite_false, ↓reduceIte, not_true_eq_false, not_false_eq_true, pe_ri, pe_rz, Ri_g36 hA, Ri_g41 hA, Ri_r41 hA, Ri_w41 hA, Ri_l41 hA]
/-- TimberHouseModel$Rips.price(II)J -/
theorem c1776 {d : Nat} {h : pm_H} {a : Nat} {x0 : Int32} {x1 : Int32} (hc : pm_cls h a = some 27) : pm_call pm_prog (d + 1) 1776 [.ref a, .int x0, .int x1] h = pm_ev pm_prog (pm_call pm_prog d) 1776 0 b1776_0 [.ref a, .int x0, .int x1] [] h := pm_cal (pm_rc1 hc rfl) rfl rfl rfl
theorem g1776_1 {cl : pm_C} {ls st : List Value} {h : pm_H} : pm_go pm_prog cl 1776 1 ls st h = pm_ev pm_prog cl 1776 1 b1776_1 ls st h := pm_go_eq pm_prog cl 1776 1 ls st h
theorem g1776_2 {cl : pm_C} {ls st : List Value} {h : pm_H} : pm_go pm_prog cl 1776 2 ls st h = pm_ev pm_prog cl 1776 2 b1776_2 ls st h := pm_go_eq pm_prog cl 1776 2 ls st h
theorem g1776_3 {cl : pm_C} {ls st : List Value} {h : pm_H} : pm_go pm_prog cl 1776 3 ls st h = pm_ev pm_prog cl 1776 3 b1776_3 ls st h := pm_go_eq pm_prog cl 1776 3 ls st h
theorem g1776_4 {cl : pm_C} {ls st : List Value} {h : pm_H} : pm_go pm_prog cl 1776 4 ls st h = pm_ev pm_prog cl 1776 4 b1776_4 ls st h := pm_go_eq pm_prog cl 1776 4 ls st h
theorem g1776_5 {cl : pm_C} {ls st : List Value} {h : pm_H} : pm_go pm_prog cl 1776 5 ls st h = pm_ev pm_prog cl 1776 5 b1776_5 ls st h := pm_go_eq pm_prog cl 1776 5 ls st h
theorem g1776_6 {cl : pm_C} {ls st : List Value} {h : pm_H} : pm_go pm_prog cl 1776 6 ls st h = pm_ev pm_prog cl 1776 6 b1776_6 ls st h := pm_go_eq pm_prog cl 1776 6 ls st h
theorem g1776_7 {cl : pm_C} {ls st : List Value} {h : pm_H} : pm_go pm_prog cl 1776 7 ls st h = pm_ev pm_prog cl 1776 7 b1776_7 ls st h := pm_go_eq pm_prog cl 1776 7 ls st h
theorem g1776_8 {cl : pm_C} {ls st : List Value} {h : pm_H} : pm_go pm_prog cl 1776 8 ls st h = pm_ev pm_prog cl 1776 8 b1776_8 ls st h := pm_go_eq pm_prog cl 1776 8 ls st h
noncomputable def f1776_4 (S : wS) (x1 : Int32) (x2 : Int32) (y1 : Int32) : Option (Int64 × wS) :=
  if y1 ≤ 0 then
    if x2 = 0 then
      if 0 ≤ x1 ∧ x1 < 8 then
        some ((S.2 (20, 0, 0) x1), (sz S (0, 0, 0) 0 y1))
      else none
    else
      if x2 = 1 then
        (f1764 (sz S (0, 0, 0) 0 y1) x1).bind fun v3 =>
        some ((Int32.toInt64 v3), (sz S (0, 0, 0) 0 y1))
      else
        if 0 ≤ x1 ∧ x1 < 8 then
          some ((Int32.toInt64 (S.1 (18, 0, 0) x1)), (sz S (0, 0, 0) 0 y1))
        else none
  else
    some (0, (sz S (0, 0, 0) 0 y1))
/-- TimberHouseModel$Rips.price(II)J -/
noncomputable def f1776 (S : wS) (x1 : Int32) (x2 : Int32) : Option (Int64 × wS) :=
  (f1772 S).bind fun (v1, S2) =>
  if v1 = 0 then
    if x1 < 0 then
      f1776_4 S2 x1 x2 2
    else
      if x1 < (S2.1 (0, 0, 0) 11) then
        if x2 < 0 then
          f1776_4 S2 x1 x2 2
        else
          if x2 ≤ 2 then
            f1776_4 S2 x1 x2 0
          else
            f1776_4 S2 x1 x2 2
      else
        f1776_4 S2 x1 x2 2
  else
    some (0, S2)
theorem y1776_4 {A : wK → Nat} {h : pm_H} {m D : Nat} {S : wS} {x1 : Int32} {x2 : Int32} {y1 : Int32} {r : Int64 × wS} (hA : wok A Ri_d m) (hD : 1 ≤ D) (e : f1776_4 S x1 x2 y1 = some r) : pm_go pm_prog (pm_call pm_prog D) 1776 4 [.ref (A (0, 0, 0)), .int x1, .int x2] [.int y1, .ref (A (0, 0, 0))] (wput A Ri_d S h) = some (.returned (some (.long r.1)), (wput A Ri_d r.2 h)) := by
  simp only [f1776_4] at e
  rw [g1776_4, b1776_4]
  by_cases k1 : y1 ≤ 0
  · rw [if_pos k1] at e
    by_cases k2 : x2 = 0
    · rw [if_pos k2] at e
      by_cases k3 : 0 ≤ x1 ∧ x1 < 8
      · rw [if_pos k3] at e
        have e := Option.some.inj e; subst e
        simp -implicitDefEqProofs (disch := first | assumption | exact Nat.le_of_ble_eq_true rfl | decide) only [b1776_0, g1776_1, b1776_1, g1776_2, b1776_2, g1776_3, b1776_3, g1776_5, b1776_5, g1776_6, b1776_6, g1776_7, b1776_7, g1776_8, b1776_8, pe_aload0, pe_call1, pm_af_ret, pm_af_void, pm_af_thr, pe_if_eq, pe_bipush, pe_lreturn, pe_iload1, pe_if_lt, pe_getfield, pe_icmp_ge, pe_iload2, pe_sipush, pe_icmp_le, pe_goto_w, pe_goto, pe_putfield, pe_if_le, pe_if_ne, pe_laload, pe_icmp_ne, pe_call2, pe_i2l, pe_iaload, pm_prog_1, pm_ob_some, Nat.reduceDiv, Nat.reduceMod, Nat.reduceMul, Nat.reduceAdd, Int.reduceToNat, pm_kill_i, pm_kill_r, pm_kill_n, pm_kill_j, pm_kill_l, pm_kill_d, pm_cats_nil, pm_cats_i, pm_cats_r, pm_cats_n, pm_cats_l, pm_cats_d, sz_1, sz_2, sl_1, sl_2, lc_0, lc_lt, lc_le, li_ne, Int32.reduceOfInt, Int64.reduceOfInt, Int32.reduceOfNat, Int32.reduceLT, Int32.reduceLE, Prod.mk.injEq, Nat.reduceEqDiff, reduceCtorEq, and_true, true_and, and_false, false_and, and_self, ite_true, ite_false, ↓reduceIte, not_true_eq_false, not_false_eq_true, pe_ri, pe_rz, Ri_g11 hA, Ri_p0 hA, Ri_g0 hA, Ri_g19 hA, Ri_g17 hA, Ri_r17 hA, Ri_w17 hA, Ri_l17 hA, Ri_r19 hA, Ri_w19 hA, Ri_l19 hA, eq_true k1, eq_true k2]
      · rw [if_neg k3] at e; cases e
    · rw [if_neg k2] at e
      by_cases k4 : x2 = 1
      · rw [if_pos k4] at e
        obtain ⟨v3, k5, e⟩ := Option.bind_eq_some_iff.mp e
        try dsimp only at e
        have z5 := x1764 (D := D) (h := h) hA (by omega) k5
        have e := Option.some.inj e; subst e
        simp -implicitDefEqProofs (disch := first | assumption | exact Nat.le_of_ble_eq_true rfl | decide) only [b1776_0, g1776_1, b1776_1, g1776_2, b1776_2, g1776_3, b1776_3, g1776_5, b1776_5, g1776_6, b1776_6, g1776_7, b1776_7, g1776_8, b1776_8, pe_aload0, pe_call1, pm_af_ret, pm_af_void, pm_af_thr, pe_if_eq, pe_bipush, pe_lreturn, pe_iload1, pe_if_lt, pe_getfield, pe_icmp_ge, pe_iload2, pe_sipush, pe_icmp_le, pe_goto_w, pe_goto, pe_putfield, pe_if_le, pe_if_ne, pe_laload, pe_icmp_ne, pe_call2, pe_i2l, pe_iaload, pm_prog_1, pm_ob_some, Nat.reduceDiv, Nat.reduceMod, Nat.reduceMul, Nat.reduceAdd, Int.reduceToNat, pm_kill_i, pm_kill_r, pm_kill_n, pm_kill_j, pm_kill_l, pm_kill_d, pm_cats_nil, pm_cats_i, pm_cats_r, pm_cats_n, pm_cats_l, pm_cats_d, sz_1, sz_2, sl_1, sl_2, lc_0, lc_lt, lc_le, li_ne, Int32.reduceOfInt, Int64.reduceOfInt, Int32.reduceOfNat, Int32.reduceLT, Int32.reduceLE, Prod.mk.injEq, Nat.reduceEqDiff, reduceCtorEq, and_true, true_and, and_false, false_and, and_self, ite_true, ite_false, ↓reduceIte, not_true_eq_false, not_false_eq_true, pe_ri, pe_rz, Ri_g11 hA, Ri_p0 hA, Ri_g0 hA, Ri_g19 hA, Ri_g17 hA, Ri_r17 hA, Ri_w17 hA, Ri_l17 hA, Ri_r19 hA, Ri_w19 hA, Ri_l19 hA, eq_true k1, eq_false k2, eq_true k4, z5]
      · rw [if_neg k4] at e
        by_cases k6 : 0 ≤ x1 ∧ x1 < 8
        · rw [if_pos k6] at e
          have e := Option.some.inj e; subst e
          simp -implicitDefEqProofs (disch := first | assumption | exact Nat.le_of_ble_eq_true rfl | decide) only [b1776_0, g1776_1, b1776_1, g1776_2, b1776_2, g1776_3, b1776_3, g1776_5, b1776_5, g1776_6, b1776_6, g1776_7, b1776_7, g1776_8, b1776_8, pe_aload0, pe_call1, pm_af_ret, pm_af_void, pm_af_thr, pe_if_eq, pe_bipush, pe_lreturn, pe_iload1, pe_if_lt, pe_getfield, pe_icmp_ge, pe_iload2, pe_sipush, pe_icmp_le, pe_goto_w, pe_goto, pe_putfield, pe_if_le, pe_if_ne, pe_laload, pe_icmp_ne, pe_call2, pe_i2l, pe_iaload, pm_prog_1, pm_ob_some, Nat.reduceDiv, Nat.reduceMod, Nat.reduceMul, Nat.reduceAdd, Int.reduceToNat, pm_kill_i, pm_kill_r, pm_kill_n, pm_kill_j, pm_kill_l, pm_kill_d, pm_cats_nil, pm_cats_i, pm_cats_r, pm_cats_n, pm_cats_l, pm_cats_d, sz_1, sz_2, sl_1, sl_2, lc_0, lc_lt, lc_le, li_ne, Int32.reduceOfInt, Int64.reduceOfInt, Int32.reduceOfNat, Int32.reduceLT, Int32.reduceLE, Prod.mk.injEq, Nat.reduceEqDiff, reduceCtorEq, and_true, true_and, and_false, false_and, and_self, ite_true, ite_false, ↓reduceIte, not_true_eq_false, not_false_eq_true, pe_ri, pe_rz, Ri_g11 hA, Ri_p0 hA, Ri_g0 hA, Ri_g19 hA, Ri_g17 hA, Ri_r17 hA, Ri_w17 hA, Ri_l17 hA, Ri_r19 hA, Ri_w19 hA, Ri_l19 hA, eq_true k1, eq_false k2, eq_false k4]
        · rw [if_neg k6] at e; cases e
  · rw [if_neg k1] at e
    have e := Option.some.inj e; subst e
    simp -implicitDefEqProofs (disch := first | assumption | exact Nat.le_of_ble_eq_true rfl | decide) only [b1776_0, g1776_1, b1776_1, g1776_2, b1776_2, g1776_3, b1776_3, g1776_5, b1776_5, g1776_6, b1776_6, g1776_7, b1776_7, g1776_8, b1776_8, pe_aload0, pe_call1, pm_af_ret, pm_af_void, pm_af_thr, pe_if_eq, pe_bipush, pe_lreturn, pe_iload1, pe_if_lt, pe_getfield, pe_icmp_ge, pe_iload2, pe_sipush, pe_icmp_le, pe_goto_w, pe_goto, pe_putfield, pe_if_le, pe_if_ne, pe_laload, pe_icmp_ne, pe_call2, pe_i2l, pe_iaload, pm_prog_1, pm_ob_some, Nat.reduceDiv, Nat.reduceMod, Nat.reduceMul, Nat.reduceAdd, Int.reduceToNat, pm_kill_i, pm_kill_r, pm_kill_n, pm_kill_j, pm_kill_l, pm_kill_d, pm_cats_nil, pm_cats_i, pm_cats_r, pm_cats_n, pm_cats_l, pm_cats_d, sz_1, sz_2, sl_1, sl_2, lc_0, lc_lt, lc_le, li_ne, Int32.reduceOfInt, Int64.reduceOfInt, Int32.reduceOfNat, Int32.reduceLT, Int32.reduceLE, Prod.mk.injEq, Nat.reduceEqDiff, reduceCtorEq, and_true, true_and, and_false, false_and, and_self, ite_true, ite_false, ↓reduceIte, not_true_eq_false, not_false_eq_true, pe_ri, pe_rz, Ri_g11 hA, Ri_p0 hA, Ri_g0 hA, Ri_g19 hA, Ri_g17 hA, Ri_r17 hA, Ri_w17 hA, Ri_l17 hA, Ri_r19 hA, Ri_w19 hA, Ri_l19 hA, eq_false k1]
theorem x1776 {A : wK → Nat} {h : pm_H} {m D : Nat} {S : wS} {x1 : Int32} {x2 : Int32} {r : Int64 × wS} (hA : wok A Ri_d m) (hD : 2 ≤ D) (e : f1776 S x1 x2 = some r) : pm_call pm_prog D 1776 [.ref (A (0, 0, 0)), .int x1, .int x2] (wput A Ri_d S h) = some (.returned (some (.long r.1)), (wput A Ri_d r.2 h)) := by
  obtain ⟨D, rfl⟩ : ∃ D', D = D' + 1 := ⟨D - 1, by omega⟩
  have hD : 1 ≤ D := by omega
  rw [c1776 (Ri_c hA), b1776_0]
  simp only [f1776] at e
  obtain ⟨⟨v1, S2⟩, k1, e⟩ := Option.bind_eq_some_iff.mp e
  try dsimp only at e
  have z1 := x1772 (D := D) (h := h) hA (by omega) k1
  dsimp only at z1
  by_cases k2 : v1 = 0
  · rw [if_pos k2] at e
    by_cases k3 : x1 < 0
    · rw [if_pos k3] at e
      have k4 := y1776_4 (h := h) hA hD e
      simp -implicitDefEqProofs (disch := first | assumption | exact Nat.le_of_ble_eq_true rfl | decide) only [b1776_0, g1776_1, b1776_1, g1776_2, b1776_2, g1776_3, b1776_3, g1776_5, b1776_5, g1776_6, b1776_6, g1776_7, b1776_7, g1776_8, b1776_8, pe_aload0, pe_call1, pm_af_ret, pm_af_void, pm_af_thr, pe_if_eq, pe_bipush, pe_lreturn, pe_iload1, pe_if_lt, pe_getfield, pe_icmp_ge, pe_iload2, pe_sipush, pe_icmp_le, pe_goto_w, pe_goto, pe_putfield, pe_if_le, pe_if_ne, pe_laload, pe_icmp_ne, pe_call2, pe_i2l, pe_iaload, pm_prog_1, pm_ob_some, Nat.reduceDiv, Nat.reduceMod, Nat.reduceMul, Nat.reduceAdd, Int.reduceToNat, pm_kill_i, pm_kill_r, pm_kill_n, pm_kill_j, pm_kill_l, pm_kill_d, pm_cats_nil, pm_cats_i, pm_cats_r, pm_cats_n, pm_cats_l, pm_cats_d, sz_1, sz_2, sl_1, sl_2, lc_0, lc_lt, lc_le, li_ne, Int32.reduceOfInt, Int64.reduceOfInt, Int32.reduceOfNat, Int32.reduceLT, Int32.reduceLE, Prod.mk.injEq, Nat.reduceEqDiff, reduceCtorEq, and_true, true_and, and_false, false_and, and_self, ite_true, ite_false, ↓reduceIte, not_true_eq_false, not_false_eq_true, pe_ri, pe_rz, Ri_g11 hA, Ri_p0 hA, Ri_g0 hA, Ri_g19 hA, Ri_g17 hA, Ri_r17 hA, Ri_w17 hA, Ri_l17 hA, Ri_r19 hA, Ri_w19 hA, Ri_l19 hA, z1, eq_true k2, eq_true k3, k4]
    · rw [if_neg k3] at e
      by_cases k5 : x1 < (S2.1 (0, 0, 0) 11)
      · rw [if_pos k5] at e
        by_cases k6 : x2 < 0
        · rw [if_pos k6] at e
          have k7 := y1776_4 (h := h) hA hD e
          simp -implicitDefEqProofs (disch := first | assumption | exact Nat.le_of_ble_eq_true rfl | decide) only [b1776_0, g1776_1, b1776_1, g1776_2, b1776_2, g1776_3, b1776_3, g1776_5, b1776_5, g1776_6, b1776_6, g1776_7, b1776_7, g1776_8, b1776_8, pe_aload0, pe_call1, pm_af_ret, pm_af_void, pm_af_thr, pe_if_eq, pe_bipush, pe_lreturn, pe_iload1, pe_if_lt, pe_getfield, pe_icmp_ge, pe_iload2, pe_sipush, pe_icmp_le, pe_goto_w, pe_goto, pe_putfield, pe_if_le, pe_if_ne, pe_laload, pe_icmp_ne, pe_call2, pe_i2l, pe_iaload, pm_prog_1, pm_ob_some, Nat.reduceDiv, Nat.reduceMod, Nat.reduceMul, Nat.reduceAdd, Int.reduceToNat, pm_kill_i, pm_kill_r, pm_kill_n, pm_kill_j, pm_kill_l, pm_kill_d, pm_cats_nil, pm_cats_i, pm_cats_r, pm_cats_n, pm_cats_l, pm_cats_d, sz_1, sz_2, sl_1, sl_2, lc_0, lc_lt, lc_le, li_ne, Int32.reduceOfInt, Int64.reduceOfInt, Int32.reduceOfNat, Int32.reduceLT, Int32.reduceLE, Prod.mk.injEq, Nat.reduceEqDiff, reduceCtorEq, and_true, true_and, and_false, false_and, and_self, ite_true, ite_false, ↓reduceIte, not_true_eq_false, not_false_eq_true, pe_ri, pe_rz, Ri_g11 hA, Ri_p0 hA, Ri_g0 hA, Ri_g19 hA, Ri_g17 hA, Ri_r17 hA, Ri_w17 hA, Ri_l17 hA, Ri_r19 hA, Ri_w19 hA, Ri_l19 hA, z1, eq_true k2, eq_false k3, eq_true k5, eq_true k6, k7]
        · rw [if_neg k6] at e
          by_cases k8 : x2 ≤ 2
          · rw [if_pos k8] at e
            have k9 := y1776_4 (h := h) hA hD e
            simp -implicitDefEqProofs (disch := first | assumption | exact Nat.le_of_ble_eq_true rfl | decide) only [b1776_0, g1776_1, b1776_1, g1776_2, b1776_2, g1776_3, b1776_3, g1776_5, b1776_5, g1776_6, b1776_6, g1776_7, b1776_7, g1776_8, b1776_8, pe_aload0, pe_call1, pm_af_ret, pm_af_void, pm_af_thr, pe_if_eq, pe_bipush, pe_lreturn, pe_iload1, pe_if_lt, pe_getfield, pe_icmp_ge, pe_iload2, pe_sipush, pe_icmp_le, pe_goto_w, pe_goto, pe_putfield, pe_if_le, pe_if_ne, pe_laload, pe_icmp_ne, pe_call2, pe_i2l, pe_iaload, pm_prog_1, pm_ob_some, Nat.reduceDiv, Nat.reduceMod, Nat.reduceMul, Nat.reduceAdd, Int.reduceToNat, pm_kill_i, pm_kill_r, pm_kill_n, pm_kill_j, pm_kill_l, pm_kill_d, pm_cats_nil, pm_cats_i, pm_cats_r, pm_cats_n, pm_cats_l, pm_cats_d, sz_1, sz_2, sl_1, sl_2, lc_0, lc_lt, lc_le, li_ne, Int32.reduceOfInt, Int64.reduceOfInt, Int32.reduceOfNat, Int32.reduceLT, Int32.reduceLE, Prod.mk.injEq, Nat.reduceEqDiff, reduceCtorEq, and_true, true_and, and_false, false_and, and_self, ite_true, ite_false, ↓reduceIte, not_true_eq_false, not_false_eq_true, pe_ri, pe_rz, Ri_g11 hA, Ri_p0 hA, Ri_g0 hA, Ri_g19 hA, Ri_g17 hA, Ri_r17 hA, Ri_w17 hA, Ri_l17 hA, Ri_r19 hA, Ri_w19 hA, Ri_l19 hA, z1, eq_true k2, eq_false k3, eq_true k5, eq_false k6, eq_true k8, k9]
          · rw [if_neg k8] at e
            have k10 := y1776_4 (h := h) hA hD e
            simp -implicitDefEqProofs (disch := first | assumption | exact Nat.le_of_ble_eq_true rfl | decide) only [b1776_0, g1776_1, b1776_1, g1776_2, b1776_2, g1776_3, b1776_3, g1776_5, b1776_5, g1776_6, b1776_6, g1776_7, b1776_7, g1776_8, b1776_8, pe_aload0, pe_call1, pm_af_ret, pm_af_void, pm_af_thr, pe_if_eq, pe_bipush, pe_lreturn, pe_iload1, pe_if_lt, pe_getfield, pe_icmp_ge, pe_iload2, pe_sipush, pe_icmp_le, pe_goto_w, pe_goto, pe_putfield, pe_if_le, pe_if_ne, pe_laload, pe_icmp_ne, pe_call2, pe_i2l, pe_iaload, pm_prog_1, pm_ob_some, Nat.reduceDiv, Nat.reduceMod, Nat.reduceMul, Nat.reduceAdd, Int.reduceToNat, pm_kill_i, pm_kill_r, pm_kill_n, pm_kill_j, pm_kill_l, pm_kill_d, pm_cats_nil, pm_cats_i, pm_cats_r, pm_cats_n, pm_cats_l, pm_cats_d, sz_1, sz_2, sl_1, sl_2, lc_0, lc_lt, lc_le, li_ne, Int32.reduceOfInt, Int64.reduceOfInt, Int32.reduceOfNat, Int32.reduceLT, Int32.reduceLE, Prod.mk.injEq, Nat.reduceEqDiff, reduceCtorEq, and_true, true_and, and_false, false_and, and_self, ite_true, ite_false, ↓reduceIte, not_true_eq_false, not_false_eq_true, pe_ri, pe_rz, Ri_g11 hA, Ri_p0 hA, Ri_g0 hA, Ri_g19 hA, Ri_g17 hA, Ri_r17 hA, Ri_w17 hA, Ri_l17 hA, Ri_r19 hA, Ri_w19 hA, Ri_l19 hA, z1, eq_true k2, eq_false k3, eq_true k5, eq_false k6, eq_false k8, k10]
      · rw [if_neg k5] at e
        have k11 := y1776_4 (h := h) hA hD e
        simp -implicitDefEqProofs (disch := first | assumption | exact Nat.le_of_ble_eq_true rfl | decide) only [b1776_0, g1776_1, b1776_1, g1776_2, b1776_2, g1776_3, b1776_3, g1776_5, b1776_5, g1776_6, b1776_6, g1776_7, b1776_7, g1776_8, b1776_8, pe_aload0, pe_call1, pm_af_ret, pm_af_void, pm_af_thr, pe_if_eq, pe_bipush, pe_lreturn, pe_iload1, pe_if_lt, pe_getfield, pe_icmp_ge, pe_iload2, pe_sipush, pe_icmp_le, pe_goto_w, pe_goto, pe_putfield, pe_if_le, pe_if_ne, pe_laload, pe_icmp_ne, pe_call2, pe_i2l, pe_iaload, pm_prog_1, pm_ob_some, Nat.reduceDiv, Nat.reduceMod, Nat.reduceMul, Nat.reduceAdd, Int.reduceToNat, pm_kill_i, pm_kill_r, pm_kill_n, pm_kill_j, pm_kill_l, pm_kill_d, pm_cats_nil, pm_cats_i, pm_cats_r, pm_cats_n, pm_cats_l, pm_cats_d, sz_1, sz_2, sl_1, sl_2, lc_0, lc_lt, lc_le, li_ne, Int32.reduceOfInt, Int64.reduceOfInt, Int32.reduceOfNat, Int32.reduceLT, Int32.reduceLE, Prod.mk.injEq, Nat.reduceEqDiff, reduceCtorEq, and_true, true_and, and_false, false_and, and_self, ite_true, ite_false, ↓reduceIte, not_true_eq_false, not_false_eq_true, pe_ri, pe_rz, Ri_g11 hA, Ri_p0 hA, Ri_g0 hA, Ri_g19 hA, Ri_g17 hA, Ri_r17 hA, Ri_w17 hA, Ri_l17 hA, Ri_r19 hA, Ri_w19 hA, Ri_l19 hA, z1, eq_true k2, eq_false k3, eq_false k5, k11]
  · rw [if_neg k2] at e
    have e := Option.some.inj e; subst e
    simp -implicitDefEqProofs (disch := first | assumption | exact Nat.le_of_ble_eq_true rfl | decide) only [b1776_0, g1776_1, b1776_1, g1776_2, b1776_2, g1776_3, b1776_3, g1776_5, b1776_5, g1776_6, b1776_6, g1776_7, b1776_7, g1776_8, b1776_8, pe_aload0, pe_call1, pm_af_ret, pm_af_void, pm_af_thr, pe_if_eq, pe_bipush, pe_lreturn, pe_iload1, pe_if_lt, pe_getfield, pe_icmp_ge, pe_iload2, pe_sipush, pe_icmp_le, pe_goto_w, pe_goto, pe_putfield, pe_if_le, pe_if_ne, pe_laload, pe_icmp_ne, pe_call2, pe_i2l, pe_iaload, pm_prog_1, pm_ob_some, Nat.reduceDiv, Nat.reduceMod, Nat.reduceMul, Nat.reduceAdd, Int.reduceToNat, pm_kill_i, pm_kill_r, pm_kill_n, pm_kill_j, pm_kill_l, pm_kill_d, pm_cats_nil, pm_cats_i, pm_cats_r, pm_cats_n, pm_cats_l, pm_cats_d, sz_1, sz_2, sl_1, sl_2, lc_0, lc_lt, lc_le, li_ne, Int32.reduceOfInt, Int64.reduceOfInt, Int32.reduceOfNat, Int32.reduceLT, Int32.reduceLE, Prod.mk.injEq, Nat.reduceEqDiff, reduceCtorEq, and_true, true_and, and_false, false_and, and_self, ite_true, ite_false, ↓reduceIte, not_true_eq_false, not_false_eq_true, pe_ri, pe_rz, Ri_g11 hA, Ri_p0 hA, Ri_g0 hA, Ri_g19 hA, Ri_g17 hA, Ri_r17 hA, Ri_w17 hA, Ri_l17 hA, Ri_r19 hA, Ri_w19 hA, Ri_l19 hA, z1, eq_false k2]
/-- TimberHouseModel$Rips.bound()J -/
theorem c1775 {d : Nat} {h : pm_H} {a : Nat} (hc : pm_cls h a = some 27) : pm_call pm_prog (d + 1) 1775 [.ref a] h = pm_ev pm_prog (pm_call pm_prog d) 1775 0 b1775_0 [.ref a] [] h := pm_cal (pm_rc1 hc rfl) rfl rfl rfl
theorem g1775_1 {cl : pm_C} {ls st : List Value} {h : pm_H} : pm_go pm_prog cl 1775 1 ls st h = pm_ev pm_prog cl 1775 1 b1775_1 ls st h := pm_go_eq pm_prog cl 1775 1 ls st h
theorem g1775_2 {cl : pm_C} {ls st : List Value} {h : pm_H} : pm_go pm_prog cl 1775 2 ls st h = pm_ev pm_prog cl 1775 2 b1775_2 ls st h := pm_go_eq pm_prog cl 1775 2 ls st h
/-- TimberHouseModel$Rips.bound()J -/
noncomputable def f1775 (S : wS) : Option (Int64 × wS) :=
  (f1772 S).bind fun (v1, S2) =>
  if v1 = 0 then
    some ((S2.2 (0, 0, 0) 44), S2)
  else
    some (0, S2)
theorem x1775 {A : wK → Nat} {h : pm_H} {m D : Nat} {S : wS} {r : Int64 × wS} (hA : wok A Ri_d m) (hD : 2 ≤ D) (e : f1775 S = some r) : pm_call pm_prog D 1775 [.ref (A (0, 0, 0))] (wput A Ri_d S h) = some (.returned (some (.long r.1)), (wput A Ri_d r.2 h)) := by
  obtain ⟨D, rfl⟩ : ∃ D', D = D' + 1 := ⟨D - 1, by omega⟩
  have hD : 1 ≤ D := by omega
  rw [c1775 (Ri_c hA), b1775_0]
  simp only [f1775] at e
  obtain ⟨⟨v1, S2⟩, k1, e⟩ := Option.bind_eq_some_iff.mp e
  try dsimp only at e
  have z1 := x1772 (D := D) (h := h) hA (by omega) k1
  dsimp only at z1
  by_cases k2 : v1 = 0
  · rw [if_pos k2] at e
    have e := Option.some.inj e; subst e
    simp -implicitDefEqProofs (disch := first | assumption | exact Nat.le_of_ble_eq_true rfl | decide) only [b1775_0, g1775_1, b1775_1, g1775_2, b1775_2, pe_aload0, pe_call1, pm_af_ret, pm_af_void, pm_af_thr, pe_if_eq, pe_bipush, pe_goto, pe_getfield, pe_goto_w, pe_lreturn, pm_prog_1, pm_ob_some, Nat.reduceDiv, Nat.reduceMod, Nat.reduceMul, Nat.reduceAdd, Int.reduceToNat, pm_kill_i, pm_kill_r, pm_kill_n, pm_kill_j, pm_kill_l, pm_kill_d, pm_cats_nil, pm_cats_i, pm_cats_r, pm_cats_n, pm_cats_l, pm_cats_d, sz_1, sz_2, sl_1, sl_2, lc_0, lc_lt, lc_le, li_ne, Int32.reduceOfInt, Int64.reduceOfInt, Int32.reduceOfNat, Int32.reduceLT, Int32.reduceLE, Prod.mk.injEq, Nat.reduceEqDiff, reduceCtorEq, and_true, true_and, and_false, false_and, and_self, ite_true, ite_false, ↓reduceIte, not_true_eq_false, not_false_eq_true, pe_ri, pe_rz, Ri_g44 hA, z1, eq_true k2]
  · rw [if_neg k2] at e
    have e := Option.some.inj e; subst e
    simp -implicitDefEqProofs (disch := first | assumption | exact Nat.le_of_ble_eq_true rfl | decide) only [b1775_0, g1775_1, b1775_1, g1775_2, b1775_2, pe_aload0, pe_call1, pm_af_ret, pm_af_void, pm_af_thr, pe_if_eq, pe_bipush, pe_goto, pe_getfield, pe_goto_w, pe_lreturn, pm_prog_1, pm_ob_some, Nat.reduceDiv, Nat.reduceMod, Nat.reduceMul, Nat.reduceAdd, Int.reduceToNat, pm_kill_i, pm_kill_r, pm_kill_n, pm_kill_j, pm_kill_l, pm_kill_d, pm_cats_nil, pm_cats_i, pm_cats_r, pm_cats_n, pm_cats_l, pm_cats_d, sz_1, sz_2, sl_1, sl_2, lc_0, lc_lt, lc_le, li_ne, Int32.reduceOfInt, Int64.reduceOfInt, Int32.reduceOfNat, Int32.reduceLT, Int32.reduceLE, Prod.mk.injEq, Nat.reduceEqDiff, reduceCtorEq, and_true, true_and, and_false, false_and, and_self, ite_true, ite_false, ↓reduceIte, not_true_eq_false, not_false_eq_true, pe_ri, pe_rz, Ri_g44 hA, z1, eq_false k2]
/-- TimberHouseModel$Rips.isOver(IIIII)Z -/
theorem c1748 {d : Nat} {h : pm_H} {a : Nat} {x0 : Int32} {x1 : Int32} {x2 : Int32} {x3 : Int32} {x4 : Int32} (hc : pm_cls h a = some 27) : pm_call pm_prog (d + 1) 1748 [.ref a, .int x0, .int x1, .int x2, .int x3, .int x4] h = pm_ev pm_prog (pm_call pm_prog d) 1748 0 b1748_0 [.ref a, .int x0, .int x1, .int x2, .int x3, .int x4, pm_junk, pm_junk] [] h := pm_cal (pm_rc1 hc rfl) rfl rfl rfl
theorem g1748_1 {cl : pm_C} {ls st : List Value} {h : pm_H} : pm_go pm_prog cl 1748 1 ls st h = pm_ev pm_prog cl 1748 1 b1748_1 ls st h := pm_go_eq pm_prog cl 1748 1 ls st h
theorem g1748_2 {cl : pm_C} {ls st : List Value} {h : pm_H} : pm_go pm_prog cl 1748 2 ls st h = pm_ev pm_prog cl 1748 2 b1748_2 ls st h := pm_go_eq pm_prog cl 1748 2 ls st h
theorem g1748_3 {cl : pm_C} {ls st : List Value} {h : pm_H} : pm_go pm_prog cl 1748 3 ls st h = pm_ev pm_prog cl 1748 3 b1748_3 ls st h := pm_go_eq pm_prog cl 1748 3 ls st h
theorem g1748_4 {cl : pm_C} {ls st : List Value} {h : pm_H} : pm_go pm_prog cl 1748 4 ls st h = pm_ev pm_prog cl 1748 4 b1748_4 ls st h := pm_go_eq pm_prog cl 1748 4 ls st h
theorem g1748_5 {cl : pm_C} {ls st : List Value} {h : pm_H} : pm_go pm_prog cl 1748 5 ls st h = pm_ev pm_prog cl 1748 5 b1748_5 ls st h := pm_go_eq pm_prog cl 1748 5 ls st h
theorem g1748_6 {cl : pm_C} {ls st : List Value} {h : pm_H} : pm_go pm_prog cl 1748 6 ls st h = pm_ev pm_prog cl 1748 6 b1748_6 ls st h := pm_go_eq pm_prog cl 1748 6 ls st h
noncomputable def f1748_4 (S : wS) (x6 : Int32) (y0 : Int32) : Option (Int32) :=
  if x6 = 0 then
    some 0
  else
    if y0 = 0 then
      some 0
    else
      some 1
noncomputable def f1748_2 (S : wS) (x1 : Int32) (x4 : Int32) (x5 : Int32) (y0 : Int32) : Option (Int32) :=
  if 0 ≤ x1 ∧ x1 < 20 then
    if ((S.1 (9, 0, 0) x1) - (S.1 (0, 0, 0) 22)) < (x5 * (S.1 (0, 0, 0) 1)) then
      if (((S.1 (9, 0, 0) x1) + (S.1 (11, 0, 0) x1)) + (S.1 (0, 0, 0) 22)) ≤ (x4 * (S.1 (0, 0, 0) 1)) then
        f1748_4 S y0 0
      else
        f1748_4 S y0 1
    else
      f1748_4 S y0 0
  else none
/-- TimberHouseModel$Rips.isOver(IIIII)Z -/
noncomputable def f1748 (S : wS) (x1 : Int32) (x2 : Int32) (x3 : Int32) (x4 : Int32) (x5 : Int32) : Option (Int32) :=
  if 0 ≤ x1 ∧ x1 < 20 then
    if ((S.1 (8, 0, 0) x1) - (S.1 (0, 0, 0) 22)) < (x3 * (S.1 (0, 0, 0) 1)) then
      if (((S.1 (8, 0, 0) x1) + (S.1 (10, 0, 0) x1)) + (S.1 (0, 0, 0) 22)) ≤ (x2 * (S.1 (0, 0, 0) 1)) then
        f1748_2 S x1 x4 x5 0
      else
        f1748_2 S x1 x4 x5 1
    else
      f1748_2 S x1 x4 x5 0
  else none
theorem y1748_4 {A : wK → Nat} {h : pm_H} {m D : Nat} {S : wS} {x6 : Int32} {y0 : Int32} {r : Int32} (hA : wok A Ri_d m) (hD : 0 ≤ D) (e : f1748_4 S x6 y0 = some r) : ∀ q1 q2 q3 q4 q5 q7 : Value, pm_go pm_prog (pm_call pm_prog D) 1748 4 [.ref (A (0, 0, 0)), q1, q2, q3, q4, q5, .int x6, q7] [.int y0] (wput A Ri_d S h) = some (.returned (some (.int r)), (wput A Ri_d S h)) := by
  intro q1 q2 q3 q4 q5 q7
  simp only [f1748_4] at e
  rw [g1748_4, b1748_4]
  by_cases k1 : x6 = 0
  · rw [if_pos k1] at e
    have e := Option.some.inj e; subst e
    simp -implicitDefEqProofs (disch := first | assumption | exact Nat.le_of_ble_eq_true rfl | decide) only [b1748_0, g1748_1, b1748_1, g1748_3, b1748_3, g1748_5, b1748_5, g1748_6, b1748_6, pe_aload0, pe_getfield, pe_iload1, pe_iaload, pe_isub, pe_iload3, pe_imul, pe_icmp_ge, pe_iadd, pe_iload2, pe_icmp_le, pe_sipush, pe_goto, pe_goto_w, pe_istore6, pe_iload5, pe_iload4, pe_istore7, pe_iload6, pe_if_eq, pe_iload7, pm_prog_1, pm_ob_some, Nat.reduceDiv, Nat.reduceMod, Nat.reduceMul, Nat.reduceAdd, Int.reduceToNat, pm_kill_i, pm_kill_r, pm_kill_n, pm_kill_j, pm_kill_l, pm_kill_d, pm_cats_nil, pm_cats_i, pm_cats_r, pm_cats_n, pm_cats_l, pm_cats_d, sz_1, sz_2, sl_1, sl_2, lc_0, lc_lt, lc_le, li_ne, Int32.reduceOfInt, Int64.reduceOfInt, Int32.reduceOfNat, Int32.reduceLT, Int32.reduceLE, Prod.mk.injEq, Nat.reduceEqDiff, reduceCtorEq, and_true, true_and, and_false, false_and, and_self, ite_true, ite_false, ↓reduceIte, not_true_eq_false, not_false_eq_true, pe_ri, pe_rz, Ri_g7 hA, Ri_g22 hA, Ri_g1 hA, Ri_g9 hA, Ri_g8 hA, Ri_g10 hA, Ri_r7 hA, Ri_w7 hA, Ri_l7 hA, Ri_r8 hA, Ri_w8 hA, Ri_l8 hA, Ri_r9 hA, Ri_w9 hA, Ri_l9 hA, Ri_r10 hA, Ri_w10 hA, Ri_l10 hA, eq_true k1]
  · rw [if_neg k1] at e
    by_cases k2 : y0 = 0
    · rw [if_pos k2] at e
      have e := Option.some.inj e; subst e
      simp -implicitDefEqProofs (disch := first | assumption | exact Nat.le_of_ble_eq_true rfl | decide) only [b1748_0, g1748_1, b1748_1, g1748_3, b1748_3, g1748_5, b1748_5, g1748_6, b1748_6, pe_aload0, pe_getfield, pe_iload1, pe_iaload, pe_isub, pe_iload3, pe_imul, pe_icmp_ge, pe_iadd, pe_iload2, pe_icmp_le, pe_sipush, pe_goto, pe_goto_w, pe_istore6, pe_iload5, pe_iload4, pe_istore7, pe_iload6, pe_if_eq, pe_iload7, pm_prog_1, pm_ob_some, Nat.reduceDiv, Nat.reduceMod, Nat.reduceMul, Nat.reduceAdd, Int.reduceToNat, pm_kill_i, pm_kill_r, pm_kill_n, pm_kill_j, pm_kill_l, pm_kill_d, pm_cats_nil, pm_cats_i, pm_cats_r, pm_cats_n, pm_cats_l, pm_cats_d, sz_1, sz_2, sl_1, sl_2, lc_0, lc_lt, lc_le, li_ne, Int32.reduceOfInt, Int64.reduceOfInt, Int32.reduceOfNat, Int32.reduceLT, Int32.reduceLE, Prod.mk.injEq, Nat.reduceEqDiff, reduceCtorEq, and_true, true_and, and_false, false_and, and_self, ite_true, ite_false, ↓reduceIte, not_true_eq_false, not_false_eq_true, pe_ri, pe_rz, Ri_g7 hA, Ri_g22 hA, Ri_g1 hA, Ri_g9 hA, Ri_g8 hA, Ri_g10 hA, Ri_r7 hA, Ri_w7 hA, Ri_l7 hA, Ri_r8 hA, Ri_w8 hA, Ri_l8 hA, Ri_r9 hA, Ri_w9 hA, Ri_l9 hA, Ri_r10 hA, Ri_w10 hA, Ri_l10 hA, eq_false k1, eq_true k2]
    · rw [if_neg k2] at e
      have e := Option.some.inj e; subst e
      simp -implicitDefEqProofs (disch := first | assumption | exact Nat.le_of_ble_eq_true rfl | decide) only [b1748_0, g1748_1, b1748_1, g1748_3, b1748_3, g1748_5, b1748_5, g1748_6, b1748_6, pe_aload0, pe_getfield, pe_iload1, pe_iaload, pe_isub, pe_iload3, pe_imul, pe_icmp_ge, pe_iadd, pe_iload2, pe_icmp_le, pe_sipush, pe_goto, pe_goto_w, pe_istore6, pe_iload5, pe_iload4, pe_istore7, pe_iload6, pe_if_eq, pe_iload7, pm_prog_1, pm_ob_some, Nat.reduceDiv, Nat.reduceMod, Nat.reduceMul, Nat.reduceAdd, Int.reduceToNat, pm_kill_i, pm_kill_r, pm_kill_n, pm_kill_j, pm_kill_l, pm_kill_d, pm_cats_nil, pm_cats_i, pm_cats_r, pm_cats_n, pm_cats_l, pm_cats_d, sz_1, sz_2, sl_1, sl_2, lc_0, lc_lt, lc_le, li_ne, Int32.reduceOfInt, Int64.reduceOfInt, Int32.reduceOfNat, Int32.reduceLT, Int32.reduceLE, Prod.mk.injEq, Nat.reduceEqDiff, reduceCtorEq, and_true, true_and, and_false, false_and, and_self, ite_true, ite_false, ↓reduceIte, not_true_eq_false, not_false_eq_true, pe_ri, pe_rz, Ri_g7 hA, Ri_g22 hA, Ri_g1 hA, Ri_g9 hA, Ri_g8 hA, Ri_g10 hA, Ri_r7 hA, Ri_w7 hA, Ri_l7 hA, Ri_r8 hA, Ri_w8 hA, Ri_l8 hA, Ri_r9 hA, Ri_w9 hA, Ri_l9 hA, Ri_r10 hA, Ri_w10 hA, Ri_l10 hA, eq_false k1, eq_false k2]
theorem y1748_2 {A : wK → Nat} {h : pm_H} {m D : Nat} {S : wS} {x1 : Int32} {x4 : Int32} {x5 : Int32} {y0 : Int32} {r : Int32} (hA : wok A Ri_d m) (hD : 0 ≤ D) (e : f1748_2 S x1 x4 x5 y0 = some r) : ∀ q2 q3 q6 q7 : Value, pm_go pm_prog (pm_call pm_prog D) 1748 2 [.ref (A (0, 0, 0)), .int x1, q2, q3, .int x4, .int x5, q6, q7] [.int y0] (wput A Ri_d S h) = some (.returned (some (.int r)), (wput A Ri_d S h)) := by
  intro q2 q3 q6 q7
  simp only [f1748_2] at e
  rw [g1748_2, b1748_2]
  by_cases k1 : 0 ≤ x1 ∧ x1 < 20
  · rw [if_pos k1] at e
    by_cases k2 : ((S.1 (9, 0, 0) x1) - (S.1 (0, 0, 0) 22)) < (x5 * (S.1 (0, 0, 0) 1))
    · rw [if_pos k2] at e
      by_cases k3 : (((S.1 (9, 0, 0) x1) + (S.1 (11, 0, 0) x1)) + (S.1 (0, 0, 0) 22)) ≤ (x4 * (S.1 (0, 0, 0) 1))
      · rw [if_pos k3] at e
        have k4 := y1748_4 (h := h) hA hD e
        simp -implicitDefEqProofs (disch := first | assumption | exact Nat.le_of_ble_eq_true rfl | decide) only [b1748_0, g1748_1, b1748_1, g1748_3, b1748_3, g1748_5, b1748_5, g1748_6, b1748_6, pe_aload0, pe_getfield, pe_iload1, pe_iaload, pe_isub, pe_iload3, pe_imul, pe_icmp_ge, pe_iadd, pe_iload2, pe_icmp_le, pe_sipush, pe_goto, pe_goto_w, pe_istore6, pe_iload5, pe_iload4, pe_istore7, pe_iload6, pe_if_eq, pe_iload7, pm_prog_1, pm_ob_some, Nat.reduceDiv, Nat.reduceMod, Nat.reduceMul, Nat.reduceAdd, Int.reduceToNat, pm_kill_i, pm_kill_r, pm_kill_n, pm_kill_j, pm_kill_l, pm_kill_d, pm_cats_nil, pm_cats_i, pm_cats_r, pm_cats_n, pm_cats_l, pm_cats_d, sz_1, sz_2, sl_1, sl_2, lc_0, lc_lt, lc_le, li_ne, Int32.reduceOfInt, Int64.reduceOfInt, Int32.reduceOfNat, Int32.reduceLT, Int32.reduceLE, Prod.mk.injEq, Nat.reduceEqDiff, reduceCtorEq, and_true, true_and, and_false, false_and, and_self, ite_true, ite_false, ↓reduceIte, not_true_eq_false, not_false_eq_true, pe_ri, pe_rz, Ri_g7 hA, Ri_g22 hA, Ri_g1 hA, Ri_g9 hA, Ri_g8 hA, Ri_g10 hA, Ri_r7 hA, Ri_w7 hA, Ri_l7 hA, Ri_r8 hA, Ri_w8 hA, Ri_l8 hA, Ri_r9 hA, Ri_w9 hA, Ri_l9 hA, Ri_r10 hA, Ri_w10 hA, Ri_l10 hA, eq_true k2, eq_true k3, k4]
      · rw [if_neg k3] at e
        have k5 := y1748_4 (h := h) hA hD e
        simp -implicitDefEqProofs (disch := first | assumption | exact Nat.le_of_ble_eq_true rfl | decide) only [b1748_0, g1748_1, b1748_1, g1748_3, b1748_3, g1748_5, b1748_5, g1748_6, b1748_6, pe_aload0, pe_getfield, pe_iload1, pe_iaload, pe_isub, pe_iload3, pe_imul, pe_icmp_ge, pe_iadd, pe_iload2, pe_icmp_le, pe_sipush, pe_goto, pe_goto_w, pe_istore6, pe_iload5, pe_iload4, pe_istore7, pe_iload6, pe_if_eq, pe_iload7, pm_prog_1, pm_ob_some, Nat.reduceDiv, Nat.reduceMod, Nat.reduceMul, Nat.reduceAdd, Int.reduceToNat, pm_kill_i, pm_kill_r, pm_kill_n, pm_kill_j, pm_kill_l, pm_kill_d, pm_cats_nil, pm_cats_i, pm_cats_r, pm_cats_n, pm_cats_l, pm_cats_d, sz_1, sz_2, sl_1, sl_2, lc_0, lc_lt, lc_le, li_ne, Int32.reduceOfInt, Int64.reduceOfInt, Int32.reduceOfNat, Int32.reduceLT, Int32.reduceLE, Prod.mk.injEq, Nat.reduceEqDiff, reduceCtorEq, and_true, true_and, and_false, false_and, and_self, ite_true, ite_false, ↓reduceIte, not_true_eq_false, not_false_eq_true, pe_ri, pe_rz, Ri_g7 hA, Ri_g22 hA, Ri_g1 hA, Ri_g9 hA, Ri_g8 hA, Ri_g10 hA, Ri_r7 hA, Ri_w7 hA, Ri_l7 hA, Ri_r8 hA, Ri_w8 hA, Ri_l8 hA, Ri_r9 hA, Ri_w9 hA, Ri_l9 hA, Ri_r10 hA, Ri_w10 hA, Ri_l10 hA, eq_true k2, eq_false k3, k5]
    · rw [if_neg k2] at e
      have k6 := y1748_4 (h := h) hA hD e
      simp -implicitDefEqProofs (disch := first | assumption | exact Nat.le_of_ble_eq_true rfl | decide) only [b1748_0, g1748_1, b1748_1, g1748_3, b1748_3, g1748_5, b1748_5, g1748_6, b1748_6, pe_aload0, pe_getfield, pe_iload1, pe_iaload, pe_isub, pe_iload3, pe_imul, pe_icmp_ge, pe_iadd, pe_iload2, pe_icmp_le, pe_sipush, pe_goto, pe_goto_w, pe_istore6, pe_iload5, pe_iload4, pe_istore7, pe_iload6, pe_if_eq, pe_iload7, pm_prog_1, pm_ob_some, Nat.reduceDiv, Nat.reduceMod, Nat.reduceMul, Nat.reduceAdd, Int.reduceToNat, pm_kill_i, pm_kill_r, pm_kill_n, pm_kill_j, pm_kill_l, pm_kill_d, pm_cats_nil, pm_cats_i, pm_cats_r, pm_cats_n, pm_cats_l, pm_cats_d, sz_1, sz_2, sl_1, sl_2, lc_0, lc_lt, lc_le, li_ne, Int32.reduceOfInt, Int64.reduceOfInt, Int32.reduceOfNat, Int32.reduceLT, Int32.reduceLE, Prod.mk.injEq, Nat.reduceEqDiff, reduceCtorEq, and_true, true_and, and_false, false_and, and_self, ite_true, ite_false, ↓reduceIte, not_true_eq_false, not_false_eq_true, pe_ri, pe_rz, Ri_g7 hA, Ri_g22 hA, Ri_g1 hA, Ri_g9 hA, Ri_g8 hA, Ri_g10 hA, Ri_r7 hA, Ri_w7 hA, Ri_l7 hA, Ri_r8 hA, Ri_w8 hA, Ri_l8 hA, Ri_r9 hA, Ri_w9 hA, Ri_l9 hA, Ri_r10 hA, Ri_w10 hA, Ri_l10 hA, eq_false k2, k6]
  · rw [if_neg k1] at e; cases e
theorem x1748 {A : wK → Nat} {h : pm_H} {m D : Nat} {S : wS} {x1 : Int32} {x2 : Int32} {x3 : Int32} {x4 : Int32} {x5 : Int32} {r : Int32} (hA : wok A Ri_d m) (hD : 1 ≤ D) (e : f1748 S x1 x2 x3 x4 x5 = some r) : pm_call pm_prog D 1748 [.ref (A (0, 0, 0)), .int x1, .int x2, .int x3, .int x4, .int x5] (wput A Ri_d S h) = some (.returned (some (.int r)), (wput A Ri_d S h)) := by
  obtain ⟨D, rfl⟩ : ∃ D', D = D' + 1 := ⟨D - 1, by omega⟩
  have hD : 0 ≤ D := by omega
  rw [c1748 (Ri_c hA), b1748_0]
  simp only [f1748] at e
  by_cases k1 : 0 ≤ x1 ∧ x1 < 20
  · rw [if_pos k1] at e
    by_cases k2 : ((S.1 (8, 0, 0) x1) - (S.1 (0, 0, 0) 22)) < (x3 * (S.1 (0, 0, 0) 1))
    · rw [if_pos k2] at e
      by_cases k3 : (((S.1 (8, 0, 0) x1) + (S.1 (10, 0, 0) x1)) + (S.1 (0, 0, 0) 22)) ≤ (x2 * (S.1 (0, 0, 0) 1))
      · rw [if_pos k3] at e
        have k4 := y1748_2 (h := h) hA hD e
        simp -implicitDefEqProofs (disch := first | assumption | exact Nat.le_of_ble_eq_true rfl | decide) only [b1748_0, g1748_1, b1748_1, g1748_3, b1748_3, g1748_5, b1748_5, g1748_6, b1748_6, pe_aload0, pe_getfield, pe_iload1, pe_iaload, pe_isub, pe_iload3, pe_imul, pe_icmp_ge, pe_iadd, pe_iload2, pe_icmp_le, pe_sipush, pe_goto, pe_goto_w, pe_istore6, pe_iload5, pe_iload4, pe_istore7, pe_iload6, pe_if_eq, pe_iload7, pm_prog_1, pm_ob_some, Nat.reduceDiv, Nat.reduceMod, Nat.reduceMul, Nat.reduceAdd, Int.reduceToNat, pm_kill_i, pm_kill_r, pm_kill_n, pm_kill_j, pm_kill_l, pm_kill_d, pm_cats_nil, pm_cats_i, pm_cats_r, pm_cats_n, pm_cats_l, pm_cats_d, sz_1, sz_2, sl_1, sl_2, lc_0, lc_lt, lc_le, li_ne, Int32.reduceOfInt, Int64.reduceOfInt, Int32.reduceOfNat, Int32.reduceLT, Int32.reduceLE, Prod.mk.injEq, Nat.reduceEqDiff, reduceCtorEq, and_true, true_and, and_false, false_and, and_self, ite_true, ite_false, ↓reduceIte, not_true_eq_false, not_false_eq_true, pe_ri, pe_rz, Ri_g7 hA, Ri_g22 hA, Ri_g1 hA, Ri_g9 hA, Ri_g8 hA, Ri_g10 hA, Ri_r7 hA, Ri_w7 hA, Ri_l7 hA, Ri_r8 hA, Ri_w8 hA, Ri_l8 hA, Ri_r9 hA, Ri_w9 hA, Ri_l9 hA, Ri_r10 hA, Ri_w10 hA, Ri_l10 hA, eq_true k2, eq_true k3, k4]
      · rw [if_neg k3] at e
        have k5 := y1748_2 (h := h) hA hD e
        simp -implicitDefEqProofs (disch := first | assumption | exact Nat.le_of_ble_eq_true rfl | decide) only [b1748_0, g1748_1, b1748_1, g1748_3, b1748_3, g1748_5, b1748_5, g1748_6, b1748_6, pe_aload0, pe_getfield, pe_iload1, pe_iaload, pe_isub, pe_iload3, pe_imul, pe_icmp_ge, pe_iadd, pe_iload2, pe_icmp_le, pe_sipush, pe_goto, pe_goto_w, pe_istore6, pe_iload5, pe_iload4, pe_istore7, pe_iload6, pe_if_eq, pe_iload7, pm_prog_1, pm_ob_some, Nat.reduceDiv, Nat.reduceMod, Nat.reduceMul, Nat.reduceAdd, Int.reduceToNat, pm_kill_i, pm_kill_r, pm_kill_n, pm_kill_j, pm_kill_l, pm_kill_d, pm_cats_nil, pm_cats_i, pm_cats_r, pm_cats_n, pm_cats_l, pm_cats_d, sz_1, sz_2, sl_1, sl_2, lc_0, lc_lt, lc_le, li_ne, Int32.reduceOfInt, Int64.reduceOfInt, Int32.reduceOfNat, Int32.reduceLT, Int32.reduceLE, Prod.mk.injEq, Nat.reduceEqDiff, reduceCtorEq, and_true, true_and, and_false, false_and, and_self, ite_true, ite_false, ↓reduceIte, not_true_eq_false, not_false_eq_true, pe_ri, pe_rz, Ri_g7 hA, Ri_g22 hA, Ri_g1 hA, Ri_g9 hA, Ri_g8 hA, Ri_g10 hA, Ri_r7 hA, Ri_w7 hA, Ri_l7 hA, Ri_r8 hA, Ri_w8 hA, Ri_l8 hA, Ri_r9 hA, Ri_w9 hA, Ri_l9 hA, Ri_r10 hA, Ri_w10 hA, Ri_l10 hA, eq_true k2, eq_false k3, k5]
    · rw [if_neg k2] at e
      have k6 := y1748_2 (h := h) hA hD e
      simp -implicitDefEqProofs (disch := first | assumption | exact Nat.le_of_ble_eq_true rfl | decide) only [b1748_0, g1748_1, b1748_1, g1748_3, b1748_3, g1748_5, b1748_5, g1748_6, b1748_6, pe_aload0, pe_getfield, pe_iload1, pe_iaload, pe_isub, pe_iload3, pe_imul, pe_icmp_ge, pe_iadd, pe_iload2, pe_icmp_le, pe_sipush, pe_goto, pe_goto_w, pe_istore6, pe_iload5, pe_iload4, pe_istore7, pe_iload6, pe_if_eq, pe_iload7, pm_prog_1, pm_ob_some, Nat.reduceDiv, Nat.reduceMod, Nat.reduceMul, Nat.reduceAdd, Int.reduceToNat, pm_kill_i, pm_kill_r, pm_kill_n, pm_kill_j, pm_kill_l, pm_kill_d, pm_cats_nil, pm_cats_i, pm_cats_r, pm_cats_n, pm_cats_l, pm_cats_d, sz_1, sz_2, sl_1, sl_2, lc_0, lc_lt, lc_le, li_ne, Int32.reduceOfInt, Int64.reduceOfInt, Int32.reduceOfNat, Int32.reduceLT, Int32.reduceLE, Prod.mk.injEq, Nat.reduceEqDiff, reduceCtorEq, and_true, true_and, and_false, false_and, and_self, ite_true, ite_false, ↓reduceIte, not_true_eq_false, not_false_eq_true, pe_ri, pe_rz, Ri_g7 hA, Ri_g22 hA, Ri_g1 hA, Ri_g9 hA, Ri_g8 hA, Ri_g10 hA, Ri_r7 hA, Ri_w7 hA, Ri_l7 hA, Ri_r8 hA, Ri_w8 hA, Ri_l8 hA, Ri_r9 hA, Ri_w9 hA, Ri_l9 hA, Ri_r10 hA, Ri_w10 hA, Ri_l10 hA, eq_false k2, k6]
  · rw [if_neg k1] at e; cases e
/-- TimberHouseModel$Rips.clear2(I)Z -/
theorem c1774 {d : Nat} {h : pm_H} {a : Nat} {x0 : Int32} (hc : pm_cls h a = some 27) : pm_call pm_prog (d + 1) 1774 [.ref a, .int x0] h = pm_ev pm_prog (pm_call pm_prog d) 1774 0 b1774_0 [.ref a, .int x0, pm_junk, pm_junk] [] h := pm_cal (pm_rc1 hc rfl) rfl rfl rfl
theorem g1774_1 {cl : pm_C} {ls st : List Value} {h : pm_H} : pm_go pm_prog cl 1774 1 ls st h = pm_ev pm_prog cl 1774 1 b1774_1 ls st h := pm_go_eq pm_prog cl 1774 1 ls st h
theorem g1774_2 {cl : pm_C} {ls st : List Value} {h : pm_H} : pm_go pm_prog cl 1774 2 ls st h = pm_ev pm_prog cl 1774 2 b1774_2 ls st h := pm_go_eq pm_prog cl 1774 2 ls st h
theorem g1774_3 {cl : pm_C} {ls st : List Value} {h : pm_H} : pm_go pm_prog cl 1774 3 ls st h = pm_ev pm_prog cl 1774 3 b1774_3 ls st h := pm_go_eq pm_prog cl 1774 3 ls st h
theorem g1774_4 {cl : pm_C} {ls st : List Value} {h : pm_H} : pm_go pm_prog cl 1774 4 ls st h = pm_ev pm_prog cl 1774 4 b1774_4 ls st h := pm_go_eq pm_prog cl 1774 4 ls st h
theorem g1774_5 {cl : pm_C} {ls st : List Value} {h : pm_H} : pm_go pm_prog cl 1774 5 ls st h = pm_ev pm_prog cl 1774 5 b1774_5 ls st h := pm_go_eq pm_prog cl 1774 5 ls st h
theorem g1774_6 {cl : pm_C} {ls st : List Value} {h : pm_H} : pm_go pm_prog cl 1774 6 ls st h = pm_ev pm_prog cl 1774 6 b1774_6 ls st h := pm_go_eq pm_prog cl 1774 6 ls st h
theorem g1774_7 {cl : pm_C} {ls st : List Value} {h : pm_H} : pm_go pm_prog cl 1774 7 ls st h = pm_ev pm_prog cl 1774 7 b1774_7 ls st h := pm_go_eq pm_prog cl 1774 7 ls st h
theorem g1774_8 {cl : pm_C} {ls st : List Value} {h : pm_H} : pm_go pm_prog cl 1774 8 ls st h = pm_ev pm_prog cl 1774 8 b1774_8 ls st h := pm_go_eq pm_prog cl 1774 8 ls st h
theorem g1774_9 {cl : pm_C} {ls st : List Value} {h : pm_H} : pm_go pm_prog cl 1774 9 ls st h = pm_ev pm_prog cl 1774 9 b1774_9 ls st h := pm_go_eq pm_prog cl 1774 9 ls st h
theorem g1774_10 {cl : pm_C} {ls st : List Value} {h : pm_H} : pm_go pm_prog cl 1774 10 ls st h = pm_ev pm_prog cl 1774 10 b1774_10 ls st h := pm_go_eq pm_prog cl 1774 10 ls st h
noncomputable def f1774_b7 (S : wS) : Int32 × Int32 × Int32 → Option ((Int32 × Int32 × Int32) ⊕ ((Int32))) := fun (x1, x2, x3) =>
  if x3 < (S.1 (0, 0, 0) 4) then
    if x2 = 0 then
      some (.inr x2)
    else
      if 0 ≤ x1 ∧ x1 < 240 then
        (f1748 S x3 (S.1 (38, 0, 0) x1) ((S.1 (38, 0, 0) x1) + (S.1 (40, 0, 0) x1)) (S.1 (39, 0, 0) x1) ((S.1 (39, 0, 0) x1) + (S.1 (41, 0, 0) x1))).bind fun v3 =>
        if v3 = 0 then
          some (.inl (x1, 1, (x3 + 1)))
        else
          some (.inl (x1, 0, (x3 + 1)))
      else none
  else
    some (.inr x2)
noncomputable def f1774_6 (S : wS) (x1 : Int32) (y0 : Int32) : Option (Int32 × wS) :=
  (lp (f1774_b7 S) FU (x1, y0, 0)).bind fun v4 =>
  if v4 = 0 ∨ v4 = 1 then
    some (v4, S)
  else none
noncomputable def f1774_4 (S : wS) (x1 : Int32) (y1 : Int32) : Option (Int32 × wS) :=
  if y1 = 0 then
    f1774_6 (sz S (0, 0, 0) 0 y1) x1 1
  else
    f1774_6 (sz S (0, 0, 0) 0 y1) x1 0
/-- TimberHouseModel$Rips.clear2(I)Z -/
noncomputable def f1774 (S : wS) (x1 : Int32) : Option (Int32 × wS) :=
  (f1772 S).bind fun (v1, S2) =>
  if v1 = 0 then
    if x1 < 0 then
      f1774_4 S2 x1 2
    else
      if x1 < (S2.1 (0, 0, 0) 36) then
        f1774_4 S2 x1 0
      else
        f1774_4 S2 x1 2
  else
    some (0, S2)
def go1774_7 (A : wK → Nat) (h : pm_H) (D : Nat) (R : Outcome × pm_H) (S : wS) : Int32 × Int32 × Int32 → Prop := fun (x1, x2, x3) => pm_go pm_prog (pm_call pm_prog D) 1774 7 [.ref (A (0, 0, 0)), .int x1, .int x2, .int x3] [] (wput A Ri_d S h) = some R
def ex1774_7 (A : wK → Nat) (h : pm_H) (D : Nat) (R : Outcome × pm_H) (S : wS) : (Int32) → Prop := fun x2 => ∀ q1 q3 : Value, pm_go pm_prog (pm_call pm_prog D) 1774 10 [.ref (A (0, 0, 0)), q1, .int x2, q3] [] (wput A Ri_d S h) = some R
theorem y1774_b7 {A : wK → Nat} {h : pm_H} {m D : Nat} {R : Outcome × pm_H} {S : wS} (hA : wok A Ri_d m) (hD : 1 ≤ D) (a : Int32 × Int32 × Int32) (r : (Int32 × Int32 × Int32) ⊕ ((Int32))) (e : f1774_b7 S a = some r) (hc : Sum.elim (go1774_7 A h D R S) (ex1774_7 A h D R S) r) : go1774_7 A h D R S a := by
  obtain ⟨x1, x2, x3⟩ := a
  dsimp only [go1774_7]
  simp only [f1774_b7] at e
  rw [g1774_7, b1774_7]
  by_cases k1 : x3 < (S.1 (0, 0, 0) 4)
  · rw [if_pos k1] at e
    by_cases k2 : x2 = 0
    · rw [if_pos k2] at e
      have e := Option.some.inj e; subst e
      dsimp only [Sum.elim_inr, ex1774_7] at hc
      simp -implicitDefEqProofs (disch := first | assumption | exact Nat.le_of_ble_eq_true rfl | decide) only [b1774_0, g1774_1, b1774_1, g1774_2, b1774_2, g1774_3, b1774_3, g1774_5, b1774_5, g1774_8, b1774_8, g1774_9, b1774_9, g1774_10, b1774_10, pe_aload0, pe_call1, pm_af_ret, pm_af_void, pm_af_thr, pe_if_eq, pe_sipush, pe_iload1, pe_if_lt, pe_getfield, pe_icmp_lt, pe_goto_w, pe_goto, pe_putfield, pe_if_ne, pe_istore2, pe_istore3, pe_iload3, pe_icmp_ge, pe_iload2, pe_iaload, pe_iadd, pe_call6, pe_iinc3, pm_prog_1, pm_ob_some, Nat.reduceDiv, Nat.reduceMod, Nat.reduceMul, Nat.reduceAdd, Int.reduceToNat, pm_kill_i, pm_kill_r, pm_kill_n, pm_kill_j, pm_kill_l, pm_kill_d, pm_cats_nil, pm_cats_i, pm_cats_r, pm_cats_n, pm_cats_l, pm_cats_d, sz_1, sz_2, sl_1, sl_2, lc_0, lc_lt, lc_le, li_ne, Int32.reduceOfInt, Int64.reduceOfInt, Int32.reduceOfNat, Int32.reduceLT, Int32.reduceLE, Prod.mk.injEq, Nat.reduceEqDiff, reduceCtorEq, and_true, true_and, and_false, false_and, and_self, ite_true, ite_false, ↓reduceIte, not_true_eq_false, not_false_eq_true, pe_ri, pe_rz, Ri_g36 hA, Ri_p0 hA, Ri_g0 hA, Ri_g4 hA, Ri_g37 hA, Ri_g39 hA, Ri_g38 hA, Ri_g40 hA, Ri_r37 hA, Ri_w37 hA, Ri_l37 hA, Ri_r38 hA, Ri_w38 hA, Ri_l38 hA, Ri_r39 hA, Ri_w39 hA, Ri_l39 hA, Ri_r40 hA, Ri_w40 hA, Ri_l40 hA, eq_true k1, eq_true k2, hc]
    · rw [if_neg k2] at e
      by_cases k3 : 0 ≤ x1 ∧ x1 < 240
      · rw [if_pos k3] at e
        obtain ⟨v3, k4, e⟩ := Option.bind_eq_some_iff.mp e
        try dsimp only at e
        have z4 := x1748 (D := D) (h := h) hA (by omega) k4
        by_cases k5 : v3 = 0
        · rw [if_pos k5] at e
          have e := Option.some.inj e; subst e
          dsimp only [Sum.elim_inl, go1774_7] at hc
          simp -implicitDefEqProofs (disch := first | assumption | exact Nat.le_of_ble_eq_true rfl | decide) only [b1774_0, g1774_1, b1774_1, g1774_2, b1774_2, g1774_3, b1774_3, g1774_5, b1774_5, g1774_8, b1774_8, g1774_9, b1774_9, g1774_10, b1774_10, pe_aload0, pe_call1, pm_af_ret, pm_af_void, pm_af_thr, pe_if_eq, pe_sipush, pe_iload1, pe_if_lt, pe_getfield, pe_icmp_lt, pe_goto_w, pe_goto, pe_putfield, pe_if_ne, pe_istore2, pe_istore3, pe_iload3, pe_icmp_ge, pe_iload2, pe_iaload, pe_iadd, pe_call6, pe_iinc3, pm_prog_1, pm_ob_some, Nat.reduceDiv, Nat.reduceMod, Nat.reduceMul, Nat.reduceAdd, Int.reduceToNat, pm_kill_i, pm_kill_r, pm_kill_n, pm_kill_j, pm_kill_l, pm_kill_d, pm_cats_nil, pm_cats_i, pm_cats_r, pm_cats_n, pm_cats_l, pm_cats_d, sz_1, sz_2, sl_1, sl_2, lc_0, lc_lt, lc_le, li_ne, Int32.reduceOfInt, Int64.reduceOfInt, Int32.reduceOfNat, Int32.reduceLT, Int32.reduceLE, Prod.mk.injEq, Nat.reduceEqDiff, reduceCtorEq, and_true, true_and, and_false, false_and, and_self, ite_true, ite_false, ↓reduceIte, not_true_eq_false, not_false_eq_true, pe_ri, pe_rz, Ri_g36 hA, Ri_p0 hA, Ri_g0 hA, Ri_g4 hA, Ri_g37 hA, Ri_g39 hA, Ri_g38 hA, Ri_g40 hA, Ri_r37 hA, Ri_w37 hA, Ri_l37 hA, Ri_r38 hA, Ri_w38 hA, Ri_l38 hA, Ri_r39 hA, Ri_w39 hA, Ri_l39 hA, Ri_r40 hA, Ri_w40 hA, Ri_l40 hA, eq_true k1, eq_false k2, z4, eq_true k5, hc]
        · rw [if_neg k5] at e
          have e := Option.some.inj e; subst e
          dsimp only [Sum.elim_inl, go1774_7] at hc
          simp -implicitDefEqProofs (disch := first | assumption | exact Nat.le_of_ble_eq_true rfl | decide) only [b1774_0, g1774_1, b1774_1, g1774_2, b1774_2, g1774_3, b1774_3, g1774_5, b1774_5, g1774_8, b1774_8, g1774_9, b1774_9, g1774_10, b1774_10, pe_aload0, pe_call1, pm_af_ret, pm_af_void, pm_af_thr, pe_if_eq, pe_sipush, pe_iload1, pe_if_lt, pe_getfield, pe_icmp_lt, pe_goto_w, pe_goto, pe_putfield, pe_if_ne, pe_istore2, pe_istore3, pe_iload3, pe_icmp_ge, pe_iload2, pe_iaload, pe_iadd, pe_call6, pe_iinc3, pm_prog_1, pm_ob_some, Nat.reduceDiv, Nat.reduceMod, Nat.reduceMul, Nat.reduceAdd, Int.reduceToNat, pm_kill_i, pm_kill_r, pm_kill_n, pm_kill_j, pm_kill_l, pm_kill_d, pm_cats_nil, pm_cats_i, pm_cats_r, pm_cats_n, pm_cats_l, pm_cats_d, sz_1, sz_2, sl_1, sl_2, lc_0, lc_lt, lc_le, li_ne, Int32.reduceOfInt, Int64.reduceOfInt, Int32.reduceOfNat, Int32.reduceLT, Int32.reduceLE, Prod.mk.injEq, Nat.reduceEqDiff, reduceCtorEq, and_true, true_and, and_false, false_and, and_self, ite_true, ite_false, ↓reduceIte, not_true_eq_false, not_false_eq_true, pe_ri, pe_rz, Ri_g36 hA, Ri_p0 hA, Ri_g0 hA, Ri_g4 hA, Ri_g37 hA, Ri_g39 hA, Ri_g38 hA, Ri_g40 hA, Ri_r37 hA, Ri_w37 hA, Ri_l37 hA, Ri_r38 hA, Ri_w38 hA, Ri_l38 hA, Ri_r39 hA, Ri_w39 hA, Ri_l39 hA, Ri_r40 hA, Ri_w40 hA, Ri_l40 hA, eq_true k1, eq_false k2, z4, eq_false k5, hc]
      · rw [if_neg k3] at e; cases e
  · rw [if_neg k1] at e
    have e := Option.some.inj e; subst e
    dsimp only [Sum.elim_inr, ex1774_7] at hc
    simp -implicitDefEqProofs (disch := first | assumption | exact Nat.le_of_ble_eq_true rfl | decide) only [b1774_0, g1774_1, b1774_1, g1774_2, b1774_2, g1774_3, b1774_3, g1774_5, b1774_5, g1774_8, b1774_8, g1774_9, b1774_9, g1774_10, b1774_10, pe_aload0, pe_call1, pm_af_ret, pm_af_void, pm_af_thr, pe_if_eq, pe_sipush, pe_iload1, pe_if_lt, pe_getfield, pe_icmp_lt, pe_goto_w, pe_goto, pe_putfield, pe_if_ne, pe_istore2, pe_istore3, pe_iload3, pe_icmp_ge, pe_iload2, pe_iaload, pe_iadd, pe_call6, pe_iinc3, pm_prog_1, pm_ob_some, Nat.reduceDiv, Nat.reduceMod, Nat.reduceMul, Nat.reduceAdd, Int.reduceToNat, pm_kill_i, pm_kill_r, pm_kill_n, pm_kill_j, pm_kill_l, pm_kill_d, pm_cats_nil, pm_cats_i, pm_cats_r, pm_cats_n, pm_cats_l, pm_cats_d, sz_1, sz_2, sl_1, sl_2, lc_0, lc_lt, lc_le, li_ne, Int32.reduceOfInt, Int64.reduceOfInt, Int32.reduceOfNat, Int32.reduceLT, Int32.reduceLE, Prod.mk.injEq, Nat.reduceEqDiff, reduceCtorEq, and_true, true_and, and_false, false_and, and_self, ite_true, ite_false, ↓reduceIte, not_true_eq_false, not_false_eq_true, pe_ri, pe_rz, Ri_g36 hA, Ri_p0 hA, Ri_g0 hA, Ri_g4 hA, Ri_g37 hA, Ri_g39 hA, Ri_g38 hA, Ri_g40 hA, Ri_r37 hA, Ri_w37 hA, Ri_l37 hA, Ri_r38 hA, Ri_w38 hA, Ri_l38 hA, Ri_r39 hA, Ri_w39 hA, Ri_l39 hA, Ri_r40 hA, Ri_w40 hA, Ri_l40 hA, eq_false k1, hc]
theorem z1774_7 {A : wK → Nat} {h : pm_H} {m D : Nat} {R : Outcome × pm_H} {S : wS} (hA : wok A Ri_d m) (hD : 1 ≤ D) {n : Nat} {a : Int32 × Int32 × Int32} {b : (Int32)} (e : lp (f1774_b7 S) n a = some b) (hx : ex1774_7 A h D R S b) : go1774_7 A h D R S a := lp_run (fun a r => y1774_b7 hA hD a r) n a b e hx
theorem y1774_6 {A : wK → Nat} {h : pm_H} {m D : Nat} {S : wS} {x1 : Int32} {y0 : Int32} {r : Int32 × wS} (hA : wok A Ri_d m) (hD : 1 ≤ D) (e : f1774_6 S x1 y0 = some r) : ∀ q2 q3 : Value, pm_go pm_prog (pm_call pm_prog D) 1774 6 [.ref (A (0, 0, 0)), .int x1, q2, q3] [.int y0] (wput A Ri_d S h) = some (.returned (some (.int r.1)), (wput A Ri_d r.2 h)) := by
  intro q2 q3
  simp only [f1774_6] at e
  rw [g1774_6, b1774_6]
  obtain ⟨v4, k1, e⟩ := Option.bind_eq_some_iff.mp e
  try dsimp only at e
  try simp -implicitDefEqProofs (disch := first | assumption | exact Nat.le_of_ble_eq_true rfl | decide) only [b1774_0, g1774_1, b1774_1, g1774_2, b1774_2, g1774_3, b1774_3, g1774_5, b1774_5, g1774_8, b1774_8, g1774_9, b1774_9, g1774_10, b1774_10, pe_aload0, pe_call1, pm_af_ret, pm_af_void, pm_af_thr, pe_if_eq, pe_sipush, pe_iload1, pe_if_lt, pe_getfield, pe_icmp_lt, pe_goto_w, pe_goto, pe_putfield, pe_if_ne, pe_istore2, pe_istore3, pe_iload3, pe_icmp_ge, pe_iload2, pe_iaload, pe_iadd, pe_call6, pe_iinc3, pm_prog_1, pm_ob_some, Nat.reduceDiv, Nat.reduceMod, Nat.reduceMul, Nat.reduceAdd, Int.reduceToNat, pm_kill_i, pm_kill_r, pm_kill_n, pm_kill_j, pm_kill_l, pm_kill_d, pm_cats_nil, pm_cats_i, pm_cats_r, pm_cats_n, pm_cats_l, pm_cats_d, sz_1, sz_2, sl_1, sl_2, lc_0, lc_lt, lc_le, li_ne, Int32.reduceOfInt, Int64.reduceOfInt, Int32.reduceOfNat, Int32.reduceLT, Int32.reduceLE, Prod.mk.injEq, Nat.reduceEqDiff, reduceCtorEq, and_true, true_and, and_false, false_and, and_self, ite_true, ite_false, ↓reduceIte, not_true_eq_false, not_false_eq_true, pe_ri, pe_rz, Ri_g36 hA, Ri_p0 hA, Ri_g0 hA, Ri_g4 hA, Ri_g37 hA, Ri_g39 hA, Ri_g38 hA, Ri_g40 hA, Ri_r37 hA, Ri_w37 hA, Ri_l37 hA, Ri_r38 hA, Ri_w38 hA, Ri_l38 hA, Ri_r39 hA, Ri_w39 hA, Ri_l39 hA, Ri_r40 hA, Ri_w40 hA, Ri_l40 hA]
  refine z1774_7 hA hD k1 ?_
  dsimp only [ex1774_7]
  intro q1 q3
  by_cases k2 : v4 = 0 ∨ v4 = 1
  · rw [if_pos k2] at e
    have e := Option.some.inj e; subst e
    simp -implicitDefEqProofs (disch := first | assumption | exact Nat.le_of_ble_eq_true rfl | decide) only [b1774_0, g1774_1, b1774_1, g1774_2, b1774_2, g1774_3, b1774_3, g1774_5, b1774_5, g1774_8, b1774_8, g1774_9, b1774_9, g1774_10, b1774_10, pe_aload0, pe_call1, pm_af_ret, pm_af_void, pm_af_thr, pe_if_eq, pe_sipush, pe_iload1, pe_if_lt, pe_getfield, pe_icmp_lt, pe_goto_w, pe_goto, pe_putfield, pe_if_ne, pe_istore2, pe_istore3, pe_iload3, pe_icmp_ge, pe_iload2, pe_iaload, pe_iadd, pe_call6, pe_iinc3, pm_prog_1, pm_ob_some, Nat.reduceDiv, Nat.reduceMod, Nat.reduceMul, Nat.reduceAdd, Int.reduceToNat, pm_kill_i, pm_kill_r, pm_kill_n, pm_kill_j, pm_kill_l, pm_kill_d, pm_cats_nil, pm_cats_i, pm_cats_r, pm_cats_n, pm_cats_l, pm_cats_d, sz_1, sz_2, sl_1, sl_2, lc_0, lc_lt, lc_le, li_ne, Int32.reduceOfInt, Int64.reduceOfInt, Int32.reduceOfNat, Int32.reduceLT, Int32.reduceLE, Prod.mk.injEq, Nat.reduceEqDiff, reduceCtorEq, and_true, true_and, and_false, false_and, and_self, ite_true, ite_false, ↓reduceIte, not_true_eq_false, not_false_eq_true, pe_ri, pe_rz, Ri_g36 hA, Ri_p0 hA, Ri_g0 hA, Ri_g4 hA, Ri_g37 hA, Ri_g39 hA, Ri_g38 hA, Ri_g40 hA, Ri_r37 hA, Ri_w37 hA, Ri_l37 hA, Ri_r38 hA, Ri_w38 hA, Ri_l38 hA, Ri_r39 hA, Ri_w39 hA, Ri_l39 hA, Ri_r40 hA, Ri_w40 hA, Ri_l40 hA]
  · rw [if_neg k2] at e; cases e
theorem y1774_4 {A : wK → Nat} {h : pm_H} {m D : Nat} {S : wS} {x1 : Int32} {y1 : Int32} {r : Int32 × wS} (hA : wok A Ri_d m) (hD : 1 ≤ D) (e : f1774_4 S x1 y1 = some r) : ∀ q2 q3 : Value, pm_go pm_prog (pm_call pm_prog D) 1774 4 [.ref (A (0, 0, 0)), .int x1, q2, q3] [.int y1, .ref (A (0, 0, 0))] (wput A Ri_d S h) = some (.returned (some (.int r.1)), (wput A Ri_d r.2 h)) := by
  intro q2 q3
  simp only [f1774_4] at e
  rw [g1774_4, b1774_4]
  by_cases k1 : y1 = 0
  · rw [if_pos k1] at e
    have k2 := y1774_6 (h := h) hA hD e
    simp -implicitDefEqProofs (disch := first | assumption | exact Nat.le_of_ble_eq_true rfl | decide) only [b1774_0, g1774_1, b1774_1, g1774_2, b1774_2, g1774_3, b1774_3, g1774_5, b1774_5, g1774_8, b1774_8, g1774_9, b1774_9, g1774_10, b1774_10, pe_aload0, pe_call1, pm_af_ret, pm_af_void, pm_af_thr, pe_if_eq, pe_sipush, pe_iload1, pe_if_lt, pe_getfield, pe_icmp_lt, pe_goto_w, pe_goto, pe_putfield, pe_if_ne, pe_istore2, pe_istore3, pe_iload3, pe_icmp_ge, pe_iload2, pe_iaload, pe_iadd, pe_call6, pe_iinc3, pm_prog_1, pm_ob_some, Nat.reduceDiv, Nat.reduceMod, Nat.reduceMul, Nat.reduceAdd, Int.reduceToNat, pm_kill_i, pm_kill_r, pm_kill_n, pm_kill_j, pm_kill_l, pm_kill_d, pm_cats_nil, pm_cats_i, pm_cats_r, pm_cats_n, pm_cats_l, pm_cats_d, sz_1, sz_2, sl_1, sl_2, lc_0, lc_lt, lc_le, li_ne, Int32.reduceOfInt, Int64.reduceOfInt, Int32.reduceOfNat, Int32.reduceLT, Int32.reduceLE, Prod.mk.injEq, Nat.reduceEqDiff, reduceCtorEq, and_true, true_and, and_false, false_and, and_self, ite_true, ite_false, ↓reduceIte, not_true_eq_false, not_false_eq_true, pe_ri, pe_rz, Ri_g36 hA, Ri_p0 hA, Ri_g0 hA, Ri_g4 hA, Ri_g37 hA, Ri_g39 hA, Ri_g38 hA, Ri_g40 hA, Ri_r37 hA, Ri_w37 hA, Ri_l37 hA, Ri_r38 hA, Ri_w38 hA, Ri_l38 hA, Ri_r39 hA, Ri_w39 hA, Ri_l39 hA, Ri_r40 hA, Ri_w40 hA, Ri_l40 hA, eq_true k1, k2]
  · rw [if_neg k1] at e
    have k3 := y1774_6 (h := h) hA hD e
    simp -implicitDefEqProofs (disch := first | assumption | exact Nat.le_of_ble_eq_true rfl | decide) only [b1774_0, g1774_1, b1774_1, g1774_2, b1774_2, g1774_3, b1774_3, g1774_5, b1774_5, g1774_8, b1774_8, g1774_9, b1774_9, g1774_10, b1774_10, pe_aload0, pe_call1, pm_af_ret, pm_af_void, pm_af_thr, pe_if_eq, pe_sipush, pe_iload1, pe_if_lt, pe_getfield, pe_icmp_lt, pe_goto_w, pe_goto, pe_putfield, pe_if_ne, pe_istore2, pe_istore3, pe_iload3, pe_icmp_ge, pe_iload2, pe_iaload, pe_iadd, pe_call6, pe_iinc3, pm_prog_1, pm_ob_some, Nat.reduceDiv, Nat.reduceMod, Nat.reduceMul, Nat.reduceAdd, Int.reduceToNat, pm_kill_i, pm_kill_r, pm_kill_n, pm_kill_j, pm_kill_l, pm_kill_d, pm_cats_nil, pm_cats_i, pm_cats_r, pm_cats_n, pm_cats_l, pm_cats_d, sz_1, sz_2, sl_1, sl_2, lc_0, lc_lt, lc_le, li_ne, Int32.reduceOfInt, Int64.reduceOfInt, Int32.reduceOfNat, Int32.reduceLT, Int32.reduceLE, Prod.mk.injEq, Nat.reduceEqDiff, reduceCtorEq, and_true, true_and, and_false, false_and, and_self, ite_true, ite_false, ↓reduceIte, not_true_eq_false, not_false_eq_true, pe_ri, pe_rz, Ri_g36 hA, Ri_p0 hA, Ri_g0 hA, Ri_g4 hA, Ri_g37 hA, Ri_g39 hA, Ri_g38 hA, Ri_g40 hA, Ri_r37 hA, Ri_w37 hA, Ri_l37 hA, Ri_r38 hA, Ri_w38 hA, Ri_l38 hA, Ri_r39 hA, Ri_w39 hA, Ri_l39 hA, Ri_r40 hA, Ri_w40 hA, Ri_l40 hA, eq_false k1, k3]
theorem x1774 {A : wK → Nat} {h : pm_H} {m D : Nat} {S : wS} {x1 : Int32} {r : Int32 × wS} (hA : wok A Ri_d m) (hD : 2 ≤ D) (e : f1774 S x1 = some r) : pm_call pm_prog D 1774 [.ref (A (0, 0, 0)), .int x1] (wput A Ri_d S h) = some (.returned (some (.int r.1)), (wput A Ri_d r.2 h)) := by
  obtain ⟨D, rfl⟩ : ∃ D', D = D' + 1 := ⟨D - 1, by omega⟩
  have hD : 1 ≤ D := by omega
  rw [c1774 (Ri_c hA), b1774_0]
  simp only [f1774] at e
  obtain ⟨⟨v1, S2⟩, k1, e⟩ := Option.bind_eq_some_iff.mp e
  try dsimp only at e
  have z1 := x1772 (D := D) (h := h) hA (by omega) k1
  dsimp only at z1
  by_cases k2 : v1 = 0
  · rw [if_pos k2] at e
    by_cases k3 : x1 < 0
    · rw [if_pos k3] at e
      have k4 := y1774_4 (h := h) hA hD e
      simp -implicitDefEqProofs (disch := first | assumption | exact Nat.le_of_ble_eq_true rfl | decide) only [b1774_0, g1774_1, b1774_1, g1774_2, b1774_2, g1774_3, b1774_3, g1774_5, b1774_5, g1774_8, b1774_8, g1774_9, b1774_9, g1774_10, b1774_10, pe_aload0, pe_call1, pm_af_ret, pm_af_void, pm_af_thr, pe_if_eq, pe_sipush, pe_iload1, pe_if_lt, pe_getfield, pe_icmp_lt, pe_goto_w, pe_goto, pe_putfield, pe_if_ne, pe_istore2, pe_istore3, pe_iload3, pe_icmp_ge, pe_iload2, pe_iaload, pe_iadd, pe_call6, pe_iinc3, pm_prog_1, pm_ob_some, Nat.reduceDiv, Nat.reduceMod, Nat.reduceMul, Nat.reduceAdd, Int.reduceToNat, pm_kill_i, pm_kill_r, pm_kill_n, pm_kill_j, pm_kill_l, pm_kill_d, pm_cats_nil, pm_cats_i, pm_cats_r, pm_cats_n, pm_cats_l, pm_cats_d, sz_1, sz_2, sl_1, sl_2, lc_0, lc_lt, lc_le, li_ne, Int32.reduceOfInt, Int64.reduceOfInt, Int32.reduceOfNat, Int32.reduceLT, Int32.reduceLE, Prod.mk.injEq, Nat.reduceEqDiff, reduceCtorEq, and_true, true_and, and_false, false_and, and_self, ite_true, ite_false, ↓reduceIte, not_true_eq_false, not_false_eq_true, pe_ri, pe_rz, Ri_g36 hA, Ri_p0 hA, Ri_g0 hA, Ri_g4 hA, Ri_g37 hA, Ri_g39 hA, Ri_g38 hA, Ri_g40 hA, Ri_r37 hA, Ri_w37 hA, Ri_l37 hA, Ri_r38 hA, Ri_w38 hA, Ri_l38 hA, Ri_r39 hA, Ri_w39 hA, Ri_l39 hA, Ri_r40 hA, Ri_w40 hA, Ri_l40 hA, z1, eq_true k2, eq_true k3, k4]
    · rw [if_neg k3] at e
      by_cases k5 : x1 < (S2.1 (0, 0, 0) 36)
      · rw [if_pos k5] at e
        have k6 := y1774_4 (h := h) hA hD e
        simp -implicitDefEqProofs (disch := first | assumption | exact Nat.le_of_ble_eq_true rfl | decide) only [b1774_0, g1774_1, b1774_1, g1774_2, b1774_2, g1774_3, b1774_3, g1774_5, b1774_5, g1774_8, b1774_8, g1774_9, b1774_9, g1774_10, b1774_10, pe_aload0, pe_call1, pm_af_ret, pm_af_void, pm_af_thr, pe_if_eq, pe_sipush, pe_iload1, pe_if_lt, pe_getfield, pe_icmp_lt, pe_goto_w, pe_goto, pe_putfield, pe_if_ne, pe_istore2, pe_istore3, pe_iload3, pe_icmp_ge, pe_iload2, pe_iaload, pe_iadd, pe_call6, pe_iinc3, pm_prog_1, pm_ob_some, Nat.reduceDiv, Nat.reduceMod, Nat.reduceMul, Nat.reduceAdd, Int.reduceToNat, pm_kill_i, pm_kill_r, pm_kill_n, pm_kill_j, pm_kill_l, pm_kill_d, pm_cats_nil, pm_cats_i, pm_cats_r, pm_cats_n, pm_cats_l, pm_cats_d, sz_1, sz_2, sl_1, sl_2, lc_0, lc_lt, lc_le, li_ne, Int32.reduceOfInt, Int64.reduceOfInt, Int32.reduceOfNat, Int32.reduceLT, Int32.reduceLE, Prod.mk.injEq, Nat.reduceEqDiff, reduceCtorEq, and_true, true_and, and_false, false_and, and_self, ite_true, ite_false, ↓reduceIte, not_true_eq_false, not_false_eq_true, pe_ri, pe_rz, Ri_g36 hA, Ri_p0 hA, Ri_g0 hA, Ri_g4 hA, Ri_g37 hA, Ri_g39 hA, Ri_g38 hA, Ri_g40 hA, Ri_r37 hA, Ri_w37 hA, Ri_l37 hA, Ri_r38 hA, Ri_w38 hA, Ri_l38 hA, Ri_r39 hA, Ri_w39 hA, Ri_l39 hA, Ri_r40 hA, Ri_w40 hA, Ri_l40 hA, z1, eq_true k2, eq_false k3, eq_true k5, k6]
      · rw [if_neg k5] at e
        have k7 := y1774_4 (h := h) hA hD e
        simp -implicitDefEqProofs (disch := first | assumption | exact Nat.le_of_ble_eq_true rfl | decide) only [b1774_0, g1774_1, b1774_1, g1774_2, b1774_2, g1774_3, b1774_3, g1774_5, b1774_5, g1774_8, b1774_8, g1774_9, b1774_9, g1774_10, b1774_10, pe_aload0, pe_call1, pm_af_ret, pm_af_void, pm_af_thr, pe_if_eq, pe_sipush, pe_iload1, pe_if_lt, pe_getfield, pe_icmp_lt, pe_goto_w, pe_goto, pe_putfield, pe_if_ne, pe_istore2, pe_istore3, pe_iload3, pe_icmp_ge, pe_iload2, pe_iaload, pe_iadd, pe_call6, pe_iinc3, pm_prog_1, pm_ob_some, Nat.reduceDiv, Nat.reduceMod, Nat.reduceMul, Nat.reduceAdd, Int.reduceToNat, pm_kill_i, pm_kill_r, pm_kill_n, pm_kill_j, pm_kill_l, pm_kill_d, pm_cats_nil, pm_cats_i, pm_cats_r, pm_cats_n, pm_cats_l, pm_cats_d, sz_1, sz_2, sl_1, sl_2, lc_0, lc_lt, lc_le, li_ne, Int32.reduceOfInt, Int64.reduceOfInt, Int32.reduceOfNat, Int32.reduceLT, Int32.reduceLE, Prod.mk.injEq, Nat.reduceEqDiff, reduceCtorEq, and_true, true_and, and_false, false_and, and_self, ite_true, ite_false, ↓reduceIte, not_true_eq_false, not_false_eq_true, pe_ri, pe_rz, Ri_g36 hA, Ri_p0 hA, Ri_g0 hA, Ri_g4 hA, Ri_g37 hA, Ri_g39 hA, Ri_g38 hA, Ri_g40 hA, Ri_r37 hA, Ri_w37 hA, Ri_l37 hA, Ri_r38 hA, Ri_w38 hA, Ri_l38 hA, Ri_r39 hA, Ri_w39 hA, Ri_l39 hA, Ri_r40 hA, Ri_w40 hA, Ri_l40 hA, z1, eq_true k2, eq_false k3, eq_false k5, k7]
  · rw [if_neg k2] at e
    have e := Option.some.inj e; subst e
    simp -implicitDefEqProofs (disch := first | assumption | exact Nat.le_of_ble_eq_true rfl | decide) only [b1774_0, g1774_1, b1774_1, g1774_2, b1774_2, g1774_3, b1774_3, g1774_5, b1774_5, g1774_8, b1774_8, g1774_9, b1774_9, g1774_10, b1774_10, pe_aload0, pe_call1, pm_af_ret, pm_af_void, pm_af_thr, pe_if_eq, pe_sipush, pe_iload1, pe_if_lt, pe_getfield, pe_icmp_lt, pe_goto_w, pe_goto, pe_putfield, pe_if_ne, pe_istore2, pe_istore3, pe_iload3, pe_icmp_ge, pe_iload2, pe_iaload, pe_iadd, pe_call6, pe_iinc3, pm_prog_1, pm_ob_some, Nat.reduceDiv, Nat.reduceMod, Nat.reduceMul, Nat.reduceAdd, Int.reduceToNat, pm_kill_i, pm_kill_r, pm_kill_n, pm_kill_j, pm_kill_l, pm_kill_d, pm_cats_nil, pm_cats_i, pm_cats_r, pm_cats_n, pm_cats_l, pm_cats_d, sz_1, sz_2, sl_1, sl_2, lc_0, lc_lt, lc_le, li_ne, Int32.reduceOfInt, Int64.reduceOfInt, Int32.reduceOfNat, Int32.reduceLT, Int32.reduceLE, Prod.mk.injEq, Nat.reduceEqDiff, reduceCtorEq, and_true, true_and, and_false, false_and, and_self, ite_true, ite_false, ↓reduceIte, not_true_eq_false, not_false_eq_true, pe_ri, pe_rz, Ri_g36 hA, Ri_p0 hA, Ri_g0 hA, Ri_g4 hA, Ri_g37 hA, Ri_g39 hA, Ri_g38 hA, Ri_g40 hA, Ri_r37 hA, Ri_w37 hA, Ri_l37 hA, Ri_r38 hA, Ri_w38 hA, Ri_l38 hA, Ri_r39 hA, Ri_w39 hA, Ri_l39 hA, Ri_r40 hA, Ri_w40 hA, Ri_l40 hA, z1, eq_false k2]
/-- TimberHouseModel$Rips.number(IIII)I -/
theorem c1746 {d : Nat} {h : pm_H} {x0 : Int32} {x1 : Int32} {x2 : Int32} {x3 : Int32} : pm_call pm_prog (d + 1) 1746 [.int x0, .int x1, .int x2, .int x3] h = pm_ev pm_prog (pm_call pm_prog d) 1746 0 b1746_0 [.int x0, .int x1, .int x2, .int x3] [] h := pm_cal (pm_rc0 rfl) rfl rfl rfl
/-- TimberHouseModel$Rips.number(IIII)I -/
noncomputable def f1746 (x0 : Int32) (x1 : Int32) (x2 : Int32) (x3 : Int32) : Option (Int32) :=
  some ((((((25 * x0) + x1) * 11) + x2) * 11) + x3)
theorem x1746 {h : pm_H} {D : Nat} {x0 : Int32} {x1 : Int32} {x2 : Int32} {x3 : Int32} {r : Int32} (hD : 1 ≤ D) (e : f1746 x0 x1 x2 x3 = some r) : pm_call pm_prog D 1746 [.int x0, .int x1, .int x2, .int x3] h = some (.returned (some (.int r)), h) := by
  obtain ⟨D, rfl⟩ : ∃ D', D = D' + 1 := ⟨D - 1, by omega⟩
  have hD : 0 ≤ D := by omega
  rw [c1746, b1746_0]
  simp only [f1746] at e
  have e := Option.some.inj e; subst e
  simp -implicitDefEqProofs (disch := first | assumption | exact Nat.le_of_ble_eq_true rfl | decide) only [b1746_0, pe_sipush, pe_iload0, pe_imul, pe_iload1, pe_iadd, pe_iload2, pe_iload3, pm_prog_1, pm_ob_some, Nat.reduceDiv, Nat.reduceMod, Nat.reduceMul, Nat.reduceAdd, Int.reduceToNat, pm_kill_i, pm_kill_r, pm_kill_n, pm_kill_j, pm_kill_l, pm_kill_d, pm_cats_nil, pm_cats_i, pm_cats_r, pm_cats_n, pm_cats_l, pm_cats_d, sz_1, sz_2, sl_1, sl_2, lc_0, lc_lt, lc_le, li_ne, Int32.reduceOfInt, Int64.reduceOfInt, Int32.reduceOfNat, Int32.reduceLT, Int32.reduceLE, Prod.mk.injEq, Nat.reduceEqDiff, reduceCtorEq, and_true, true_and, and_false, false_and, and_self, ite_true, ite_false, ↓reduceIte, not_true_eq_false, not_false_eq_true, pe_ri, pe_rz]
/-- TimberHouseModel$Rips.may(IIIII)Z -/
theorem c1747 {d : Nat} {h : pm_H} {a : Nat} {x0 : Int32} {x1 : Int32} {x2 : Int32} {x3 : Int32} {x4 : Int32} (hc : pm_cls h a = some 27) : pm_call pm_prog (d + 1) 1747 [.ref a, .int x0, .int x1, .int x2, .int x3, .int x4] h = pm_ev pm_prog (pm_call pm_prog d) 1747 0 b1747_0 [.ref a, .int x0, .int x1, .int x2, .int x3, .int x4, pm_junk, pm_junk, pm_junk] [] h := pm_cal (pm_rc1 hc rfl) rfl rfl rfl
theorem g1747_1 {cl : pm_C} {ls st : List Value} {h : pm_H} : pm_go pm_prog cl 1747 1 ls st h = pm_ev pm_prog cl 1747 1 b1747_1 ls st h := pm_go_eq pm_prog cl 1747 1 ls st h
theorem g1747_2 {cl : pm_C} {ls st : List Value} {h : pm_H} : pm_go pm_prog cl 1747 2 ls st h = pm_ev pm_prog cl 1747 2 b1747_2 ls st h := pm_go_eq pm_prog cl 1747 2 ls st h
theorem g1747_3 {cl : pm_C} {ls st : List Value} {h : pm_H} : pm_go pm_prog cl 1747 3 ls st h = pm_ev pm_prog cl 1747 3 b1747_3 ls st h := pm_go_eq pm_prog cl 1747 3 ls st h
theorem g1747_4 {cl : pm_C} {ls st : List Value} {h : pm_H} : pm_go pm_prog cl 1747 4 ls st h = pm_ev pm_prog cl 1747 4 b1747_4 ls st h := pm_go_eq pm_prog cl 1747 4 ls st h
theorem g1747_5 {cl : pm_C} {ls st : List Value} {h : pm_H} : pm_go pm_prog cl 1747 5 ls st h = pm_ev pm_prog cl 1747 5 b1747_5 ls st h := pm_go_eq pm_prog cl 1747 5 ls st h
theorem g1747_6 {cl : pm_C} {ls st : List Value} {h : pm_H} : pm_go pm_prog cl 1747 6 ls st h = pm_ev pm_prog cl 1747 6 b1747_6 ls st h := pm_go_eq pm_prog cl 1747 6 ls st h
theorem g1747_7 {cl : pm_C} {ls st : List Value} {h : pm_H} : pm_go pm_prog cl 1747 7 ls st h = pm_ev pm_prog cl 1747 7 b1747_7 ls st h := pm_go_eq pm_prog cl 1747 7 ls st h
noncomputable def f1747_b3 (S : wS) : Int32 × Int32 × Int32 × Int32 × Int32 × Int32 × Int32 → Option ((Int32 × Int32 × Int32 × Int32 × Int32 × Int32 × Int32) ⊕ ((Int32))) := fun (x1, x2, x3, x4, x5, x7, x8) =>
  if x8 < (S.1 (0, 0, 0) 4) then
    if x7 = 0 then
      some (.inr x7)
    else
      if 0 ≤ x8 ∧ x8 < 20 then
        if 0 ≤ (((16 * x1) + (8 * (S.1 (6, 0, 0) x8))) + (S.1 (7, 0, 0) x8)) ∧ (((16 * x1) + (8 * (S.1 (6, 0, 0) x8))) + (S.1 (7, 0, 0) x8)) < 128 then
          if (S.1 (17, 0, 0) (((16 * x1) + (8 * (S.1 (6, 0, 0) x8))) + (S.1 (7, 0, 0) x8))) = 0 then
            (f1748 S x8 x2 x3 x4 x5).bind fun v1 =>
            if v1 = 0 then
              some (.inl (x1, x2, x3, x4, x5, 1, (x8 + 1)))
            else
              some (.inl (x1, x2, x3, x4, x5, 0, (x8 + 1)))
          else
            some (.inl (x1, x2, x3, x4, x5, 1, (x8 + 1)))
        else none
      else none
  else
    some (.inr x7)
noncomputable def f1747_2 (S : wS) (x1 : Int32) (x2 : Int32) (x3 : Int32) (x4 : Int32) (x5 : Int32) (y0 : Int32) : Option (Int32) :=
  (lp (f1747_b3 S) FU (x1, x2, x3, x4, x5, y0, 0)).bind fun v2 =>
  if v2 = 0 ∨ v2 = 1 then
    some v2
  else none
/-- TimberHouseModel$Rips.may(IIIII)Z -/
noncomputable def f1747 (S : wS) (x1 : Int32) (x2 : Int32) (x3 : Int32) (x4 : Int32) (x5 : Int32) : Option (Int32) :=
  if 0 ≤ x1 ∧ x1 < 8 then
    if (x5 - x4) = (S.1 (13, 0, 0) x1) then
      if ((x3 - x2) * (S.1 (0, 0, 0) 1)) < (S.1 (14, 0, 0) x1) then
        f1747_2 S x1 x2 x3 x4 x5 0
      else
        if ((x3 - x2) * (S.1 (0, 0, 0) 1)) ≤ (S.1 (15, 0, 0) x1) then
          if ((x3 - x2) * (S.1 (0, 0, 0) 1)) ≤ (S.1 (0, 0, 0) 23) then
            f1747_2 S x1 x2 x3 x4 x5 1
          else
            f1747_2 S x1 x2 x3 x4 x5 0
        else
          f1747_2 S x1 x2 x3 x4 x5 0
    else
      f1747_2 S x1 x2 x3 x4 x5 0
  else none
def go1747_3 (A : wK → Nat) (h : pm_H) (D : Nat) (R : Outcome × pm_H) (S : wS) : Int32 × Int32 × Int32 × Int32 × Int32 × Int32 × Int32 → Prop := fun (x1, x2, x3, x4, x5, x7, x8) => ∀ q6 : Value, pm_go pm_prog (pm_call pm_prog D) 1747 3 [.ref (A (0, 0, 0)), .int x1, .int x2, .int x3, .int x4, .int x5, q6, .int x7, .int x8] [] (wput A Ri_d S h) = some R
def ex1747_3 (A : wK → Nat) (h : pm_H) (D : Nat) (R : Outcome × pm_H) (S : wS) : (Int32) → Prop := fun x7 => ∀ q1 q2 q3 q4 q5 q6 q8 : Value, pm_go pm_prog (pm_call pm_prog D) 1747 7 [.ref (A (0, 0, 0)), q1, q2, q3, q4, q5, q6, .int x7, q8] [] (wput A Ri_d S h) = some R
theorem y1747_b3 {A : wK → Nat} {h : pm_H} {m D : Nat} {R : Outcome × pm_H} {S : wS} (hA : wok A Ri_d m) (hD : 1 ≤ D) (a : Int32 × Int32 × Int32 × Int32 × Int32 × Int32 × Int32) (r : (Int32 × Int32 × Int32 × Int32 × Int32 × Int32 × Int32) ⊕ ((Int32))) (e : f1747_b3 S a = some r) (hc : Sum.elim (go1747_3 A h D R S) (ex1747_3 A h D R S) r) : go1747_3 A h D R S a := by
  obtain ⟨x1, x2, x3, x4, x5, x7, x8⟩ := a
  dsimp only [go1747_3]
  intro q6
  simp only [f1747_b3] at e
  rw [g1747_3, b1747_3]
  by_cases k1 : x8 < (S.1 (0, 0, 0) 4)
  · rw [if_pos k1] at e
    by_cases k2 : x7 = 0
    · rw [if_pos k2] at e
      have e := Option.some.inj e; subst e
      dsimp only [Sum.elim_inr, ex1747_3] at hc
      simp -implicitDefEqProofs (disch := first | assumption | exact Nat.le_of_ble_eq_true rfl | decide) only [b1747_0, g1747_1, b1747_1, g1747_4, b1747_4, g1747_5, b1747_5, g1747_6, b1747_6, g1747_7, b1747_7, pe_iload3, pe_iload2, pe_isub, pe_aload0, pe_getfield, pe_imul, pe_istore6, pe_iload5, pe_iload4, pe_iload1, pe_iaload, pe_icmp_ne, pe_iload6, pe_icmp_lt, pe_icmp_gt, pe_sipush, pe_goto, pe_goto_w, pe_istore7, pe_istore8, pe_iload8, pe_icmp_ge, pe_iload7, pe_if_eq, pe_iadd, pe_baload, pe_if_ne, pe_call6, pm_af_ret, pm_af_void, pm_af_thr, pe_iinc8, pm_prog_1, pm_ob_some, Nat.reduceDiv, Nat.reduceMod, Nat.reduceMul, Nat.reduceAdd, Int.reduceToNat, pm_kill_i, pm_kill_r, pm_kill_n, pm_kill_j, pm_kill_l, pm_kill_d, pm_cats_nil, pm_cats_i, pm_cats_r, pm_cats_n, pm_cats_l, pm_cats_d, sz_1, sz_2, sl_1, sl_2, lc_0, lc_lt, lc_le, li_ne, Int32.reduceOfInt, Int64.reduceOfInt, Int32.reduceOfNat, Int32.reduceLT, Int32.reduceLE, Prod.mk.injEq, Nat.reduceEqDiff, reduceCtorEq, and_true, true_and, and_false, false_and, and_self, ite_true, ite_false, ↓reduceIte, not_true_eq_false, not_false_eq_true, pe_ri, pe_rz, Ri_g1 hA, Ri_g12 hA, Ri_g13 hA, Ri_g14 hA, Ri_g23 hA, Ri_g4 hA, Ri_g16 hA, Ri_g5 hA, Ri_g6 hA, Ri_r5 hA, Ri_w5 hA, Ri_l5 hA, Ri_r6 hA, Ri_w6 hA, Ri_l6 hA, Ri_r12 hA, Ri_w12 hA, Ri_l12 hA, Ri_r13 hA, Ri_w13 hA, Ri_l13 hA, Ri_r14 hA, Ri_w14 hA, Ri_l14 hA, Ri_r16 hA, Ri_w16 hA, Ri_l16 hA, eq_true k1, eq_true k2, hc]
    · rw [if_neg k2] at e
      by_cases k3 : 0 ≤ x8 ∧ x8 < 20
      · rw [if_pos k3] at e
        by_cases k4 : 0 ≤ (((16 * x1) + (8 * (S.1 (6, 0, 0) x8))) + (S.1 (7, 0, 0) x8)) ∧ (((16 * x1) + (8 * (S.1 (6, 0, 0) x8))) + (S.1 (7, 0, 0) x8)) < 128
        · rw [if_pos k4] at e
          by_cases k5 : (S.1 (17, 0, 0) (((16 * x1) + (8 * (S.1 (6, 0, 0) x8))) + (S.1 (7, 0, 0) x8))) = 0
          · rw [if_pos k5] at e
            obtain ⟨v1, k6, e⟩ := Option.bind_eq_some_iff.mp e
            try dsimp only at e
            have z6 := x1748 (D := D) (h := h) hA (by omega) k6
            by_cases k7 : v1 = 0
            · rw [if_pos k7] at e
              have e := Option.some.inj e; subst e
              dsimp only [Sum.elim_inl, go1747_3] at hc
              simp -implicitDefEqProofs (disch := first | assumption | exact Nat.le_of_ble_eq_true rfl | decide) only [b1747_0, g1747_1, b1747_1, g1747_4, b1747_4, g1747_5, b1747_5, g1747_6, b1747_6, g1747_7, b1747_7, pe_iload3, pe_iload2, pe_isub, pe_aload0, pe_getfield, pe_imul, pe_istore6, pe_iload5, pe_iload4, pe_iload1, pe_iaload, pe_icmp_ne, pe_iload6, pe_icmp_lt, pe_icmp_gt, pe_sipush, pe_goto, pe_goto_w, pe_istore7, pe_istore8, pe_iload8, pe_icmp_ge, pe_iload7, pe_if_eq, pe_iadd, pe_baload, pe_if_ne, pe_call6, pm_af_ret, pm_af_void, pm_af_thr, pe_iinc8, pm_prog_1, pm_ob_some, Nat.reduceDiv, Nat.reduceMod, Nat.reduceMul, Nat.reduceAdd, Int.reduceToNat, pm_kill_i, pm_kill_r, pm_kill_n, pm_kill_j, pm_kill_l, pm_kill_d, pm_cats_nil, pm_cats_i, pm_cats_r, pm_cats_n, pm_cats_l, pm_cats_d, sz_1, sz_2, sl_1, sl_2, lc_0, lc_lt, lc_le, li_ne, Int32.reduceOfInt, Int64.reduceOfInt, Int32.reduceOfNat, Int32.reduceLT, Int32.reduceLE, Prod.mk.injEq, Nat.reduceEqDiff, reduceCtorEq, and_true, true_and, and_false, false_and, and_self, ite_true, ite_false, ↓reduceIte, not_true_eq_false, not_false_eq_true, pe_ri, pe_rz, Ri_g1 hA, Ri_g12 hA, Ri_g13 hA, Ri_g14 hA, Ri_g23 hA, Ri_g4 hA, Ri_g16 hA, Ri_g5 hA, Ri_g6 hA, Ri_r5 hA, Ri_w5 hA, Ri_l5 hA, Ri_r6 hA, Ri_w6 hA, Ri_l6 hA, Ri_r12 hA, Ri_w12 hA, Ri_l12 hA, Ri_r13 hA, Ri_w13 hA, Ri_l13 hA, Ri_r14 hA, Ri_w14 hA, Ri_l14 hA, Ri_r16 hA, Ri_w16 hA, Ri_l16 hA, eq_true k1, eq_false k2, eq_true k5, z6, eq_true k7, hc]
            · rw [if_neg k7] at e
              have e := Option.some.inj e; subst e
              dsimp only [Sum.elim_inl, go1747_3] at hc
              simp -implicitDefEqProofs (disch := first | assumption | exact Nat.le_of_ble_eq_true rfl | decide) only [b1747_0, g1747_1, b1747_1, g1747_4, b1747_4, g1747_5, b1747_5, g1747_6, b1747_6, g1747_7, b1747_7, pe_iload3, pe_iload2, pe_isub, pe_aload0, pe_getfield, pe_imul, pe_istore6, pe_iload5, pe_iload4, pe_iload1, pe_iaload, pe_icmp_ne, pe_iload6, pe_icmp_lt, pe_icmp_gt, pe_sipush, pe_goto, pe_goto_w, pe_istore7, pe_istore8, pe_iload8, pe_icmp_ge, pe_iload7, pe_if_eq, pe_iadd, pe_baload, pe_if_ne, pe_call6, pm_af_ret, pm_af_void, pm_af_thr, pe_iinc8, pm_prog_1, pm_ob_some, Nat.reduceDiv, Nat.reduceMod, Nat.reduceMul, Nat.reduceAdd, Int.reduceToNat, pm_kill_i, pm_kill_r, pm_kill_n, pm_kill_j, pm_kill_l, pm_kill_d, pm_cats_nil, pm_cats_i, pm_cats_r, pm_cats_n, pm_cats_l, pm_cats_d, sz_1, sz_2, sl_1, sl_2, lc_0, lc_lt, lc_le, li_ne, Int32.reduceOfInt, Int64.reduceOfInt, Int32.reduceOfNat, Int32.reduceLT, Int32.reduceLE, Prod.mk.injEq, Nat.reduceEqDiff, reduceCtorEq, and_true, true_and, and_false, false_and, and_self, ite_true, ite_false, ↓reduceIte, not_true_eq_false, not_false_eq_true, pe_ri, pe_rz, Ri_g1 hA, Ri_g12 hA, Ri_g13 hA, Ri_g14 hA, Ri_g23 hA, Ri_g4 hA, Ri_g16 hA, Ri_g5 hA, Ri_g6 hA, Ri_r5 hA, Ri_w5 hA, Ri_l5 hA, Ri_r6 hA, Ri_w6 hA, Ri_l6 hA, Ri_r12 hA, Ri_w12 hA, Ri_l12 hA, Ri_r13 hA, Ri_w13 hA, Ri_l13 hA, Ri_r14 hA, Ri_w14 hA, Ri_l14 hA, Ri_r16 hA, Ri_w16 hA, Ri_l16 hA, eq_true k1, eq_false k2, eq_true k5, z6, eq_false k7, hc]
          · rw [if_neg k5] at e
            have e := Option.some.inj e; subst e
            dsimp only [Sum.elim_inl, go1747_3] at hc
            simp -implicitDefEqProofs (disch := first | assumption | exact Nat.le_of_ble_eq_true rfl | decide) only [b1747_0, g1747_1, b1747_1, g1747_4, b1747_4, g1747_5, b1747_5, g1747_6, b1747_6, g1747_7, b1747_7, pe_iload3, pe_iload2, pe_isub, pe_aload0, pe_getfield, pe_imul, pe_istore6, pe_iload5, pe_iload4, pe_iload1, pe_iaload, pe_icmp_ne, pe_iload6, pe_icmp_lt, pe_icmp_gt, pe_sipush, pe_goto, pe_goto_w, pe_istore7, pe_istore8, pe_iload8, pe_icmp_ge, pe_iload7, pe_if_eq, pe_iadd, pe_baload, pe_if_ne, pe_call6, pm_af_ret, pm_af_void, pm_af_thr, pe_iinc8, pm_prog_1, pm_ob_some, Nat.reduceDiv, Nat.reduceMod, Nat.reduceMul, Nat.reduceAdd, Int.reduceToNat, pm_kill_i, pm_kill_r, pm_kill_n, pm_kill_j, pm_kill_l, pm_kill_d, pm_cats_nil, pm_cats_i, pm_cats_r, pm_cats_n, pm_cats_l, pm_cats_d, sz_1, sz_2, sl_1, sl_2, lc_0, lc_lt, lc_le, li_ne, Int32.reduceOfInt, Int64.reduceOfInt, Int32.reduceOfNat, Int32.reduceLT, Int32.reduceLE, Prod.mk.injEq, Nat.reduceEqDiff, reduceCtorEq, and_true, true_and, and_false, false_and, and_self, ite_true, ite_false, ↓reduceIte, not_true_eq_false, not_false_eq_true, pe_ri, pe_rz, Ri_g1 hA, Ri_g12 hA, Ri_g13 hA, Ri_g14 hA, Ri_g23 hA, Ri_g4 hA, Ri_g16 hA, Ri_g5 hA, Ri_g6 hA, Ri_r5 hA, Ri_w5 hA, Ri_l5 hA, Ri_r6 hA, Ri_w6 hA, Ri_l6 hA, Ri_r12 hA, Ri_w12 hA, Ri_l12 hA, Ri_r13 hA, Ri_w13 hA, Ri_l13 hA, Ri_r14 hA, Ri_w14 hA, Ri_l14 hA, Ri_r16 hA, Ri_w16 hA, Ri_l16 hA, eq_true k1, eq_false k2, eq_false k5, hc]
        · rw [if_neg k4] at e; cases e
      · rw [if_neg k3] at e; cases e
  · rw [if_neg k1] at e
    have e := Option.some.inj e; subst e
    dsimp only [Sum.elim_inr, ex1747_3] at hc
    simp -implicitDefEqProofs (disch := first | assumption | exact Nat.le_of_ble_eq_true rfl | decide) only [b1747_0, g1747_1, b1747_1, g1747_4, b1747_4, g1747_5, b1747_5, g1747_6, b1747_6, g1747_7, b1747_7, pe_iload3, pe_iload2, pe_isub, pe_aload0, pe_getfield, pe_imul, pe_istore6, pe_iload5, pe_iload4, pe_iload1, pe_iaload, pe_icmp_ne, pe_iload6, pe_icmp_lt, pe_icmp_gt, pe_sipush, pe_goto, pe_goto_w, pe_istore7, pe_istore8, pe_iload8, pe_icmp_ge, pe_iload7, pe_if_eq, pe_iadd, pe_baload, pe_if_ne, pe_call6, pm_af_ret, pm_af_void, pm_af_thr, pe_iinc8, pm_prog_1, pm_ob_some, Nat.reduceDiv, Nat.reduceMod, Nat.reduceMul, Nat.reduceAdd, Int.reduceToNat, pm_kill_i, pm_kill_r, pm_kill_n, pm_kill_j, pm_kill_l, pm_kill_d, pm_cats_nil, pm_cats_i, pm_cats_r, pm_cats_n, pm_cats_l, pm_cats_d, sz_1, sz_2, sl_1, sl_2, lc_0, lc_lt, lc_le, li_ne, Int32.reduceOfInt, Int64.reduceOfInt, Int32.reduceOfNat, Int32.reduceLT, Int32.reduceLE, Prod.mk.injEq, Nat.reduceEqDiff, reduceCtorEq, and_true, true_and, and_false, false_and, and_self, ite_true, ite_false, ↓reduceIte, not_true_eq_false, not_false_eq_true, pe_ri, pe_rz, Ri_g1 hA, Ri_g12 hA, Ri_g13 hA, Ri_g14 hA, Ri_g23 hA, Ri_g4 hA, Ri_g16 hA, Ri_g5 hA, Ri_g6 hA, Ri_r5 hA, Ri_w5 hA, Ri_l5 hA, Ri_r6 hA, Ri_w6 hA, Ri_l6 hA, Ri_r12 hA, Ri_w12 hA, Ri_l12 hA, Ri_r13 hA, Ri_w13 hA, Ri_l13 hA, Ri_r14 hA, Ri_w14 hA, Ri_l14 hA, Ri_r16 hA, Ri_w16 hA, Ri_l16 hA, eq_false k1, hc]
theorem z1747_3 {A : wK → Nat} {h : pm_H} {m D : Nat} {R : Outcome × pm_H} {S : wS} (hA : wok A Ri_d m) (hD : 1 ≤ D) {n : Nat} {a : Int32 × Int32 × Int32 × Int32 × Int32 × Int32 × Int32} {b : (Int32)} (e : lp (f1747_b3 S) n a = some b) (hx : ex1747_3 A h D R S b) : go1747_3 A h D R S a := lp_run (fun a r => y1747_b3 hA hD a r) n a b e hx
theorem y1747_2 {A : wK → Nat} {h : pm_H} {m D : Nat} {S : wS} {x1 : Int32} {x2 : Int32} {x3 : Int32} {x4 : Int32} {x5 : Int32} {y0 : Int32} {r : Int32} (hA : wok A Ri_d m) (hD : 1 ≤ D) (e : f1747_2 S x1 x2 x3 x4 x5 y0 = some r) : ∀ q6 q7 q8 : Value, pm_go pm_prog (pm_call pm_prog D) 1747 2 [.ref (A (0, 0, 0)), .int x1, .int x2, .int x3, .int x4, .int x5, q6, q7, q8] [.int y0] (wput A Ri_d S h) = some (.returned (some (.int r)), (wput A Ri_d S h)) := by
  intro q6 q7 q8
  simp only [f1747_2] at e
  rw [g1747_2, b1747_2]
  obtain ⟨v2, k1, e⟩ := Option.bind_eq_some_iff.mp e
  try dsimp only at e
  try simp -implicitDefEqProofs (disch := first | assumption | exact Nat.le_of_ble_eq_true rfl | decide) only [b1747_0, g1747_1, b1747_1, g1747_4, b1747_4, g1747_5, b1747_5, g1747_6, b1747_6, g1747_7, b1747_7, pe_iload3, pe_iload2, pe_isub, pe_aload0, pe_getfield, pe_imul, pe_istore6, pe_iload5, pe_iload4, pe_iload1, pe_iaload, pe_icmp_ne, pe_iload6, pe_icmp_lt, pe_icmp_gt, pe_sipush, pe_goto, pe_goto_w, pe_istore7, pe_istore8, pe_iload8, pe_icmp_ge, pe_iload7, pe_if_eq, pe_iadd, pe_baload, pe_if_ne, pe_call6, pm_af_ret, pm_af_void, pm_af_thr, pe_iinc8, pm_prog_1, pm_ob_some, Nat.reduceDiv, Nat.reduceMod, Nat.reduceMul, Nat.reduceAdd, Int.reduceToNat, pm_kill_i, pm_kill_r, pm_kill_n, pm_kill_j, pm_kill_l, pm_kill_d, pm_cats_nil, pm_cats_i, pm_cats_r, pm_cats_n, pm_cats_l, pm_cats_d, sz_1, sz_2, sl_1, sl_2, lc_0, lc_lt, lc_le, li_ne, Int32.reduceOfInt, Int64.reduceOfInt, Int32.reduceOfNat, Int32.reduceLT, Int32.reduceLE, Prod.mk.injEq, Nat.reduceEqDiff, reduceCtorEq, and_true, true_and, and_false, false_and, and_self, ite_true, ite_false, ↓reduceIte, not_true_eq_false, not_false_eq_true, pe_ri, pe_rz, Ri_g1 hA, Ri_g12 hA, Ri_g13 hA, Ri_g14 hA, Ri_g23 hA, Ri_g4 hA, Ri_g16 hA, Ri_g5 hA, Ri_g6 hA, Ri_r5 hA, Ri_w5 hA, Ri_l5 hA, Ri_r6 hA, Ri_w6 hA, Ri_l6 hA, Ri_r12 hA, Ri_w12 hA, Ri_l12 hA, Ri_r13 hA, Ri_w13 hA, Ri_l13 hA, Ri_r14 hA, Ri_w14 hA, Ri_l14 hA, Ri_r16 hA, Ri_w16 hA, Ri_l16 hA]
  refine z1747_3 hA hD k1 ?_ _
  dsimp only [ex1747_3]
  intro q1 q2 q3 q4 q5 q6 q8
  by_cases k2 : v2 = 0 ∨ v2 = 1
  · rw [if_pos k2] at e
    have e := Option.some.inj e; subst e
    simp -implicitDefEqProofs (disch := first | assumption | exact Nat.le_of_ble_eq_true rfl | decide) only [b1747_0, g1747_1, b1747_1, g1747_4, b1747_4, g1747_5, b1747_5, g1747_6, b1747_6, g1747_7, b1747_7, pe_iload3, pe_iload2, pe_isub, pe_aload0, pe_getfield, pe_imul, pe_istore6, pe_iload5, pe_iload4, pe_iload1, pe_iaload, pe_icmp_ne, pe_iload6, pe_icmp_lt, pe_icmp_gt, pe_sipush, pe_goto, pe_goto_w, pe_istore7, pe_istore8, pe_iload8, pe_icmp_ge, pe_iload7, pe_if_eq, pe_iadd, pe_baload, pe_if_ne, pe_call6, pm_af_ret, pm_af_void, pm_af_thr, pe_iinc8, pm_prog_1, pm_ob_some, Nat.reduceDiv, Nat.reduceMod, Nat.reduceMul, Nat.reduceAdd, Int.reduceToNat, pm_kill_i, pm_kill_r, pm_kill_n, pm_kill_j, pm_kill_l, pm_kill_d, pm_cats_nil, pm_cats_i, pm_cats_r, pm_cats_n, pm_cats_l, pm_cats_d, sz_1, sz_2, sl_1, sl_2, lc_0, lc_lt, lc_le, li_ne, Int32.reduceOfInt, Int64.reduceOfInt, Int32.reduceOfNat, Int32.reduceLT, Int32.reduceLE, Prod.mk.injEq, Nat.reduceEqDiff, reduceCtorEq, and_true, true_and, and_false, false_and, and_self, ite_true, ite_false, ↓reduceIte, not_true_eq_false, not_false_eq_true, pe_ri, pe_rz, Ri_g1 hA, Ri_g12 hA, Ri_g13 hA, Ri_g14 hA, Ri_g23 hA, Ri_g4 hA, Ri_g16 hA, Ri_g5 hA, Ri_g6 hA, Ri_r5 hA, Ri_w5 hA, Ri_l5 hA, Ri_r6 hA, Ri_w6 hA, Ri_l6 hA, Ri_r12 hA, Ri_w12 hA, Ri_l12 hA, Ri_r13 hA, Ri_w13 hA, Ri_l13 hA, Ri_r14 hA, Ri_w14 hA, Ri_l14 hA, Ri_r16 hA, Ri_w16 hA, Ri_l16 hA]
  · rw [if_neg k2] at e; cases e
theorem x1747 {A : wK → Nat} {h : pm_H} {m D : Nat} {S : wS} {x1 : Int32} {x2 : Int32} {x3 : Int32} {x4 : Int32} {x5 : Int32} {r : Int32} (hA : wok A Ri_d m) (hD : 2 ≤ D) (e : f1747 S x1 x2 x3 x4 x5 = some r) : pm_call pm_prog D 1747 [.ref (A (0, 0, 0)), .int x1, .int x2, .int x3, .int x4, .int x5] (wput A Ri_d S h) = some (.returned (some (.int r)), (wput A Ri_d S h)) := by
  obtain ⟨D, rfl⟩ : ∃ D', D = D' + 1 := ⟨D - 1, by omega⟩
  have hD : 1 ≤ D := by omega
  rw [c1747 (Ri_c hA), b1747_0]
  simp only [f1747] at e
  by_cases k1 : 0 ≤ x1 ∧ x1 < 8
  · rw [if_pos k1] at e
    by_cases k2 : (x5 - x4) = (S.1 (13, 0, 0) x1)
    · rw [if_pos k2] at e
      by_cases k3 : ((x3 - x2) * (S.1 (0, 0, 0) 1)) < (S.1 (14, 0, 0) x1)
      · rw [if_pos k3] at e
        have k4 := y1747_2 (h := h) hA hD e
        simp -implicitDefEqProofs (disch := first | assumption | exact Nat.le_of_ble_eq_true rfl | decide) only [b1747_0, g1747_1, b1747_1, g1747_4, b1747_4, g1747_5, b1747_5, g1747_6, b1747_6, g1747_7, b1747_7, pe_iload3, pe_iload2, pe_isub, pe_aload0, pe_getfield, pe_imul, pe_istore6, pe_iload5, pe_iload4, pe_iload1, pe_iaload, pe_icmp_ne, pe_iload6, pe_icmp_lt, pe_icmp_gt, pe_sipush, pe_goto, pe_goto_w, pe_istore7, pe_istore8, pe_iload8, pe_icmp_ge, pe_iload7, pe_if_eq, pe_iadd, pe_baload, pe_if_ne, pe_call6, pm_af_ret, pm_af_void, pm_af_thr, pe_iinc8, pm_prog_1, pm_ob_some, Nat.reduceDiv, Nat.reduceMod, Nat.reduceMul, Nat.reduceAdd, Int.reduceToNat, pm_kill_i, pm_kill_r, pm_kill_n, pm_kill_j, pm_kill_l, pm_kill_d, pm_cats_nil, pm_cats_i, pm_cats_r, pm_cats_n, pm_cats_l, pm_cats_d, sz_1, sz_2, sl_1, sl_2, lc_0, lc_lt, lc_le, li_ne, Int32.reduceOfInt, Int64.reduceOfInt, Int32.reduceOfNat, Int32.reduceLT, Int32.reduceLE, Prod.mk.injEq, Nat.reduceEqDiff, reduceCtorEq, and_true, true_and, and_false, false_and, and_self, ite_true, ite_false, ↓reduceIte, not_true_eq_false, not_false_eq_true, pe_ri, pe_rz, Ri_g1 hA, Ri_g12 hA, Ri_g13 hA, Ri_g14 hA, Ri_g23 hA, Ri_g4 hA, Ri_g16 hA, Ri_g5 hA, Ri_g6 hA, Ri_r5 hA, Ri_w5 hA, Ri_l5 hA, Ri_r6 hA, Ri_w6 hA, Ri_l6 hA, Ri_r12 hA, Ri_w12 hA, Ri_l12 hA, Ri_r13 hA, Ri_w13 hA, Ri_l13 hA, Ri_r14 hA, Ri_w14 hA, Ri_l14 hA, Ri_r16 hA, Ri_w16 hA, Ri_l16 hA, eq_true k2, eq_true k3, k4]
      · rw [if_neg k3] at e
        by_cases k5 : ((x3 - x2) * (S.1 (0, 0, 0) 1)) ≤ (S.1 (15, 0, 0) x1)
        · rw [if_pos k5] at e
          by_cases k6 : ((x3 - x2) * (S.1 (0, 0, 0) 1)) ≤ (S.1 (0, 0, 0) 23)
          · rw [if_pos k6] at e
            have k7 := y1747_2 (h := h) hA hD e
            simp -implicitDefEqProofs (disch := first | assumption | exact Nat.le_of_ble_eq_true rfl | decide) only [b1747_0, g1747_1, b1747_1, g1747_4, b1747_4, g1747_5, b1747_5, g1747_6, b1747_6, g1747_7, b1747_7, pe_iload3, pe_iload2, pe_isub, pe_aload0, pe_getfield, pe_imul, pe_istore6, pe_iload5, pe_iload4, pe_iload1, pe_iaload, pe_icmp_ne, pe_iload6, pe_icmp_lt, pe_icmp_gt, pe_sipush, pe_goto, pe_goto_w, pe_istore7, pe_istore8, pe_iload8, pe_icmp_ge, pe_iload7, pe_if_eq, pe_iadd, pe_baload, pe_if_ne, pe_call6, pm_af_ret, pm_af_void, pm_af_thr, pe_iinc8, pm_prog_1, pm_ob_some, Nat.reduceDiv, Nat.reduceMod, Nat.reduceMul, Nat.reduceAdd, Int.reduceToNat, pm_kill_i, pm_kill_r, pm_kill_n, pm_kill_j, pm_kill_l, pm_kill_d, pm_cats_nil, pm_cats_i, pm_cats_r, pm_cats_n, pm_cats_l, pm_cats_d, sz_1, sz_2, sl_1, sl_2, lc_0, lc_lt, lc_le, li_ne, Int32.reduceOfInt, Int64.reduceOfInt, Int32.reduceOfNat, Int32.reduceLT, Int32.reduceLE, Prod.mk.injEq, Nat.reduceEqDiff, reduceCtorEq, and_true, true_and, and_false, false_and, and_self, ite_true, ite_false, ↓reduceIte, not_true_eq_false, not_false_eq_true, pe_ri, pe_rz, Ri_g1 hA, Ri_g12 hA, Ri_g13 hA, Ri_g14 hA, Ri_g23 hA, Ri_g4 hA, Ri_g16 hA, Ri_g5 hA, Ri_g6 hA, Ri_r5 hA, Ri_w5 hA, Ri_l5 hA, Ri_r6 hA, Ri_w6 hA, Ri_l6 hA, Ri_r12 hA, Ri_w12 hA, Ri_l12 hA, Ri_r13 hA, Ri_w13 hA, Ri_l13 hA, Ri_r14 hA, Ri_w14 hA, Ri_l14 hA, Ri_r16 hA, Ri_w16 hA, Ri_l16 hA, eq_true k2, eq_false k3, eq_true k5, eq_true k6, k7]
          · rw [if_neg k6] at e
            have k8 := y1747_2 (h := h) hA hD e
            simp -implicitDefEqProofs (disch := first | assumption | exact Nat.le_of_ble_eq_true rfl | decide) only [b1747_0, g1747_1, b1747_1, g1747_4, b1747_4, g1747_5, b1747_5, g1747_6, b1747_6, g1747_7, b1747_7, pe_iload3, pe_iload2, pe_isub, pe_aload0, pe_getfield, pe_imul, pe_istore6, pe_iload5, pe_iload4, pe_iload1, pe_iaload, pe_icmp_ne, pe_iload6, pe_icmp_lt, pe_icmp_gt, pe_sipush, pe_goto, pe_goto_w, pe_istore7, pe_istore8, pe_iload8, pe_icmp_ge, pe_iload7, pe_if_eq, pe_iadd, pe_baload, pe_if_ne, pe_call6, pm_af_ret, pm_af_void, pm_af_thr, pe_iinc8, pm_prog_1, pm_ob_some, Nat.reduceDiv, Nat.reduceMod, Nat.reduceMul, Nat.reduceAdd, Int.reduceToNat, pm_kill_i, pm_kill_r, pm_kill_n, pm_kill_j, pm_kill_l, pm_kill_d, pm_cats_nil, pm_cats_i, pm_cats_r, pm_cats_n, pm_cats_l, pm_cats_d, sz_1, sz_2, sl_1, sl_2, lc_0, lc_lt, lc_le, li_ne, Int32.reduceOfInt, Int64.reduceOfInt, Int32.reduceOfNat, Int32.reduceLT, Int32.reduceLE, Prod.mk.injEq, Nat.reduceEqDiff, reduceCtorEq, and_true, true_and, and_false, false_and, and_self, ite_true, ite_false, ↓reduceIte, not_true_eq_false, not_false_eq_true, pe_ri, pe_rz, Ri_g1 hA, Ri_g12 hA, Ri_g13 hA, Ri_g14 hA, Ri_g23 hA, Ri_g4 hA, Ri_g16 hA, Ri_g5 hA, Ri_g6 hA, Ri_r5 hA, Ri_w5 hA, Ri_l5 hA, Ri_r6 hA, Ri_w6 hA, Ri_l6 hA, Ri_r12 hA, Ri_w12 hA, Ri_l12 hA, Ri_r13 hA, Ri_w13 hA, Ri_l13 hA, Ri_r14 hA, Ri_w14 hA, Ri_l14 hA, Ri_r16 hA, Ri_w16 hA, Ri_l16 hA, eq_true k2, eq_false k3, eq_true k5, eq_false k6, k8]
        · rw [if_neg k5] at e
          have k9 := y1747_2 (h := h) hA hD e
          simp -implicitDefEqProofs (disch := first | assumption | exact Nat.le_of_ble_eq_true rfl | decide) only [b1747_0, g1747_1, b1747_1, g1747_4, b1747_4, g1747_5, b1747_5, g1747_6, b1747_6, g1747_7, b1747_7, pe_iload3, pe_iload2, pe_isub, pe_aload0, pe_getfield, pe_imul, pe_istore6, pe_iload5, pe_iload4, pe_iload1, pe_iaload, pe_icmp_ne, pe_iload6, pe_icmp_lt, pe_icmp_gt, pe_sipush, pe_goto, pe_goto_w, pe_istore7, pe_istore8, pe_iload8, pe_icmp_ge, pe_iload7, pe_if_eq, pe_iadd, pe_baload, pe_if_ne, pe_call6, pm_af_ret, pm_af_void, pm_af_thr, pe_iinc8, pm_prog_1, pm_ob_some, Nat.reduceDiv, Nat.reduceMod, Nat.reduceMul, Nat.reduceAdd, Int.reduceToNat, pm_kill_i, pm_kill_r, pm_kill_n, pm_kill_j, pm_kill_l, pm_kill_d, pm_cats_nil, pm_cats_i, pm_cats_r, pm_cats_n, pm_cats_l, pm_cats_d, sz_1, sz_2, sl_1, sl_2, lc_0, lc_lt, lc_le, li_ne, Int32.reduceOfInt, Int64.reduceOfInt, Int32.reduceOfNat, Int32.reduceLT, Int32.reduceLE, Prod.mk.injEq, Nat.reduceEqDiff, reduceCtorEq, and_true, true_and, and_false, false_and, and_self, ite_true, ite_false, ↓reduceIte, not_true_eq_false, not_false_eq_true, pe_ri, pe_rz, Ri_g1 hA, Ri_g12 hA, Ri_g13 hA, Ri_g14 hA, Ri_g23 hA, Ri_g4 hA, Ri_g16 hA, Ri_g5 hA, Ri_g6 hA, Ri_r5 hA, Ri_w5 hA, Ri_l5 hA, Ri_r6 hA, Ri_w6 hA, Ri_l6 hA, Ri_r12 hA, Ri_w12 hA, Ri_l12 hA, Ri_r13 hA, Ri_w13 hA, Ri_l13 hA, Ri_r14 hA, Ri_w14 hA, Ri_l14 hA, Ri_r16 hA, Ri_w16 hA, Ri_l16 hA, eq_true k2, eq_false k3, eq_false k5, k9]
    · rw [if_neg k2] at e
      have k10 := y1747_2 (h := h) hA hD e
      simp -implicitDefEqProofs (disch := first | assumption | exact Nat.le_of_ble_eq_true rfl | decide) only [b1747_0, g1747_1, b1747_1, g1747_4, b1747_4, g1747_5, b1747_5, g1747_6, b1747_6, g1747_7, b1747_7, pe_iload3, pe_iload2, pe_isub, pe_aload0, pe_getfield, pe_imul, pe_istore6, pe_iload5, pe_iload4, pe_iload1, pe_iaload, pe_icmp_ne, pe_iload6, pe_icmp_lt, pe_icmp_gt, pe_sipush, pe_goto, pe_goto_w, pe_istore7, pe_istore8, pe_iload8, pe_icmp_ge, pe_iload7, pe_if_eq, pe_iadd, pe_baload, pe_if_ne, pe_call6, pm_af_ret, pm_af_void, pm_af_thr, pe_iinc8, pm_prog_1, pm_ob_some, Nat.reduceDiv, Nat.reduceMod, Nat.reduceMul, Nat.reduceAdd, Int.reduceToNat, pm_kill_i, pm_kill_r, pm_kill_n, pm_kill_j, pm_kill_l, pm_kill_d, pm_cats_nil, pm_cats_i, pm_cats_r, pm_cats_n, pm_cats_l, pm_cats_d, sz_1, sz_2, sl_1, sl_2, lc_0, lc_lt, lc_le, li_ne, Int32.reduceOfInt, Int64.reduceOfInt, Int32.reduceOfNat, Int32.reduceLT, Int32.reduceLE, Prod.mk.injEq, Nat.reduceEqDiff, reduceCtorEq, and_true, true_and, and_false, false_and, and_self, ite_true, ite_false, ↓reduceIte, not_true_eq_false, not_false_eq_true, pe_ri, pe_rz, Ri_g1 hA, Ri_g12 hA, Ri_g13 hA, Ri_g14 hA, Ri_g23 hA, Ri_g4 hA, Ri_g16 hA, Ri_g5 hA, Ri_g6 hA, Ri_r5 hA, Ri_w5 hA, Ri_l5 hA, Ri_r6 hA, Ri_w6 hA, Ri_l6 hA, Ri_r12 hA, Ri_w12 hA, Ri_l12 hA, Ri_r13 hA, Ri_w13 hA, Ri_l13 hA, Ri_r14 hA, Ri_w14 hA, Ri_l14 hA, Ri_r16 hA, Ri_w16 hA, Ri_l16 hA, eq_false k2, k10]
  · rw [if_neg k1] at e; cases e
/-- TimberHouseModel$Rips.bestPiece(IIII)V -/
theorem c1745 {d : Nat} {h : pm_H} {a : Nat} {x0 : Int32} {x1 : Int32} {x2 : Int32} {x3 : Int32} (hc : pm_cls h a = some 27) : pm_call pm_prog (d + 1) 1745 [.ref a, .int x0, .int x1, .int x2, .int x3] h = pm_ev pm_prog (pm_call pm_prog d) 1745 0 b1745_0 [.ref a, .int x0, .int x1, .int x2, .int x3, pm_junk, pm_junk, pm_junk, pm_junk] [] h := pm_cal (pm_rc1 hc rfl) rfl rfl rfl
theorem g1745_1 {cl : pm_C} {ls st : List Value} {h : pm_H} : pm_go pm_prog cl 1745 1 ls st h = pm_ev pm_prog cl 1745 1 b1745_1 ls st h := pm_go_eq pm_prog cl 1745 1 ls st h
theorem g1745_2 {cl : pm_C} {ls st : List Value} {h : pm_H} : pm_go pm_prog cl 1745 2 ls st h = pm_ev pm_prog cl 1745 2 b1745_2 ls st h := pm_go_eq pm_prog cl 1745 2 ls st h
theorem g1745_3 {cl : pm_C} {ls st : List Value} {h : pm_H} : pm_go pm_prog cl 1745 3 ls st h = pm_ev pm_prog cl 1745 3 b1745_3 ls st h := pm_go_eq pm_prog cl 1745 3 ls st h
theorem g1745_4 {cl : pm_C} {ls st : List Value} {h : pm_H} : pm_go pm_prog cl 1745 4 ls st h = pm_ev pm_prog cl 1745 4 b1745_4 ls st h := pm_go_eq pm_prog cl 1745 4 ls st h
noncomputable def f1745_2_1 (S : wS) (x1 : Int32) (x2 : Int32) (x3 : Int32) (x4 : Int32) (x5 : Int32) (x6 : Int32) (x7 : Int64) : Option ((Int32 × Int32 × Int32 × Int32 × Int32 × Int32 × wS) ⊕ ((wS))) :=
  (f1747 S x6 x1 x2 x3 x4).bind fun v2 =>
  if v2 = 0 then
    some (.inl (x1, x2, x3, x4, x5, (x6 + 1), S))
  else
    if 0 ≤ x5 ∧ x5 < 75625 then
      some (.inl (x1, x2, x3, x4, x5, (x6 + 1), (sz (sz (sl S (25, 0, 0) x5 x7) (26, 0, 0) x5 1) (27, 0, 0) x5 x6)))
    else none
noncomputable def f1745_b1 : Int32 × Int32 × Int32 × Int32 × Int32 × Int32 × wS → Option ((Int32 × Int32 × Int32 × Int32 × Int32 × Int32 × wS) ⊕ ((wS))) := fun (x1, x2, x3, x4, x5, x6, S) =>
  if x6 < (S.1 (0, 0, 0) 11) then
    if 0 ≤ x6 ∧ x6 < 8 then
      if 0 ≤ x5 ∧ x5 < 75625 then
        if (S.1 (26, 0, 0) x5) = 0 then
          f1745_2_1 S x1 x2 x3 x4 x5 x6 (((S.2 (16, 0, 0) x6) * (Int32.toInt64 (x2 - x1))) - (S.2 (19, 0, 0) x6))
        else
          if (((S.2 (16, 0, 0) x6) * (Int32.toInt64 (x2 - x1))) - (S.2 (19, 0, 0) x6)) ≤ (S.2 (25, 0, 0) x5) then
            some (.inl (x1, x2, x3, x4, x5, (x6 + 1), S))
          else
            f1745_2_1 S x1 x2 x3 x4 x5 x6 (((S.2 (16, 0, 0) x6) * (Int32.toInt64 (x2 - x1))) - (S.2 (19, 0, 0) x6))
      else none
    else none
  else
    some (.inr S)
/-- TimberHouseModel$Rips.bestPiece(IIII)V -/
noncomputable def f1745 (S : wS) (x1 : Int32) (x2 : Int32) (x3 : Int32) (x4 : Int32) : Option (wS) :=
  (f1746 x1 x2 x3 x4).bind fun v1 =>
  if 0 ≤ v1 ∧ v1 < 75625 then
    (lp (f1745_b1) FU (x1, x2, x3, x4, v1, 0, (sz (sl S (25, 0, 0) v1 0) (26, 0, 0) v1 0))).bind fun S3 =>
    some S3
  else none
def go1745_1 (A : wK → Nat) (h : pm_H) (D : Nat) (R : Outcome × pm_H) : Int32 × Int32 × Int32 × Int32 × Int32 × Int32 × wS → Prop := fun (x1, x2, x3, x4, x5, x6, S) => ∀ q7 q8 : Value, pm_go pm_prog (pm_call pm_prog D) 1745 1 [.ref (A (0, 0, 0)), .int x1, .int x2, .int x3, .int x4, .int x5, .int x6, q7, q8] [] (wput A Ri_d S h) = some R
def ex1745_1 (A : wK → Nat) (h : pm_H) (D : Nat) (R : Outcome × pm_H) : (wS) → Prop := fun S => ∀ q1 q2 q3 q4 q5 q6 q7 q8 : Value, pm_go pm_prog (pm_call pm_prog D) 1745 4 [.ref (A (0, 0, 0)), q1, q2, q3, q4, q5, q6, q7, q8] [] (wput A Ri_d S h) = some R
theorem y1745_2_1 {A : wK → Nat} {h : pm_H} {m D : Nat} {R : Outcome × pm_H} {S : wS} {x1 : Int32} {x2 : Int32} {x3 : Int32} {x4 : Int32} {x5 : Int32} {x6 : Int32} {x7 : Int64} {r : (Int32 × Int32 × Int32 × Int32 × Int32 × Int32 × wS) ⊕ ((wS))} (hA : wok A Ri_d m) (hD : 2 ≤ D) (e : f1745_2_1 S x1 x2 x3 x4 x5 x6 x7 = some r) (hc : Sum.elim (go1745_1 A h D R) (ex1745_1 A h D R) r) : pm_go pm_prog (pm_call pm_prog D) 1745 2 [.ref (A (0, 0, 0)), .int x1, .int x2, .int x3, .int x4, .int x5, .int x6, .long x7, pm_junk] [] (wput A Ri_d S h) = some R := by
  simp only [f1745_2_1] at e
  rw [g1745_2, b1745_2]
  obtain ⟨v2, k1, e⟩ := Option.bind_eq_some_iff.mp e
  try dsimp only at e
  have z1 := x1747 (D := D) (h := h) hA (by omega) k1
  by_cases k2 : v2 = 0
  · rw [if_pos k2] at e
    have e := Option.some.inj e; subst e
    dsimp only [Sum.elim_inl, go1745_1] at hc
    simp -implicitDefEqProofs (disch := first | assumption | exact Nat.le_of_ble_eq_true rfl | decide) only [b1745_0, g1745_3, b1745_3, g1745_4, b1745_4, pe_iload1, pe_iload2, pe_iload3, pe_iload4, pe_call4, pm_af_ret, pm_af_void, pm_af_thr, pe_istore5, pe_aload0, pe_getfield, pe_iload5, pe_bipush, pe_lastore, pe_sipush, pe_iastore, pe_istore6, pe_goto_w, pe_iload6, pe_icmp_ge, pe_laload, pe_isub, pe_i2l, pe_lmul, pe_lsub, pe_lstore7, pe_iaload, pe_if_eq, pe_lload7, pe_lcmp, pe_if_le, pe_call6, pe_iinc6, pe_goto, pe_return, pm_prog_1, pm_ob_some, Nat.reduceDiv, Nat.reduceMod, Nat.reduceMul, Nat.reduceAdd, Int.reduceToNat, pm_kill_i, pm_kill_r, pm_kill_n, pm_kill_j, pm_kill_l, pm_kill_d, pm_cats_nil, pm_cats_i, pm_cats_r, pm_cats_n, pm_cats_l, pm_cats_d, sz_1, sz_2, sl_1, sl_2, lc_0, lc_lt, lc_le, li_ne, Int32.reduceOfInt, Int64.reduceOfInt, Int32.reduceOfNat, Int32.reduceLT, Int32.reduceLE, Prod.mk.injEq, Nat.reduceEqDiff, reduceCtorEq, and_true, true_and, and_false, false_and, and_self, ite_true, ite_false, ↓reduceIte, not_true_eq_false, not_false_eq_true, pe_ri, pe_rz, Ri_g24 hA, Ri_g25 hA, Ri_g11 hA, Ri_g15 hA, Ri_g18 hA, Ri_g26 hA, Ri_r15 hA, Ri_w15 hA, Ri_l15 hA, Ri_r18 hA, Ri_w18 hA, Ri_l18 hA, Ri_r24 hA, Ri_w24 hA, Ri_l24 hA, Ri_r25 hA, Ri_w25 hA, Ri_l25 hA, Ri_r26 hA, Ri_w26 hA, Ri_l26 hA, z1, eq_true k2, hc]
  · rw [if_neg k2] at e
    by_cases k3 : 0 ≤ x5 ∧ x5 < 75625
    · rw [if_pos k3] at e
      have e := Option.some.inj e; subst e
      dsimp only [Sum.elim_inl, go1745_1] at hc
      simp -implicitDefEqProofs (disch := first | assumption | exact Nat.le_of_ble_eq_true rfl | decide) only [b1745_0, g1745_3, b1745_3, g1745_4, b1745_4, pe_iload1, pe_iload2, pe_iload3, pe_iload4, pe_call4, pm_af_ret, pm_af_void, pm_af_thr, pe_istore5, pe_aload0, pe_getfield, pe_iload5, pe_bipush, pe_lastore, pe_sipush, pe_iastore, pe_istore6, pe_goto_w, pe_iload6, pe_icmp_ge, pe_laload, pe_isub, pe_i2l, pe_lmul, pe_lsub, pe_lstore7, pe_iaload, pe_if_eq, pe_lload7, pe_lcmp, pe_if_le, pe_call6, pe_iinc6, pe_goto, pe_return, pm_prog_1, pm_ob_some, Nat.reduceDiv, Nat.reduceMod, Nat.reduceMul, Nat.reduceAdd, Int.reduceToNat, pm_kill_i, pm_kill_r, pm_kill_n, pm_kill_j, pm_kill_l, pm_kill_d, pm_cats_nil, pm_cats_i, pm_cats_r, pm_cats_n, pm_cats_l, pm_cats_d, sz_1, sz_2, sl_1, sl_2, lc_0, lc_lt, lc_le, li_ne, Int32.reduceOfInt, Int64.reduceOfInt, Int32.reduceOfNat, Int32.reduceLT, Int32.reduceLE, Prod.mk.injEq, Nat.reduceEqDiff, reduceCtorEq, and_true, true_and, and_false, false_and, and_self, ite_true, ite_false, ↓reduceIte, not_true_eq_false, not_false_eq_true, pe_ri, pe_rz, Ri_g24 hA, Ri_g25 hA, Ri_g11 hA, Ri_g15 hA, Ri_g18 hA, Ri_g26 hA, Ri_r15 hA, Ri_w15 hA, Ri_l15 hA, Ri_r18 hA, Ri_w18 hA, Ri_l18 hA, Ri_r24 hA, Ri_w24 hA, Ri_l24 hA, Ri_r25 hA, Ri_w25 hA, Ri_l25 hA, Ri_r26 hA, Ri_w26 hA, Ri_l26 hA, z1, eq_false k2, hc]
    · rw [if_neg k3] at e; cases e
theorem y1745_b1 {A : wK → Nat} {h : pm_H} {m D : Nat} {R : Outcome × pm_H} (hA : wok A Ri_d m) (hD : 2 ≤ D) (a : Int32 × Int32 × Int32 × Int32 × Int32 × Int32 × wS) (r : (Int32 × Int32 × Int32 × Int32 × Int32 × Int32 × wS) ⊕ ((wS))) (e : f1745_b1 a = some r) (hc : Sum.elim (go1745_1 A h D R) (ex1745_1 A h D R) r) : go1745_1 A h D R a := by
  obtain ⟨x1, x2, x3, x4, x5, x6, S⟩ := a
  dsimp only [go1745_1]
  intro q7 q8
  simp only [f1745_b1] at e
  rw [g1745_1, b1745_1]
  by_cases k1 : x6 < (S.1 (0, 0, 0) 11)
  · rw [if_pos k1] at e
    by_cases k2 : 0 ≤ x6 ∧ x6 < 8
    · rw [if_pos k2] at e
      by_cases k3 : 0 ≤ x5 ∧ x5 < 75625
      · rw [if_pos k3] at e
        by_cases k4 : (S.1 (26, 0, 0) x5) = 0
        · rw [if_pos k4] at e
          have k5 := y1745_2_1 (h := h) hA hD e hc
          simp -implicitDefEqProofs (disch := first | assumption | exact Nat.le_of_ble_eq_true rfl | decide) only [b1745_0, g1745_3, b1745_3, g1745_4, b1745_4, pe_iload1, pe_iload2, pe_iload3, pe_iload4, pe_call4, pm_af_ret, pm_af_void, pm_af_thr, pe_istore5, pe_aload0, pe_getfield, pe_iload5, pe_bipush, pe_lastore, pe_sipush, pe_iastore, pe_istore6, pe_goto_w, pe_iload6, pe_icmp_ge, pe_laload, pe_isub, pe_i2l, pe_lmul, pe_lsub, pe_lstore7, pe_iaload, pe_if_eq, pe_lload7, pe_lcmp, pe_if_le, pe_call6, pe_iinc6, pe_goto, pe_return, pm_prog_1, pm_ob_some, Nat.reduceDiv, Nat.reduceMod, Nat.reduceMul, Nat.reduceAdd, Int.reduceToNat, pm_kill_i, pm_kill_r, pm_kill_n, pm_kill_j, pm_kill_l, pm_kill_d, pm_cats_nil, pm_cats_i, pm_cats_r, pm_cats_n, pm_cats_l, pm_cats_d, sz_1, sz_2, sl_1, sl_2, lc_0, lc_lt, lc_le, li_ne, Int32.reduceOfInt, Int64.reduceOfInt, Int32.reduceOfNat, Int32.reduceLT, Int32.reduceLE, Prod.mk.injEq, Nat.reduceEqDiff, reduceCtorEq, and_true, true_and, and_false, false_and, and_self, ite_true, ite_false, ↓reduceIte, not_true_eq_false, not_false_eq_true, pe_ri, pe_rz, Ri_g24 hA, Ri_g25 hA, Ri_g11 hA, Ri_g15 hA, Ri_g18 hA, Ri_g26 hA, Ri_r15 hA, Ri_w15 hA, Ri_l15 hA, Ri_r18 hA, Ri_w18 hA, Ri_l18 hA, Ri_r24 hA, Ri_w24 hA, Ri_l24 hA, Ri_r25 hA, Ri_w25 hA, Ri_l25 hA, Ri_r26 hA, Ri_w26 hA, Ri_l26 hA, eq_true k1, eq_true k4, k5]
        · rw [if_neg k4] at e
          by_cases k6 : (((S.2 (16, 0, 0) x6) * (Int32.toInt64 (x2 - x1))) - (S.2 (19, 0, 0) x6)) ≤ (S.2 (25, 0, 0) x5)
          · rw [if_pos k6] at e
            have e := Option.some.inj e; subst e
            dsimp only [Sum.elim_inl, go1745_1] at hc
            simp -implicitDefEqProofs (disch := first | assumption | exact Nat.le_of_ble_eq_true rfl | decide) only [b1745_0, g1745_3, b1745_3, g1745_4, b1745_4, pe_iload1, pe_iload2, pe_iload3, pe_iload4, pe_call4, pm_af_ret, pm_af_void, pm_af_thr, pe_istore5, pe_aload0, pe_getfield, pe_iload5, pe_bipush, pe_lastore, pe_sipush, pe_iastore, pe_istore6, pe_goto_w, pe_iload6, pe_icmp_ge, pe_laload, pe_isub, pe_i2l, pe_lmul, pe_lsub, pe_lstore7, pe_iaload, pe_if_eq, pe_lload7, pe_lcmp, pe_if_le, pe_call6, pe_iinc6, pe_goto, pe_return, pm_prog_1, pm_ob_some, Nat.reduceDiv, Nat.reduceMod, Nat.reduceMul, Nat.reduceAdd, Int.reduceToNat, pm_kill_i, pm_kill_r, pm_kill_n, pm_kill_j, pm_kill_l, pm_kill_d, pm_cats_nil, pm_cats_i, pm_cats_r, pm_cats_n, pm_cats_l, pm_cats_d, sz_1, sz_2, sl_1, sl_2, lc_0, lc_lt, lc_le, li_ne, Int32.reduceOfInt, Int64.reduceOfInt, Int32.reduceOfNat, Int32.reduceLT, Int32.reduceLE, Prod.mk.injEq, Nat.reduceEqDiff, reduceCtorEq, and_true, true_and, and_false, false_and, and_self, ite_true, ite_false, ↓reduceIte, not_true_eq_false, not_false_eq_true, pe_ri, pe_rz, Ri_g24 hA, Ri_g25 hA, Ri_g11 hA, Ri_g15 hA, Ri_g18 hA, Ri_g26 hA, Ri_r15 hA, Ri_w15 hA, Ri_l15 hA, Ri_r18 hA, Ri_w18 hA, Ri_l18 hA, Ri_r24 hA, Ri_w24 hA, Ri_l24 hA, Ri_r25 hA, Ri_w25 hA, Ri_l25 hA, Ri_r26 hA, Ri_w26 hA, Ri_l26 hA, eq_true k1, eq_false k4, eq_true k6, hc]
          · rw [if_neg k6] at e
            have k7 := y1745_2_1 (h := h) hA hD e hc
            simp -implicitDefEqProofs (disch := first | assumption | exact Nat.le_of_ble_eq_true rfl | decide) only [b1745_0, g1745_3, b1745_3, g1745_4, b1745_4, pe_iload1, pe_iload2, pe_iload3, pe_iload4, pe_call4, pm_af_ret, pm_af_void, pm_af_thr, pe_istore5, pe_aload0, pe_getfield, pe_iload5, pe_bipush, pe_lastore, pe_sipush, pe_iastore, pe_istore6, pe_goto_w, pe_iload6, pe_icmp_ge, pe_laload, pe_isub, pe_i2l, pe_lmul, pe_lsub, pe_lstore7, pe_iaload, pe_if_eq, pe_lload7, pe_lcmp, pe_if_le, pe_call6, pe_iinc6, pe_goto, pe_return, pm_prog_1, pm_ob_some, Nat.reduceDiv, Nat.reduceMod, Nat.reduceMul, Nat.reduceAdd, Int.reduceToNat, pm_kill_i, pm_kill_r, pm_kill_n, pm_kill_j, pm_kill_l, pm_kill_d, pm_cats_nil, pm_cats_i, pm_cats_r, pm_cats_n, pm_cats_l, pm_cats_d, sz_1, sz_2, sl_1, sl_2, lc_0, lc_lt, lc_le, li_ne, Int32.reduceOfInt, Int64.reduceOfInt, Int32.reduceOfNat, Int32.reduceLT, Int32.reduceLE, Prod.mk.injEq, Nat.reduceEqDiff, reduceCtorEq, and_true, true_and, and_false, false_and, and_self, ite_true, ite_false, ↓reduceIte, not_true_eq_false, not_false_eq_true, pe_ri, pe_rz, Ri_g24 hA, Ri_g25 hA, Ri_g11 hA, Ri_g15 hA, Ri_g18 hA, Ri_g26 hA, Ri_r15 hA, Ri_w15 hA, Ri_l15 hA, Ri_r18 hA, Ri_w18 hA, Ri_l18 hA, Ri_r24 hA, Ri_w24 hA, Ri_l24 hA, Ri_r25 hA, Ri_w25 hA, Ri_l25 hA, Ri_r26 hA, Ri_w26 hA, Ri_l26 hA, eq_true k1, eq_false k4, eq_false k6, k7]
      · rw [if_neg k3] at e; cases e
    · rw [if_neg k2] at e; cases e
  · rw [if_neg k1] at e
    have e := Option.some.inj e; subst e
    dsimp only [Sum.elim_inr, ex1745_1] at hc
    simp -implicitDefEqProofs (disch := first | assumption | exact Nat.le_of_ble_eq_true rfl | decide) only [b1745_0, g1745_3, b1745_3, g1745_4, b1745_4, pe_iload1, pe_iload2, pe_iload3, pe_iload4, pe_call4, pm_af_ret, pm_af_void, pm_af_thr, pe_istore5, pe_aload0, pe_getfield, pe_iload5, pe_bipush, pe_lastore, pe_sipush, pe_iastore, pe_istore6, pe_goto_w, pe_iload6, pe_icmp_ge, pe_laload, pe_isub, pe_i2l, pe_lmul, pe_lsub, pe_lstore7, pe_iaload, pe_if_eq, pe_lload7, pe_lcmp, pe_if_le, pe_call6, pe_iinc6, pe_goto, pe_return, pm_prog_1, pm_ob_some, Nat.reduceDiv, Nat.reduceMod, Nat.reduceMul, Nat.reduceAdd, Int.reduceToNat, pm_kill_i, pm_kill_r, pm_kill_n, pm_kill_j, pm_kill_l, pm_kill_d, pm_cats_nil, pm_cats_i, pm_cats_r, pm_cats_n, pm_cats_l, pm_cats_d, sz_1, sz_2, sl_1, sl_2, lc_0, lc_lt, lc_le, li_ne, Int32.reduceOfInt, Int64.reduceOfInt, Int32.reduceOfNat, Int32.reduceLT, Int32.reduceLE, Prod.mk.injEq, Nat.reduceEqDiff, reduceCtorEq, and_true, true_and, and_false, false_and, and_self, ite_true, ite_false, ↓reduceIte, not_true_eq_false, not_false_eq_true, pe_ri, pe_rz, Ri_g24 hA, Ri_g25 hA, Ri_g11 hA, Ri_g15 hA, Ri_g18 hA, Ri_g26 hA, Ri_r15 hA, Ri_w15 hA, Ri_l15 hA, Ri_r18 hA, Ri_w18 hA, Ri_l18 hA, Ri_r24 hA, Ri_w24 hA, Ri_l24 hA, Ri_r25 hA, Ri_w25 hA, Ri_l25 hA, Ri_r26 hA, Ri_w26 hA, Ri_l26 hA, eq_false k1, hc]
theorem z1745_1 {A : wK → Nat} {h : pm_H} {m D : Nat} {R : Outcome × pm_H} (hA : wok A Ri_d m) (hD : 2 ≤ D) {n : Nat} {a : Int32 × Int32 × Int32 × Int32 × Int32 × Int32 × wS} {b : (wS)} (e : lp (f1745_b1) n a = some b) (hx : ex1745_1 A h D R b) : go1745_1 A h D R a := lp_run (fun a r => y1745_b1 hA hD a r) n a b e hx
theorem x1745 {A : wK → Nat} {h : pm_H} {m D : Nat} {S : wS} {x1 : Int32} {x2 : Int32} {x3 : Int32} {x4 : Int32} {r : wS} (hA : wok A Ri_d m) (hD : 3 ≤ D) (e : f1745 S x1 x2 x3 x4 = some r) : pm_call pm_prog D 1745 [.ref (A (0, 0, 0)), .int x1, .int x2, .int x3, .int x4] (wput A Ri_d S h) = some (.returned none, (wput A Ri_d r h)) := by
  obtain ⟨D, rfl⟩ : ∃ D', D = D' + 1 := ⟨D - 1, by omega⟩
  have hD : 2 ≤ D := by omega
  rw [c1745 (Ri_c hA), b1745_0]
  simp only [f1745] at e
  obtain ⟨v1, k1, e⟩ := Option.bind_eq_some_iff.mp e
  try dsimp only at e
  have z1 := fun h => x1746 (D := D) (h := h) (by omega) k1
  by_cases k2 : 0 ≤ v1 ∧ v1 < 75625
  · rw [if_pos k2] at e
    obtain ⟨S3, k3, e⟩ := Option.bind_eq_some_iff.mp e
    try dsimp only at e
    try simp -implicitDefEqProofs (disch := first | assumption | exact Nat.le_of_ble_eq_true rfl | decide) only [b1745_0, g1745_3, b1745_3, g1745_4, b1745_4, pe_iload1, pe_iload2, pe_iload3, pe_iload4, pe_call4, pm_af_ret, pm_af_void, pm_af_thr, pe_istore5, pe_aload0, pe_getfield, pe_iload5, pe_bipush, pe_lastore, pe_sipush, pe_iastore, pe_istore6, pe_goto_w, pe_iload6, pe_icmp_ge, pe_laload, pe_isub, pe_i2l, pe_lmul, pe_lsub, pe_lstore7, pe_iaload, pe_if_eq, pe_lload7, pe_lcmp, pe_if_le, pe_call6, pe_iinc6, pe_goto, pe_return, pm_prog_1, pm_ob_some, Nat.reduceDiv, Nat.reduceMod, Nat.reduceMul, Nat.reduceAdd, Int.reduceToNat, pm_kill_i, pm_kill_r, pm_kill_n, pm_kill_j, pm_kill_l, pm_kill_d, pm_cats_nil, pm_cats_i, pm_cats_r, pm_cats_n, pm_cats_l, pm_cats_d, sz_1, sz_2, sl_1, sl_2, lc_0, lc_lt, lc_le, li_ne, Int32.reduceOfInt, Int64.reduceOfInt, Int32.reduceOfNat, Int32.reduceLT, Int32.reduceLE, Prod.mk.injEq, Nat.reduceEqDiff, reduceCtorEq, and_true, true_and, and_false, false_and, and_self, ite_true, ite_false, ↓reduceIte, not_true_eq_false, not_false_eq_true, pe_ri, pe_rz, Ri_g24 hA, Ri_g25 hA, Ri_g11 hA, Ri_g15 hA, Ri_g18 hA, Ri_g26 hA, Ri_r15 hA, Ri_w15 hA, Ri_l15 hA, Ri_r18 hA, Ri_w18 hA, Ri_l18 hA, Ri_r24 hA, Ri_w24 hA, Ri_l24 hA, Ri_r25 hA, Ri_w25 hA, Ri_l25 hA, Ri_r26 hA, Ri_w26 hA, Ri_l26 hA, z1]
    refine z1745_1 hA hD k3 ?_ _ _
    dsimp only [ex1745_1]
    intro q1 q2 q3 q4 q5 q6 q7 q8
    have e := Option.some.inj e; subst e
    simp -implicitDefEqProofs (disch := first | assumption | exact Nat.le_of_ble_eq_true rfl | decide) only [b1745_0, g1745_3, b1745_3, g1745_4, b1745_4, pe_iload1, pe_iload2, pe_iload3, pe_iload4, pe_call4, pm_af_ret, pm_af_void, pm_af_thr, pe_istore5, pe_aload0, pe_getfield, pe_iload5, pe_bipush, pe_lastore, pe_sipush, pe_iastore, pe_istore6, pe_goto_w, pe_iload6, pe_icmp_ge, pe_laload, pe_isub, pe_i2l, pe_lmul, pe_lsub, pe_lstore7, pe_iaload, pe_if_eq, pe_lload7, pe_lcmp, pe_if_le, pe_call6, pe_iinc6, pe_goto, pe_return, pm_prog_1, pm_ob_some, Nat.reduceDiv, Nat.reduceMod, Nat.reduceMul, Nat.reduceAdd, Int.reduceToNat, pm_kill_i, pm_kill_r, pm_kill_n, pm_kill_j, pm_kill_l, pm_kill_d, pm_cats_nil, pm_cats_i, pm_cats_r, pm_cats_n, pm_cats_l, pm_cats_d, sz_1, sz_2, sl_1, sl_2, lc_0, lc_lt, lc_le, li_ne, Int32.reduceOfInt, Int64.reduceOfInt, Int32.reduceOfNat, Int32.reduceLT, Int32.reduceLE, Prod.mk.injEq, Nat.reduceEqDiff, reduceCtorEq, and_true, true_and, and_false, false_and, and_self, ite_true, ite_false, ↓reduceIte, not_true_eq_false, not_false_eq_true, pe_ri, pe_rz, Ri_g24 hA, Ri_g25 hA, Ri_g11 hA, Ri_g15 hA, Ri_g18 hA, Ri_g26 hA, Ri_r15 hA, Ri_w15 hA, Ri_l15 hA, Ri_r18 hA, Ri_w18 hA, Ri_l18 hA, Ri_r24 hA, Ri_w24 hA, Ri_l24 hA, Ri_r25 hA, Ri_w25 hA, Ri_l25 hA, Ri_r26 hA, Ri_w26 hA, Ri_l26 hA, z1]
  · rw [if_neg k2] at e; cases e
/-- TimberHouseModel$Rips.fillPieces()V -/
theorem c1744 {d : Nat} {h : pm_H} {a : Nat} (hc : pm_cls h a = some 27) : pm_call pm_prog (d + 1) 1744 [.ref a] h = pm_ev pm_prog (pm_call pm_prog d) 1744 0 b1744_0 [.ref a, pm_junk, pm_junk, pm_junk, pm_junk] [] h := pm_cal (pm_rc1 hc rfl) rfl rfl rfl
theorem g1744_1 {cl : pm_C} {ls st : List Value} {h : pm_H} : pm_go pm_prog cl 1744 1 ls st h = pm_ev pm_prog cl 1744 1 b1744_1 ls st h := pm_go_eq pm_prog cl 1744 1 ls st h
theorem g1744_2 {cl : pm_C} {ls st : List Value} {h : pm_H} : pm_go pm_prog cl 1744 2 ls st h = pm_ev pm_prog cl 1744 2 b1744_2 ls st h := pm_go_eq pm_prog cl 1744 2 ls st h
theorem g1744_3 {cl : pm_C} {ls st : List Value} {h : pm_H} : pm_go pm_prog cl 1744 3 ls st h = pm_ev pm_prog cl 1744 3 b1744_3 ls st h := pm_go_eq pm_prog cl 1744 3 ls st h
theorem g1744_4 {cl : pm_C} {ls st : List Value} {h : pm_H} : pm_go pm_prog cl 1744 4 ls st h = pm_ev pm_prog cl 1744 4 b1744_4 ls st h := pm_go_eq pm_prog cl 1744 4 ls st h
theorem g1744_5 {cl : pm_C} {ls st : List Value} {h : pm_H} : pm_go pm_prog cl 1744 5 ls st h = pm_ev pm_prog cl 1744 5 b1744_5 ls st h := pm_go_eq pm_prog cl 1744 5 ls st h
theorem g1744_6 {cl : pm_C} {ls st : List Value} {h : pm_H} : pm_go pm_prog cl 1744 6 ls st h = pm_ev pm_prog cl 1744 6 b1744_6 ls st h := pm_go_eq pm_prog cl 1744 6 ls st h
theorem g1744_7 {cl : pm_C} {ls st : List Value} {h : pm_H} : pm_go pm_prog cl 1744 7 ls st h = pm_ev pm_prog cl 1744 7 b1744_7 ls st h := pm_go_eq pm_prog cl 1744 7 ls st h
theorem g1744_8 {cl : pm_C} {ls st : List Value} {h : pm_H} : pm_go pm_prog cl 1744 8 ls st h = pm_ev pm_prog cl 1744 8 b1744_8 ls st h := pm_go_eq pm_prog cl 1744 8 ls st h
noncomputable def f1744_b4 : Int32 × Int32 × Int32 × Int32 × wS → Option ((Int32 × Int32 × Int32 × Int32 × wS) ⊕ ((Int32 × Int32 × Int32 × wS))) := fun (x1, x2, x3, x4, S) =>
  if x4 ≤ (S.1 (0, 0, 0) 3) then
    (f1745 S x1 x2 x3 x4).bind fun S1 =>
    some (.inl (x1, x2, x3, (x4 + 1), S1))
  else
    some (.inr (x1, x2, x3, S))
noncomputable def f1744_b3 : Int32 × Int32 × Int32 × wS → Option ((Int32 × Int32 × Int32 × wS) ⊕ ((Int32 × Int32 × wS))) := fun (x1, x2, x3, S) =>
  if x3 < (S.1 (0, 0, 0) 3) then
    (lp (f1744_b4) FU (x1, x2, x3, (x3 + 1), S)).bind fun (v2, v3, v4, S5) =>
    some (.inl (v2, v3, (v4 + 1), S5))
  else
    some (.inr (x1, x2, S))
noncomputable def f1744_b2 : Int32 × Int32 × wS → Option ((Int32 × Int32 × wS) ⊕ ((Int32 × wS))) := fun (x1, x2, S) =>
  if x2 ≤ (S.1 (0, 0, 0) 2) then
    (lp (f1744_b3) FU (x1, x2, 0, S)).bind fun (v6, v7, S8) =>
    some (.inl (v6, (v7 + 1), S8))
  else
    some (.inr (x1, S))
noncomputable def f1744_b1 : Int32 × wS → Option ((Int32 × wS) ⊕ ((wS))) := fun (x1, S) =>
  if x1 < (S.1 (0, 0, 0) 2) then
    (lp (f1744_b2) FU (x1, (x1 + 1), S)).bind fun (v9, S10) =>
    some (.inl ((v9 + 1), S10))
  else
    some (.inr S)
/-- TimberHouseModel$Rips.fillPieces()V -/
noncomputable def f1744 (S : wS) : Option (wS) :=
  (lp (f1744_b1) FU (0, S)).bind fun S11 =>
  some S11
def go1744_4 (A : wK → Nat) (h : pm_H) (D : Nat) (R : Outcome × pm_H) : Int32 × Int32 × Int32 × Int32 × wS → Prop := fun (x1, x2, x3, x4, S) => pm_go pm_prog (pm_call pm_prog D) 1744 4 [.ref (A (0, 0, 0)), .int x1, .int x2, .int x3, .int x4] [] (wput A Ri_d S h) = some R
def ex1744_4 (A : wK → Nat) (h : pm_H) (D : Nat) (R : Outcome × pm_H) : (Int32 × Int32 × Int32 × wS) → Prop := fun (x1, x2, x3, S) => ∀ q4 : Value, pm_go pm_prog (pm_call pm_prog D) 1744 5 [.ref (A (0, 0, 0)), .int x1, .int x2, .int x3, q4] [] (wput A Ri_d S h) = some R
theorem y1744_b4 {A : wK → Nat} {h : pm_H} {m D : Nat} {R : Outcome × pm_H} (hA : wok A Ri_d m) (hD : 3 ≤ D) (a : Int32 × Int32 × Int32 × Int32 × wS) (r : (Int32 × Int32 × Int32 × Int32 × wS) ⊕ ((Int32 × Int32 × Int32 × wS))) (e : f1744_b4 a = some r) (hc : Sum.elim (go1744_4 A h D R) (ex1744_4 A h D R) r) : go1744_4 A h D R a := by
  obtain ⟨x1, x2, x3, x4, S⟩ := a
  dsimp only [go1744_4]
  simp only [f1744_b4] at e
  rw [g1744_4, b1744_4]
  by_cases k1 : x4 ≤ (S.1 (0, 0, 0) 3)
  · rw [if_pos k1] at e
    obtain ⟨S1, k2, e⟩ := Option.bind_eq_some_iff.mp e
    try dsimp only at e
    have z2 := x1745 (D := D) (h := h) hA (by omega) k2
    have e := Option.some.inj e; subst e
    dsimp only [Sum.elim_inl, go1744_4] at hc
    simp -implicitDefEqProofs (disch := first | assumption | exact Nat.le_of_ble_eq_true rfl | decide) only [b1744_0, g1744_5, b1744_5, g1744_6, b1744_6, g1744_7, b1744_7, g1744_8, b1744_8, pe_sipush, pe_istore1, pe_goto_w, pe_iload1, pe_aload0, pe_getfield, pe_icmp_ge, pe_iadd, pe_istore2, pe_iload2, pe_icmp_gt, pe_istore3, pe_iload3, pe_istore4, pe_iload4, pe_call5, pm_af_ret, pm_af_void, pm_af_thr, pe_iinc4, pe_goto, pe_iinc3, pe_iinc2, pe_iinc1, pe_return, pm_prog_1, pm_ob_some, Nat.reduceDiv, Nat.reduceMod, Nat.reduceMul, Nat.reduceAdd, Int.reduceToNat, pm_kill_i, pm_kill_r, pm_kill_n, pm_kill_j, pm_kill_l, pm_kill_d, pm_cats_nil, pm_cats_i, pm_cats_r, pm_cats_n, pm_cats_l, pm_cats_d, sz_1, sz_2, sl_1, sl_2, lc_0, lc_lt, lc_le, li_ne, Int32.reduceOfInt, Int64.reduceOfInt, Int32.reduceOfNat, Int32.reduceLT, Int32.reduceLE, Prod.mk.injEq, Nat.reduceEqDiff, reduceCtorEq, and_true, true_and, and_false, false_and, and_self, ite_true, ite_false, ↓reduceIte, not_true_eq_false, not_false_eq_true, pe_ri, pe_rz, Ri_g2 hA, Ri_g3 hA, eq_true k1, z2, hc]
  · rw [if_neg k1] at e
    have e := Option.some.inj e; subst e
    dsimp only [Sum.elim_inr, ex1744_4] at hc
    simp -implicitDefEqProofs (disch := first | assumption | exact Nat.le_of_ble_eq_true rfl | decide) only [b1744_0, g1744_5, b1744_5, g1744_6, b1744_6, g1744_7, b1744_7, g1744_8, b1744_8, pe_sipush, pe_istore1, pe_goto_w, pe_iload1, pe_aload0, pe_getfield, pe_icmp_ge, pe_iadd, pe_istore2, pe_iload2, pe_icmp_gt, pe_istore3, pe_iload3, pe_istore4, pe_iload4, pe_call5, pm_af_ret, pm_af_void, pm_af_thr, pe_iinc4, pe_goto, pe_iinc3, pe_iinc2, pe_iinc1, pe_return, pm_prog_1, pm_ob_some, Nat.reduceDiv, Nat.reduceMod, Nat.reduceMul, Nat.reduceAdd, Int.reduceToNat, pm_kill_i, pm_kill_r, pm_kill_n, pm_kill_j, pm_kill_l, pm_kill_d, pm_cats_nil, pm_cats_i, pm_cats_r, pm_cats_n, pm_cats_l, pm_cats_d, sz_1, sz_2, sl_1, sl_2, lc_0, lc_lt, lc_le, li_ne, Int32.reduceOfInt, Int64.reduceOfInt, Int32.reduceOfNat, Int32.reduceLT, Int32.reduceLE, Prod.mk.injEq, Nat.reduceEqDiff, reduceCtorEq, and_true, true_and, and_false, false_and, and_self, ite_true, ite_false, ↓reduceIte, not_true_eq_false, not_false_eq_true, pe_ri, pe_rz, Ri_g2 hA, Ri_g3 hA, eq_false k1, hc]
theorem z1744_4 {A : wK → Nat} {h : pm_H} {m D : Nat} {R : Outcome × pm_H} (hA : wok A Ri_d m) (hD : 3 ≤ D) {n : Nat} {a : Int32 × Int32 × Int32 × Int32 × wS} {b : (Int32 × Int32 × Int32 × wS)} (e : lp (f1744_b4) n a = some b) (hx : ex1744_4 A h D R b) : go1744_4 A h D R a := lp_run (fun a r => y1744_b4 hA hD a r) n a b e hx
def go1744_3 (A : wK → Nat) (h : pm_H) (D : Nat) (R : Outcome × pm_H) : Int32 × Int32 × Int32 × wS → Prop := fun (x1, x2, x3, S) => ∀ q4 : Value, pm_go pm_prog (pm_call pm_prog D) 1744 3 [.ref (A (0, 0, 0)), .int x1, .int x2, .int x3, q4] [] (wput A Ri_d S h) = some R
def ex1744_3 (A : wK → Nat) (h : pm_H) (D : Nat) (R : Outcome × pm_H) : (Int32 × Int32 × wS) → Prop := fun (x1, x2, S) => ∀ q3 q4 : Value, pm_go pm_prog (pm_call pm_prog D) 1744 6 [.ref (A (0, 0, 0)), .int x1, .int x2, q3, q4] [] (wput A Ri_d S h) = some R
theorem y1744_b3 {A : wK → Nat} {h : pm_H} {m D : Nat} {R : Outcome × pm_H} (hA : wok A Ri_d m) (hD : 3 ≤ D) (a : Int32 × Int32 × Int32 × wS) (r : (Int32 × Int32 × Int32 × wS) ⊕ ((Int32 × Int32 × wS))) (e : f1744_b3 a = some r) (hc : Sum.elim (go1744_3 A h D R) (ex1744_3 A h D R) r) : go1744_3 A h D R a := by
  obtain ⟨x1, x2, x3, S⟩ := a
  dsimp only [go1744_3]
  intro q4
  simp only [f1744_b3] at e
  rw [g1744_3, b1744_3]
  by_cases k1 : x3 < (S.1 (0, 0, 0) 3)
  · rw [if_pos k1] at e
    obtain ⟨⟨v2, v3, v4, S5⟩, k2, e⟩ := Option.bind_eq_some_iff.mp e
    try dsimp only at e
    try simp -implicitDefEqProofs (disch := first | assumption | exact Nat.le_of_ble_eq_true rfl | decide) only [b1744_0, g1744_5, b1744_5, g1744_6, b1744_6, g1744_7, b1744_7, g1744_8, b1744_8, pe_sipush, pe_istore1, pe_goto_w, pe_iload1, pe_aload0, pe_getfield, pe_icmp_ge, pe_iadd, pe_istore2, pe_iload2, pe_icmp_gt, pe_istore3, pe_iload3, pe_istore4, pe_iload4, pe_call5, pm_af_ret, pm_af_void, pm_af_thr, pe_iinc4, pe_goto, pe_iinc3, pe_iinc2, pe_iinc1, pe_return, pm_prog_1, pm_ob_some, Nat.reduceDiv, Nat.reduceMod, Nat.reduceMul, Nat.reduceAdd, Int.reduceToNat, pm_kill_i, pm_kill_r, pm_kill_n, pm_kill_j, pm_kill_l, pm_kill_d, pm_cats_nil, pm_cats_i, pm_cats_r, pm_cats_n, pm_cats_l, pm_cats_d, sz_1, sz_2, sl_1, sl_2, lc_0, lc_lt, lc_le, li_ne, Int32.reduceOfInt, Int64.reduceOfInt, Int32.reduceOfNat, Int32.reduceLT, Int32.reduceLE, Prod.mk.injEq, Nat.reduceEqDiff, reduceCtorEq, and_true, true_and, and_false, false_and, and_self, ite_true, ite_false, ↓reduceIte, not_true_eq_false, not_false_eq_true, pe_ri, pe_rz, Ri_g2 hA, Ri_g3 hA, eq_true k1]
    refine z1744_4 hA hD k2 ?_
    dsimp only [ex1744_4]
    intro q4
    have e := Option.some.inj e; subst e
    dsimp only [Sum.elim_inl, go1744_3] at hc
    simp -implicitDefEqProofs (disch := first | assumption | exact Nat.le_of_ble_eq_true rfl | decide) only [b1744_0, g1744_5, b1744_5, g1744_6, b1744_6, g1744_7, b1744_7, g1744_8, b1744_8, pe_sipush, pe_istore1, pe_goto_w, pe_iload1, pe_aload0, pe_getfield, pe_icmp_ge, pe_iadd, pe_istore2, pe_iload2, pe_icmp_gt, pe_istore3, pe_iload3, pe_istore4, pe_iload4, pe_call5, pm_af_ret, pm_af_void, pm_af_thr, pe_iinc4, pe_goto, pe_iinc3, pe_iinc2, pe_iinc1, pe_return, pm_prog_1, pm_ob_some, Nat.reduceDiv, Nat.reduceMod, Nat.reduceMul, Nat.reduceAdd, Int.reduceToNat, pm_kill_i, pm_kill_r, pm_kill_n, pm_kill_j, pm_kill_l, pm_kill_d, pm_cats_nil, pm_cats_i, pm_cats_r, pm_cats_n, pm_cats_l, pm_cats_d, sz_1, sz_2, sl_1, sl_2, lc_0, lc_lt, lc_le, li_ne, Int32.reduceOfInt, Int64.reduceOfInt, Int32.reduceOfNat, Int32.reduceLT, Int32.reduceLE, Prod.mk.injEq, Nat.reduceEqDiff, reduceCtorEq, and_true, true_and, and_false, false_and, and_self, ite_true, ite_false, ↓reduceIte, not_true_eq_false, not_false_eq_true, pe_ri, pe_rz, Ri_g2 hA, Ri_g3 hA, eq_true k1, hc]
  · rw [if_neg k1] at e
    have e := Option.some.inj e; subst e
    dsimp only [Sum.elim_inr, ex1744_3] at hc
    simp -implicitDefEqProofs (disch := first | assumption | exact Nat.le_of_ble_eq_true rfl | decide) only [b1744_0, g1744_5, b1744_5, g1744_6, b1744_6, g1744_7, b1744_7, g1744_8, b1744_8, pe_sipush, pe_istore1, pe_goto_w, pe_iload1, pe_aload0, pe_getfield, pe_icmp_ge, pe_iadd, pe_istore2, pe_iload2, pe_icmp_gt, pe_istore3, pe_iload3, pe_istore4, pe_iload4, pe_call5, pm_af_ret, pm_af_void, pm_af_thr, pe_iinc4, pe_goto, pe_iinc3, pe_iinc2, pe_iinc1, pe_return, pm_prog_1, pm_ob_some, Nat.reduceDiv, Nat.reduceMod, Nat.reduceMul, Nat.reduceAdd, Int.reduceToNat, pm_kill_i, pm_kill_r, pm_kill_n, pm_kill_j, pm_kill_l, pm_kill_d, pm_cats_nil, pm_cats_i, pm_cats_r, pm_cats_n, pm_cats_l, pm_cats_d, sz_1, sz_2, sl_1, sl_2, lc_0, lc_lt, lc_le, li_ne, Int32.reduceOfInt, Int64.reduceOfInt, Int32.reduceOfNat, Int32.reduceLT, Int32.reduceLE, Prod.mk.injEq, Nat.reduceEqDiff, reduceCtorEq, and_true, true_and, and_false, false_and, and_self, ite_true, ite_false, ↓reduceIte, not_true_eq_false, not_false_eq_true, pe_ri, pe_rz, Ri_g2 hA, Ri_g3 hA, eq_false k1, hc]
theorem z1744_3 {A : wK → Nat} {h : pm_H} {m D : Nat} {R : Outcome × pm_H} (hA : wok A Ri_d m) (hD : 3 ≤ D) {n : Nat} {a : Int32 × Int32 × Int32 × wS} {b : (Int32 × Int32 × wS)} (e : lp (f1744_b3) n a = some b) (hx : ex1744_3 A h D R b) : go1744_3 A h D R a := lp_run (fun a r => y1744_b3 hA hD a r) n a b e hx
def go1744_2 (A : wK → Nat) (h : pm_H) (D : Nat) (R : Outcome × pm_H) : Int32 × Int32 × wS → Prop := fun (x1, x2, S) => ∀ q3 q4 : Value, pm_go pm_prog (pm_call pm_prog D) 1744 2 [.ref (A (0, 0, 0)), .int x1, .int x2, q3, q4] [] (wput A Ri_d S h) = some R
def ex1744_2 (A : wK → Nat) (h : pm_H) (D : Nat) (R : Outcome × pm_H) : (Int32 × wS) → Prop := fun (x1, S) => ∀ q2 q3 q4 : Value, pm_go pm_prog (pm_call pm_prog D) 1744 7 [.ref (A (0, 0, 0)), .int x1, q2, q3, q4] [] (wput A Ri_d S h) = some R
theorem y1744_b2 {A : wK → Nat} {h : pm_H} {m D : Nat} {R : Outcome × pm_H} (hA : wok A Ri_d m) (hD : 3 ≤ D) (a : Int32 × Int32 × wS) (r : (Int32 × Int32 × wS) ⊕ ((Int32 × wS))) (e : f1744_b2 a = some r) (hc : Sum.elim (go1744_2 A h D R) (ex1744_2 A h D R) r) : go1744_2 A h D R a := by
  obtain ⟨x1, x2, S⟩ := a
  dsimp only [go1744_2]
  intro q3 q4
  simp only [f1744_b2] at e
  rw [g1744_2, b1744_2]
  by_cases k1 : x2 ≤ (S.1 (0, 0, 0) 2)
  · rw [if_pos k1] at e
    obtain ⟨⟨v6, v7, S8⟩, k2, e⟩ := Option.bind_eq_some_iff.mp e
    try dsimp only at e
    try simp -implicitDefEqProofs (disch := first | assumption | exact Nat.le_of_ble_eq_true rfl | decide) only [b1744_0, g1744_5, b1744_5, g1744_6, b1744_6, g1744_7, b1744_7, g1744_8, b1744_8, pe_sipush, pe_istore1, pe_goto_w, pe_iload1, pe_aload0, pe_getfield, pe_icmp_ge, pe_iadd, pe_istore2, pe_iload2, pe_icmp_gt, pe_istore3, pe_iload3, pe_istore4, pe_iload4, pe_call5, pm_af_ret, pm_af_void, pm_af_thr, pe_iinc4, pe_goto, pe_iinc3, pe_iinc2, pe_iinc1, pe_return, pm_prog_1, pm_ob_some, Nat.reduceDiv, Nat.reduceMod, Nat.reduceMul, Nat.reduceAdd, Int.reduceToNat, pm_kill_i, pm_kill_r, pm_kill_n, pm_kill_j, pm_kill_l, pm_kill_d, pm_cats_nil, pm_cats_i, pm_cats_r, pm_cats_n, pm_cats_l, pm_cats_d, sz_1, sz_2, sl_1, sl_2, lc_0, lc_lt, lc_le, li_ne, Int32.reduceOfInt, Int64.reduceOfInt, Int32.reduceOfNat, Int32.reduceLT, Int32.reduceLE, Prod.mk.injEq, Nat.reduceEqDiff, reduceCtorEq, and_true, true_and, and_false, false_and, and_self, ite_true, ite_false, ↓reduceIte, not_true_eq_false, not_false_eq_true, pe_ri, pe_rz, Ri_g2 hA, Ri_g3 hA, eq_true k1]
    refine z1744_3 hA hD k2 ?_ _
    dsimp only [ex1744_3]
    intro q3 q4
    have e := Option.some.inj e; subst e
    dsimp only [Sum.elim_inl, go1744_2] at hc
    simp -implicitDefEqProofs (disch := first | assumption | exact Nat.le_of_ble_eq_true rfl | decide) only [b1744_0, g1744_5, b1744_5, g1744_6, b1744_6, g1744_7, b1744_7, g1744_8, b1744_8, pe_sipush, pe_istore1, pe_goto_w, pe_iload1, pe_aload0, pe_getfield, pe_icmp_ge, pe_iadd, pe_istore2, pe_iload2, pe_icmp_gt, pe_istore3, pe_iload3, pe_istore4, pe_iload4, pe_call5, pm_af_ret, pm_af_void, pm_af_thr, pe_iinc4, pe_goto, pe_iinc3, pe_iinc2, pe_iinc1, pe_return, pm_prog_1, pm_ob_some, Nat.reduceDiv, Nat.reduceMod, Nat.reduceMul, Nat.reduceAdd, Int.reduceToNat, pm_kill_i, pm_kill_r, pm_kill_n, pm_kill_j, pm_kill_l, pm_kill_d, pm_cats_nil, pm_cats_i, pm_cats_r, pm_cats_n, pm_cats_l, pm_cats_d, sz_1, sz_2, sl_1, sl_2, lc_0, lc_lt, lc_le, li_ne, Int32.reduceOfInt, Int64.reduceOfInt, Int32.reduceOfNat, Int32.reduceLT, Int32.reduceLE, Prod.mk.injEq, Nat.reduceEqDiff, reduceCtorEq, and_true, true_and, and_false, false_and, and_self, ite_true, ite_false, ↓reduceIte, not_true_eq_false, not_false_eq_true, pe_ri, pe_rz, Ri_g2 hA, Ri_g3 hA, eq_true k1, hc]
  · rw [if_neg k1] at e
    have e := Option.some.inj e; subst e
    dsimp only [Sum.elim_inr, ex1744_2] at hc
    simp -implicitDefEqProofs (disch := first | assumption | exact Nat.le_of_ble_eq_true rfl | decide) only [b1744_0, g1744_5, b1744_5, g1744_6, b1744_6, g1744_7, b1744_7, g1744_8, b1744_8, pe_sipush, pe_istore1, pe_goto_w, pe_iload1, pe_aload0, pe_getfield, pe_icmp_ge, pe_iadd, pe_istore2, pe_iload2, pe_icmp_gt, pe_istore3, pe_iload3, pe_istore4, pe_iload4, pe_call5, pm_af_ret, pm_af_void, pm_af_thr, pe_iinc4, pe_goto, pe_iinc3, pe_iinc2, pe_iinc1, pe_return, pm_prog_1, pm_ob_some, Nat.reduceDiv, Nat.reduceMod, Nat.reduceMul, Nat.reduceAdd, Int.reduceToNat, pm_kill_i, pm_kill_r, pm_kill_n, pm_kill_j, pm_kill_l, pm_kill_d, pm_cats_nil, pm_cats_i, pm_cats_r, pm_cats_n, pm_cats_l, pm_cats_d, sz_1, sz_2, sl_1, sl_2, lc_0, lc_lt, lc_le, li_ne, Int32.reduceOfInt, Int64.reduceOfInt, Int32.reduceOfNat, Int32.reduceLT, Int32.reduceLE, Prod.mk.injEq, Nat.reduceEqDiff, reduceCtorEq, and_true, true_and, and_false, false_and, and_self, ite_true, ite_false, ↓reduceIte, not_true_eq_false, not_false_eq_true, pe_ri, pe_rz, Ri_g2 hA, Ri_g3 hA, eq_false k1, hc]
theorem z1744_2 {A : wK → Nat} {h : pm_H} {m D : Nat} {R : Outcome × pm_H} (hA : wok A Ri_d m) (hD : 3 ≤ D) {n : Nat} {a : Int32 × Int32 × wS} {b : (Int32 × wS)} (e : lp (f1744_b2) n a = some b) (hx : ex1744_2 A h D R b) : go1744_2 A h D R a := lp_run (fun a r => y1744_b2 hA hD a r) n a b e hx
def go1744_1 (A : wK → Nat) (h : pm_H) (D : Nat) (R : Outcome × pm_H) : Int32 × wS → Prop := fun (x1, S) => ∀ q2 q3 q4 : Value, pm_go pm_prog (pm_call pm_prog D) 1744 1 [.ref (A (0, 0, 0)), .int x1, q2, q3, q4] [] (wput A Ri_d S h) = some R
def ex1744_1 (A : wK → Nat) (h : pm_H) (D : Nat) (R : Outcome × pm_H) : (wS) → Prop := fun S => ∀ q1 q2 q3 q4 : Value, pm_go pm_prog (pm_call pm_prog D) 1744 8 [.ref (A (0, 0, 0)), q1, q2, q3, q4] [] (wput A Ri_d S h) = some R
theorem y1744_b1 {A : wK → Nat} {h : pm_H} {m D : Nat} {R : Outcome × pm_H} (hA : wok A Ri_d m) (hD : 3 ≤ D) (a : Int32 × wS) (r : (Int32 × wS) ⊕ ((wS))) (e : f1744_b1 a = some r) (hc : Sum.elim (go1744_1 A h D R) (ex1744_1 A h D R) r) : go1744_1 A h D R a := by
  obtain ⟨x1, S⟩ := a
  dsimp only [go1744_1]
  intro q2 q3 q4
  simp only [f1744_b1] at e
  rw [g1744_1, b1744_1]
  by_cases k1 : x1 < (S.1 (0, 0, 0) 2)
  · rw [if_pos k1] at e
    obtain ⟨⟨v9, S10⟩, k2, e⟩ := Option.bind_eq_some_iff.mp e
    try dsimp only at e
    try simp -implicitDefEqProofs (disch := first | assumption | exact Nat.le_of_ble_eq_true rfl | decide) only [b1744_0, g1744_5, b1744_5, g1744_6, b1744_6, g1744_7, b1744_7, g1744_8, b1744_8, pe_sipush, pe_istore1, pe_goto_w, pe_iload1, pe_aload0, pe_getfield, pe_icmp_ge, pe_iadd, pe_istore2, pe_iload2, pe_icmp_gt, pe_istore3, pe_iload3, pe_istore4, pe_iload4, pe_call5, pm_af_ret, pm_af_void, pm_af_thr, pe_iinc4, pe_goto, pe_iinc3, pe_iinc2, pe_iinc1, pe_return, pm_prog_1, pm_ob_some, Nat.reduceDiv, Nat.reduceMod, Nat.reduceMul, Nat.reduceAdd, Int.reduceToNat, pm_kill_i, pm_kill_r, pm_kill_n, pm_kill_j, pm_kill_l, pm_kill_d, pm_cats_nil, pm_cats_i, pm_cats_r, pm_cats_n, pm_cats_l, pm_cats_d, sz_1, sz_2, sl_1, sl_2, lc_0, lc_lt, lc_le, li_ne, Int32.reduceOfInt, Int64.reduceOfInt, Int32.reduceOfNat, Int32.reduceLT, Int32.reduceLE, Prod.mk.injEq, Nat.reduceEqDiff, reduceCtorEq, and_true, true_and, and_false, false_and, and_self, ite_true, ite_false, ↓reduceIte, not_true_eq_false, not_false_eq_true, pe_ri, pe_rz, Ri_g2 hA, Ri_g3 hA, eq_true k1]
    refine z1744_2 hA hD k2 ?_ _ _
    dsimp only [ex1744_2]
    intro q2 q3 q4
    have e := Option.some.inj e; subst e
    dsimp only [Sum.elim_inl, go1744_1] at hc
    simp -implicitDefEqProofs (disch := first | assumption | exact Nat.le_of_ble_eq_true rfl | decide) only [b1744_0, g1744_5, b1744_5, g1744_6, b1744_6, g1744_7, b1744_7, g1744_8, b1744_8, pe_sipush, pe_istore1, pe_goto_w, pe_iload1, pe_aload0, pe_getfield, pe_icmp_ge, pe_iadd, pe_istore2, pe_iload2, pe_icmp_gt, pe_istore3, pe_iload3, pe_istore4, pe_iload4, pe_call5, pm_af_ret, pm_af_void, pm_af_thr, pe_iinc4, pe_goto, pe_iinc3, pe_iinc2, pe_iinc1, pe_return, pm_prog_1, pm_ob_some, Nat.reduceDiv, Nat.reduceMod, Nat.reduceMul, Nat.reduceAdd, Int.reduceToNat, pm_kill_i, pm_kill_r, pm_kill_n, pm_kill_j, pm_kill_l, pm_kill_d, pm_cats_nil, pm_cats_i, pm_cats_r, pm_cats_n, pm_cats_l, pm_cats_d, sz_1, sz_2, sl_1, sl_2, lc_0, lc_lt, lc_le, li_ne, Int32.reduceOfInt, Int64.reduceOfInt, Int32.reduceOfNat, Int32.reduceLT, Int32.reduceLE, Prod.mk.injEq, Nat.reduceEqDiff, reduceCtorEq, and_true, true_and, and_false, false_and, and_self, ite_true, ite_false, ↓reduceIte, not_true_eq_false, not_false_eq_true, pe_ri, pe_rz, Ri_g2 hA, Ri_g3 hA, eq_true k1, hc]
  · rw [if_neg k1] at e
    have e := Option.some.inj e; subst e
    dsimp only [Sum.elim_inr, ex1744_1] at hc
    simp -implicitDefEqProofs (disch := first | assumption | exact Nat.le_of_ble_eq_true rfl | decide) only [b1744_0, g1744_5, b1744_5, g1744_6, b1744_6, g1744_7, b1744_7, g1744_8, b1744_8, pe_sipush, pe_istore1, pe_goto_w, pe_iload1, pe_aload0, pe_getfield, pe_icmp_ge, pe_iadd, pe_istore2, pe_iload2, pe_icmp_gt, pe_istore3, pe_iload3, pe_istore4, pe_iload4, pe_call5, pm_af_ret, pm_af_void, pm_af_thr, pe_iinc4, pe_goto, pe_iinc3, pe_iinc2, pe_iinc1, pe_return, pm_prog_1, pm_ob_some, Nat.reduceDiv, Nat.reduceMod, Nat.reduceMul, Nat.reduceAdd, Int.reduceToNat, pm_kill_i, pm_kill_r, pm_kill_n, pm_kill_j, pm_kill_l, pm_kill_d, pm_cats_nil, pm_cats_i, pm_cats_r, pm_cats_n, pm_cats_l, pm_cats_d, sz_1, sz_2, sl_1, sl_2, lc_0, lc_lt, lc_le, li_ne, Int32.reduceOfInt, Int64.reduceOfInt, Int32.reduceOfNat, Int32.reduceLT, Int32.reduceLE, Prod.mk.injEq, Nat.reduceEqDiff, reduceCtorEq, and_true, true_and, and_false, false_and, and_self, ite_true, ite_false, ↓reduceIte, not_true_eq_false, not_false_eq_true, pe_ri, pe_rz, Ri_g2 hA, Ri_g3 hA, eq_false k1, hc]
theorem z1744_1 {A : wK → Nat} {h : pm_H} {m D : Nat} {R : Outcome × pm_H} (hA : wok A Ri_d m) (hD : 3 ≤ D) {n : Nat} {a : Int32 × wS} {b : (wS)} (e : lp (f1744_b1) n a = some b) (hx : ex1744_1 A h D R b) : go1744_1 A h D R a := lp_run (fun a r => y1744_b1 hA hD a r) n a b e hx
theorem x1744 {A : wK → Nat} {h : pm_H} {m D : Nat} {S : wS} {r : wS} (hA : wok A Ri_d m) (hD : 4 ≤ D) (e : f1744 S = some r) : pm_call pm_prog D 1744 [.ref (A (0, 0, 0))] (wput A Ri_d S h) = some (.returned none, (wput A Ri_d r h)) := by
  obtain ⟨D, rfl⟩ : ∃ D', D = D' + 1 := ⟨D - 1, by omega⟩
  have hD : 3 ≤ D := by omega
  rw [c1744 (Ri_c hA), b1744_0]
  simp only [f1744] at e
  obtain ⟨S11, k1, e⟩ := Option.bind_eq_some_iff.mp e
  try dsimp only at e
  try simp -implicitDefEqProofs (disch := first | assumption | exact Nat.le_of_ble_eq_true rfl | decide) only [b1744_0, g1744_5, b1744_5, g1744_6, b1744_6, g1744_7, b1744_7, g1744_8, b1744_8, pe_sipush, pe_istore1, pe_goto_w, pe_iload1, pe_aload0, pe_getfield, pe_icmp_ge, pe_iadd, pe_istore2, pe_iload2, pe_icmp_gt, pe_istore3, pe_iload3, pe_istore4, pe_iload4, pe_call5, pm_af_ret, pm_af_void, pm_af_thr, pe_iinc4, pe_goto, pe_iinc3, pe_iinc2, pe_iinc1, pe_return, pm_prog_1, pm_ob_some, Nat.reduceDiv, Nat.reduceMod, Nat.reduceMul, Nat.reduceAdd, Int.reduceToNat, pm_kill_i, pm_kill_r, pm_kill_n, pm_kill_j, pm_kill_l, pm_kill_d, pm_cats_nil, pm_cats_i, pm_cats_r, pm_cats_n, pm_cats_l, pm_cats_d, sz_1, sz_2, sl_1, sl_2, lc_0, lc_lt, lc_le, li_ne, Int32.reduceOfInt, Int64.reduceOfInt, Int32.reduceOfNat, Int32.reduceLT, Int32.reduceLE, Prod.mk.injEq, Nat.reduceEqDiff, reduceCtorEq, and_true, true_and, and_false, false_and, and_self, ite_true, ite_false, ↓reduceIte, not_true_eq_false, not_false_eq_true, pe_ri, pe_rz, Ri_g2 hA, Ri_g3 hA]
  refine z1744_1 hA hD k1 ?_ _ _ _
  dsimp only [ex1744_1]
  intro q1 q2 q3 q4
  have e := Option.some.inj e; subst e
  simp -implicitDefEqProofs (disch := first | assumption | exact Nat.le_of_ble_eq_true rfl | decide) only [b1744_0, g1744_5, b1744_5, g1744_6, b1744_6, g1744_7, b1744_7, g1744_8, b1744_8, pe_sipush, pe_istore1, pe_goto_w, pe_iload1, pe_aload0, pe_getfield, pe_icmp_ge, pe_iadd, pe_istore2, pe_iload2, pe_icmp_gt, pe_istore3, pe_iload3, pe_istore4, pe_iload4, pe_call5, pm_af_ret, pm_af_void, pm_af_thr, pe_iinc4, pe_goto, pe_iinc3, pe_iinc2, pe_iinc1, pe_return, pm_prog_1, pm_ob_some, Nat.reduceDiv, Nat.reduceMod, Nat.reduceMul, Nat.reduceAdd, Int.reduceToNat, pm_kill_i, pm_kill_r, pm_kill_n, pm_kill_j, pm_kill_l, pm_kill_d, pm_cats_nil, pm_cats_i, pm_cats_r, pm_cats_n, pm_cats_l, pm_cats_d, sz_1, sz_2, sl_1, sl_2, lc_0, lc_lt, lc_le, li_ne, Int32.reduceOfInt, Int64.reduceOfInt, Int32.reduceOfNat, Int32.reduceLT, Int32.reduceLE, Prod.mk.injEq, Nat.reduceEqDiff, reduceCtorEq, and_true, true_and, and_false, false_and, and_self, ite_true, ite_false, ↓reduceIte, not_true_eq_false, not_false_eq_true, pe_ri, pe_rz, Ri_g2 hA, Ri_g3 hA]
/-- TimberHouseModel$Rips.isRipped(I)Z -/
theorem c1751 {d : Nat} {h : pm_H} {a : Nat} {x0 : Int32} (hc : pm_cls h a = some 27) : pm_call pm_prog (d + 1) 1751 [.ref a, .int x0] h = pm_ev pm_prog (pm_call pm_prog d) 1751 0 b1751_0 [.ref a, .int x0] [] h := pm_cal (pm_rc1 hc rfl) rfl rfl rfl
theorem g1751_1 {cl : pm_C} {ls st : List Value} {h : pm_H} : pm_go pm_prog cl 1751 1 ls st h = pm_ev pm_prog cl 1751 1 b1751_1 ls st h := pm_go_eq pm_prog cl 1751 1 ls st h
theorem g1751_2 {cl : pm_C} {ls st : List Value} {h : pm_H} : pm_go pm_prog cl 1751 2 ls st h = pm_ev pm_prog cl 1751 2 b1751_2 ls st h := pm_go_eq pm_prog cl 1751 2 ls st h
theorem g1751_3 {cl : pm_C} {ls st : List Value} {h : pm_H} : pm_go pm_prog cl 1751 3 ls st h = pm_ev pm_prog cl 1751 3 b1751_3 ls st h := pm_go_eq pm_prog cl 1751 3 ls st h
theorem g1751_4 {cl : pm_C} {ls st : List Value} {h : pm_H} : pm_go pm_prog cl 1751 4 ls st h = pm_ev pm_prog cl 1751 4 b1751_4 ls st h := pm_go_eq pm_prog cl 1751 4 ls st h
theorem g1751_5 {cl : pm_C} {ls st : List Value} {h : pm_H} : pm_go pm_prog cl 1751 5 ls st h = pm_ev pm_prog cl 1751 5 b1751_5 ls st h := pm_go_eq pm_prog cl 1751 5 ls st h
theorem g1751_6 {cl : pm_C} {ls st : List Value} {h : pm_H} : pm_go pm_prog cl 1751 6 ls st h = pm_ev pm_prog cl 1751 6 b1751_6 ls st h := pm_go_eq pm_prog cl 1751 6 ls st h
noncomputable def f1751_4 (S : wS) (y0 : Int32) (y1 : Int32) : Option (Int32) :=
  if y0 = y1 then
    some 1
  else
    some 0
noncomputable def f1751_2 (S : wS) (x1 : Int32) (y0 : Int32) : Option (Int32) :=
  if (((S.1 (0, 0, 0) 35) - x1) - ((S.1 (0, 0, 0) 35) - x1) / 2 * 2) = 0 then
    f1751_4 S y0 1
  else
    f1751_4 S y0 0
/-- TimberHouseModel$Rips.isRipped(I)Z -/
noncomputable def f1751 (S : wS) (x1 : Int32) : Option (Int32) :=
  if (S.1 (0, 0, 0) 34) = 0 then
    f1751_2 S x1 1
  else
    f1751_2 S x1 0
theorem y1751_4 {A : wK → Nat} {h : pm_H} {m D : Nat} {S : wS} {y0 : Int32} {y1 : Int32} {r : Int32} (hA : wok A Ri_d m) (hD : 0 ≤ D) (e : f1751_4 S y0 y1 = some r) : ∀ q1 : Value, pm_go pm_prog (pm_call pm_prog D) 1751 4 [.ref (A (0, 0, 0)), q1] [.int y1, .int y0] (wput A Ri_d S h) = some (.returned (some (.int r)), (wput A Ri_d S h)) := by
  intro q1
  simp only [f1751_4] at e
  rw [g1751_4, b1751_4]
  by_cases k1 : y0 = y1
  · rw [if_pos k1] at e
    have e := Option.some.inj e; subst e
    simp -implicitDefEqProofs (disch := first | assumption | exact Nat.le_of_ble_eq_true rfl | decide) only [b1751_0, g1751_1, b1751_1, g1751_3, b1751_3, g1751_5, b1751_5, g1751_6, b1751_6, pe_aload0, pe_getfield, pe_if_ne, pe_sipush, pe_goto, pe_goto_w, pe_iload1, pe_isub, pe_irem, pe_icmp_ne, pm_prog_1, pm_ob_some, Nat.reduceDiv, Nat.reduceMod, Nat.reduceMul, Nat.reduceAdd, Int.reduceToNat, pm_kill_i, pm_kill_r, pm_kill_n, pm_kill_j, pm_kill_l, pm_kill_d, pm_cats_nil, pm_cats_i, pm_cats_r, pm_cats_n, pm_cats_l, pm_cats_d, sz_1, sz_2, sl_1, sl_2, lc_0, lc_lt, lc_le, li_ne, Int32.reduceOfInt, Int64.reduceOfInt, Int32.reduceOfNat, Int32.reduceLT, Int32.reduceLE, Prod.mk.injEq, Nat.reduceEqDiff, reduceCtorEq, and_true, true_and, and_false, false_and, and_self, ite_true, ite_false, ↓reduceIte, not_true_eq_false, not_false_eq_true, pe_ri, pe_rz, Ri_g34 hA, Ri_g35 hA, eq_true k1]
  · rw [if_neg k1] at e
    have e := Option.some.inj e; subst e
    simp -implicitDefEqProofs (disch := first | assumption | exact Nat.le_of_ble_eq_true rfl | decide) only [b1751_0, g1751_1, b1751_1, g1751_3, b1751_3, g1751_5, b1751_5, g1751_6, b1751_6, pe_aload0, pe_getfield, pe_if_ne, pe_sipush, pe_goto, pe_goto_w, pe_iload1, pe_isub, pe_irem, pe_icmp_ne, pm_prog_1, pm_ob_some, Nat.reduceDiv, Nat.reduceMod, Nat.reduceMul, Nat.reduceAdd, Int.reduceToNat, pm_kill_i, pm_kill_r, pm_kill_n, pm_kill_j, pm_kill_l, pm_kill_d, pm_cats_nil, pm_cats_i, pm_cats_r, pm_cats_n, pm_cats_l, pm_cats_d, sz_1, sz_2, sl_1, sl_2, lc_0, lc_lt, lc_le, li_ne, Int32.reduceOfInt, Int64.reduceOfInt, Int32.reduceOfNat, Int32.reduceLT, Int32.reduceLE, Prod.mk.injEq, Nat.reduceEqDiff, reduceCtorEq, and_true, true_and, and_false, false_and, and_self, ite_true, ite_false, ↓reduceIte, not_true_eq_false, not_false_eq_true, pe_ri, pe_rz, Ri_g34 hA, Ri_g35 hA, eq_false k1]
theorem y1751_2 {A : wK → Nat} {h : pm_H} {m D : Nat} {S : wS} {x1 : Int32} {y0 : Int32} {r : Int32} (hA : wok A Ri_d m) (hD : 0 ≤ D) (e : f1751_2 S x1 y0 = some r) : pm_go pm_prog (pm_call pm_prog D) 1751 2 [.ref (A (0, 0, 0)), .int x1] [.int y0] (wput A Ri_d S h) = some (.returned (some (.int r)), (wput A Ri_d S h)) := by
  simp only [f1751_2] at e
  rw [g1751_2, b1751_2]
  by_cases k1 : (((S.1 (0, 0, 0) 35) - x1) - ((S.1 (0, 0, 0) 35) - x1) / 2 * 2) = 0
  · rw [if_pos k1] at e
    have k2 := y1751_4 (h := h) hA hD e
    simp -implicitDefEqProofs (disch := first | assumption | exact Nat.le_of_ble_eq_true rfl | decide) only [b1751_0, g1751_1, b1751_1, g1751_3, b1751_3, g1751_5, b1751_5, g1751_6, b1751_6, pe_aload0, pe_getfield, pe_if_ne, pe_sipush, pe_goto, pe_goto_w, pe_iload1, pe_isub, pe_irem, pe_icmp_ne, pm_prog_1, pm_ob_some, Nat.reduceDiv, Nat.reduceMod, Nat.reduceMul, Nat.reduceAdd, Int.reduceToNat, pm_kill_i, pm_kill_r, pm_kill_n, pm_kill_j, pm_kill_l, pm_kill_d, pm_cats_nil, pm_cats_i, pm_cats_r, pm_cats_n, pm_cats_l, pm_cats_d, sz_1, sz_2, sl_1, sl_2, lc_0, lc_lt, lc_le, li_ne, Int32.reduceOfInt, Int64.reduceOfInt, Int32.reduceOfNat, Int32.reduceLT, Int32.reduceLE, Prod.mk.injEq, Nat.reduceEqDiff, reduceCtorEq, and_true, true_and, and_false, false_and, and_self, ite_true, ite_false, ↓reduceIte, not_true_eq_false, not_false_eq_true, pe_ri, pe_rz, Ri_g34 hA, Ri_g35 hA, eq_true k1, k2]
  · rw [if_neg k1] at e
    have k3 := y1751_4 (h := h) hA hD e
    simp -implicitDefEqProofs (disch := first | assumption | exact Nat.le_of_ble_eq_true rfl | decide) only [b1751_0, g1751_1, b1751_1, g1751_3, b1751_3, g1751_5, b1751_5, g1751_6, b1751_6, pe_aload0, pe_getfield, pe_if_ne, pe_sipush, pe_goto, pe_goto_w, pe_iload1, pe_isub, pe_irem, pe_icmp_ne, pm_prog_1, pm_ob_some, Nat.reduceDiv, Nat.reduceMod, Nat.reduceMul, Nat.reduceAdd, Int.reduceToNat, pm_kill_i, pm_kill_r, pm_kill_n, pm_kill_j, pm_kill_l, pm_kill_d, pm_cats_nil, pm_cats_i, pm_cats_r, pm_cats_n, pm_cats_l, pm_cats_d, sz_1, sz_2, sl_1, sl_2, lc_0, lc_lt, lc_le, li_ne, Int32.reduceOfInt, Int64.reduceOfInt, Int32.reduceOfNat, Int32.reduceLT, Int32.reduceLE, Prod.mk.injEq, Nat.reduceEqDiff, reduceCtorEq, and_true, true_and, and_false, false_and, and_self, ite_true, ite_false, ↓reduceIte, not_true_eq_false, not_false_eq_true, pe_ri, pe_rz, Ri_g34 hA, Ri_g35 hA, eq_false k1, k3]
theorem x1751 {A : wK → Nat} {h : pm_H} {m D : Nat} {S : wS} {x1 : Int32} {r : Int32} (hA : wok A Ri_d m) (hD : 1 ≤ D) (e : f1751 S x1 = some r) : pm_call pm_prog D 1751 [.ref (A (0, 0, 0)), .int x1] (wput A Ri_d S h) = some (.returned (some (.int r)), (wput A Ri_d S h)) := by
  obtain ⟨D, rfl⟩ : ∃ D', D = D' + 1 := ⟨D - 1, by omega⟩
  have hD : 0 ≤ D := by omega
  rw [c1751 (Ri_c hA), b1751_0]
  simp only [f1751] at e
  by_cases k1 : (S.1 (0, 0, 0) 34) = 0
  · rw [if_pos k1] at e
    have k2 := y1751_2 (h := h) hA hD e
    simp -implicitDefEqProofs (disch := first | assumption | exact Nat.le_of_ble_eq_true rfl | decide) only [b1751_0, g1751_1, b1751_1, g1751_3, b1751_3, g1751_5, b1751_5, g1751_6, b1751_6, pe_aload0, pe_getfield, pe_if_ne, pe_sipush, pe_goto, pe_goto_w, pe_iload1, pe_isub, pe_irem, pe_icmp_ne, pm_prog_1, pm_ob_some, Nat.reduceDiv, Nat.reduceMod, Nat.reduceMul, Nat.reduceAdd, Int.reduceToNat, pm_kill_i, pm_kill_r, pm_kill_n, pm_kill_j, pm_kill_l, pm_kill_d, pm_cats_nil, pm_cats_i, pm_cats_r, pm_cats_n, pm_cats_l, pm_cats_d, sz_1, sz_2, sl_1, sl_2, lc_0, lc_lt, lc_le, li_ne, Int32.reduceOfInt, Int64.reduceOfInt, Int32.reduceOfNat, Int32.reduceLT, Int32.reduceLE, Prod.mk.injEq, Nat.reduceEqDiff, reduceCtorEq, and_true, true_and, and_false, false_and, and_self, ite_true, ite_false, ↓reduceIte, not_true_eq_false, not_false_eq_true, pe_ri, pe_rz, Ri_g34 hA, Ri_g35 hA, eq_true k1, k2]
  · rw [if_neg k1] at e
    have k3 := y1751_2 (h := h) hA hD e
    simp -implicitDefEqProofs (disch := first | assumption | exact Nat.le_of_ble_eq_true rfl | decide) only [b1751_0, g1751_1, b1751_1, g1751_3, b1751_3, g1751_5, b1751_5, g1751_6, b1751_6, pe_aload0, pe_getfield, pe_if_ne, pe_sipush, pe_goto, pe_goto_w, pe_iload1, pe_isub, pe_irem, pe_icmp_ne, pm_prog_1, pm_ob_some, Nat.reduceDiv, Nat.reduceMod, Nat.reduceMul, Nat.reduceAdd, Int.reduceToNat, pm_kill_i, pm_kill_r, pm_kill_n, pm_kill_j, pm_kill_l, pm_kill_d, pm_cats_nil, pm_cats_i, pm_cats_r, pm_cats_n, pm_cats_l, pm_cats_d, sz_1, sz_2, sl_1, sl_2, lc_0, lc_lt, lc_le, li_ne, Int32.reduceOfInt, Int64.reduceOfInt, Int32.reduceOfNat, Int32.reduceLT, Int32.reduceLE, Prod.mk.injEq, Nat.reduceEqDiff, reduceCtorEq, and_true, true_and, and_false, false_and, and_self, ite_true, ite_false, ↓reduceIte, not_true_eq_false, not_false_eq_true, pe_ri, pe_rz, Ri_g34 hA, Ri_g35 hA, eq_false k1, k3]
/-- TimberHouseModel$Rips.segment(ZIIIIII)I -/
theorem c1752 {d : Nat} {h : pm_H} {a : Nat} {x0 : Int32} {x1 : Int32} {x2 : Int32} {x3 : Int32} {x4 : Int32} {x5 : Int32} {x6 : Int32} (hc : pm_cls h a = some 27) : pm_call pm_prog (d + 1) 1752 [.ref a, .int x0, .int x1, .int x2, .int x3, .int x4, .int x5, .int x6] h = pm_ev pm_prog (pm_call pm_prog d) 1752 0 b1752_0 [.ref a, .int x0, .int x1, .int x2, .int x3, .int x4, .int x5, .int x6] [] h := pm_cal (pm_rc1 hc rfl) rfl rfl rfl
theorem g1752_1 {cl : pm_C} {ls st : List Value} {h : pm_H} : pm_go pm_prog cl 1752 1 ls st h = pm_ev pm_prog cl 1752 1 b1752_1 ls st h := pm_go_eq pm_prog cl 1752 1 ls st h
theorem g1752_2 {cl : pm_C} {ls st : List Value} {h : pm_H} : pm_go pm_prog cl 1752 2 ls st h = pm_ev pm_prog cl 1752 2 b1752_2 ls st h := pm_go_eq pm_prog cl 1752 2 ls st h
/-- TimberHouseModel$Rips.segment(ZIIIIII)I -/
noncomputable def f1752 (S : wS) (x1 : Int32) (x2 : Int32) (x3 : Int32) (x4 : Int32) (x5 : Int32) (x6 : Int32) (x7 : Int32) : Option (Int32) :=
  if x1 = 0 then
    (f1746 (x2 + x6) (x2 + x7) x4 x5).bind fun v1 =>
    some v1
  else
    (f1746 x2 x3 (x4 + x6) (x4 + x7)).bind fun v2 =>
    some v2
theorem x1752 {A : wK → Nat} {h : pm_H} {m D : Nat} {S : wS} {x1 : Int32} {x2 : Int32} {x3 : Int32} {x4 : Int32} {x5 : Int32} {x6 : Int32} {x7 : Int32} {r : Int32} (hA : wok A Ri_d m) (hD : 2 ≤ D) (e : f1752 S x1 x2 x3 x4 x5 x6 x7 = some r) : pm_call pm_prog D 1752 [.ref (A (0, 0, 0)), .int x1, .int x2, .int x3, .int x4, .int x5, .int x6, .int x7] (wput A Ri_d S h) = some (.returned (some (.int r)), (wput A Ri_d S h)) := by
  obtain ⟨D, rfl⟩ : ∃ D', D = D' + 1 := ⟨D - 1, by omega⟩
  have hD : 1 ≤ D := by omega
  rw [c1752 (Ri_c hA), b1752_0]
  simp only [f1752] at e
  by_cases k1 : x1 = 0
  · rw [if_pos k1] at e
    obtain ⟨v1, k2, e⟩ := Option.bind_eq_some_iff.mp e
    try dsimp only at e
    have z2 := fun h => x1746 (D := D) (h := h) (by omega) k2
    have e := Option.some.inj e; subst e
    simp -implicitDefEqProofs (disch := first | assumption | exact Nat.le_of_ble_eq_true rfl | decide) only [b1752_0, g1752_1, b1752_1, g1752_2, b1752_2, pe_iload1, pe_if_eq, pe_iload2, pe_iload3, pe_iload4, pe_iload6, pe_iadd, pe_iload7, pe_call4, pm_af_ret, pm_af_void, pm_af_thr, pe_goto, pe_iload5, pe_goto_w, pm_prog_1, pm_ob_some, Nat.reduceDiv, Nat.reduceMod, Nat.reduceMul, Nat.reduceAdd, Int.reduceToNat, pm_kill_i, pm_kill_r, pm_kill_n, pm_kill_j, pm_kill_l, pm_kill_d, pm_cats_nil, pm_cats_i, pm_cats_r, pm_cats_n, pm_cats_l, pm_cats_d, sz_1, sz_2, sl_1, sl_2, lc_0, lc_lt, lc_le, li_ne, Int32.reduceOfInt, Int64.reduceOfInt, Int32.reduceOfNat, Int32.reduceLT, Int32.reduceLE, Prod.mk.injEq, Nat.reduceEqDiff, reduceCtorEq, and_true, true_and, and_false, false_and, and_self, ite_true, ite_false, ↓reduceIte, not_true_eq_false, not_false_eq_true, pe_ri, pe_rz, eq_true k1, z2]
  · rw [if_neg k1] at e
    obtain ⟨v2, k3, e⟩ := Option.bind_eq_some_iff.mp e
    try dsimp only at e
    have z3 := fun h => x1746 (D := D) (h := h) (by omega) k3
    have e := Option.some.inj e; subst e
    simp -implicitDefEqProofs (disch := first | assumption | exact Nat.le_of_ble_eq_true rfl | decide) only [b1752_0, g1752_1, b1752_1, g1752_2, b1752_2, pe_iload1, pe_if_eq, pe_iload2, pe_iload3, pe_iload4, pe_iload6, pe_iadd, pe_iload7, pe_call4, pm_af_ret, pm_af_void, pm_af_thr, pe_goto, pe_iload5, pe_goto_w, pm_prog_1, pm_ob_some, Nat.reduceDiv, Nat.reduceMod, Nat.reduceMul, Nat.reduceAdd, Int.reduceToNat, pm_kill_i, pm_kill_r, pm_kill_n, pm_kill_j, pm_kill_l, pm_kill_d, pm_cats_nil, pm_cats_i, pm_cats_r, pm_cats_n, pm_cats_l, pm_cats_d, sz_1, sz_2, sl_1, sl_2, lc_0, lc_lt, lc_le, li_ne, Int32.reduceOfInt, Int64.reduceOfInt, Int32.reduceOfNat, Int32.reduceLT, Int32.reduceLE, Prod.mk.injEq, Nat.reduceEqDiff, reduceCtorEq, and_true, true_and, and_false, false_and, and_self, ite_true, ite_false, ↓reduceIte, not_true_eq_false, not_false_eq_true, pe_ri, pe_rz, eq_false k1, z3]
/-- TimberHouseModel$Rips.countBy(II)I -/
theorem c1753 {d : Nat} {h : pm_H} {a : Nat} {x0 : Int32} {x1 : Int32} (hc : pm_cls h a = some 27) : pm_call pm_prog (d + 1) 1753 [.ref a, .int x0, .int x1] h = pm_ev pm_prog (pm_call pm_prog d) 1753 0 b1753_0 [.ref a, .int x0, .int x1] [] h := pm_cal (pm_rc1 hc rfl) rfl rfl rfl
theorem g1753_1 {cl : pm_C} {ls st : List Value} {h : pm_H} : pm_go pm_prog cl 1753 1 ls st h = pm_ev pm_prog cl 1753 1 b1753_1 ls st h := pm_go_eq pm_prog cl 1753 1 ls st h
theorem g1753_2 {cl : pm_C} {ls st : List Value} {h : pm_H} : pm_go pm_prog cl 1753 2 ls st h = pm_ev pm_prog cl 1753 2 b1753_2 ls st h := pm_go_eq pm_prog cl 1753 2 ls st h
theorem g1753_3 {cl : pm_C} {ls st : List Value} {h : pm_H} : pm_go pm_prog cl 1753 3 ls st h = pm_ev pm_prog cl 1753 3 b1753_3 ls st h := pm_go_eq pm_prog cl 1753 3 ls st h
/-- TimberHouseModel$Rips.countBy(II)I -/
noncomputable def f1753 (S : wS) (x1 : Int32) (x2 : Int32) : Option (Int32) :=
  if x1 = 0 then
    if 0 ≤ x2 ∧ x2 < 75625 then
      some (S.1 (26, 0, 0) x2)
    else none
  else
    if x1 = 1 then
      if 0 ≤ x2 ∧ x2 < 75625 then
        some (S.1 (29, 0, 0) x2)
      else none
    else
      if 0 ≤ x2 ∧ x2 < 75625 then
        some (S.1 (31, 0, 0) x2)
      else none
theorem x1753 {A : wK → Nat} {h : pm_H} {m D : Nat} {S : wS} {x1 : Int32} {x2 : Int32} {r : Int32} (hA : wok A Ri_d m) (hD : 1 ≤ D) (e : f1753 S x1 x2 = some r) : pm_call pm_prog D 1753 [.ref (A (0, 0, 0)), .int x1, .int x2] (wput A Ri_d S h) = some (.returned (some (.int r)), (wput A Ri_d S h)) := by
  obtain ⟨D, rfl⟩ : ∃ D', D = D' + 1 := ⟨D - 1, by omega⟩
  have hD : 0 ≤ D := by omega
  rw [c1753 (Ri_c hA), b1753_0]
  simp only [f1753] at e
  by_cases k1 : x1 = 0
  · rw [if_pos k1] at e
    by_cases k2 : 0 ≤ x2 ∧ x2 < 75625
    · rw [if_pos k2] at e
      have e := Option.some.inj e; subst e
      simp -implicitDefEqProofs (disch := first | assumption | exact Nat.le_of_ble_eq_true rfl | decide) only [b1753_0, g1753_1, b1753_1, g1753_2, b1753_2, g1753_3, b1753_3, pe_iload1, pe_if_ne, pe_aload0, pe_getfield, pe_iload2, pe_iaload, pe_goto, pe_sipush, pe_icmp_ne, pe_goto_w, pm_prog_1, pm_ob_some, Nat.reduceDiv, Nat.reduceMod, Nat.reduceMul, Nat.reduceAdd, Int.reduceToNat, pm_kill_i, pm_kill_r, pm_kill_n, pm_kill_j, pm_kill_l, pm_kill_d, pm_cats_nil, pm_cats_i, pm_cats_r, pm_cats_n, pm_cats_l, pm_cats_d, sz_1, sz_2, sl_1, sl_2, lc_0, lc_lt, lc_le, li_ne, Int32.reduceOfInt, Int64.reduceOfInt, Int32.reduceOfNat, Int32.reduceLT, Int32.reduceLE, Prod.mk.injEq, Nat.reduceEqDiff, reduceCtorEq, and_true, true_and, and_false, false_and, and_self, ite_true, ite_false, ↓reduceIte, not_true_eq_false, not_false_eq_true, pe_ri, pe_rz, Ri_g25 hA, Ri_g28 hA, Ri_g30 hA, Ri_r25 hA, Ri_w25 hA, Ri_l25 hA, Ri_r28 hA, Ri_w28 hA, Ri_l28 hA, Ri_r30 hA, Ri_w30 hA, Ri_l30 hA, eq_true k1]
    · rw [if_neg k2] at e; cases e
  · rw [if_neg k1] at e
    by_cases k3 : x1 = 1
    · rw [if_pos k3] at e
      by_cases k4 : 0 ≤ x2 ∧ x2 < 75625
      · rw [if_pos k4] at e
        have e := Option.some.inj e; subst e
        simp -implicitDefEqProofs (disch := first | assumption | exact Nat.le_of_ble_eq_true rfl | decide) only [b1753_0, g1753_1, b1753_1, g1753_2, b1753_2, g1753_3, b1753_3, pe_iload1, pe_if_ne, pe_aload0, pe_getfield, pe_iload2, pe_iaload, pe_goto, pe_sipush, pe_icmp_ne, pe_goto_w, pm_prog_1, pm_ob_some, Nat.reduceDiv, Nat.reduceMod, Nat.reduceMul, Nat.reduceAdd, Int.reduceToNat, pm_kill_i, pm_kill_r, pm_kill_n, pm_kill_j, pm_kill_l, pm_kill_d, pm_cats_nil, pm_cats_i, pm_cats_r, pm_cats_n, pm_cats_l, pm_cats_d, sz_1, sz_2, sl_1, sl_2, lc_0, lc_lt, lc_le, li_ne, Int32.reduceOfInt, Int64.reduceOfInt, Int32.reduceOfNat, Int32.reduceLT, Int32.reduceLE, Prod.mk.injEq, Nat.reduceEqDiff, reduceCtorEq, and_true, true_and, and_false, false_and, and_self, ite_true, ite_false, ↓reduceIte, not_true_eq_false, not_false_eq_true, pe_ri, pe_rz, Ri_g25 hA, Ri_g28 hA, Ri_g30 hA, Ri_r25 hA, Ri_w25 hA, Ri_l25 hA, Ri_r28 hA, Ri_w28 hA, Ri_l28 hA, Ri_r30 hA, Ri_w30 hA, Ri_l30 hA, eq_false k1, eq_true k3]
      · rw [if_neg k4] at e; cases e
    · rw [if_neg k3] at e
      by_cases k5 : 0 ≤ x2 ∧ x2 < 75625
      · rw [if_pos k5] at e
        have e := Option.some.inj e; subst e
        simp -implicitDefEqProofs (disch := first | assumption | exact Nat.le_of_ble_eq_true rfl | decide) only [b1753_0, g1753_1, b1753_1, g1753_2, b1753_2, g1753_3, b1753_3, pe_iload1, pe_if_ne, pe_aload0, pe_getfield, pe_iload2, pe_iaload, pe_goto, pe_sipush, pe_icmp_ne, pe_goto_w, pm_prog_1, pm_ob_some, Nat.reduceDiv, Nat.reduceMod, Nat.reduceMul, Nat.reduceAdd, Int.reduceToNat, pm_kill_i, pm_kill_r, pm_kill_n, pm_kill_j, pm_kill_l, pm_kill_d, pm_cats_nil, pm_cats_i, pm_cats_r, pm_cats_n, pm_cats_l, pm_cats_d, sz_1, sz_2, sl_1, sl_2, lc_0, lc_lt, lc_le, li_ne, Int32.reduceOfInt, Int64.reduceOfInt, Int32.reduceOfNat, Int32.reduceLT, Int32.reduceLE, Prod.mk.injEq, Nat.reduceEqDiff, reduceCtorEq, and_true, true_and, and_false, false_and, and_self, ite_true, ite_false, ↓reduceIte, not_true_eq_false, not_false_eq_true, pe_ri, pe_rz, Ri_g25 hA, Ri_g28 hA, Ri_g30 hA, Ri_r25 hA, Ri_w25 hA, Ri_l25 hA, Ri_r28 hA, Ri_w28 hA, Ri_l28 hA, Ri_r30 hA, Ri_w30 hA, Ri_l30 hA, eq_false k1, eq_false k3]
      · rw [if_neg k5] at e; cases e
/-- TimberHouseModel$Rips.isCut(II)Z -/
theorem c1754 {d : Nat} {h : pm_H} {a : Nat} {x0 : Int32} {x1 : Int32} (hc : pm_cls h a = some 27) : pm_call pm_prog (d + 1) 1754 [.ref a, .int x0, .int x1] h = pm_ev pm_prog (pm_call pm_prog d) 1754 0 b1754_0 [.ref a, .int x0, .int x1] [] h := pm_cal (pm_rc1 hc rfl) rfl rfl rfl
theorem g1754_1 {cl : pm_C} {ls st : List Value} {h : pm_H} : pm_go pm_prog cl 1754 1 ls st h = pm_ev pm_prog cl 1754 1 b1754_1 ls st h := pm_go_eq pm_prog cl 1754 1 ls st h
theorem g1754_2 {cl : pm_C} {ls st : List Value} {h : pm_H} : pm_go pm_prog cl 1754 2 ls st h = pm_ev pm_prog cl 1754 2 b1754_2 ls st h := pm_go_eq pm_prog cl 1754 2 ls st h
theorem g1754_3 {cl : pm_C} {ls st : List Value} {h : pm_H} : pm_go pm_prog cl 1754 3 ls st h = pm_ev pm_prog cl 1754 3 b1754_3 ls st h := pm_go_eq pm_prog cl 1754 3 ls st h
/-- TimberHouseModel$Rips.isCut(II)Z -/
noncomputable def f1754 (S : wS) (x1 : Int32) (x2 : Int32) : Option (Int32) :=
  if x1 < (S.1 (0, 0, 0) 35) then
    some 1
  else
    (f1751 S x1).bind fun v1 =>
    if v1 = 0 then
      some 1
    else
      if (S.1 (0, 0, 0) 21) = 0 then
        some 1
      else
        if 0 ≤ x2 ∧ x2 < 65537 then
          if (S.1 (21, 0, 0) x2) = 0 then
            some 0
          else
            some 1
        else none
theorem x1754 {A : wK → Nat} {h : pm_H} {m D : Nat} {S : wS} {x1 : Int32} {x2 : Int32} {r : Int32} (hA : wok A Ri_d m) (hD : 2 ≤ D) (e : f1754 S x1 x2 = some r) : pm_call pm_prog D 1754 [.ref (A (0, 0, 0)), .int x1, .int x2] (wput A Ri_d S h) = some (.returned (some (.int r)), (wput A Ri_d S h)) := by
  obtain ⟨D, rfl⟩ : ∃ D', D = D' + 1 := ⟨D - 1, by omega⟩
  have hD : 1 ≤ D := by omega
  rw [c1754 (Ri_c hA), b1754_0]
  simp only [f1754] at e
  by_cases k1 : x1 < (S.1 (0, 0, 0) 35)
  · rw [if_pos k1] at e
    have e := Option.some.inj e; subst e
    simp -implicitDefEqProofs (disch := first | assumption | exact Nat.le_of_ble_eq_true rfl | decide) only [b1754_0, g1754_1, b1754_1, g1754_2, b1754_2, g1754_3, b1754_3, pe_iload1, pe_aload0, pe_getfield, pe_icmp_lt, pe_call2, pm_af_ret, pm_af_void, pm_af_thr, pe_if_eq, pe_iload2, pe_baload, pe_goto_w, pe_sipush, pe_goto, pm_prog_1, pm_ob_some, Nat.reduceDiv, Nat.reduceMod, Nat.reduceMul, Nat.reduceAdd, Int.reduceToNat, pm_kill_i, pm_kill_r, pm_kill_n, pm_kill_j, pm_kill_l, pm_kill_d, pm_cats_nil, pm_cats_i, pm_cats_r, pm_cats_n, pm_cats_l, pm_cats_d, sz_1, sz_2, sl_1, sl_2, lc_0, lc_lt, lc_le, li_ne, Int32.reduceOfInt, Int64.reduceOfInt, Int32.reduceOfNat, Int32.reduceLT, Int32.reduceLE, Prod.mk.injEq, Nat.reduceEqDiff, reduceCtorEq, and_true, true_and, and_false, false_and, and_self, ite_true, ite_false, ↓reduceIte, not_true_eq_false, not_false_eq_true, pe_ri, pe_rz, Ri_g35 hA, Ri_g21 hA, Ri_g20 hA, Ri_r20 hA, Ri_w20 hA, Ri_l20 hA, eq_true k1]
  · rw [if_neg k1] at e
    obtain ⟨v1, k2, e⟩ := Option.bind_eq_some_iff.mp e
    try dsimp only at e
    have z2 := x1751 (D := D) (h := h) hA (by omega) k2
    by_cases k3 : v1 = 0
    · rw [if_pos k3] at e
      have e := Option.some.inj e; subst e
      simp -implicitDefEqProofs (disch := first | assumption | exact Nat.le_of_ble_eq_true rfl | decide) only [b1754_0, g1754_1, b1754_1, g1754_2, b1754_2, g1754_3, b1754_3, pe_iload1, pe_aload0, pe_getfield, pe_icmp_lt, pe_call2, pm_af_ret, pm_af_void, pm_af_thr, pe_if_eq, pe_iload2, pe_baload, pe_goto_w, pe_sipush, pe_goto, pm_prog_1, pm_ob_some, Nat.reduceDiv, Nat.reduceMod, Nat.reduceMul, Nat.reduceAdd, Int.reduceToNat, pm_kill_i, pm_kill_r, pm_kill_n, pm_kill_j, pm_kill_l, pm_kill_d, pm_cats_nil, pm_cats_i, pm_cats_r, pm_cats_n, pm_cats_l, pm_cats_d, sz_1, sz_2, sl_1, sl_2, lc_0, lc_lt, lc_le, li_ne, Int32.reduceOfInt, Int64.reduceOfInt, Int32.reduceOfNat, Int32.reduceLT, Int32.reduceLE, Prod.mk.injEq, Nat.reduceEqDiff, reduceCtorEq, and_true, true_and, and_false, false_and, and_self, ite_true, ite_false, ↓reduceIte, not_true_eq_false, not_false_eq_true, pe_ri, pe_rz, Ri_g35 hA, Ri_g21 hA, Ri_g20 hA, Ri_r20 hA, Ri_w20 hA, Ri_l20 hA, eq_false k1, z2, eq_true k3]
    · rw [if_neg k3] at e
      by_cases k4 : (S.1 (0, 0, 0) 21) = 0
      · rw [if_pos k4] at e
        have e := Option.some.inj e; subst e
        simp -implicitDefEqProofs (disch := first | assumption | exact Nat.le_of_ble_eq_true rfl | decide) only [b1754_0, g1754_1, b1754_1, g1754_2, b1754_2, g1754_3, b1754_3, pe_iload1, pe_aload0, pe_getfield, pe_icmp_lt, pe_call2, pm_af_ret, pm_af_void, pm_af_thr, pe_if_eq, pe_iload2, pe_baload, pe_goto_w, pe_sipush, pe_goto, pm_prog_1, pm_ob_some, Nat.reduceDiv, Nat.reduceMod, Nat.reduceMul, Nat.reduceAdd, Int.reduceToNat, pm_kill_i, pm_kill_r, pm_kill_n, pm_kill_j, pm_kill_l, pm_kill_d, pm_cats_nil, pm_cats_i, pm_cats_r, pm_cats_n, pm_cats_l, pm_cats_d, sz_1, sz_2, sl_1, sl_2, lc_0, lc_lt, lc_le, li_ne, Int32.reduceOfInt, Int64.reduceOfInt, Int32.reduceOfNat, Int32.reduceLT, Int32.reduceLE, Prod.mk.injEq, Nat.reduceEqDiff, reduceCtorEq, and_true, true_and, and_false, false_and, and_self, ite_true, ite_false, ↓reduceIte, not_true_eq_false, not_false_eq_true, pe_ri, pe_rz, Ri_g35 hA, Ri_g21 hA, Ri_g20 hA, Ri_r20 hA, Ri_w20 hA, Ri_l20 hA, eq_false k1, z2, eq_false k3, eq_true k4]
      · rw [if_neg k4] at e
        by_cases k5 : 0 ≤ x2 ∧ x2 < 65537
        · rw [if_pos k5] at e
          by_cases k6 : (S.1 (21, 0, 0) x2) = 0
          · rw [if_pos k6] at e
            have e := Option.some.inj e; subst e
            simp -implicitDefEqProofs (disch := first | assumption | exact Nat.le_of_ble_eq_true rfl | decide) only [b1754_0, g1754_1, b1754_1, g1754_2, b1754_2, g1754_3, b1754_3, pe_iload1, pe_aload0, pe_getfield, pe_icmp_lt, pe_call2, pm_af_ret, pm_af_void, pm_af_thr, pe_if_eq, pe_iload2, pe_baload, pe_goto_w, pe_sipush, pe_goto, pm_prog_1, pm_ob_some, Nat.reduceDiv, Nat.reduceMod, Nat.reduceMul, Nat.reduceAdd, Int.reduceToNat, pm_kill_i, pm_kill_r, pm_kill_n, pm_kill_j, pm_kill_l, pm_kill_d, pm_cats_nil, pm_cats_i, pm_cats_r, pm_cats_n, pm_cats_l, pm_cats_d, sz_1, sz_2, sl_1, sl_2, lc_0, lc_lt, lc_le, li_ne, Int32.reduceOfInt, Int64.reduceOfInt, Int32.reduceOfNat, Int32.reduceLT, Int32.reduceLE, Prod.mk.injEq, Nat.reduceEqDiff, reduceCtorEq, and_true, true_and, and_false, false_and, and_self, ite_true, ite_false, ↓reduceIte, not_true_eq_false, not_false_eq_true, pe_ri, pe_rz, Ri_g35 hA, Ri_g21 hA, Ri_g20 hA, Ri_r20 hA, Ri_w20 hA, Ri_l20 hA, eq_false k1, z2, eq_false k3, eq_false k4, eq_true k6]
          · rw [if_neg k6] at e
            have e := Option.some.inj e; subst e
            simp -implicitDefEqProofs (disch := first | assumption | exact Nat.le_of_ble_eq_true rfl | decide) only [b1754_0, g1754_1, b1754_1, g1754_2, b1754_2, g1754_3, b1754_3, pe_iload1, pe_aload0, pe_getfield, pe_icmp_lt, pe_call2, pm_af_ret, pm_af_void, pm_af_thr, pe_if_eq, pe_iload2, pe_baload, pe_goto_w, pe_sipush, pe_goto, pm_prog_1, pm_ob_some, Nat.reduceDiv, Nat.reduceMod, Nat.reduceMul, Nat.reduceAdd, Int.reduceToNat, pm_kill_i, pm_kill_r, pm_kill_n, pm_kill_j, pm_kill_l, pm_kill_d, pm_cats_nil, pm_cats_i, pm_cats_r, pm_cats_n, pm_cats_l, pm_cats_d, sz_1, sz_2, sl_1, sl_2, lc_0, lc_lt, lc_le, li_ne, Int32.reduceOfInt, Int64.reduceOfInt, Int32.reduceOfNat, Int32.reduceLT, Int32.reduceLE, Prod.mk.injEq, Nat.reduceEqDiff, reduceCtorEq, and_true, true_and, and_false, false_and, and_self, ite_true, ite_false, ↓reduceIte, not_true_eq_false, not_false_eq_true, pe_ri, pe_rz, Ri_g35 hA, Ri_g21 hA, Ri_g20 hA, Ri_r20 hA, Ri_w20 hA, Ri_l20 hA, eq_false k1, z2, eq_false k3, eq_false k4, eq_false k6]
        · rw [if_neg k5] at e; cases e
/-- TimberHouseModel$Rips.valueBy(II)J -/
theorem c1755 {d : Nat} {h : pm_H} {a : Nat} {x0 : Int32} {x1 : Int32} (hc : pm_cls h a = some 27) : pm_call pm_prog (d + 1) 1755 [.ref a, .int x0, .int x1] h = pm_ev pm_prog (pm_call pm_prog d) 1755 0 b1755_0 [.ref a, .int x0, .int x1] [] h := pm_cal (pm_rc1 hc rfl) rfl rfl rfl
theorem g1755_1 {cl : pm_C} {ls st : List Value} {h : pm_H} : pm_go pm_prog cl 1755 1 ls st h = pm_ev pm_prog cl 1755 1 b1755_1 ls st h := pm_go_eq pm_prog cl 1755 1 ls st h
theorem g1755_2 {cl : pm_C} {ls st : List Value} {h : pm_H} : pm_go pm_prog cl 1755 2 ls st h = pm_ev pm_prog cl 1755 2 b1755_2 ls st h := pm_go_eq pm_prog cl 1755 2 ls st h
theorem g1755_3 {cl : pm_C} {ls st : List Value} {h : pm_H} : pm_go pm_prog cl 1755 3 ls st h = pm_ev pm_prog cl 1755 3 b1755_3 ls st h := pm_go_eq pm_prog cl 1755 3 ls st h
/-- TimberHouseModel$Rips.valueBy(II)J -/
noncomputable def f1755 (S : wS) (x1 : Int32) (x2 : Int32) : Option (Int64) :=
  if x1 = 0 then
    if 0 ≤ x2 ∧ x2 < 75625 then
      some (S.2 (25, 0, 0) x2)
    else none
  else
    if x1 = 1 then
      if 0 ≤ x2 ∧ x2 < 75625 then
        some (S.2 (28, 0, 0) x2)
      else none
    else
      if 0 ≤ x2 ∧ x2 < 75625 then
        some (S.2 (30, 0, 0) x2)
      else none
theorem x1755 {A : wK → Nat} {h : pm_H} {m D : Nat} {S : wS} {x1 : Int32} {x2 : Int32} {r : Int64} (hA : wok A Ri_d m) (hD : 1 ≤ D) (e : f1755 S x1 x2 = some r) : pm_call pm_prog D 1755 [.ref (A (0, 0, 0)), .int x1, .int x2] (wput A Ri_d S h) = some (.returned (some (.long r)), (wput A Ri_d S h)) := by
  obtain ⟨D, rfl⟩ : ∃ D', D = D' + 1 := ⟨D - 1, by omega⟩
  have hD : 0 ≤ D := by omega
  rw [c1755 (Ri_c hA), b1755_0]
  simp only [f1755] at e
  by_cases k1 : x1 = 0
  · rw [if_pos k1] at e
    by_cases k2 : 0 ≤ x2 ∧ x2 < 75625
    · rw [if_pos k2] at e
      have e := Option.some.inj e; subst e
      simp -implicitDefEqProofs (disch := first | assumption | exact Nat.le_of_ble_eq_true rfl | decide) only [b1755_0, g1755_1, b1755_1, g1755_2, b1755_2, g1755_3, b1755_3, pe_iload1, pe_if_ne, pe_aload0, pe_getfield, pe_iload2, pe_laload, pe_goto, pe_sipush, pe_icmp_ne, pe_goto_w, pe_lreturn, pm_prog_1, pm_ob_some, Nat.reduceDiv, Nat.reduceMod, Nat.reduceMul, Nat.reduceAdd, Int.reduceToNat, pm_kill_i, pm_kill_r, pm_kill_n, pm_kill_j, pm_kill_l, pm_kill_d, pm_cats_nil, pm_cats_i, pm_cats_r, pm_cats_n, pm_cats_l, pm_cats_d, sz_1, sz_2, sl_1, sl_2, lc_0, lc_lt, lc_le, li_ne, Int32.reduceOfInt, Int64.reduceOfInt, Int32.reduceOfNat, Int32.reduceLT, Int32.reduceLE, Prod.mk.injEq, Nat.reduceEqDiff, reduceCtorEq, and_true, true_and, and_false, false_and, and_self, ite_true, ite_false, ↓reduceIte, not_true_eq_false, not_false_eq_true, pe_ri, pe_rz, Ri_g24 hA, Ri_g27 hA, Ri_g29 hA, Ri_r24 hA, Ri_w24 hA, Ri_l24 hA, Ri_r27 hA, Ri_w27 hA, Ri_l27 hA, Ri_r29 hA, Ri_w29 hA, Ri_l29 hA, eq_true k1]
    · rw [if_neg k2] at e; cases e
  · rw [if_neg k1] at e
    by_cases k3 : x1 = 1
    · rw [if_pos k3] at e
      by_cases k4 : 0 ≤ x2 ∧ x2 < 75625
      · rw [if_pos k4] at e
        have e := Option.some.inj e; subst e
        simp -implicitDefEqProofs (disch := first | assumption | exact Nat.le_of_ble_eq_true rfl | decide) only [b1755_0, g1755_1, b1755_1, g1755_2, b1755_2, g1755_3, b1755_3, pe_iload1, pe_if_ne, pe_aload0, pe_getfield, pe_iload2, pe_laload, pe_goto, pe_sipush, pe_icmp_ne, pe_goto_w, pe_lreturn, pm_prog_1, pm_ob_some, Nat.reduceDiv, Nat.reduceMod, Nat.reduceMul, Nat.reduceAdd, Int.reduceToNat, pm_kill_i, pm_kill_r, pm_kill_n, pm_kill_j, pm_kill_l, pm_kill_d, pm_cats_nil, pm_cats_i, pm_cats_r, pm_cats_n, pm_cats_l, pm_cats_d, sz_1, sz_2, sl_1, sl_2, lc_0, lc_lt, lc_le, li_ne, Int32.reduceOfInt, Int64.reduceOfInt, Int32.reduceOfNat, Int32.reduceLT, Int32.reduceLE, Prod.mk.injEq, Nat.reduceEqDiff, reduceCtorEq, and_true, true_and, and_false, false_and, and_self, ite_true, ite_false, ↓reduceIte, not_true_eq_false, not_false_eq_true, pe_ri, pe_rz, Ri_g24 hA, Ri_g27 hA, Ri_g29 hA, Ri_r24 hA, Ri_w24 hA, Ri_l24 hA, Ri_r27 hA, Ri_w27 hA, Ri_l27 hA, Ri_r29 hA, Ri_w29 hA, Ri_l29 hA, eq_false k1, eq_true k3]
      · rw [if_neg k4] at e; cases e
    · rw [if_neg k3] at e
      by_cases k5 : 0 ≤ x2 ∧ x2 < 75625
      · rw [if_pos k5] at e
        have e := Option.some.inj e; subst e
        simp -implicitDefEqProofs (disch := first | assumption | exact Nat.le_of_ble_eq_true rfl | decide) only [b1755_0, g1755_1, b1755_1, g1755_2, b1755_2, g1755_3, b1755_3, pe_iload1, pe_if_ne, pe_aload0, pe_getfield, pe_iload2, pe_laload, pe_goto, pe_sipush, pe_icmp_ne, pe_goto_w, pe_lreturn, pm_prog_1, pm_ob_some, Nat.reduceDiv, Nat.reduceMod, Nat.reduceMul, Nat.reduceAdd, Int.reduceToNat, pm_kill_i, pm_kill_r, pm_kill_n, pm_kill_j, pm_kill_l, pm_kill_d, pm_cats_nil, pm_cats_i, pm_cats_r, pm_cats_n, pm_cats_l, pm_cats_d, sz_1, sz_2, sl_1, sl_2, lc_0, lc_lt, lc_le, li_ne, Int32.reduceOfInt, Int64.reduceOfInt, Int32.reduceOfNat, Int32.reduceLT, Int32.reduceLE, Prod.mk.injEq, Nat.reduceEqDiff, reduceCtorEq, and_true, true_and, and_false, false_and, and_self, ite_true, ite_false, ↓reduceIte, not_true_eq_false, not_false_eq_true, pe_ri, pe_rz, Ri_g24 hA, Ri_g27 hA, Ri_g29 hA, Ri_r24 hA, Ri_w24 hA, Ri_l24 hA, Ri_r27 hA, Ri_w27 hA, Ri_l27 hA, Ri_r29 hA, Ri_w29 hA, Ri_l29 hA, eq_false k1, eq_false k3]
      · rw [if_neg k5] at e; cases e
/-- TimberHouseModel$Rips.reckon(IIIII)V -/
theorem c1750 {d : Nat} {h : pm_H} {a : Nat} {x0 : Int32} {x1 : Int32} {x2 : Int32} {x3 : Int32} {x4 : Int32} (hc : pm_cls h a = some 27) : pm_call pm_prog (d + 1) 1750 [.ref a, .int x0, .int x1, .int x2, .int x3, .int x4] h = pm_ev pm_prog (pm_call pm_prog d) 1750 0 b1750_0 [.ref a, .int x0, .int x1, .int x2, .int x3, .int x4, pm_junk, pm_junk, pm_junk, pm_junk, pm_junk, pm_junk, pm_junk, pm_junk, pm_junk, pm_junk] [] h := pm_cal (pm_rc1 hc rfl) rfl rfl rfl
theorem g1750_1 {cl : pm_C} {ls st : List Value} {h : pm_H} : pm_go pm_prog cl 1750 1 ls st h = pm_ev pm_prog cl 1750 1 b1750_1 ls st h := pm_go_eq pm_prog cl 1750 1 ls st h
theorem g1750_2 {cl : pm_C} {ls st : List Value} {h : pm_H} : pm_go pm_prog cl 1750 2 ls st h = pm_ev pm_prog cl 1750 2 b1750_2 ls st h := pm_go_eq pm_prog cl 1750 2 ls st h
theorem g1750_3 {cl : pm_C} {ls st : List Value} {h : pm_H} : pm_go pm_prog cl 1750 3 ls st h = pm_ev pm_prog cl 1750 3 b1750_3 ls st h := pm_go_eq pm_prog cl 1750 3 ls st h
theorem g1750_4 {cl : pm_C} {ls st : List Value} {h : pm_H} : pm_go pm_prog cl 1750 4 ls st h = pm_ev pm_prog cl 1750 4 b1750_4 ls st h := pm_go_eq pm_prog cl 1750 4 ls st h
theorem g1750_5 {cl : pm_C} {ls st : List Value} {h : pm_H} : pm_go pm_prog cl 1750 5 ls st h = pm_ev pm_prog cl 1750 5 b1750_5 ls st h := pm_go_eq pm_prog cl 1750 5 ls st h
theorem g1750_6 {cl : pm_C} {ls st : List Value} {h : pm_H} : pm_go pm_prog cl 1750 6 ls st h = pm_ev pm_prog cl 1750 6 b1750_6 ls st h := pm_go_eq pm_prog cl 1750 6 ls st h
theorem g1750_7 {cl : pm_C} {ls st : List Value} {h : pm_H} : pm_go pm_prog cl 1750 7 ls st h = pm_ev pm_prog cl 1750 7 b1750_7 ls st h := pm_go_eq pm_prog cl 1750 7 ls st h
theorem g1750_8 {cl : pm_C} {ls st : List Value} {h : pm_H} : pm_go pm_prog cl 1750 8 ls st h = pm_ev pm_prog cl 1750 8 b1750_8 ls st h := pm_go_eq pm_prog cl 1750 8 ls st h
noncomputable def f1750_5_4 (S : wS) (x1 : Int32) (x2 : Int32) (x3 : Int32) (x4 : Int32) (x5 : Int32) (x6 : Int32) (x7 : Int32) (x8 : Int32) (x9 : Int32) (x10 : Int32) (x13 : Int64) (x15 : Int32) : Option ((Int32 × Int32 × Int32 × Int32 × Int32 × Int32 × Int32 × Int32 × Int32 × Int32 × wS) ⊕ ((Int32 × Int32 × Int32 × Int32 × Int32 × Int32 × Int32 × Int32 × Int32 × wS))) :=
  if 0 ≤ (x8 + x9) ∧ (x8 + x9) < 128 then
    some (.inl (x1, x2, x3, x4, x5, x6, x7, x8, x9, (x10 + 1), (sz (sl S (32, 0, 0) (x8 + x9) x13) (33, 0, 0) (x8 + x9) x15)))
  else none
noncomputable def f1750_b4 : Int32 × Int32 × Int32 × Int32 × Int32 × Int32 × Int32 × Int32 × Int32 × Int32 × wS → Option ((Int32 × Int32 × Int32 × Int32 × Int32 × Int32 × Int32 × Int32 × Int32 × Int32 × wS) ⊕ ((Int32 × Int32 × Int32 × Int32 × Int32 × Int32 × Int32 × Int32 × Int32 × wS))) := fun (x1, x2, x3, x4, x5, x6, x7, x8, x9, x10, S) =>
  if x10 ≤ x7 then
    (f1752 S x6 x2 x3 x4 x5 x9 x10).bind fun v2 =>
    (f1753 S (x1 - 1) v2).bind fun v3 =>
    if v3 ≤ 0 then
      some (.inl (x1, x2, x3, x4, x5, x6, x7, x8, x9, (x10 + 1), S))
    else
      (f1754 S x1 (x10 - x9)).bind fun v4 =>
      if v4 = 0 then
        some (.inl (x1, x2, x3, x4, x5, x6, x7, x8, x9, (x10 + 1), S))
      else
        if 0 ≤ (x8 + x10) ∧ (x8 + x10) < 128 then
          (f1755 S (x1 - 1) v2).bind fun v5 =>
          if 0 ≤ (x8 + x9) ∧ (x8 + x9) < 128 then
            if ((S.2 (32, 0, 0) (x8 + x10)) + v5) ≤ (S.2 (32, 0, 0) (x8 + x9)) then
              if ((S.2 (32, 0, 0) (x8 + x10)) + v5) = (S.2 (32, 0, 0) (x8 + x9)) then
                if ((S.1 (33, 0, 0) (x8 + x10)) + v3) < (S.1 (33, 0, 0) (x8 + x9)) then
                  f1750_5_4 S x1 x2 x3 x4 x5 x6 x7 x8 x9 x10 ((S.2 (32, 0, 0) (x8 + x10)) + v5) ((S.1 (33, 0, 0) (x8 + x10)) + v3)
                else
                  some (.inl (x1, x2, x3, x4, x5, x6, x7, x8, x9, (x10 + 1), S))
              else
                some (.inl (x1, x2, x3, x4, x5, x6, x7, x8, x9, (x10 + 1), S))
            else
              f1750_5_4 S x1 x2 x3 x4 x5 x6 x7 x8 x9 x10 ((S.2 (32, 0, 0) (x8 + x10)) + v5) ((S.1 (33, 0, 0) (x8 + x10)) + v3)
          else none
        else none
  else
    some (.inr (x1, x2, x3, x4, x5, x6, x7, x8, x9, S))
noncomputable def f1750_b3 : Int32 × Int32 × Int32 × Int32 × Int32 × Int32 × Int32 × Int32 × Int32 × wS → Option ((Int32 × Int32 × Int32 × Int32 × Int32 × Int32 × Int32 × Int32 × Int32 × wS) ⊕ ((wS))) := fun (x1, x2, x3, x4, x5, x6, x7, x8, x9, S) =>
  if x9 < 0 then
    some (.inr S)
  else
    if 0 ≤ ((x8 + x9) + 1) ∧ ((x8 + x9) + 1) < 128 then
      if 0 ≤ (x8 + x9) ∧ (x8 + x9) < 128 then
        (lp (f1750_b4) FU (x1, x2, x3, x4, x5, x6, x7, x8, x9, (x9 + 1), (sz (sl S (32, 0, 0) (x8 + x9) (S.2 (32, 0, 0) ((x8 + x9) + 1))) (33, 0, 0) (x8 + x9) (S.1 (33, 0, 0) ((x8 + x9) + 1))))).bind fun (v6, v7, v8, v9, v10, v11, v12, v13, v14, S15) =>
        some (.inl (v6, v7, v8, v9, v10, v11, v12, v13, (v14 + (-1)), S15))
      else none
    else none
noncomputable def f1750_2 (S : wS) (x1 : Int32) (x2 : Int32) (x3 : Int32) (x4 : Int32) (x5 : Int32) (x6 : Int32) (y0 : Int32) : Option (wS) :=
  if 0 ≤ ((32 * x1) + y0) ∧ ((32 * x1) + y0) < 128 then
    (lp (f1750_b3) FU (x1, x2, x3, x4, x5, x6, y0, (32 * x1), (y0 - 1), (sz (sl S (32, 0, 0) ((32 * x1) + y0) 0) (33, 0, 0) ((32 * x1) + y0) 0))).bind fun S16 =>
    some S16
  else none
/-- TimberHouseModel$Rips.reckon(IIIII)V -/
noncomputable def f1750 (S : wS) (x1 : Int32) (x2 : Int32) (x3 : Int32) (x4 : Int32) (x5 : Int32) : Option (wS) :=
  (f1751 S x1).bind fun v1 =>
  if v1 = 0 then
    f1750_2 S x1 x2 x3 x4 x5 v1 (x3 - x2)
  else
    f1750_2 S x1 x2 x3 x4 x5 v1 (x5 - x4)
def go1750_4 (A : wK → Nat) (h : pm_H) (D : Nat) (R : Outcome × pm_H) : Int32 × Int32 × Int32 × Int32 × Int32 × Int32 × Int32 × Int32 × Int32 × Int32 × wS → Prop := fun (x1, x2, x3, x4, x5, x6, x7, x8, x9, x10, S) => ∀ q11 q12 q13 q14 q15 : Value, pm_go pm_prog (pm_call pm_prog D) 1750 4 [.ref (A (0, 0, 0)), .int x1, .int x2, .int x3, .int x4, .int x5, .int x6, .int x7, .int x8, .int x9, .int x10, q11, q12, q13, q14, q15] [] (wput A Ri_d S h) = some R
def ex1750_4 (A : wK → Nat) (h : pm_H) (D : Nat) (R : Outcome × pm_H) : (Int32 × Int32 × Int32 × Int32 × Int32 × Int32 × Int32 × Int32 × Int32 × wS) → Prop := fun (x1, x2, x3, x4, x5, x6, x7, x8, x9, S) => ∀ q10 q11 q12 q13 q14 q15 : Value, pm_go pm_prog (pm_call pm_prog D) 1750 7 [.ref (A (0, 0, 0)), .int x1, .int x2, .int x3, .int x4, .int x5, .int x6, .int x7, .int x8, .int x9, q10, q11, q12, q13, q14, q15] [] (wput A Ri_d S h) = some R
theorem y1750_5_4 {A : wK → Nat} {h : pm_H} {m D : Nat} {R : Outcome × pm_H} {S : wS} {x1 : Int32} {x2 : Int32} {x3 : Int32} {x4 : Int32} {x5 : Int32} {x6 : Int32} {x7 : Int32} {x8 : Int32} {x9 : Int32} {x10 : Int32} {x13 : Int64} {x15 : Int32} {r : (Int32 × Int32 × Int32 × Int32 × Int32 × Int32 × Int32 × Int32 × Int32 × Int32 × wS) ⊕ ((Int32 × Int32 × Int32 × Int32 × Int32 × Int32 × Int32 × Int32 × Int32 × wS))} (hA : wok A Ri_d m) (hD : 2 ≤ D) (e : f1750_5_4 S x1 x2 x3 x4 x5 x6 x7 x8 x9 x10 x13 x15 = some r) (hc : Sum.elim (go1750_4 A h D R) (ex1750_4 A h D R) r) : ∀ q11 q12 : Value, pm_go pm_prog (pm_call pm_prog D) 1750 5 [.ref (A (0, 0, 0)), .int x1, .int x2, .int x3, .int x4, .int x5, .int x6, .int x7, .int x8, .int x9, .int x10, q11, q12, .long x13, pm_junk, .int x15] [] (wput A Ri_d S h) = some R := by
  intro q11 q12
  simp only [f1750_5_4] at e
  rw [g1750_5, b1750_5]
  by_cases k1 : 0 ≤ (x8 + x9) ∧ (x8 + x9) < 128
  · rw [if_pos k1] at e
    have e := Option.some.inj e; subst e
    dsimp only [Sum.elim_inl, go1750_4] at hc
    simp -implicitDefEqProofs (disch := first | assumption | exact Nat.le_of_ble_eq_true rfl | decide) only [b1750_0, g1750_1, b1750_1, g1750_6, b1750_6, g1750_7, b1750_7, g1750_8, b1750_8, pe_aload0, pe_iload1, pe_call2, pm_af_ret, pm_af_void, pm_af_thr, pe_istore6, pe_iload6, pe_if_eq, pe_iload5, pe_iload4, pe_isub, pe_goto, pe_iload3, pe_iload2, pe_goto_w, pe_istore7, pe_sipush, pe_imul, pe_istore8, pe_getfield, pe_iload8, pe_iload7, pe_iadd, pe_bipush, pe_lastore, pe_iastore, pe_istore9, pe_iload9, pe_if_lt, pe_laload, pe_iaload, pe_istore10, pe_iload10, pe_icmp_gt, pe_call8, pe_istore11, pe_iload11, pe_call3, pe_istore12, pe_iload12, pe_if_le, pe_ladd, pe_lstore13, pe_istore15, pe_lload13, pe_lcmp, pe_if_gt, pe_if_ne, pe_iload15, pe_icmp_ge, pe_iinc10, pe_iinc9, pe_return, pm_prog_1, pm_ob_some, Nat.reduceDiv, Nat.reduceMod, Nat.reduceMul, Nat.reduceAdd, Int.reduceToNat, pm_kill_i, pm_kill_r, pm_kill_n, pm_kill_j, pm_kill_l, pm_kill_d, pm_cats_nil, pm_cats_i, pm_cats_r, pm_cats_n, pm_cats_l, pm_cats_d, sz_1, sz_2, sl_1, sl_2, lc_0, lc_lt, lc_le, li_ne, Int32.reduceOfInt, Int64.reduceOfInt, Int32.reduceOfNat, Int32.reduceLT, Int32.reduceLE, Prod.mk.injEq, Nat.reduceEqDiff, reduceCtorEq, and_true, true_and, and_false, false_and, and_self, ite_true, ite_false, ↓reduceIte, not_true_eq_false, not_false_eq_true, pe_ri, pe_rz, Ri_g31 hA, Ri_g32 hA, Ri_r31 hA, Ri_w31 hA, Ri_l31 hA, Ri_r32 hA, Ri_w32 hA, Ri_l32 hA, hc]
  · rw [if_neg k1] at e; cases e
theorem y1750_b4 {A : wK → Nat} {h : pm_H} {m D : Nat} {R : Outcome × pm_H} (hA : wok A Ri_d m) (hD : 2 ≤ D) (a : Int32 × Int32 × Int32 × Int32 × Int32 × Int32 × Int32 × Int32 × Int32 × Int32 × wS) (r : (Int32 × Int32 × Int32 × Int32 × Int32 × Int32 × Int32 × Int32 × Int32 × Int32 × wS) ⊕ ((Int32 × Int32 × Int32 × Int32 × Int32 × Int32 × Int32 × Int32 × Int32 × wS))) (e : f1750_b4 a = some r) (hc : Sum.elim (go1750_4 A h D R) (ex1750_4 A h D R) r) : go1750_4 A h D R a := by
  obtain ⟨x1, x2, x3, x4, x5, x6, x7, x8, x9, x10, S⟩ := a
  dsimp only [go1750_4]
  intro q11 q12 q13 q14 q15
  simp only [f1750_b4] at e
  rw [g1750_4, b1750_4]
  by_cases k1 : x10 ≤ x7
  · rw [if_pos k1] at e
    obtain ⟨v2, k2, e⟩ := Option.bind_eq_some_iff.mp e
    try dsimp only at e
    have z2 := x1752 (D := D) (h := h) hA (by omega) k2
    obtain ⟨v3, k3, e⟩ := Option.bind_eq_some_iff.mp e
    try dsimp only at e
    have z3 := x1753 (D := D) (h := h) hA (by omega) k3
    by_cases k4 : v3 ≤ 0
    · rw [if_pos k4] at e
      have e := Option.some.inj e; subst e
      dsimp only [Sum.elim_inl, go1750_4] at hc
      simp -implicitDefEqProofs (disch := first | assumption | exact Nat.le_of_ble_eq_true rfl | decide) only [b1750_0, g1750_1, b1750_1, g1750_6, b1750_6, g1750_7, b1750_7, g1750_8, b1750_8, pe_aload0, pe_iload1, pe_call2, pm_af_ret, pm_af_void, pm_af_thr, pe_istore6, pe_iload6, pe_if_eq, pe_iload5, pe_iload4, pe_isub, pe_goto, pe_iload3, pe_iload2, pe_goto_w, pe_istore7, pe_sipush, pe_imul, pe_istore8, pe_getfield, pe_iload8, pe_iload7, pe_iadd, pe_bipush, pe_lastore, pe_iastore, pe_istore9, pe_iload9, pe_if_lt, pe_laload, pe_iaload, pe_istore10, pe_iload10, pe_icmp_gt, pe_call8, pe_istore11, pe_iload11, pe_call3, pe_istore12, pe_iload12, pe_if_le, pe_ladd, pe_lstore13, pe_istore15, pe_lload13, pe_lcmp, pe_if_gt, pe_if_ne, pe_iload15, pe_icmp_ge, pe_iinc10, pe_iinc9, pe_return, pm_prog_1, pm_ob_some, Nat.reduceDiv, Nat.reduceMod, Nat.reduceMul, Nat.reduceAdd, Int.reduceToNat, pm_kill_i, pm_kill_r, pm_kill_n, pm_kill_j, pm_kill_l, pm_kill_d, pm_cats_nil, pm_cats_i, pm_cats_r, pm_cats_n, pm_cats_l, pm_cats_d, sz_1, sz_2, sl_1, sl_2, lc_0, lc_lt, lc_le, li_ne, Int32.reduceOfInt, Int64.reduceOfInt, Int32.reduceOfNat, Int32.reduceLT, Int32.reduceLE, Prod.mk.injEq, Nat.reduceEqDiff, reduceCtorEq, and_true, true_and, and_false, false_and, and_self, ite_true, ite_false, ↓reduceIte, not_true_eq_false, not_false_eq_true, pe_ri, pe_rz, Ri_g31 hA, Ri_g32 hA, Ri_r31 hA, Ri_w31 hA, Ri_l31 hA, Ri_r32 hA, Ri_w32 hA, Ri_l32 hA, eq_true k1, z2, z3, eq_true k4, hc]
    · rw [if_neg k4] at e
      obtain ⟨v4, k5, e⟩ := Option.bind_eq_some_iff.mp e
      try dsimp only at e
      have z5 := x1754 (D := D) (h := h) hA (by omega) k5
      by_cases k6 : v4 = 0
      · rw [if_pos k6] at e
        have e := Option.some.inj e; subst e
        dsimp only [Sum.elim_inl, go1750_4] at hc
        simp -implicitDefEqProofs (disch := first | assumption | exact Nat.le_of_ble_eq_true rfl | decide) only [b1750_0, g1750_1, b1750_1, g1750_6, b1750_6, g1750_7, b1750_7, g1750_8, b1750_8, pe_aload0, pe_iload1, pe_call2, pm_af_ret, pm_af_void, pm_af_thr, pe_istore6, pe_iload6, pe_if_eq, pe_iload5, pe_iload4, pe_isub, pe_goto, pe_iload3, pe_iload2, pe_goto_w, pe_istore7, pe_sipush, pe_imul, pe_istore8, pe_getfield, pe_iload8, pe_iload7, pe_iadd, pe_bipush, pe_lastore, pe_iastore, pe_istore9, pe_iload9, pe_if_lt, pe_laload, pe_iaload, pe_istore10, pe_iload10, pe_icmp_gt, pe_call8, pe_istore11, pe_iload11, pe_call3, pe_istore12, pe_iload12, pe_if_le, pe_ladd, pe_lstore13, pe_istore15, pe_lload13, pe_lcmp, pe_if_gt, pe_if_ne, pe_iload15, pe_icmp_ge, pe_iinc10, pe_iinc9, pe_return, pm_prog_1, pm_ob_some, Nat.reduceDiv, Nat.reduceMod, Nat.reduceMul, Nat.reduceAdd, Int.reduceToNat, pm_kill_i, pm_kill_r, pm_kill_n, pm_kill_j, pm_kill_l, pm_kill_d, pm_cats_nil, pm_cats_i, pm_cats_r, pm_cats_n, pm_cats_l, pm_cats_d, sz_1, sz_2, sl_1, sl_2, lc_0, lc_lt, lc_le, li_ne, Int32.reduceOfInt, Int64.reduceOfInt, Int32.reduceOfNat, Int32.reduceLT, Int32.reduceLE, Prod.mk.injEq, Nat.reduceEqDiff, reduceCtorEq, and_true, true_and, and_false, false_and, and_self, ite_true, ite_false, ↓reduceIte, not_true_eq_false, not_false_eq_true, pe_ri, pe_rz, Ri_g31 hA, Ri_g32 hA, Ri_r31 hA, Ri_w31 hA, Ri_l31 hA, Ri_r32 hA, Ri_w32 hA, Ri_l32 hA, eq_true k1, z2, z3, eq_false k4, z5, eq_true k6, hc]
      · rw [if_neg k6] at e
        by_cases k7 : 0 ≤ (x8 + x10) ∧ (x8 + x10) < 128
        · rw [if_pos k7] at e
          obtain ⟨v5, k8, e⟩ := Option.bind_eq_some_iff.mp e
          try dsimp only at e
          have z8 := x1755 (D := D) (h := h) hA (by omega) k8
          by_cases k9 : 0 ≤ (x8 + x9) ∧ (x8 + x9) < 128
          · rw [if_pos k9] at e
            by_cases k10 : ((S.2 (32, 0, 0) (x8 + x10)) + v5) ≤ (S.2 (32, 0, 0) (x8 + x9))
            · rw [if_pos k10] at e
              by_cases k11 : ((S.2 (32, 0, 0) (x8 + x10)) + v5) = (S.2 (32, 0, 0) (x8 + x9))
              · rw [if_pos k11] at e
                by_cases k12 : ((S.1 (33, 0, 0) (x8 + x10)) + v3) < (S.1 (33, 0, 0) (x8 + x9))
                · rw [if_pos k12] at e
                  have k13 := y1750_5_4 (h := h) hA hD e hc
                  simp -implicitDefEqProofs (disch := first | assumption | exact Nat.le_of_ble_eq_true rfl | decide) only [b1750_0, g1750_1, b1750_1, g1750_6, b1750_6, g1750_7, b1750_7, g1750_8, b1750_8, pe_aload0, pe_iload1, pe_call2, pm_af_ret, pm_af_void, pm_af_thr, pe_istore6, pe_iload6, pe_if_eq, pe_iload5, pe_iload4, pe_isub, pe_goto, pe_iload3, pe_iload2, pe_goto_w, pe_istore7, pe_sipush, pe_imul, pe_istore8, pe_getfield, pe_iload8, pe_iload7, pe_iadd, pe_bipush, pe_lastore, pe_iastore, pe_istore9, pe_iload9, pe_if_lt, pe_laload, pe_iaload, pe_istore10, pe_iload10, pe_icmp_gt, pe_call8, pe_istore11, pe_iload11, pe_call3, pe_istore12, pe_iload12, pe_if_le, pe_ladd, pe_lstore13, pe_istore15, pe_lload13, pe_lcmp, pe_if_gt, pe_if_ne, pe_iload15, pe_icmp_ge, pe_iinc10, pe_iinc9, pe_return, pm_prog_1, pm_ob_some, Nat.reduceDiv, Nat.reduceMod, Nat.reduceMul, Nat.reduceAdd, Int.reduceToNat, pm_kill_i, pm_kill_r, pm_kill_n, pm_kill_j, pm_kill_l, pm_kill_d, pm_cats_nil, pm_cats_i, pm_cats_r, pm_cats_n, pm_cats_l, pm_cats_d, sz_1, sz_2, sl_1, sl_2, lc_0, lc_lt, lc_le, li_ne, Int32.reduceOfInt, Int64.reduceOfInt, Int32.reduceOfNat, Int32.reduceLT, Int32.reduceLE, Prod.mk.injEq, Nat.reduceEqDiff, reduceCtorEq, and_true, true_and, and_false, false_and, and_self, ite_true, ite_false, ↓reduceIte, not_true_eq_false, not_false_eq_true, pe_ri, pe_rz, Ri_g31 hA, Ri_g32 hA, Ri_r31 hA, Ri_w31 hA, Ri_l31 hA, Ri_r32 hA, Ri_w32 hA, Ri_l32 hA, eq_true k1, z2, z3, eq_false k4, z5, eq_false k6, z8, eq_true k10, eq_true k11, eq_true k12, k13]
                · rw [if_neg k12] at e
                  have e := Option.some.inj e; subst e
                  dsimp only [Sum.elim_inl, go1750_4] at hc
                  simp -implicitDefEqProofs (disch := first | assumption | exact Nat.le_of_ble_eq_true rfl | decide) only [b1750_0, g1750_1, b1750_1, g1750_6, b1750_6, g1750_7, b1750_7, g1750_8, b1750_8, pe_aload0, pe_iload1, pe_call2, pm_af_ret, pm_af_void, pm_af_thr, pe_istore6, pe_iload6, pe_if_eq, pe_iload5, pe_iload4, pe_isub, pe_goto, pe_iload3, pe_iload2, pe_goto_w, pe_istore7, pe_sipush, pe_imul, pe_istore8, pe_getfield, pe_iload8, pe_iload7, pe_iadd, pe_bipush, pe_lastore, pe_iastore, pe_istore9, pe_iload9, pe_if_lt, pe_laload, pe_iaload, pe_istore10, pe_iload10, pe_icmp_gt, pe_call8, pe_istore11, pe_iload11, pe_call3, pe_istore12, pe_iload12, pe_if_le, pe_ladd, pe_lstore13, pe_istore15, pe_lload13, pe_lcmp, pe_if_gt, pe_if_ne, pe_iload15, pe_icmp_ge, pe_iinc10, pe_iinc9, pe_return, pm_prog_1, pm_ob_some, Nat.reduceDiv, Nat.reduceMod, Nat.reduceMul, Nat.reduceAdd, Int.reduceToNat, pm_kill_i, pm_kill_r, pm_kill_n, pm_kill_j, pm_kill_l, pm_kill_d, pm_cats_nil, pm_cats_i, pm_cats_r, pm_cats_n, pm_cats_l, pm_cats_d, sz_1, sz_2, sl_1, sl_2, lc_0, lc_lt, lc_le, li_ne, Int32.reduceOfInt, Int64.reduceOfInt, Int32.reduceOfNat, Int32.reduceLT, Int32.reduceLE, Prod.mk.injEq, Nat.reduceEqDiff, reduceCtorEq, and_true, true_and, and_false, false_and, and_self, ite_true, ite_false, ↓reduceIte, not_true_eq_false, not_false_eq_true, pe_ri, pe_rz, Ri_g31 hA, Ri_g32 hA, Ri_r31 hA, Ri_w31 hA, Ri_l31 hA, Ri_r32 hA, Ri_w32 hA, Ri_l32 hA, eq_true k1, z2, z3, eq_false k4, z5, eq_false k6, z8, eq_true k10, eq_true k11, eq_false k12, hc]
              · rw [if_neg k11] at e
                have e := Option.some.inj e; subst e
                dsimp only [Sum.elim_inl, go1750_4] at hc
                simp -implicitDefEqProofs (disch := first | assumption | exact Nat.le_of_ble_eq_true rfl | decide) only [b1750_0, g1750_1, b1750_1, g1750_6, b1750_6, g1750_7, b1750_7, g1750_8, b1750_8, pe_aload0, pe_iload1, pe_call2, pm_af_ret, pm_af_void, pm_af_thr, pe_istore6, pe_iload6, pe_if_eq, pe_iload5, pe_iload4, pe_isub, pe_goto, pe_iload3, pe_iload2, pe_goto_w, pe_istore7, pe_sipush, pe_imul, pe_istore8, pe_getfield, pe_iload8, pe_iload7, pe_iadd, pe_bipush, pe_lastore, pe_iastore, pe_istore9, pe_iload9, pe_if_lt, pe_laload, pe_iaload, pe_istore10, pe_iload10, pe_icmp_gt, pe_call8, pe_istore11, pe_iload11, pe_call3, pe_istore12, pe_iload12, pe_if_le, pe_ladd, pe_lstore13, pe_istore15, pe_lload13, pe_lcmp, pe_if_gt, pe_if_ne, pe_iload15, pe_icmp_ge, pe_iinc10, pe_iinc9, pe_return, pm_prog_1, pm_ob_some, Nat.reduceDiv, Nat.reduceMod, Nat.reduceMul, Nat.reduceAdd, Int.reduceToNat, pm_kill_i, pm_kill_r, pm_kill_n, pm_kill_j, pm_kill_l, pm_kill_d, pm_cats_nil, pm_cats_i, pm_cats_r, pm_cats_n, pm_cats_l, pm_cats_d, sz_1, sz_2, sl_1, sl_2, lc_0, lc_lt, lc_le, li_ne, Int32.reduceOfInt, Int64.reduceOfInt, Int32.reduceOfNat, Int32.reduceLT, Int32.reduceLE, Prod.mk.injEq, Nat.reduceEqDiff, reduceCtorEq, and_true, true_and, and_false, false_and, and_self, ite_true, ite_false, ↓reduceIte, not_true_eq_false, not_false_eq_true, pe_ri, pe_rz, Ri_g31 hA, Ri_g32 hA, Ri_r31 hA, Ri_w31 hA, Ri_l31 hA, Ri_r32 hA, Ri_w32 hA, Ri_l32 hA, eq_true k1, z2, z3, eq_false k4, z5, eq_false k6, z8, eq_true k10, eq_false k11, hc]
            · rw [if_neg k10] at e
              have k14 := y1750_5_4 (h := h) hA hD e hc
              simp -implicitDefEqProofs (disch := first | assumption | exact Nat.le_of_ble_eq_true rfl | decide) only [b1750_0, g1750_1, b1750_1, g1750_6, b1750_6, g1750_7, b1750_7, g1750_8, b1750_8, pe_aload0, pe_iload1, pe_call2, pm_af_ret, pm_af_void, pm_af_thr, pe_istore6, pe_iload6, pe_if_eq, pe_iload5, pe_iload4, pe_isub, pe_goto, pe_iload3, pe_iload2, pe_goto_w, pe_istore7, pe_sipush, pe_imul, pe_istore8, pe_getfield, pe_iload8, pe_iload7, pe_iadd, pe_bipush, pe_lastore, pe_iastore, pe_istore9, pe_iload9, pe_if_lt, pe_laload, pe_iaload, pe_istore10, pe_iload10, pe_icmp_gt, pe_call8, pe_istore11, pe_iload11, pe_call3, pe_istore12, pe_iload12, pe_if_le, pe_ladd, pe_lstore13, pe_istore15, pe_lload13, pe_lcmp, pe_if_gt, pe_if_ne, pe_iload15, pe_icmp_ge, pe_iinc10, pe_iinc9, pe_return, pm_prog_1, pm_ob_some, Nat.reduceDiv, Nat.reduceMod, Nat.reduceMul, Nat.reduceAdd, Int.reduceToNat, pm_kill_i, pm_kill_r, pm_kill_n, pm_kill_j, pm_kill_l, pm_kill_d, pm_cats_nil, pm_cats_i, pm_cats_r, pm_cats_n, pm_cats_l, pm_cats_d, sz_1, sz_2, sl_1, sl_2, lc_0, lc_lt, lc_le, li_ne, Int32.reduceOfInt, Int64.reduceOfInt, Int32.reduceOfNat, Int32.reduceLT, Int32.reduceLE, Prod.mk.injEq, Nat.reduceEqDiff, reduceCtorEq, and_true, true_and, and_false, false_and, and_self, ite_true, ite_false, ↓reduceIte, not_true_eq_false, not_false_eq_true, pe_ri, pe_rz, Ri_g31 hA, Ri_g32 hA, Ri_r31 hA, Ri_w31 hA, Ri_l31 hA, Ri_r32 hA, Ri_w32 hA, Ri_l32 hA, eq_true k1, z2, z3, eq_false k4, z5, eq_false k6, z8, eq_false k10, k14]
          · rw [if_neg k9] at e; cases e
        · rw [if_neg k7] at e; cases e
  · rw [if_neg k1] at e
    have e := Option.some.inj e; subst e
    dsimp only [Sum.elim_inr, ex1750_4] at hc
    simp -implicitDefEqProofs (disch := first | assumption | exact Nat.le_of_ble_eq_true rfl | decide) only [b1750_0, g1750_1, b1750_1, g1750_6, b1750_6, g1750_7, b1750_7, g1750_8, b1750_8, pe_aload0, pe_iload1, pe_call2, pm_af_ret, pm_af_void, pm_af_thr, pe_istore6, pe_iload6, pe_if_eq, pe_iload5, pe_iload4, pe_isub, pe_goto, pe_iload3, pe_iload2, pe_goto_w, pe_istore7, pe_sipush, pe_imul, pe_istore8, pe_getfield, pe_iload8, pe_iload7, pe_iadd, pe_bipush, pe_lastore, pe_iastore, pe_istore9, pe_iload9, pe_if_lt, pe_laload, pe_iaload, pe_istore10, pe_iload10, pe_icmp_gt, pe_call8, pe_istore11, pe_iload11, pe_call3, pe_istore12, pe_iload12, pe_if_le, pe_ladd, pe_lstore13, pe_istore15, pe_lload13, pe_lcmp, pe_if_gt, pe_if_ne, pe_iload15, pe_icmp_ge, pe_iinc10, pe_iinc9, pe_return, pm_prog_1, pm_ob_some, Nat.reduceDiv, Nat.reduceMod, Nat.reduceMul, Nat.reduceAdd, Int.reduceToNat, pm_kill_i, pm_kill_r, pm_kill_n, pm_kill_j, pm_kill_l, pm_kill_d, pm_cats_nil, pm_cats_i, pm_cats_r, pm_cats_n, pm_cats_l, pm_cats_d, sz_1, sz_2, sl_1, sl_2, lc_0, lc_lt, lc_le, li_ne, Int32.reduceOfInt, Int64.reduceOfInt, Int32.reduceOfNat, Int32.reduceLT, Int32.reduceLE, Prod.mk.injEq, Nat.reduceEqDiff, reduceCtorEq, and_true, true_and, and_false, false_and, and_self, ite_true, ite_false, ↓reduceIte, not_true_eq_false, not_false_eq_true, pe_ri, pe_rz, Ri_g31 hA, Ri_g32 hA, Ri_r31 hA, Ri_w31 hA, Ri_l31 hA, Ri_r32 hA, Ri_w32 hA, Ri_l32 hA, eq_false k1, hc]
theorem z1750_4 {A : wK → Nat} {h : pm_H} {m D : Nat} {R : Outcome × pm_H} (hA : wok A Ri_d m) (hD : 2 ≤ D) {n : Nat} {a : Int32 × Int32 × Int32 × Int32 × Int32 × Int32 × Int32 × Int32 × Int32 × Int32 × wS} {b : (Int32 × Int32 × Int32 × Int32 × Int32 × Int32 × Int32 × Int32 × Int32 × wS)} (e : lp (f1750_b4) n a = some b) (hx : ex1750_4 A h D R b) : go1750_4 A h D R a := lp_run (fun a r => y1750_b4 hA hD a r) n a b e hx
def go1750_3 (A : wK → Nat) (h : pm_H) (D : Nat) (R : Outcome × pm_H) : Int32 × Int32 × Int32 × Int32 × Int32 × Int32 × Int32 × Int32 × Int32 × wS → Prop := fun (x1, x2, x3, x4, x5, x6, x7, x8, x9, S) => ∀ q10 q11 q12 q13 q14 q15 : Value, pm_go pm_prog (pm_call pm_prog D) 1750 3 [.ref (A (0, 0, 0)), .int x1, .int x2, .int x3, .int x4, .int x5, .int x6, .int x7, .int x8, .int x9, q10, q11, q12, q13, q14, q15] [] (wput A Ri_d S h) = some R
def ex1750_3 (A : wK → Nat) (h : pm_H) (D : Nat) (R : Outcome × pm_H) : (wS) → Prop := fun S => ∀ q1 q2 q3 q4 q5 q6 q7 q8 q9 q10 q11 q12 q13 q14 q15 : Value, pm_go pm_prog (pm_call pm_prog D) 1750 8 [.ref (A (0, 0, 0)), q1, q2, q3, q4, q5, q6, q7, q8, q9, q10, q11, q12, q13, q14, q15] [] (wput A Ri_d S h) = some R
theorem y1750_b3 {A : wK → Nat} {h : pm_H} {m D : Nat} {R : Outcome × pm_H} (hA : wok A Ri_d m) (hD : 2 ≤ D) (a : Int32 × Int32 × Int32 × Int32 × Int32 × Int32 × Int32 × Int32 × Int32 × wS) (r : (Int32 × Int32 × Int32 × Int32 × Int32 × Int32 × Int32 × Int32 × Int32 × wS) ⊕ ((wS))) (e : f1750_b3 a = some r) (hc : Sum.elim (go1750_3 A h D R) (ex1750_3 A h D R) r) : go1750_3 A h D R a := by
  obtain ⟨x1, x2, x3, x4, x5, x6, x7, x8, x9, S⟩ := a
  dsimp only [go1750_3]
  intro q10 q11 q12 q13 q14 q15
  simp only [f1750_b3] at e
  rw [g1750_3, b1750_3]
  by_cases k1 : x9 < 0
  · rw [if_pos k1] at e
    have e := Option.some.inj e; subst e
    dsimp only [Sum.elim_inr, ex1750_3] at hc
    simp -implicitDefEqProofs (disch := first | assumption | exact Nat.le_of_ble_eq_true rfl | decide) only [b1750_0, g1750_1, b1750_1, g1750_6, b1750_6, g1750_7, b1750_7, g1750_8, b1750_8, pe_aload0, pe_iload1, pe_call2, pm_af_ret, pm_af_void, pm_af_thr, pe_istore6, pe_iload6, pe_if_eq, pe_iload5, pe_iload4, pe_isub, pe_goto, pe_iload3, pe_iload2, pe_goto_w, pe_istore7, pe_sipush, pe_imul, pe_istore8, pe_getfield, pe_iload8, pe_iload7, pe_iadd, pe_bipush, pe_lastore, pe_iastore, pe_istore9, pe_iload9, pe_if_lt, pe_laload, pe_iaload, pe_istore10, pe_iload10, pe_icmp_gt, pe_call8, pe_istore11, pe_iload11, pe_call3, pe_istore12, pe_iload12, pe_if_le, pe_ladd, pe_lstore13, pe_istore15, pe_lload13, pe_lcmp, pe_if_gt, pe_if_ne, pe_iload15, pe_icmp_ge, pe_iinc10, pe_iinc9, pe_return, pm_prog_1, pm_ob_some, Nat.reduceDiv, Nat.reduceMod, Nat.reduceMul, Nat.reduceAdd, Int.reduceToNat, pm_kill_i, pm_kill_r, pm_kill_n, pm_kill_j, pm_kill_l, pm_kill_d, pm_cats_nil, pm_cats_i, pm_cats_r, pm_cats_n, pm_cats_l, pm_cats_d, sz_1, sz_2, sl_1, sl_2, lc_0, lc_lt, lc_le, li_ne, Int32.reduceOfInt, Int64.reduceOfInt, Int32.reduceOfNat, Int32.reduceLT, Int32.reduceLE, Prod.mk.injEq, Nat.reduceEqDiff, reduceCtorEq, and_true, true_and, and_false, false_and, and_self, ite_true, ite_false, ↓reduceIte, not_true_eq_false, not_false_eq_true, pe_ri, pe_rz, Ri_g31 hA, Ri_g32 hA, Ri_r31 hA, Ri_w31 hA, Ri_l31 hA, Ri_r32 hA, Ri_w32 hA, Ri_l32 hA, eq_true k1, hc]
  · rw [if_neg k1] at e
    by_cases k2 : 0 ≤ ((x8 + x9) + 1) ∧ ((x8 + x9) + 1) < 128
    · rw [if_pos k2] at e
      by_cases k3 : 0 ≤ (x8 + x9) ∧ (x8 + x9) < 128
      · rw [if_pos k3] at e
        obtain ⟨⟨v6, v7, v8, v9, v10, v11, v12, v13, v14, S15⟩, k4, e⟩ := Option.bind_eq_some_iff.mp e
        try dsimp only at e
        try simp -implicitDefEqProofs (disch := first | assumption | exact Nat.le_of_ble_eq_true rfl | decide) only [b1750_0, g1750_1, b1750_1, g1750_6, b1750_6, g1750_7, b1750_7, g1750_8, b1750_8, pe_aload0, pe_iload1, pe_call2, pm_af_ret, pm_af_void, pm_af_thr, pe_istore6, pe_iload6, pe_if_eq, pe_iload5, pe_iload4, pe_isub, pe_goto, pe_iload3, pe_iload2, pe_goto_w, pe_istore7, pe_sipush, pe_imul, pe_istore8, pe_getfield, pe_iload8, pe_iload7, pe_iadd, pe_bipush, pe_lastore, pe_iastore, pe_istore9, pe_iload9, pe_if_lt, pe_laload, pe_iaload, pe_istore10, pe_iload10, pe_icmp_gt, pe_call8, pe_istore11, pe_iload11, pe_call3, pe_istore12, pe_iload12, pe_if_le, pe_ladd, pe_lstore13, pe_istore15, pe_lload13, pe_lcmp, pe_if_gt, pe_if_ne, pe_iload15, pe_icmp_ge, pe_iinc10, pe_iinc9, pe_return, pm_prog_1, pm_ob_some, Nat.reduceDiv, Nat.reduceMod, Nat.reduceMul, Nat.reduceAdd, Int.reduceToNat, pm_kill_i, pm_kill_r, pm_kill_n, pm_kill_j, pm_kill_l, pm_kill_d, pm_cats_nil, pm_cats_i, pm_cats_r, pm_cats_n, pm_cats_l, pm_cats_d, sz_1, sz_2, sl_1, sl_2, lc_0, lc_lt, lc_le, li_ne, Int32.reduceOfInt, Int64.reduceOfInt, Int32.reduceOfNat, Int32.reduceLT, Int32.reduceLE, Prod.mk.injEq, Nat.reduceEqDiff, reduceCtorEq, and_true, true_and, and_false, false_and, and_self, ite_true, ite_false, ↓reduceIte, not_true_eq_false, not_false_eq_true, pe_ri, pe_rz, Ri_g31 hA, Ri_g32 hA, Ri_r31 hA, Ri_w31 hA, Ri_l31 hA, Ri_r32 hA, Ri_w32 hA, Ri_l32 hA, eq_false k1]
        refine z1750_4 hA hD k4 ?_ _ _ _ _ _
        dsimp only [ex1750_4]
        intro q10 q11 q12 q13 q14 q15
        have e := Option.some.inj e; subst e
        dsimp only [Sum.elim_inl, go1750_3] at hc
        simp -implicitDefEqProofs (disch := first | assumption | exact Nat.le_of_ble_eq_true rfl | decide) only [b1750_0, g1750_1, b1750_1, g1750_6, b1750_6, g1750_7, b1750_7, g1750_8, b1750_8, pe_aload0, pe_iload1, pe_call2, pm_af_ret, pm_af_void, pm_af_thr, pe_istore6, pe_iload6, pe_if_eq, pe_iload5, pe_iload4, pe_isub, pe_goto, pe_iload3, pe_iload2, pe_goto_w, pe_istore7, pe_sipush, pe_imul, pe_istore8, pe_getfield, pe_iload8, pe_iload7, pe_iadd, pe_bipush, pe_lastore, pe_iastore, pe_istore9, pe_iload9, pe_if_lt, pe_laload, pe_iaload, pe_istore10, pe_iload10, pe_icmp_gt, pe_call8, pe_istore11, pe_iload11, pe_call3, pe_istore12, pe_iload12, pe_if_le, pe_ladd, pe_lstore13, pe_istore15, pe_lload13, pe_lcmp, pe_if_gt, pe_if_ne, pe_iload15, pe_icmp_ge, pe_iinc10, pe_iinc9, pe_return, pm_prog_1, pm_ob_some, Nat.reduceDiv, Nat.reduceMod, Nat.reduceMul, Nat.reduceAdd, Int.reduceToNat, pm_kill_i, pm_kill_r, pm_kill_n, pm_kill_j, pm_kill_l, pm_kill_d, pm_cats_nil, pm_cats_i, pm_cats_r, pm_cats_n, pm_cats_l, pm_cats_d, sz_1, sz_2, sl_1, sl_2, lc_0, lc_lt, lc_le, li_ne, Int32.reduceOfInt, Int64.reduceOfInt, Int32.reduceOfNat, Int32.reduceLT, Int32.reduceLE, Prod.mk.injEq, Nat.reduceEqDiff, reduceCtorEq, and_true, true_and, and_false, false_and, and_self, ite_true, ite_false, ↓reduceIte, not_true_eq_false, not_false_eq_true, pe_ri, pe_rz, Ri_g31 hA, Ri_g32 hA, Ri_r31 hA, Ri_w31 hA, Ri_l31 hA, Ri_r32 hA, Ri_w32 hA, Ri_l32 hA, eq_false k1, hc]
      · rw [if_neg k3] at e; cases e
    · rw [if_neg k2] at e; cases e
theorem z1750_3 {A : wK → Nat} {h : pm_H} {m D : Nat} {R : Outcome × pm_H} (hA : wok A Ri_d m) (hD : 2 ≤ D) {n : Nat} {a : Int32 × Int32 × Int32 × Int32 × Int32 × Int32 × Int32 × Int32 × Int32 × wS} {b : (wS)} (e : lp (f1750_b3) n a = some b) (hx : ex1750_3 A h D R b) : go1750_3 A h D R a := lp_run (fun a r => y1750_b3 hA hD a r) n a b e hx
theorem y1750_2 {A : wK → Nat} {h : pm_H} {m D : Nat} {S : wS} {x1 : Int32} {x2 : Int32} {x3 : Int32} {x4 : Int32} {x5 : Int32} {x6 : Int32} {y0 : Int32} {r : wS} (hA : wok A Ri_d m) (hD : 2 ≤ D) (e : f1750_2 S x1 x2 x3 x4 x5 x6 y0 = some r) : ∀ q7 q8 q9 q10 q11 q12 q13 q14 q15 : Value, pm_go pm_prog (pm_call pm_prog D) 1750 2 [.ref (A (0, 0, 0)), .int x1, .int x2, .int x3, .int x4, .int x5, .int x6, q7, q8, q9, q10, q11, q12, q13, q14, q15] [.int y0] (wput A Ri_d S h) = some (.returned none, (wput A Ri_d r h)) := by
  intro q7 q8 q9 q10 q11 q12 q13 q14 q15
  simp only [f1750_2] at e
  rw [g1750_2, b1750_2]
  by_cases k1 : 0 ≤ ((32 * x1) + y0) ∧ ((32 * x1) + y0) < 128
  · rw [if_pos k1] at e
    obtain ⟨S16, k2, e⟩ := Option.bind_eq_some_iff.mp e
    try dsimp only at e
    try simp -implicitDefEqProofs (disch := first | assumption | exact Nat.le_of_ble_eq_true rfl | decide) only [b1750_0, g1750_1, b1750_1, g1750_6, b1750_6, g1750_7, b1750_7, g1750_8, b1750_8, pe_aload0, pe_iload1, pe_call2, pm_af_ret, pm_af_void, pm_af_thr, pe_istore6, pe_iload6, pe_if_eq, pe_iload5, pe_iload4, pe_isub, pe_goto, pe_iload3, pe_iload2, pe_goto_w, pe_istore7, pe_sipush, pe_imul, pe_istore8, pe_getfield, pe_iload8, pe_iload7, pe_iadd, pe_bipush, pe_lastore, pe_iastore, pe_istore9, pe_iload9, pe_if_lt, pe_laload, pe_iaload, pe_istore10, pe_iload10, pe_icmp_gt, pe_call8, pe_istore11, pe_iload11, pe_call3, pe_istore12, pe_iload12, pe_if_le, pe_ladd, pe_lstore13, pe_istore15, pe_lload13, pe_lcmp, pe_if_gt, pe_if_ne, pe_iload15, pe_icmp_ge, pe_iinc10, pe_iinc9, pe_return, pm_prog_1, pm_ob_some, Nat.reduceDiv, Nat.reduceMod, Nat.reduceMul, Nat.reduceAdd, Int.reduceToNat, pm_kill_i, pm_kill_r, pm_kill_n, pm_kill_j, pm_kill_l, pm_kill_d, pm_cats_nil, pm_cats_i, pm_cats_r, pm_cats_n, pm_cats_l, pm_cats_d, sz_1, sz_2, sl_1, sl_2, lc_0, lc_lt, lc_le, li_ne, Int32.reduceOfInt, Int64.reduceOfInt, Int32.reduceOfNat, Int32.reduceLT, Int32.reduceLE, Prod.mk.injEq, Nat.reduceEqDiff, reduceCtorEq, and_true, true_and, and_false, false_and, and_self, ite_true, ite_false, ↓reduceIte, not_true_eq_false, not_false_eq_true, pe_ri, pe_rz, Ri_g31 hA, Ri_g32 hA, Ri_r31 hA, Ri_w31 hA, Ri_l31 hA, Ri_r32 hA, Ri_w32 hA, Ri_l32 hA]
    refine z1750_3 hA hD k2 ?_ _ _ _ _ _ _
    dsimp only [ex1750_3]
    intro q1 q2 q3 q4 q5 q6 q7 q8 q9 q10 q11 q12 q13 q14 q15
    have e := Option.some.inj e; subst e
    simp -implicitDefEqProofs (disch := first | assumption | exact Nat.le_of_ble_eq_true rfl | decide) only [b1750_0, g1750_1, b1750_1, g1750_6, b1750_6, g1750_7, b1750_7, g1750_8, b1750_8, pe_aload0, pe_iload1, pe_call2, pm_af_ret, pm_af_void, pm_af_thr, pe_istore6, pe_iload6, pe_if_eq, pe_iload5, pe_iload4, pe_isub, pe_goto, pe_iload3, pe_iload2, pe_goto_w, pe_istore7, pe_sipush, pe_imul, pe_istore8, pe_getfield, pe_iload8, pe_iload7, pe_iadd, pe_bipush, pe_lastore, pe_iastore, pe_istore9, pe_iload9, pe_if_lt, pe_laload, pe_iaload, pe_istore10, pe_iload10, pe_icmp_gt, pe_call8, pe_istore11, pe_iload11, pe_call3, pe_istore12, pe_iload12, pe_if_le, pe_ladd, pe_lstore13, pe_istore15, pe_lload13, pe_lcmp, pe_if_gt, pe_if_ne, pe_iload15, pe_icmp_ge, pe_iinc10, pe_iinc9, pe_return, pm_prog_1, pm_ob_some, Nat.reduceDiv, Nat.reduceMod, Nat.reduceMul, Nat.reduceAdd, Int.reduceToNat, pm_kill_i, pm_kill_r, pm_kill_n, pm_kill_j, pm_kill_l, pm_kill_d, pm_cats_nil, pm_cats_i, pm_cats_r, pm_cats_n, pm_cats_l, pm_cats_d, sz_1, sz_2, sl_1, sl_2, lc_0, lc_lt, lc_le, li_ne, Int32.reduceOfInt, Int64.reduceOfInt, Int32.reduceOfNat, Int32.reduceLT, Int32.reduceLE, Prod.mk.injEq, Nat.reduceEqDiff, reduceCtorEq, and_true, true_and, and_false, false_and, and_self, ite_true, ite_false, ↓reduceIte, not_true_eq_false, not_false_eq_true, pe_ri, pe_rz, Ri_g31 hA, Ri_g32 hA, Ri_r31 hA, Ri_w31 hA, Ri_l31 hA, Ri_r32 hA, Ri_w32 hA, Ri_l32 hA]
  · rw [if_neg k1] at e; cases e
theorem x1750 {A : wK → Nat} {h : pm_H} {m D : Nat} {S : wS} {x1 : Int32} {x2 : Int32} {x3 : Int32} {x4 : Int32} {x5 : Int32} {r : wS} (hA : wok A Ri_d m) (hD : 3 ≤ D) (e : f1750 S x1 x2 x3 x4 x5 = some r) : pm_call pm_prog D 1750 [.ref (A (0, 0, 0)), .int x1, .int x2, .int x3, .int x4, .int x5] (wput A Ri_d S h) = some (.returned none, (wput A Ri_d r h)) := by
  obtain ⟨D, rfl⟩ : ∃ D', D = D' + 1 := ⟨D - 1, by omega⟩
  have hD : 2 ≤ D := by omega
  rw [c1750 (Ri_c hA), b1750_0]
  simp only [f1750] at e
  obtain ⟨v1, k1, e⟩ := Option.bind_eq_some_iff.mp e
  try dsimp only at e
  have z1 := x1751 (D := D) (h := h) hA (by omega) k1
  by_cases k2 : v1 = 0
  · rw [if_pos k2] at e
    have k3 := y1750_2 (h := h) hA hD e
    simp -implicitDefEqProofs (disch := first | assumption | exact Nat.le_of_ble_eq_true rfl | decide) only [b1750_0, g1750_1, b1750_1, g1750_6, b1750_6, g1750_7, b1750_7, g1750_8, b1750_8, pe_aload0, pe_iload1, pe_call2, pm_af_ret, pm_af_void, pm_af_thr, pe_istore6, pe_iload6, pe_if_eq, pe_iload5, pe_iload4, pe_isub, pe_goto, pe_iload3, pe_iload2, pe_goto_w, pe_istore7, pe_sipush, pe_imul, pe_istore8, pe_getfield, pe_iload8, pe_iload7, pe_iadd, pe_bipush, pe_lastore, pe_iastore, pe_istore9, pe_iload9, pe_if_lt, pe_laload, pe_iaload, pe_istore10, pe_iload10, pe_icmp_gt, pe_call8, pe_istore11, pe_iload11, pe_call3, pe_istore12, pe_iload12, pe_if_le, pe_ladd, pe_lstore13, pe_istore15, pe_lload13, pe_lcmp, pe_if_gt, pe_if_ne, pe_iload15, pe_icmp_ge, pe_iinc10, pe_iinc9, pe_return, pm_prog_1, pm_ob_some, Nat.reduceDiv, Nat.reduceMod, Nat.reduceMul, Nat.reduceAdd, Int.reduceToNat, pm_kill_i, pm_kill_r, pm_kill_n, pm_kill_j, pm_kill_l, pm_kill_d, pm_cats_nil, pm_cats_i, pm_cats_r, pm_cats_n, pm_cats_l, pm_cats_d, sz_1, sz_2, sl_1, sl_2, lc_0, lc_lt, lc_le, li_ne, Int32.reduceOfInt, Int64.reduceOfInt, Int32.reduceOfNat, Int32.reduceLT, Int32.reduceLE, Prod.mk.injEq, Nat.reduceEqDiff, reduceCtorEq, and_true, true_and, and_false, false_and, and_self, ite_true, ite_false, ↓reduceIte, not_true_eq_false, not_false_eq_true, pe_ri, pe_rz, Ri_g31 hA, Ri_g32 hA, Ri_r31 hA, Ri_w31 hA, Ri_l31 hA, Ri_r32 hA, Ri_w32 hA, Ri_l32 hA, z1, eq_true k2, k3]
  · rw [if_neg k2] at e
    have k4 := y1750_2 (h := h) hA hD e
    simp -implicitDefEqProofs (disch := first | assumption | exact Nat.le_of_ble_eq_true rfl | decide) only [b1750_0, g1750_1, b1750_1, g1750_6, b1750_6, g1750_7, b1750_7, g1750_8, b1750_8, pe_aload0, pe_iload1, pe_call2, pm_af_ret, pm_af_void, pm_af_thr, pe_istore6, pe_iload6, pe_if_eq, pe_iload5, pe_iload4, pe_isub, pe_goto, pe_iload3, pe_iload2, pe_goto_w, pe_istore7, pe_sipush, pe_imul, pe_istore8, pe_getfield, pe_iload8, pe_iload7, pe_iadd, pe_bipush, pe_lastore, pe_iastore, pe_istore9, pe_iload9, pe_if_lt, pe_laload, pe_iaload, pe_istore10, pe_iload10, pe_icmp_gt, pe_call8, pe_istore11, pe_iload11, pe_call3, pe_istore12, pe_iload12, pe_if_le, pe_ladd, pe_lstore13, pe_istore15, pe_lload13, pe_lcmp, pe_if_gt, pe_if_ne, pe_iload15, pe_icmp_ge, pe_iinc10, pe_iinc9, pe_return, pm_prog_1, pm_ob_some, Nat.reduceDiv, Nat.reduceMod, Nat.reduceMul, Nat.reduceAdd, Int.reduceToNat, pm_kill_i, pm_kill_r, pm_kill_n, pm_kill_j, pm_kill_l, pm_kill_d, pm_cats_nil, pm_cats_i, pm_cats_r, pm_cats_n, pm_cats_l, pm_cats_d, sz_1, sz_2, sl_1, sl_2, lc_0, lc_lt, lc_le, li_ne, Int32.reduceOfInt, Int64.reduceOfInt, Int32.reduceOfNat, Int32.reduceLT, Int32.reduceLE, Prod.mk.injEq, Nat.reduceEqDiff, reduceCtorEq, and_true, true_and, and_false, false_and, and_self, ite_true, ite_false, ↓reduceIte, not_true_eq_false, not_false_eq_true, pe_ri, pe_rz, Ri_g31 hA, Ri_g32 hA, Ri_r31 hA, Ri_w31 hA, Ri_l31 hA, Ri_r32 hA, Ri_w32 hA, Ri_l32 hA, z1, eq_false k2, k4]
/-- TimberHouseModel$Rips.fillOne()V -/
theorem c1749 {d : Nat} {h : pm_H} {a : Nat} (hc : pm_cls h a = some 27) : pm_call pm_prog (d + 1) 1749 [.ref a] h = pm_ev pm_prog (pm_call pm_prog d) 1749 0 b1749_0 [.ref a, pm_junk, pm_junk, pm_junk, pm_junk] [] h := pm_cal (pm_rc1 hc rfl) rfl rfl rfl
theorem g1749_1 {cl : pm_C} {ls st : List Value} {h : pm_H} : pm_go pm_prog cl 1749 1 ls st h = pm_ev pm_prog cl 1749 1 b1749_1 ls st h := pm_go_eq pm_prog cl 1749 1 ls st h
theorem g1749_2 {cl : pm_C} {ls st : List Value} {h : pm_H} : pm_go pm_prog cl 1749 2 ls st h = pm_ev pm_prog cl 1749 2 b1749_2 ls st h := pm_go_eq pm_prog cl 1749 2 ls st h
theorem g1749_3 {cl : pm_C} {ls st : List Value} {h : pm_H} : pm_go pm_prog cl 1749 3 ls st h = pm_ev pm_prog cl 1749 3 b1749_3 ls st h := pm_go_eq pm_prog cl 1749 3 ls st h
theorem g1749_4 {cl : pm_C} {ls st : List Value} {h : pm_H} : pm_go pm_prog cl 1749 4 ls st h = pm_ev pm_prog cl 1749 4 b1749_4 ls st h := pm_go_eq pm_prog cl 1749 4 ls st h
theorem g1749_5 {cl : pm_C} {ls st : List Value} {h : pm_H} : pm_go pm_prog cl 1749 5 ls st h = pm_ev pm_prog cl 1749 5 b1749_5 ls st h := pm_go_eq pm_prog cl 1749 5 ls st h
theorem g1749_6 {cl : pm_C} {ls st : List Value} {h : pm_H} : pm_go pm_prog cl 1749 6 ls st h = pm_ev pm_prog cl 1749 6 b1749_6 ls st h := pm_go_eq pm_prog cl 1749 6 ls st h
theorem g1749_7 {cl : pm_C} {ls st : List Value} {h : pm_H} : pm_go pm_prog cl 1749 7 ls st h = pm_ev pm_prog cl 1749 7 b1749_7 ls st h := pm_go_eq pm_prog cl 1749 7 ls st h
theorem g1749_8 {cl : pm_C} {ls st : List Value} {h : pm_H} : pm_go pm_prog cl 1749 8 ls st h = pm_ev pm_prog cl 1749 8 b1749_8 ls st h := pm_go_eq pm_prog cl 1749 8 ls st h
noncomputable def f1749_b4 : Int32 × Int32 × Int32 × Int32 × wS → Option ((Int32 × Int32 × Int32 × Int32 × wS) ⊕ ((Int32 × Int32 × Int32 × wS))) := fun (x1, x2, x3, x4, S) =>
  if x4 ≤ (S.1 (0, 0, 0) 3) then
    (f1750 S 1 x1 x2 x3 x4).bind fun S1 =>
    (f1746 x1 x2 x3 x4).bind fun v2 =>
    if 0 ≤ v2 ∧ v2 < 75625 then
      some (.inl (x1, x2, x3, (x4 + 1), (sz (sl S1 (28, 0, 0) v2 (S1.2 (32, 0, 0) 32)) (29, 0, 0) v2 (S1.1 (33, 0, 0) 32))))
    else none
  else
    some (.inr (x1, x2, x3, S))
noncomputable def f1749_b3 : Int32 × Int32 × Int32 × wS → Option ((Int32 × Int32 × Int32 × wS) ⊕ ((Int32 × Int32 × wS))) := fun (x1, x2, x3, S) =>
  if x3 < (S.1 (0, 0, 0) 3) then
    (lp (f1749_b4) FU (x1, x2, x3, (x3 + 1), S)).bind fun (v3, v4, v5, S6) =>
    some (.inl (v3, v4, (v5 + 1), S6))
  else
    some (.inr (x1, x2, S))
noncomputable def f1749_b2 : Int32 × Int32 × wS → Option ((Int32 × Int32 × wS) ⊕ ((Int32 × wS))) := fun (x1, x2, S) =>
  if x2 ≤ (S.1 (0, 0, 0) 2) then
    (lp (f1749_b3) FU (x1, x2, 0, S)).bind fun (v7, v8, S9) =>
    some (.inl (v7, (v8 + 1), S9))
  else
    some (.inr (x1, S))
noncomputable def f1749_b1 : Int32 × wS → Option ((Int32 × wS) ⊕ ((wS))) := fun (x1, S) =>
  if x1 < (S.1 (0, 0, 0) 2) then
    (lp (f1749_b2) FU (x1, (x1 + 1), S)).bind fun (v10, S11) =>
    some (.inl ((v10 + 1), S11))
  else
    some (.inr S)
/-- TimberHouseModel$Rips.fillOne()V -/
noncomputable def f1749 (S : wS) : Option (wS) :=
  (lp (f1749_b1) FU (0, S)).bind fun S12 =>
  some S12
def go1749_4 (A : wK → Nat) (h : pm_H) (D : Nat) (R : Outcome × pm_H) : Int32 × Int32 × Int32 × Int32 × wS → Prop := fun (x1, x2, x3, x4, S) => pm_go pm_prog (pm_call pm_prog D) 1749 4 [.ref (A (0, 0, 0)), .int x1, .int x2, .int x3, .int x4] [] (wput A Ri_d S h) = some R
def ex1749_4 (A : wK → Nat) (h : pm_H) (D : Nat) (R : Outcome × pm_H) : (Int32 × Int32 × Int32 × wS) → Prop := fun (x1, x2, x3, S) => ∀ q4 : Value, pm_go pm_prog (pm_call pm_prog D) 1749 5 [.ref (A (0, 0, 0)), .int x1, .int x2, .int x3, q4] [] (wput A Ri_d S h) = some R
theorem y1749_b4 {A : wK → Nat} {h : pm_H} {m D : Nat} {R : Outcome × pm_H} (hA : wok A Ri_d m) (hD : 3 ≤ D) (a : Int32 × Int32 × Int32 × Int32 × wS) (r : (Int32 × Int32 × Int32 × Int32 × wS) ⊕ ((Int32 × Int32 × Int32 × wS))) (e : f1749_b4 a = some r) (hc : Sum.elim (go1749_4 A h D R) (ex1749_4 A h D R) r) : go1749_4 A h D R a := by
  obtain ⟨x1, x2, x3, x4, S⟩ := a
  dsimp only [go1749_4]
  simp only [f1749_b4] at e
  rw [g1749_4, b1749_4]
  by_cases k1 : x4 ≤ (S.1 (0, 0, 0) 3)
  · rw [if_pos k1] at e
    obtain ⟨S1, k2, e⟩ := Option.bind_eq_some_iff.mp e
    try dsimp only at e
    have z2 := x1750 (D := D) (h := h) hA (by omega) k2
    obtain ⟨v2, k3, e⟩ := Option.bind_eq_some_iff.mp e
    try dsimp only at e
    have z3 := fun h => x1746 (D := D) (h := h) (by omega) k3
    by_cases k4 : 0 ≤ v2 ∧ v2 < 75625
    · rw [if_pos k4] at e
      have e := Option.some.inj e; subst e
      dsimp only [Sum.elim_inl, go1749_4] at hc
      simp -implicitDefEqProofs (disch := first | assumption | exact Nat.le_of_ble_eq_true rfl | decide) only [b1749_0, g1749_5, b1749_5, g1749_6, b1749_6, g1749_7, b1749_7, g1749_8, b1749_8, pe_sipush, pe_istore1, pe_goto_w, pe_iload1, pe_aload0, pe_getfield, pe_icmp_ge, pe_iadd, pe_istore2, pe_iload2, pe_icmp_gt, pe_istore3, pe_iload3, pe_istore4, pe_iload4, pe_call6, pm_af_ret, pm_af_void, pm_af_thr, pe_call4, pe_laload, pe_lastore, pe_iaload, pe_iastore, pe_iinc4, pe_goto, pe_iinc3, pe_iinc2, pe_iinc1, pe_return, pm_prog_1, pm_ob_some, Nat.reduceDiv, Nat.reduceMod, Nat.reduceMul, Nat.reduceAdd, Int.reduceToNat, pm_kill_i, pm_kill_r, pm_kill_n, pm_kill_j, pm_kill_l, pm_kill_d, pm_cats_nil, pm_cats_i, pm_cats_r, pm_cats_n, pm_cats_l, pm_cats_d, sz_1, sz_2, sl_1, sl_2, lc_0, lc_lt, lc_le, li_ne, Int32.reduceOfInt, Int64.reduceOfInt, Int32.reduceOfNat, Int32.reduceLT, Int32.reduceLE, Prod.mk.injEq, Nat.reduceEqDiff, reduceCtorEq, and_true, true_and, and_false, false_and, and_self, ite_true, ite_false, ↓reduceIte, not_true_eq_false, not_false_eq_true, pe_ri, pe_rz, Ri_g2 hA, Ri_g3 hA, Ri_g27 hA, Ri_g31 hA, Ri_g28 hA, Ri_g32 hA, Ri_r27 hA, Ri_w27 hA, Ri_l27 hA, Ri_r28 hA, Ri_w28 hA, Ri_l28 hA, Ri_r31 hA, Ri_w31 hA, Ri_l31 hA, Ri_r32 hA, Ri_w32 hA, Ri_l32 hA, eq_true k1, z2, z3, hc]
    · rw [if_neg k4] at e; cases e
  · rw [if_neg k1] at e
    have e := Option.some.inj e; subst e
    dsimp only [Sum.elim_inr, ex1749_4] at hc
    simp -implicitDefEqProofs (disch := first | assumption | exact Nat.le_of_ble_eq_true rfl | decide) only [b1749_0, g1749_5, b1749_5, g1749_6, b1749_6, g1749_7, b1749_7, g1749_8, b1749_8, pe_sipush, pe_istore1, pe_goto_w, pe_iload1, pe_aload0, pe_getfield, pe_icmp_ge, pe_iadd, pe_istore2, pe_iload2, pe_icmp_gt, pe_istore3, pe_iload3, pe_istore4, pe_iload4, pe_call6, pm_af_ret, pm_af_void, pm_af_thr, pe_call4, pe_laload, pe_lastore, pe_iaload, pe_iastore, pe_iinc4, pe_goto, pe_iinc3, pe_iinc2, pe_iinc1, pe_return, pm_prog_1, pm_ob_some, Nat.reduceDiv, Nat.reduceMod, Nat.reduceMul, Nat.reduceAdd, Int.reduceToNat, pm_kill_i, pm_kill_r, pm_kill_n, pm_kill_j, pm_kill_l, pm_kill_d, pm_cats_nil, pm_cats_i, pm_cats_r, pm_cats_n, pm_cats_l, pm_cats_d, sz_1, sz_2, sl_1, sl_2, lc_0, lc_lt, lc_le, li_ne, Int32.reduceOfInt, Int64.reduceOfInt, Int32.reduceOfNat, Int32.reduceLT, Int32.reduceLE, Prod.mk.injEq, Nat.reduceEqDiff, reduceCtorEq, and_true, true_and, and_false, false_and, and_self, ite_true, ite_false, ↓reduceIte, not_true_eq_false, not_false_eq_true, pe_ri, pe_rz, Ri_g2 hA, Ri_g3 hA, Ri_g27 hA, Ri_g31 hA, Ri_g28 hA, Ri_g32 hA, Ri_r27 hA, Ri_w27 hA, Ri_l27 hA, Ri_r28 hA, Ri_w28 hA, Ri_l28 hA, Ri_r31 hA, Ri_w31 hA, Ri_l31 hA, Ri_r32 hA, Ri_w32 hA, Ri_l32 hA, eq_false k1, hc]
theorem z1749_4 {A : wK → Nat} {h : pm_H} {m D : Nat} {R : Outcome × pm_H} (hA : wok A Ri_d m) (hD : 3 ≤ D) {n : Nat} {a : Int32 × Int32 × Int32 × Int32 × wS} {b : (Int32 × Int32 × Int32 × wS)} (e : lp (f1749_b4) n a = some b) (hx : ex1749_4 A h D R b) : go1749_4 A h D R a := lp_run (fun a r => y1749_b4 hA hD a r) n a b e hx
def go1749_3 (A : wK → Nat) (h : pm_H) (D : Nat) (R : Outcome × pm_H) : Int32 × Int32 × Int32 × wS → Prop := fun (x1, x2, x3, S) => ∀ q4 : Value, pm_go pm_prog (pm_call pm_prog D) 1749 3 [.ref (A (0, 0, 0)), .int x1, .int x2, .int x3, q4] [] (wput A Ri_d S h) = some R
def ex1749_3 (A : wK → Nat) (h : pm_H) (D : Nat) (R : Outcome × pm_H) : (Int32 × Int32 × wS) → Prop := fun (x1, x2, S) => ∀ q3 q4 : Value, pm_go pm_prog (pm_call pm_prog D) 1749 6 [.ref (A (0, 0, 0)), .int x1, .int x2, q3, q4] [] (wput A Ri_d S h) = some R
theorem y1749_b3 {A : wK → Nat} {h : pm_H} {m D : Nat} {R : Outcome × pm_H} (hA : wok A Ri_d m) (hD : 3 ≤ D) (a : Int32 × Int32 × Int32 × wS) (r : (Int32 × Int32 × Int32 × wS) ⊕ ((Int32 × Int32 × wS))) (e : f1749_b3 a = some r) (hc : Sum.elim (go1749_3 A h D R) (ex1749_3 A h D R) r) : go1749_3 A h D R a := by
  obtain ⟨x1, x2, x3, S⟩ := a
  dsimp only [go1749_3]
  intro q4
  simp only [f1749_b3] at e
  rw [g1749_3, b1749_3]
  by_cases k1 : x3 < (S.1 (0, 0, 0) 3)
  · rw [if_pos k1] at e
    obtain ⟨⟨v3, v4, v5, S6⟩, k2, e⟩ := Option.bind_eq_some_iff.mp e
    try dsimp only at e
    try simp -implicitDefEqProofs (disch := first | assumption | exact Nat.le_of_ble_eq_true rfl | decide) only [b1749_0, g1749_5, b1749_5, g1749_6, b1749_6, g1749_7, b1749_7, g1749_8, b1749_8, pe_sipush, pe_istore1, pe_goto_w, pe_iload1, pe_aload0, pe_getfield, pe_icmp_ge, pe_iadd, pe_istore2, pe_iload2, pe_icmp_gt, pe_istore3, pe_iload3, pe_istore4, pe_iload4, pe_call6, pm_af_ret, pm_af_void, pm_af_thr, pe_call4, pe_laload, pe_lastore, pe_iaload, pe_iastore, pe_iinc4, pe_goto, pe_iinc3, pe_iinc2, pe_iinc1, pe_return, pm_prog_1, pm_ob_some, Nat.reduceDiv, Nat.reduceMod, Nat.reduceMul, Nat.reduceAdd, Int.reduceToNat, pm_kill_i, pm_kill_r, pm_kill_n, pm_kill_j, pm_kill_l, pm_kill_d, pm_cats_nil, pm_cats_i, pm_cats_r, pm_cats_n, pm_cats_l, pm_cats_d, sz_1, sz_2, sl_1, sl_2, lc_0, lc_lt, lc_le, li_ne, Int32.reduceOfInt, Int64.reduceOfInt, Int32.reduceOfNat, Int32.reduceLT, Int32.reduceLE, Prod.mk.injEq, Nat.reduceEqDiff, reduceCtorEq, and_true, true_and, and_false, false_and, and_self, ite_true, ite_false, ↓reduceIte, not_true_eq_false, not_false_eq_true, pe_ri, pe_rz, Ri_g2 hA, Ri_g3 hA, Ri_g27 hA, Ri_g31 hA, Ri_g28 hA, Ri_g32 hA, Ri_r27 hA, Ri_w27 hA, Ri_l27 hA, Ri_r28 hA, Ri_w28 hA, Ri_l28 hA, Ri_r31 hA, Ri_w31 hA, Ri_l31 hA, Ri_r32 hA, Ri_w32 hA, Ri_l32 hA, eq_true k1]
    refine z1749_4 hA hD k2 ?_
    dsimp only [ex1749_4]
    intro q4
    have e := Option.some.inj e; subst e
    dsimp only [Sum.elim_inl, go1749_3] at hc
    simp -implicitDefEqProofs (disch := first | assumption | exact Nat.le_of_ble_eq_true rfl | decide) only [b1749_0, g1749_5, b1749_5, g1749_6, b1749_6, g1749_7, b1749_7, g1749_8, b1749_8, pe_sipush, pe_istore1, pe_goto_w, pe_iload1, pe_aload0, pe_getfield, pe_icmp_ge, pe_iadd, pe_istore2, pe_iload2, pe_icmp_gt, pe_istore3, pe_iload3, pe_istore4, pe_iload4, pe_call6, pm_af_ret, pm_af_void, pm_af_thr, pe_call4, pe_laload, pe_lastore, pe_iaload, pe_iastore, pe_iinc4, pe_goto, pe_iinc3, pe_iinc2, pe_iinc1, pe_return, pm_prog_1, pm_ob_some, Nat.reduceDiv, Nat.reduceMod, Nat.reduceMul, Nat.reduceAdd, Int.reduceToNat, pm_kill_i, pm_kill_r, pm_kill_n, pm_kill_j, pm_kill_l, pm_kill_d, pm_cats_nil, pm_cats_i, pm_cats_r, pm_cats_n, pm_cats_l, pm_cats_d, sz_1, sz_2, sl_1, sl_2, lc_0, lc_lt, lc_le, li_ne, Int32.reduceOfInt, Int64.reduceOfInt, Int32.reduceOfNat, Int32.reduceLT, Int32.reduceLE, Prod.mk.injEq, Nat.reduceEqDiff, reduceCtorEq, and_true, true_and, and_false, false_and, and_self, ite_true, ite_false, ↓reduceIte, not_true_eq_false, not_false_eq_true, pe_ri, pe_rz, Ri_g2 hA, Ri_g3 hA, Ri_g27 hA, Ri_g31 hA, Ri_g28 hA, Ri_g32 hA, Ri_r27 hA, Ri_w27 hA, Ri_l27 hA, Ri_r28 hA, Ri_w28 hA, Ri_l28 hA, Ri_r31 hA, Ri_w31 hA, Ri_l31 hA, Ri_r32 hA, Ri_w32 hA, Ri_l32 hA, eq_true k1, hc]
  · rw [if_neg k1] at e
    have e := Option.some.inj e; subst e
    dsimp only [Sum.elim_inr, ex1749_3] at hc
    simp -implicitDefEqProofs (disch := first | assumption | exact Nat.le_of_ble_eq_true rfl | decide) only [b1749_0, g1749_5, b1749_5, g1749_6, b1749_6, g1749_7, b1749_7, g1749_8, b1749_8, pe_sipush, pe_istore1, pe_goto_w, pe_iload1, pe_aload0, pe_getfield, pe_icmp_ge, pe_iadd, pe_istore2, pe_iload2, pe_icmp_gt, pe_istore3, pe_iload3, pe_istore4, pe_iload4, pe_call6, pm_af_ret, pm_af_void, pm_af_thr, pe_call4, pe_laload, pe_lastore, pe_iaload, pe_iastore, pe_iinc4, pe_goto, pe_iinc3, pe_iinc2, pe_iinc1, pe_return, pm_prog_1, pm_ob_some, Nat.reduceDiv, Nat.reduceMod, Nat.reduceMul, Nat.reduceAdd, Int.reduceToNat, pm_kill_i, pm_kill_r, pm_kill_n, pm_kill_j, pm_kill_l, pm_kill_d, pm_cats_nil, pm_cats_i, pm_cats_r, pm_cats_n, pm_cats_l, pm_cats_d, sz_1, sz_2, sl_1, sl_2, lc_0, lc_lt, lc_le, li_ne, Int32.reduceOfInt, Int64.reduceOfInt, Int32.reduceOfNat, Int32.reduceLT, Int32.reduceLE, Prod.mk.injEq, Nat.reduceEqDiff, reduceCtorEq, and_true, true_and, and_false, false_and, and_self, ite_true, ite_false, ↓reduceIte, not_true_eq_false, not_false_eq_true, pe_ri, pe_rz, Ri_g2 hA, Ri_g3 hA, Ri_g27 hA, Ri_g31 hA, Ri_g28 hA, Ri_g32 hA, Ri_r27 hA, Ri_w27 hA, Ri_l27 hA, Ri_r28 hA, Ri_w28 hA, Ri_l28 hA, Ri_r31 hA, Ri_w31 hA, Ri_l31 hA, Ri_r32 hA, Ri_w32 hA, Ri_l32 hA, eq_false k1, hc]
theorem z1749_3 {A : wK → Nat} {h : pm_H} {m D : Nat} {R : Outcome × pm_H} (hA : wok A Ri_d m) (hD : 3 ≤ D) {n : Nat} {a : Int32 × Int32 × Int32 × wS} {b : (Int32 × Int32 × wS)} (e : lp (f1749_b3) n a = some b) (hx : ex1749_3 A h D R b) : go1749_3 A h D R a := lp_run (fun a r => y1749_b3 hA hD a r) n a b e hx
def go1749_2 (A : wK → Nat) (h : pm_H) (D : Nat) (R : Outcome × pm_H) : Int32 × Int32 × wS → Prop := fun (x1, x2, S) => ∀ q3 q4 : Value, pm_go pm_prog (pm_call pm_prog D) 1749 2 [.ref (A (0, 0, 0)), .int x1, .int x2, q3, q4] [] (wput A Ri_d S h) = some R
def ex1749_2 (A : wK → Nat) (h : pm_H) (D : Nat) (R : Outcome × pm_H) : (Int32 × wS) → Prop := fun (x1, S) => ∀ q2 q3 q4 : Value, pm_go pm_prog (pm_call pm_prog D) 1749 7 [.ref (A (0, 0, 0)), .int x1, q2, q3, q4] [] (wput A Ri_d S h) = some R
theorem y1749_b2 {A : wK → Nat} {h : pm_H} {m D : Nat} {R : Outcome × pm_H} (hA : wok A Ri_d m) (hD : 3 ≤ D) (a : Int32 × Int32 × wS) (r : (Int32 × Int32 × wS) ⊕ ((Int32 × wS))) (e : f1749_b2 a = some r) (hc : Sum.elim (go1749_2 A h D R) (ex1749_2 A h D R) r) : go1749_2 A h D R a := by
  obtain ⟨x1, x2, S⟩ := a
  dsimp only [go1749_2]
  intro q3 q4
  simp only [f1749_b2] at e
  rw [g1749_2, b1749_2]
  by_cases k1 : x2 ≤ (S.1 (0, 0, 0) 2)
  · rw [if_pos k1] at e
    obtain ⟨⟨v7, v8, S9⟩, k2, e⟩ := Option.bind_eq_some_iff.mp e
    try dsimp only at e
    try simp -implicitDefEqProofs (disch := first | assumption | exact Nat.le_of_ble_eq_true rfl | decide) only [b1749_0, g1749_5, b1749_5, g1749_6, b1749_6, g1749_7, b1749_7, g1749_8, b1749_8, pe_sipush, pe_istore1, pe_goto_w, pe_iload1, pe_aload0, pe_getfield, pe_icmp_ge, pe_iadd, pe_istore2, pe_iload2, pe_icmp_gt, pe_istore3, pe_iload3, pe_istore4, pe_iload4, pe_call6, pm_af_ret, pm_af_void, pm_af_thr, pe_call4, pe_laload, pe_lastore, pe_iaload, pe_iastore, pe_iinc4, pe_goto, pe_iinc3, pe_iinc2, pe_iinc1, pe_return, pm_prog_1, pm_ob_some, Nat.reduceDiv, Nat.reduceMod, Nat.reduceMul, Nat.reduceAdd, Int.reduceToNat, pm_kill_i, pm_kill_r, pm_kill_n, pm_kill_j, pm_kill_l, pm_kill_d, pm_cats_nil, pm_cats_i, pm_cats_r, pm_cats_n, pm_cats_l, pm_cats_d, sz_1, sz_2, sl_1, sl_2, lc_0, lc_lt, lc_le, li_ne, Int32.reduceOfInt, Int64.reduceOfInt, Int32.reduceOfNat, Int32.reduceLT, Int32.reduceLE, Prod.mk.injEq, Nat.reduceEqDiff, reduceCtorEq, and_true, true_and, and_false, false_and, and_self, ite_true, ite_false, ↓reduceIte, not_true_eq_false, not_false_eq_true, pe_ri, pe_rz, Ri_g2 hA, Ri_g3 hA, Ri_g27 hA, Ri_g31 hA, Ri_g28 hA, Ri_g32 hA, Ri_r27 hA, Ri_w27 hA, Ri_l27 hA, Ri_r28 hA, Ri_w28 hA, Ri_l28 hA, Ri_r31 hA, Ri_w31 hA, Ri_l31 hA, Ri_r32 hA, Ri_w32 hA, Ri_l32 hA, eq_true k1]
    refine z1749_3 hA hD k2 ?_ _
    dsimp only [ex1749_3]
    intro q3 q4
    have e := Option.some.inj e; subst e
    dsimp only [Sum.elim_inl, go1749_2] at hc
    simp -implicitDefEqProofs (disch := first | assumption | exact Nat.le_of_ble_eq_true rfl | decide) only [b1749_0, g1749_5, b1749_5, g1749_6, b1749_6, g1749_7, b1749_7, g1749_8, b1749_8, pe_sipush, pe_istore1, pe_goto_w, pe_iload1, pe_aload0, pe_getfield, pe_icmp_ge, pe_iadd, pe_istore2, pe_iload2, pe_icmp_gt, pe_istore3, pe_iload3, pe_istore4, pe_iload4, pe_call6, pm_af_ret, pm_af_void, pm_af_thr, pe_call4, pe_laload, pe_lastore, pe_iaload, pe_iastore, pe_iinc4, pe_goto, pe_iinc3, pe_iinc2, pe_iinc1, pe_return, pm_prog_1, pm_ob_some, Nat.reduceDiv, Nat.reduceMod, Nat.reduceMul, Nat.reduceAdd, Int.reduceToNat, pm_kill_i, pm_kill_r, pm_kill_n, pm_kill_j, pm_kill_l, pm_kill_d, pm_cats_nil, pm_cats_i, pm_cats_r, pm_cats_n, pm_cats_l, pm_cats_d, sz_1, sz_2, sl_1, sl_2, lc_0, lc_lt, lc_le, li_ne, Int32.reduceOfInt, Int64.reduceOfInt, Int32.reduceOfNat, Int32.reduceLT, Int32.reduceLE, Prod.mk.injEq, Nat.reduceEqDiff, reduceCtorEq, and_true, true_and, and_false, false_and, and_self, ite_true, ite_false, ↓reduceIte, not_true_eq_false, not_false_eq_true, pe_ri, pe_rz, Ri_g2 hA, Ri_g3 hA, Ri_g27 hA, Ri_g31 hA, Ri_g28 hA, Ri_g32 hA, Ri_r27 hA, Ri_w27 hA, Ri_l27 hA, Ri_r28 hA, Ri_w28 hA, Ri_l28 hA, Ri_r31 hA, Ri_w31 hA, Ri_l31 hA, Ri_r32 hA, Ri_w32 hA, Ri_l32 hA, eq_true k1, hc]
  · rw [if_neg k1] at e
    have e := Option.some.inj e; subst e
    dsimp only [Sum.elim_inr, ex1749_2] at hc
    simp -implicitDefEqProofs (disch := first | assumption | exact Nat.le_of_ble_eq_true rfl | decide) only [b1749_0, g1749_5, b1749_5, g1749_6, b1749_6, g1749_7, b1749_7, g1749_8, b1749_8, pe_sipush, pe_istore1, pe_goto_w, pe_iload1, pe_aload0, pe_getfield, pe_icmp_ge, pe_iadd, pe_istore2, pe_iload2, pe_icmp_gt, pe_istore3, pe_iload3, pe_istore4, pe_iload4, pe_call6, pm_af_ret, pm_af_void, pm_af_thr, pe_call4, pe_laload, pe_lastore, pe_iaload, pe_iastore, pe_iinc4, pe_goto, pe_iinc3, pe_iinc2, pe_iinc1, pe_return, pm_prog_1, pm_ob_some, Nat.reduceDiv, Nat.reduceMod, Nat.reduceMul, Nat.reduceAdd, Int.reduceToNat, pm_kill_i, pm_kill_r, pm_kill_n, pm_kill_j, pm_kill_l, pm_kill_d, pm_cats_nil, pm_cats_i, pm_cats_r, pm_cats_n, pm_cats_l, pm_cats_d, sz_1, sz_2, sl_1, sl_2, lc_0, lc_lt, lc_le, li_ne, Int32.reduceOfInt, Int64.reduceOfInt, Int32.reduceOfNat, Int32.reduceLT, Int32.reduceLE, Prod.mk.injEq, Nat.reduceEqDiff, reduceCtorEq, and_true, true_and, and_false, false_and, and_self, ite_true, ite_false, ↓reduceIte, not_true_eq_false, not_false_eq_true, pe_ri, pe_rz, Ri_g2 hA, Ri_g3 hA, Ri_g27 hA, Ri_g31 hA, Ri_g28 hA, Ri_g32 hA, Ri_r27 hA, Ri_w27 hA, Ri_l27 hA, Ri_r28 hA, Ri_w28 hA, Ri_l28 hA, Ri_r31 hA, Ri_w31 hA, Ri_l31 hA, Ri_r32 hA, Ri_w32 hA, Ri_l32 hA, eq_false k1, hc]
theorem z1749_2 {A : wK → Nat} {h : pm_H} {m D : Nat} {R : Outcome × pm_H} (hA : wok A Ri_d m) (hD : 3 ≤ D) {n : Nat} {a : Int32 × Int32 × wS} {b : (Int32 × wS)} (e : lp (f1749_b2) n a = some b) (hx : ex1749_2 A h D R b) : go1749_2 A h D R a := lp_run (fun a r => y1749_b2 hA hD a r) n a b e hx
def go1749_1 (A : wK → Nat) (h : pm_H) (D : Nat) (R : Outcome × pm_H) : Int32 × wS → Prop := fun (x1, S) => ∀ q2 q3 q4 : Value, pm_go pm_prog (pm_call pm_prog D) 1749 1 [.ref (A (0, 0, 0)), .int x1, q2, q3, q4] [] (wput A Ri_d S h) = some R
def ex1749_1 (A : wK → Nat) (h : pm_H) (D : Nat) (R : Outcome × pm_H) : (wS) → Prop := fun S => ∀ q1 q2 q3 q4 : Value, pm_go pm_prog (pm_call pm_prog D) 1749 8 [.ref (A (0, 0, 0)), q1, q2, q3, q4] [] (wput A Ri_d S h) = some R
theorem y1749_b1 {A : wK → Nat} {h : pm_H} {m D : Nat} {R : Outcome × pm_H} (hA : wok A Ri_d m) (hD : 3 ≤ D) (a : Int32 × wS) (r : (Int32 × wS) ⊕ ((wS))) (e : f1749_b1 a = some r) (hc : Sum.elim (go1749_1 A h D R) (ex1749_1 A h D R) r) : go1749_1 A h D R a := by
  obtain ⟨x1, S⟩ := a
  dsimp only [go1749_1]
  intro q2 q3 q4
  simp only [f1749_b1] at e
  rw [g1749_1, b1749_1]
  by_cases k1 : x1 < (S.1 (0, 0, 0) 2)
  · rw [if_pos k1] at e
    obtain ⟨⟨v10, S11⟩, k2, e⟩ := Option.bind_eq_some_iff.mp e
    try dsimp only at e
    try simp -implicitDefEqProofs (disch := first | assumption | exact Nat.le_of_ble_eq_true rfl | decide) only [b1749_0, g1749_5, b1749_5, g1749_6, b1749_6, g1749_7, b1749_7, g1749_8, b1749_8, pe_sipush, pe_istore1, pe_goto_w, pe_iload1, pe_aload0, pe_getfield, pe_icmp_ge, pe_iadd, pe_istore2, pe_iload2, pe_icmp_gt, pe_istore3, pe_iload3, pe_istore4, pe_iload4, pe_call6, pm_af_ret, pm_af_void, pm_af_thr, pe_call4, pe_laload, pe_lastore, pe_iaload, pe_iastore, pe_iinc4, pe_goto, pe_iinc3, pe_iinc2, pe_iinc1, pe_return, pm_prog_1, pm_ob_some, Nat.reduceDiv, Nat.reduceMod, Nat.reduceMul, Nat.reduceAdd, Int.reduceToNat, pm_kill_i, pm_kill_r, pm_kill_n, pm_kill_j, pm_kill_l, pm_kill_d, pm_cats_nil, pm_cats_i, pm_cats_r, pm_cats_n, pm_cats_l, pm_cats_d, sz_1, sz_2, sl_1, sl_2, lc_0, lc_lt, lc_le, li_ne, Int32.reduceOfInt, Int64.reduceOfInt, Int32.reduceOfNat, Int32.reduceLT, Int32.reduceLE, Prod.mk.injEq, Nat.reduceEqDiff, reduceCtorEq, and_true, true_and, and_false, false_and, and_self, ite_true, ite_false, ↓reduceIte, not_true_eq_false, not_false_eq_true, pe_ri, pe_rz, Ri_g2 hA, Ri_g3 hA, Ri_g27 hA, Ri_g31 hA, Ri_g28 hA, Ri_g32 hA, Ri_r27 hA, Ri_w27 hA, Ri_l27 hA, Ri_r28 hA, Ri_w28 hA, Ri_l28 hA, Ri_r31 hA, Ri_w31 hA, Ri_l31 hA, Ri_r32 hA, Ri_w32 hA, Ri_l32 hA, eq_true k1]
    refine z1749_2 hA hD k2 ?_ _ _
    dsimp only [ex1749_2]
    intro q2 q3 q4
    have e := Option.some.inj e; subst e
    dsimp only [Sum.elim_inl, go1749_1] at hc
    simp -implicitDefEqProofs (disch := first | assumption | exact Nat.le_of_ble_eq_true rfl | decide) only [b1749_0, g1749_5, b1749_5, g1749_6, b1749_6, g1749_7, b1749_7, g1749_8, b1749_8, pe_sipush, pe_istore1, pe_goto_w, pe_iload1, pe_aload0, pe_getfield, pe_icmp_ge, pe_iadd, pe_istore2, pe_iload2, pe_icmp_gt, pe_istore3, pe_iload3, pe_istore4, pe_iload4, pe_call6, pm_af_ret, pm_af_void, pm_af_thr, pe_call4, pe_laload, pe_lastore, pe_iaload, pe_iastore, pe_iinc4, pe_goto, pe_iinc3, pe_iinc2, pe_iinc1, pe_return, pm_prog_1, pm_ob_some, Nat.reduceDiv, Nat.reduceMod, Nat.reduceMul, Nat.reduceAdd, Int.reduceToNat, pm_kill_i, pm_kill_r, pm_kill_n, pm_kill_j, pm_kill_l, pm_kill_d, pm_cats_nil, pm_cats_i, pm_cats_r, pm_cats_n, pm_cats_l, pm_cats_d, sz_1, sz_2, sl_1, sl_2, lc_0, lc_lt, lc_le, li_ne, Int32.reduceOfInt, Int64.reduceOfInt, Int32.reduceOfNat, Int32.reduceLT, Int32.reduceLE, Prod.mk.injEq, Nat.reduceEqDiff, reduceCtorEq, and_true, true_and, and_false, false_and, and_self, ite_true, ite_false, ↓reduceIte, not_true_eq_false, not_false_eq_true, pe_ri, pe_rz, Ri_g2 hA, Ri_g3 hA, Ri_g27 hA, Ri_g31 hA, Ri_g28 hA, Ri_g32 hA, Ri_r27 hA, Ri_w27 hA, Ri_l27 hA, Ri_r28 hA, Ri_w28 hA, Ri_l28 hA, Ri_r31 hA, Ri_w31 hA, Ri_l31 hA, Ri_r32 hA, Ri_w32 hA, Ri_l32 hA, eq_true k1, hc]
  · rw [if_neg k1] at e
    have e := Option.some.inj e; subst e
    dsimp only [Sum.elim_inr, ex1749_1] at hc
    simp -implicitDefEqProofs (disch := first | assumption | exact Nat.le_of_ble_eq_true rfl | decide) only [b1749_0, g1749_5, b1749_5, g1749_6, b1749_6, g1749_7, b1749_7, g1749_8, b1749_8, pe_sipush, pe_istore1, pe_goto_w, pe_iload1, pe_aload0, pe_getfield, pe_icmp_ge, pe_iadd, pe_istore2, pe_iload2, pe_icmp_gt, pe_istore3, pe_iload3, pe_istore4, pe_iload4, pe_call6, pm_af_ret, pm_af_void, pm_af_thr, pe_call4, pe_laload, pe_lastore, pe_iaload, pe_iastore, pe_iinc4, pe_goto, pe_iinc3, pe_iinc2, pe_iinc1, pe_return, pm_prog_1, pm_ob_some, Nat.reduceDiv, Nat.reduceMod, Nat.reduceMul, Nat.reduceAdd, Int.reduceToNat, pm_kill_i, pm_kill_r, pm_kill_n, pm_kill_j, pm_kill_l, pm_kill_d, pm_cats_nil, pm_cats_i, pm_cats_r, pm_cats_n, pm_cats_l, pm_cats_d, sz_1, sz_2, sl_1, sl_2, lc_0, lc_lt, lc_le, li_ne, Int32.reduceOfInt, Int64.reduceOfInt, Int32.reduceOfNat, Int32.reduceLT, Int32.reduceLE, Prod.mk.injEq, Nat.reduceEqDiff, reduceCtorEq, and_true, true_and, and_false, false_and, and_self, ite_true, ite_false, ↓reduceIte, not_true_eq_false, not_false_eq_true, pe_ri, pe_rz, Ri_g2 hA, Ri_g3 hA, Ri_g27 hA, Ri_g31 hA, Ri_g28 hA, Ri_g32 hA, Ri_r27 hA, Ri_w27 hA, Ri_l27 hA, Ri_r28 hA, Ri_w28 hA, Ri_l28 hA, Ri_r31 hA, Ri_w31 hA, Ri_l31 hA, Ri_r32 hA, Ri_w32 hA, Ri_l32 hA, eq_false k1, hc]
theorem z1749_1 {A : wK → Nat} {h : pm_H} {m D : Nat} {R : Outcome × pm_H} (hA : wok A Ri_d m) (hD : 3 ≤ D) {n : Nat} {a : Int32 × wS} {b : (wS)} (e : lp (f1749_b1) n a = some b) (hx : ex1749_1 A h D R b) : go1749_1 A h D R a := lp_run (fun a r => y1749_b1 hA hD a r) n a b e hx
theorem x1749 {A : wK → Nat} {h : pm_H} {m D : Nat} {S : wS} {r : wS} (hA : wok A Ri_d m) (hD : 4 ≤ D) (e : f1749 S = some r) : pm_call pm_prog D 1749 [.ref (A (0, 0, 0))] (wput A Ri_d S h) = some (.returned none, (wput A Ri_d r h)) := by
  obtain ⟨D, rfl⟩ : ∃ D', D = D' + 1 := ⟨D - 1, by omega⟩
  have hD : 3 ≤ D := by omega
  rw [c1749 (Ri_c hA), b1749_0]
  simp only [f1749] at e
  obtain ⟨S12, k1, e⟩ := Option.bind_eq_some_iff.mp e
  try dsimp only at e
  try simp -implicitDefEqProofs (disch := first | assumption | exact Nat.le_of_ble_eq_true rfl | decide) only [b1749_0, g1749_5, b1749_5, g1749_6, b1749_6, g1749_7, b1749_7, g1749_8, b1749_8, pe_sipush, pe_istore1, pe_goto_w, pe_iload1, pe_aload0, pe_getfield, pe_icmp_ge, pe_iadd, pe_istore2, pe_iload2, pe_icmp_gt, pe_istore3, pe_iload3, pe_istore4, pe_iload4, pe_call6, pm_af_ret, pm_af_void, pm_af_thr, pe_call4, pe_laload, pe_lastore, pe_iaload, pe_iastore, pe_iinc4, pe_goto, pe_iinc3, pe_iinc2, pe_iinc1, pe_return, pm_prog_1, pm_ob_some, Nat.reduceDiv, Nat.reduceMod, Nat.reduceMul, Nat.reduceAdd, Int.reduceToNat, pm_kill_i, pm_kill_r, pm_kill_n, pm_kill_j, pm_kill_l, pm_kill_d, pm_cats_nil, pm_cats_i, pm_cats_r, pm_cats_n, pm_cats_l, pm_cats_d, sz_1, sz_2, sl_1, sl_2, lc_0, lc_lt, lc_le, li_ne, Int32.reduceOfInt, Int64.reduceOfInt, Int32.reduceOfNat, Int32.reduceLT, Int32.reduceLE, Prod.mk.injEq, Nat.reduceEqDiff, reduceCtorEq, and_true, true_and, and_false, false_and, and_self, ite_true, ite_false, ↓reduceIte, not_true_eq_false, not_false_eq_true, pe_ri, pe_rz, Ri_g2 hA, Ri_g3 hA, Ri_g27 hA, Ri_g31 hA, Ri_g28 hA, Ri_g32 hA, Ri_r27 hA, Ri_w27 hA, Ri_l27 hA, Ri_r28 hA, Ri_w28 hA, Ri_l28 hA, Ri_r31 hA, Ri_w31 hA, Ri_l31 hA, Ri_r32 hA, Ri_w32 hA, Ri_l32 hA]
  refine z1749_1 hA hD k1 ?_ _ _ _
  dsimp only [ex1749_1]
  intro q1 q2 q3 q4
  have e := Option.some.inj e; subst e
  simp -implicitDefEqProofs (disch := first | assumption | exact Nat.le_of_ble_eq_true rfl | decide) only [b1749_0, g1749_5, b1749_5, g1749_6, b1749_6, g1749_7, b1749_7, g1749_8, b1749_8, pe_sipush, pe_istore1, pe_goto_w, pe_iload1, pe_aload0, pe_getfield, pe_icmp_ge, pe_iadd, pe_istore2, pe_iload2, pe_icmp_gt, pe_istore3, pe_iload3, pe_istore4, pe_iload4, pe_call6, pm_af_ret, pm_af_void, pm_af_thr, pe_call4, pe_laload, pe_lastore, pe_iaload, pe_iastore, pe_iinc4, pe_goto, pe_iinc3, pe_iinc2, pe_iinc1, pe_return, pm_prog_1, pm_ob_some, Nat.reduceDiv, Nat.reduceMod, Nat.reduceMul, Nat.reduceAdd, Int.reduceToNat, pm_kill_i, pm_kill_r, pm_kill_n, pm_kill_j, pm_kill_l, pm_kill_d, pm_cats_nil, pm_cats_i, pm_cats_r, pm_cats_n, pm_cats_l, pm_cats_d, sz_1, sz_2, sl_1, sl_2, lc_0, lc_lt, lc_le, li_ne, Int32.reduceOfInt, Int64.reduceOfInt, Int32.reduceOfNat, Int32.reduceLT, Int32.reduceLE, Prod.mk.injEq, Nat.reduceEqDiff, reduceCtorEq, and_true, true_and, and_false, false_and, and_self, ite_true, ite_false, ↓reduceIte, not_true_eq_false, not_false_eq_true, pe_ri, pe_rz, Ri_g2 hA, Ri_g3 hA, Ri_g27 hA, Ri_g31 hA, Ri_g28 hA, Ri_g32 hA, Ri_r27 hA, Ri_w27 hA, Ri_l27 hA, Ri_r28 hA, Ri_w28 hA, Ri_l28 hA, Ri_r31 hA, Ri_w31 hA, Ri_l31 hA, Ri_r32 hA, Ri_w32 hA, Ri_l32 hA]
/-- TimberHouseModel$Rips.fillTwo()V -/
theorem c1756 {d : Nat} {h : pm_H} {a : Nat} (hc : pm_cls h a = some 27) : pm_call pm_prog (d + 1) 1756 [.ref a] h = pm_ev pm_prog (pm_call pm_prog d) 1756 0 b1756_0 [.ref a, pm_junk, pm_junk, pm_junk, pm_junk, pm_junk] [] h := pm_cal (pm_rc1 hc rfl) rfl rfl rfl
theorem g1756_1 {cl : pm_C} {ls st : List Value} {h : pm_H} : pm_go pm_prog cl 1756 1 ls st h = pm_ev pm_prog cl 1756 1 b1756_1 ls st h := pm_go_eq pm_prog cl 1756 1 ls st h
theorem g1756_2 {cl : pm_C} {ls st : List Value} {h : pm_H} : pm_go pm_prog cl 1756 2 ls st h = pm_ev pm_prog cl 1756 2 b1756_2 ls st h := pm_go_eq pm_prog cl 1756 2 ls st h
theorem g1756_3 {cl : pm_C} {ls st : List Value} {h : pm_H} : pm_go pm_prog cl 1756 3 ls st h = pm_ev pm_prog cl 1756 3 b1756_3 ls st h := pm_go_eq pm_prog cl 1756 3 ls st h
theorem g1756_4 {cl : pm_C} {ls st : List Value} {h : pm_H} : pm_go pm_prog cl 1756 4 ls st h = pm_ev pm_prog cl 1756 4 b1756_4 ls st h := pm_go_eq pm_prog cl 1756 4 ls st h
theorem g1756_5 {cl : pm_C} {ls st : List Value} {h : pm_H} : pm_go pm_prog cl 1756 5 ls st h = pm_ev pm_prog cl 1756 5 b1756_5 ls st h := pm_go_eq pm_prog cl 1756 5 ls st h
theorem g1756_6 {cl : pm_C} {ls st : List Value} {h : pm_H} : pm_go pm_prog cl 1756 6 ls st h = pm_ev pm_prog cl 1756 6 b1756_6 ls st h := pm_go_eq pm_prog cl 1756 6 ls st h
theorem g1756_7 {cl : pm_C} {ls st : List Value} {h : pm_H} : pm_go pm_prog cl 1756 7 ls st h = pm_ev pm_prog cl 1756 7 b1756_7 ls st h := pm_go_eq pm_prog cl 1756 7 ls st h
theorem g1756_8 {cl : pm_C} {ls st : List Value} {h : pm_H} : pm_go pm_prog cl 1756 8 ls st h = pm_ev pm_prog cl 1756 8 b1756_8 ls st h := pm_go_eq pm_prog cl 1756 8 ls st h
noncomputable def f1756_6_4 (S : wS) (x1 : Int32) (x2 : Int32) (x3 : Int32) (x4 : Int32) : Option ((Int32 × Int32 × Int32 × Int32 × wS) ⊕ ((Int32 × Int32 × Int32 × wS))) :=
  (f1752 S x1 0 (S.1 (0, 0, 0) 2) 0 (S.1 (0, 0, 0) 3) x3 x4).bind fun v3 =>
  if 0 ≤ v3 ∧ v3 < 75625 then
    some (.inl (x1, x2, x3, (x4 + 1), (sz (sl S (30, 0, 0) v3 (S.2 (32, 0, 0) 64)) (31, 0, 0) v3 (S.1 (33, 0, 0) 64))))
  else none
noncomputable def f1756_b4 : Int32 × Int32 × Int32 × Int32 × wS → Option ((Int32 × Int32 × Int32 × Int32 × wS) ⊕ ((Int32 × Int32 × Int32 × wS))) := fun (x1, x2, x3, x4, S) =>
  if x4 ≤ x2 then
    if x1 = 0 then
      (f1750 S 2 x3 x4 0 (S.1 (0, 0, 0) 3)).bind fun S2 =>
      f1756_6_4 S2 x1 x2 x3 x4
    else
      (f1750 S 2 0 (S.1 (0, 0, 0) 2) x3 x4).bind fun S4 =>
      f1756_6_4 S4 x1 x2 x3 x4
  else
    some (.inr (x1, x2, x3, S))
noncomputable def f1756_b3 : Int32 × Int32 × Int32 × wS → Option ((Int32 × Int32 × Int32 × wS) ⊕ ((wS))) := fun (x1, x2, x3, S) =>
  if x3 < x2 then
    (lp (f1756_b4) FU (x1, x2, x3, (x3 + 1), S)).bind fun (v5, v6, v7, S8) =>
    some (.inl (v5, v6, (v7 + 1), S8))
  else
    some (.inr S)
noncomputable def f1756_2 (S : wS) (x1 : Int32) (y0 : Int32) : Option (wS) :=
  (lp (f1756_b3) FU (x1, y0, 0, S)).bind fun S9 =>
  some S9
/-- TimberHouseModel$Rips.fillTwo()V -/
noncomputable def f1756 (S : wS) : Option (wS) :=
  (f1751 S 3).bind fun v1 =>
  if v1 = 0 then
    f1756_2 S v1 (S.1 (0, 0, 0) 2)
  else
    f1756_2 S v1 (S.1 (0, 0, 0) 3)
def go1756_4 (A : wK → Nat) (h : pm_H) (D : Nat) (R : Outcome × pm_H) : Int32 × Int32 × Int32 × Int32 × wS → Prop := fun (x1, x2, x3, x4, S) => ∀ q5 : Value, pm_go pm_prog (pm_call pm_prog D) 1756 4 [.ref (A (0, 0, 0)), .int x1, .int x2, .int x3, .int x4, q5] [] (wput A Ri_d S h) = some R
def ex1756_4 (A : wK → Nat) (h : pm_H) (D : Nat) (R : Outcome × pm_H) : (Int32 × Int32 × Int32 × wS) → Prop := fun (x1, x2, x3, S) => ∀ q4 q5 : Value, pm_go pm_prog (pm_call pm_prog D) 1756 7 [.ref (A (0, 0, 0)), .int x1, .int x2, .int x3, q4, q5] [] (wput A Ri_d S h) = some R
theorem y1756_6_4 {A : wK → Nat} {h : pm_H} {m D : Nat} {R : Outcome × pm_H} {S : wS} {x1 : Int32} {x2 : Int32} {x3 : Int32} {x4 : Int32} {r : (Int32 × Int32 × Int32 × Int32 × wS) ⊕ ((Int32 × Int32 × Int32 × wS))} (hA : wok A Ri_d m) (hD : 3 ≤ D) (e : f1756_6_4 S x1 x2 x3 x4 = some r) (hc : Sum.elim (go1756_4 A h D R) (ex1756_4 A h D R) r) : ∀ q5 : Value, pm_go pm_prog (pm_call pm_prog D) 1756 6 [.ref (A (0, 0, 0)), .int x1, .int x2, .int x3, .int x4, q5] [] (wput A Ri_d S h) = some R := by
  intro q5
  simp only [f1756_6_4] at e
  rw [g1756_6, b1756_6]
  obtain ⟨v3, k1, e⟩ := Option.bind_eq_some_iff.mp e
  try dsimp only at e
  have z1 := x1752 (D := D) (h := h) hA (by omega) k1
  by_cases k2 : 0 ≤ v3 ∧ v3 < 75625
  · rw [if_pos k2] at e
    have e := Option.some.inj e; subst e
    dsimp only [Sum.elim_inl, go1756_4] at hc
    simp -implicitDefEqProofs (disch := first | assumption | exact Nat.le_of_ble_eq_true rfl | decide) only [b1756_0, g1756_1, b1756_1, g1756_5, b1756_5, g1756_7, b1756_7, g1756_8, b1756_8, pe_aload0, pe_sipush, pe_call2, pm_af_ret, pm_af_void, pm_af_thr, pe_istore1, pe_iload1, pe_if_eq, pe_getfield, pe_goto, pe_goto_w, pe_istore2, pe_istore3, pe_iload3, pe_iload2, pe_icmp_ge, pe_iadd, pe_istore4, pe_iload4, pe_icmp_gt, pe_call6, pe_call8, pe_istore5, pe_iload5, pe_laload, pe_lastore, pe_iaload, pe_iastore, pe_iinc4, pe_iinc3, pe_return, pm_prog_1, pm_ob_some, Nat.reduceDiv, Nat.reduceMod, Nat.reduceMul, Nat.reduceAdd, Int.reduceToNat, pm_kill_i, pm_kill_r, pm_kill_n, pm_kill_j, pm_kill_l, pm_kill_d, pm_cats_nil, pm_cats_i, pm_cats_r, pm_cats_n, pm_cats_l, pm_cats_d, sz_1, sz_2, sl_1, sl_2, lc_0, lc_lt, lc_le, li_ne, Int32.reduceOfInt, Int64.reduceOfInt, Int32.reduceOfNat, Int32.reduceLT, Int32.reduceLE, Prod.mk.injEq, Nat.reduceEqDiff, reduceCtorEq, and_true, true_and, and_false, false_and, and_self, ite_true, ite_false, ↓reduceIte, not_true_eq_false, not_false_eq_true, pe_ri, pe_rz, Ri_g3 hA, Ri_g2 hA, Ri_g29 hA, Ri_g31 hA, Ri_g30 hA, Ri_g32 hA, Ri_r29 hA, Ri_w29 hA, Ri_l29 hA, Ri_r30 hA, Ri_w30 hA, Ri_l30 hA, Ri_r31 hA, Ri_w31 hA, Ri_l31 hA, Ri_r32 hA, Ri_w32 hA, Ri_l32 hA, z1, hc]
  · rw [if_neg k2] at e; cases e
theorem y1756_b4 {A : wK → Nat} {h : pm_H} {m D : Nat} {R : Outcome × pm_H} (hA : wok A Ri_d m) (hD : 3 ≤ D) (a : Int32 × Int32 × Int32 × Int32 × wS) (r : (Int32 × Int32 × Int32 × Int32 × wS) ⊕ ((Int32 × Int32 × Int32 × wS))) (e : f1756_b4 a = some r) (hc : Sum.elim (go1756_4 A h D R) (ex1756_4 A h D R) r) : go1756_4 A h D R a := by
  obtain ⟨x1, x2, x3, x4, S⟩ := a
  dsimp only [go1756_4]
  intro q5
  simp only [f1756_b4] at e
  rw [g1756_4, b1756_4]
  by_cases k1 : x4 ≤ x2
  · rw [if_pos k1] at e
    by_cases k2 : x1 = 0
    · rw [if_pos k2] at e
      obtain ⟨S2, k3, e⟩ := Option.bind_eq_some_iff.mp e
      try dsimp only at e
      have z3 := x1750 (D := D) (h := h) hA (by omega) k3
      have k4 := y1756_6_4 (h := h) hA hD e hc
      simp -implicitDefEqProofs (disch := first | assumption | exact Nat.le_of_ble_eq_true rfl | decide) only [b1756_0, g1756_1, b1756_1, g1756_5, b1756_5, g1756_7, b1756_7, g1756_8, b1756_8, pe_aload0, pe_sipush, pe_call2, pm_af_ret, pm_af_void, pm_af_thr, pe_istore1, pe_iload1, pe_if_eq, pe_getfield, pe_goto, pe_goto_w, pe_istore2, pe_istore3, pe_iload3, pe_iload2, pe_icmp_ge, pe_iadd, pe_istore4, pe_iload4, pe_icmp_gt, pe_call6, pe_call8, pe_istore5, pe_iload5, pe_laload, pe_lastore, pe_iaload, pe_iastore, pe_iinc4, pe_iinc3, pe_return, pm_prog_1, pm_ob_some, Nat.reduceDiv, Nat.reduceMod, Nat.reduceMul, Nat.reduceAdd, Int.reduceToNat, pm_kill_i, pm_kill_r, pm_kill_n, pm_kill_j, pm_kill_l, pm_kill_d, pm_cats_nil, pm_cats_i, pm_cats_r, pm_cats_n, pm_cats_l, pm_cats_d, sz_1, sz_2, sl_1, sl_2, lc_0, lc_lt, lc_le, li_ne, Int32.reduceOfInt, Int64.reduceOfInt, Int32.reduceOfNat, Int32.reduceLT, Int32.reduceLE, Prod.mk.injEq, Nat.reduceEqDiff, reduceCtorEq, and_true, true_and, and_false, false_and, and_self, ite_true, ite_false, ↓reduceIte, not_true_eq_false, not_false_eq_true, pe_ri, pe_rz, Ri_g3 hA, Ri_g2 hA, Ri_g29 hA, Ri_g31 hA, Ri_g30 hA, Ri_g32 hA, Ri_r29 hA, Ri_w29 hA, Ri_l29 hA, Ri_r30 hA, Ri_w30 hA, Ri_l30 hA, Ri_r31 hA, Ri_w31 hA, Ri_l31 hA, Ri_r32 hA, Ri_w32 hA, Ri_l32 hA, eq_true k1, eq_true k2, z3, k4]
    · rw [if_neg k2] at e
      obtain ⟨S4, k5, e⟩ := Option.bind_eq_some_iff.mp e
      try dsimp only at e
      have z5 := x1750 (D := D) (h := h) hA (by omega) k5
      have k6 := y1756_6_4 (h := h) hA hD e hc
      simp -implicitDefEqProofs (disch := first | assumption | exact Nat.le_of_ble_eq_true rfl | decide) only [b1756_0, g1756_1, b1756_1, g1756_5, b1756_5, g1756_7, b1756_7, g1756_8, b1756_8, pe_aload0, pe_sipush, pe_call2, pm_af_ret, pm_af_void, pm_af_thr, pe_istore1, pe_iload1, pe_if_eq, pe_getfield, pe_goto, pe_goto_w, pe_istore2, pe_istore3, pe_iload3, pe_iload2, pe_icmp_ge, pe_iadd, pe_istore4, pe_iload4, pe_icmp_gt, pe_call6, pe_call8, pe_istore5, pe_iload5, pe_laload, pe_lastore, pe_iaload, pe_iastore, pe_iinc4, pe_iinc3, pe_return, pm_prog_1, pm_ob_some, Nat.reduceDiv, Nat.reduceMod, Nat.reduceMul, Nat.reduceAdd, Int.reduceToNat, pm_kill_i, pm_kill_r, pm_kill_n, pm_kill_j, pm_kill_l, pm_kill_d, pm_cats_nil, pm_cats_i, pm_cats_r, pm_cats_n, pm_cats_l, pm_cats_d, sz_1, sz_2, sl_1, sl_2, lc_0, lc_lt, lc_le, li_ne, Int32.reduceOfInt, Int64.reduceOfInt, Int32.reduceOfNat, Int32.reduceLT, Int32.reduceLE, Prod.mk.injEq, Nat.reduceEqDiff, reduceCtorEq, and_true, true_and, and_false, false_and, and_self, ite_true, ite_false, ↓reduceIte, not_true_eq_false, not_false_eq_true, pe_ri, pe_rz, Ri_g3 hA, Ri_g2 hA, Ri_g29 hA, Ri_g31 hA, Ri_g30 hA, Ri_g32 hA, Ri_r29 hA, Ri_w29 hA, Ri_l29 hA, Ri_r30 hA, Ri_w30 hA, Ri_l30 hA, Ri_r31 hA, Ri_w31 hA, Ri_l31 hA, Ri_r32 hA, Ri_w32 hA, Ri_l32 hA, eq_true k1, eq_false k2, z5, k6]
  · rw [if_neg k1] at e
    have e := Option.some.inj e; subst e
    dsimp only [Sum.elim_inr, ex1756_4] at hc
    simp -implicitDefEqProofs (disch := first | assumption | exact Nat.le_of_ble_eq_true rfl | decide) only [b1756_0, g1756_1, b1756_1, g1756_5, b1756_5, g1756_7, b1756_7, g1756_8, b1756_8, pe_aload0, pe_sipush, pe_call2, pm_af_ret, pm_af_void, pm_af_thr, pe_istore1, pe_iload1, pe_if_eq, pe_getfield, pe_goto, pe_goto_w, pe_istore2, pe_istore3, pe_iload3, pe_iload2, pe_icmp_ge, pe_iadd, pe_istore4, pe_iload4, pe_icmp_gt, pe_call6, pe_call8, pe_istore5, pe_iload5, pe_laload, pe_lastore, pe_iaload, pe_iastore, pe_iinc4, pe_iinc3, pe_return, pm_prog_1, pm_ob_some, Nat.reduceDiv, Nat.reduceMod, Nat.reduceMul, Nat.reduceAdd, Int.reduceToNat, pm_kill_i, pm_kill_r, pm_kill_n, pm_kill_j, pm_kill_l, pm_kill_d, pm_cats_nil, pm_cats_i, pm_cats_r, pm_cats_n, pm_cats_l, pm_cats_d, sz_1, sz_2, sl_1, sl_2, lc_0, lc_lt, lc_le, li_ne, Int32.reduceOfInt, Int64.reduceOfInt, Int32.reduceOfNat, Int32.reduceLT, Int32.reduceLE, Prod.mk.injEq, Nat.reduceEqDiff, reduceCtorEq, and_true, true_and, and_false, false_and, and_self, ite_true, ite_false, ↓reduceIte, not_true_eq_false, not_false_eq_true, pe_ri, pe_rz, Ri_g3 hA, Ri_g2 hA, Ri_g29 hA, Ri_g31 hA, Ri_g30 hA, Ri_g32 hA, Ri_r29 hA, Ri_w29 hA, Ri_l29 hA, Ri_r30 hA, Ri_w30 hA, Ri_l30 hA, Ri_r31 hA, Ri_w31 hA, Ri_l31 hA, Ri_r32 hA, Ri_w32 hA, Ri_l32 hA, eq_false k1, hc]
theorem z1756_4 {A : wK → Nat} {h : pm_H} {m D : Nat} {R : Outcome × pm_H} (hA : wok A Ri_d m) (hD : 3 ≤ D) {n : Nat} {a : Int32 × Int32 × Int32 × Int32 × wS} {b : (Int32 × Int32 × Int32 × wS)} (e : lp (f1756_b4) n a = some b) (hx : ex1756_4 A h D R b) : go1756_4 A h D R a := lp_run (fun a r => y1756_b4 hA hD a r) n a b e hx
def go1756_3 (A : wK → Nat) (h : pm_H) (D : Nat) (R : Outcome × pm_H) : Int32 × Int32 × Int32 × wS → Prop := fun (x1, x2, x3, S) => ∀ q4 q5 : Value, pm_go pm_prog (pm_call pm_prog D) 1756 3 [.ref (A (0, 0, 0)), .int x1, .int x2, .int x3, q4, q5] [] (wput A Ri_d S h) = some R
def ex1756_3 (A : wK → Nat) (h : pm_H) (D : Nat) (R : Outcome × pm_H) : (wS) → Prop := fun S => ∀ q1 q2 q3 q4 q5 : Value, pm_go pm_prog (pm_call pm_prog D) 1756 8 [.ref (A (0, 0, 0)), q1, q2, q3, q4, q5] [] (wput A Ri_d S h) = some R
theorem y1756_b3 {A : wK → Nat} {h : pm_H} {m D : Nat} {R : Outcome × pm_H} (hA : wok A Ri_d m) (hD : 3 ≤ D) (a : Int32 × Int32 × Int32 × wS) (r : (Int32 × Int32 × Int32 × wS) ⊕ ((wS))) (e : f1756_b3 a = some r) (hc : Sum.elim (go1756_3 A h D R) (ex1756_3 A h D R) r) : go1756_3 A h D R a := by
  obtain ⟨x1, x2, x3, S⟩ := a
  dsimp only [go1756_3]
  intro q4 q5
  simp only [f1756_b3] at e
  rw [g1756_3, b1756_3]
  by_cases k1 : x3 < x2
  · rw [if_pos k1] at e
    obtain ⟨⟨v5, v6, v7, S8⟩, k2, e⟩ := Option.bind_eq_some_iff.mp e
    try dsimp only at e
    try simp -implicitDefEqProofs (disch := first | assumption | exact Nat.le_of_ble_eq_true rfl | decide) only [b1756_0, g1756_1, b1756_1, g1756_5, b1756_5, g1756_7, b1756_7, g1756_8, b1756_8, pe_aload0, pe_sipush, pe_call2, pm_af_ret, pm_af_void, pm_af_thr, pe_istore1, pe_iload1, pe_if_eq, pe_getfield, pe_goto, pe_goto_w, pe_istore2, pe_istore3, pe_iload3, pe_iload2, pe_icmp_ge, pe_iadd, pe_istore4, pe_iload4, pe_icmp_gt, pe_call6, pe_call8, pe_istore5, pe_iload5, pe_laload, pe_lastore, pe_iaload, pe_iastore, pe_iinc4, pe_iinc3, pe_return, pm_prog_1, pm_ob_some, Nat.reduceDiv, Nat.reduceMod, Nat.reduceMul, Nat.reduceAdd, Int.reduceToNat, pm_kill_i, pm_kill_r, pm_kill_n, pm_kill_j, pm_kill_l, pm_kill_d, pm_cats_nil, pm_cats_i, pm_cats_r, pm_cats_n, pm_cats_l, pm_cats_d, sz_1, sz_2, sl_1, sl_2, lc_0, lc_lt, lc_le, li_ne, Int32.reduceOfInt, Int64.reduceOfInt, Int32.reduceOfNat, Int32.reduceLT, Int32.reduceLE, Prod.mk.injEq, Nat.reduceEqDiff, reduceCtorEq, and_true, true_and, and_false, false_and, and_self, ite_true, ite_false, ↓reduceIte, not_true_eq_false, not_false_eq_true, pe_ri, pe_rz, Ri_g3 hA, Ri_g2 hA, Ri_g29 hA, Ri_g31 hA, Ri_g30 hA, Ri_g32 hA, Ri_r29 hA, Ri_w29 hA, Ri_l29 hA, Ri_r30 hA, Ri_w30 hA, Ri_l30 hA, Ri_r31 hA, Ri_w31 hA, Ri_l31 hA, Ri_r32 hA, Ri_w32 hA, Ri_l32 hA, eq_true k1]
    refine z1756_4 hA hD k2 ?_ _
    dsimp only [ex1756_4]
    intro q4 q5
    have e := Option.some.inj e; subst e
    dsimp only [Sum.elim_inl, go1756_3] at hc
    simp -implicitDefEqProofs (disch := first | assumption | exact Nat.le_of_ble_eq_true rfl | decide) only [b1756_0, g1756_1, b1756_1, g1756_5, b1756_5, g1756_7, b1756_7, g1756_8, b1756_8, pe_aload0, pe_sipush, pe_call2, pm_af_ret, pm_af_void, pm_af_thr, pe_istore1, pe_iload1, pe_if_eq, pe_getfield, pe_goto, pe_goto_w, pe_istore2, pe_istore3, pe_iload3, pe_iload2, pe_icmp_ge, pe_iadd, pe_istore4, pe_iload4, pe_icmp_gt, pe_call6, pe_call8, pe_istore5, pe_iload5, pe_laload, pe_lastore, pe_iaload, pe_iastore, pe_iinc4, pe_iinc3, pe_return, pm_prog_1, pm_ob_some, Nat.reduceDiv, Nat.reduceMod, Nat.reduceMul, Nat.reduceAdd, Int.reduceToNat, pm_kill_i, pm_kill_r, pm_kill_n, pm_kill_j, pm_kill_l, pm_kill_d, pm_cats_nil, pm_cats_i, pm_cats_r, pm_cats_n, pm_cats_l, pm_cats_d, sz_1, sz_2, sl_1, sl_2, lc_0, lc_lt, lc_le, li_ne, Int32.reduceOfInt, Int64.reduceOfInt, Int32.reduceOfNat, Int32.reduceLT, Int32.reduceLE, Prod.mk.injEq, Nat.reduceEqDiff, reduceCtorEq, and_true, true_and, and_false, false_and, and_self, ite_true, ite_false, ↓reduceIte, not_true_eq_false, not_false_eq_true, pe_ri, pe_rz, Ri_g3 hA, Ri_g2 hA, Ri_g29 hA, Ri_g31 hA, Ri_g30 hA, Ri_g32 hA, Ri_r29 hA, Ri_w29 hA, Ri_l29 hA, Ri_r30 hA, Ri_w30 hA, Ri_l30 hA, Ri_r31 hA, Ri_w31 hA, Ri_l31 hA, Ri_r32 hA, Ri_w32 hA, Ri_l32 hA, eq_true k1, hc]
  · rw [if_neg k1] at e
    have e := Option.some.inj e; subst e
    dsimp only [Sum.elim_inr, ex1756_3] at hc
    simp -implicitDefEqProofs (disch := first | assumption | exact Nat.le_of_ble_eq_true rfl | decide) only [b1756_0, g1756_1, b1756_1, g1756_5, b1756_5, g1756_7, b1756_7, g1756_8, b1756_8, pe_aload0, pe_sipush, pe_call2, pm_af_ret, pm_af_void, pm_af_thr, pe_istore1, pe_iload1, pe_if_eq, pe_getfield, pe_goto, pe_goto_w, pe_istore2, pe_istore3, pe_iload3, pe_iload2, pe_icmp_ge, pe_iadd, pe_istore4, pe_iload4, pe_icmp_gt, pe_call6, pe_call8, pe_istore5, pe_iload5, pe_laload, pe_lastore, pe_iaload, pe_iastore, pe_iinc4, pe_iinc3, pe_return, pm_prog_1, pm_ob_some, Nat.reduceDiv, Nat.reduceMod, Nat.reduceMul, Nat.reduceAdd, Int.reduceToNat, pm_kill_i, pm_kill_r, pm_kill_n, pm_kill_j, pm_kill_l, pm_kill_d, pm_cats_nil, pm_cats_i, pm_cats_r, pm_cats_n, pm_cats_l, pm_cats_d, sz_1, sz_2, sl_1, sl_2, lc_0, lc_lt, lc_le, li_ne, Int32.reduceOfInt, Int64.reduceOfInt, Int32.reduceOfNat, Int32.reduceLT, Int32.reduceLE, Prod.mk.injEq, Nat.reduceEqDiff, reduceCtorEq, and_true, true_and, and_false, false_and, and_self, ite_true, ite_false, ↓reduceIte, not_true_eq_false, not_false_eq_true, pe_ri, pe_rz, Ri_g3 hA, Ri_g2 hA, Ri_g29 hA, Ri_g31 hA, Ri_g30 hA, Ri_g32 hA, Ri_r29 hA, Ri_w29 hA, Ri_l29 hA, Ri_r30 hA, Ri_w30 hA, Ri_l30 hA, Ri_r31 hA, Ri_w31 hA, Ri_l31 hA, Ri_r32 hA, Ri_w32 hA, Ri_l32 hA, eq_false k1, hc]
theorem z1756_3 {A : wK → Nat} {h : pm_H} {m D : Nat} {R : Outcome × pm_H} (hA : wok A Ri_d m) (hD : 3 ≤ D) {n : Nat} {a : Int32 × Int32 × Int32 × wS} {b : (wS)} (e : lp (f1756_b3) n a = some b) (hx : ex1756_3 A h D R b) : go1756_3 A h D R a := lp_run (fun a r => y1756_b3 hA hD a r) n a b e hx
theorem y1756_2 {A : wK → Nat} {h : pm_H} {m D : Nat} {S : wS} {x1 : Int32} {y0 : Int32} {r : wS} (hA : wok A Ri_d m) (hD : 3 ≤ D) (e : f1756_2 S x1 y0 = some r) : ∀ q2 q3 q4 q5 : Value, pm_go pm_prog (pm_call pm_prog D) 1756 2 [.ref (A (0, 0, 0)), .int x1, q2, q3, q4, q5] [.int y0] (wput A Ri_d S h) = some (.returned none, (wput A Ri_d r h)) := by
  intro q2 q3 q4 q5
  simp only [f1756_2] at e
  rw [g1756_2, b1756_2]
  obtain ⟨S9, k1, e⟩ := Option.bind_eq_some_iff.mp e
  try dsimp only at e
  try simp -implicitDefEqProofs (disch := first | assumption | exact Nat.le_of_ble_eq_true rfl | decide) only [b1756_0, g1756_1, b1756_1, g1756_5, b1756_5, g1756_7, b1756_7, g1756_8, b1756_8, pe_aload0, pe_sipush, pe_call2, pm_af_ret, pm_af_void, pm_af_thr, pe_istore1, pe_iload1, pe_if_eq, pe_getfield, pe_goto, pe_goto_w, pe_istore2, pe_istore3, pe_iload3, pe_iload2, pe_icmp_ge, pe_iadd, pe_istore4, pe_iload4, pe_icmp_gt, pe_call6, pe_call8, pe_istore5, pe_iload5, pe_laload, pe_lastore, pe_iaload, pe_iastore, pe_iinc4, pe_iinc3, pe_return, pm_prog_1, pm_ob_some, Nat.reduceDiv, Nat.reduceMod, Nat.reduceMul, Nat.reduceAdd, Int.reduceToNat, pm_kill_i, pm_kill_r, pm_kill_n, pm_kill_j, pm_kill_l, pm_kill_d, pm_cats_nil, pm_cats_i, pm_cats_r, pm_cats_n, pm_cats_l, pm_cats_d, sz_1, sz_2, sl_1, sl_2, lc_0, lc_lt, lc_le, li_ne, Int32.reduceOfInt, Int64.reduceOfInt, Int32.reduceOfNat, Int32.reduceLT, Int32.reduceLE, Prod.mk.injEq, Nat.reduceEqDiff, reduceCtorEq, and_true, true_and, and_false, false_and, and_self, ite_true, ite_false, ↓reduceIte, not_true_eq_false, not_false_eq_true, pe_ri, pe_rz, Ri_g3 hA, Ri_g2 hA, Ri_g29 hA, Ri_g31 hA, Ri_g30 hA, Ri_g32 hA, Ri_r29 hA, Ri_w29 hA, Ri_l29 hA, Ri_r30 hA, Ri_w30 hA, Ri_l30 hA, Ri_r31 hA, Ri_w31 hA, Ri_l31 hA, Ri_r32 hA, Ri_w32 hA, Ri_l32 hA]
  refine z1756_3 hA hD k1 ?_ _ _
  dsimp only [ex1756_3]
  intro q1 q2 q3 q4 q5
  have e := Option.some.inj e; subst e
  simp -implicitDefEqProofs (disch := first | assumption | exact Nat.le_of_ble_eq_true rfl | decide) only [b1756_0, g1756_1, b1756_1, g1756_5, b1756_5, g1756_7, b1756_7, g1756_8, b1756_8, pe_aload0, pe_sipush, pe_call2, pm_af_ret, pm_af_void, pm_af_thr, pe_istore1, pe_iload1, pe_if_eq, pe_getfield, pe_goto, pe_goto_w, pe_istore2, pe_istore3, pe_iload3, pe_iload2, pe_icmp_ge, pe_iadd, pe_istore4, pe_iload4, pe_icmp_gt, pe_call6, pe_call8, pe_istore5, pe_iload5, pe_laload, pe_lastore, pe_iaload, pe_iastore, pe_iinc4, pe_iinc3, pe_return, pm_prog_1, pm_ob_some, Nat.reduceDiv, Nat.reduceMod, Nat.reduceMul, Nat.reduceAdd, Int.reduceToNat, pm_kill_i, pm_kill_r, pm_kill_n, pm_kill_j, pm_kill_l, pm_kill_d, pm_cats_nil, pm_cats_i, pm_cats_r, pm_cats_n, pm_cats_l, pm_cats_d, sz_1, sz_2, sl_1, sl_2, lc_0, lc_lt, lc_le, li_ne, Int32.reduceOfInt, Int64.reduceOfInt, Int32.reduceOfNat, Int32.reduceLT, Int32.reduceLE, Prod.mk.injEq, Nat.reduceEqDiff, reduceCtorEq, and_true, true_and, and_false, false_and, and_self, ite_true, ite_false, ↓reduceIte, not_true_eq_false, not_false_eq_true, pe_ri, pe_rz, Ri_g3 hA, Ri_g2 hA, Ri_g29 hA, Ri_g31 hA, Ri_g30 hA, Ri_g32 hA, Ri_r29 hA, Ri_w29 hA, Ri_l29 hA, Ri_r30 hA, Ri_w30 hA, Ri_l30 hA, Ri_r31 hA, Ri_w31 hA, Ri_l31 hA, Ri_r32 hA, Ri_w32 hA, Ri_l32 hA]
theorem x1756 {A : wK → Nat} {h : pm_H} {m D : Nat} {S : wS} {r : wS} (hA : wok A Ri_d m) (hD : 4 ≤ D) (e : f1756 S = some r) : pm_call pm_prog D 1756 [.ref (A (0, 0, 0))] (wput A Ri_d S h) = some (.returned none, (wput A Ri_d r h)) := by
  obtain ⟨D, rfl⟩ : ∃ D', D = D' + 1 := ⟨D - 1, by omega⟩
  have hD : 3 ≤ D := by omega
  rw [c1756 (Ri_c hA), b1756_0]
  simp only [f1756] at e
  obtain ⟨v1, k1, e⟩ := Option.bind_eq_some_iff.mp e
  try dsimp only at e
  have z1 := x1751 (D := D) (h := h) hA (by omega) k1
  by_cases k2 : v1 = 0
  · rw [if_pos k2] at e
    have k3 := y1756_2 (h := h) hA hD e
    simp -implicitDefEqProofs (disch := first | assumption | exact Nat.le_of_ble_eq_true rfl | decide) only [b1756_0, g1756_1, b1756_1, g1756_5, b1756_5, g1756_7, b1756_7, g1756_8, b1756_8, pe_aload0, pe_sipush, pe_call2, pm_af_ret, pm_af_void, pm_af_thr, pe_istore1, pe_iload1, pe_if_eq, pe_getfield, pe_goto, pe_goto_w, pe_istore2, pe_istore3, pe_iload3, pe_iload2, pe_icmp_ge, pe_iadd, pe_istore4, pe_iload4, pe_icmp_gt, pe_call6, pe_call8, pe_istore5, pe_iload5, pe_laload, pe_lastore, pe_iaload, pe_iastore, pe_iinc4, pe_iinc3, pe_return, pm_prog_1, pm_ob_some, Nat.reduceDiv, Nat.reduceMod, Nat.reduceMul, Nat.reduceAdd, Int.reduceToNat, pm_kill_i, pm_kill_r, pm_kill_n, pm_kill_j, pm_kill_l, pm_kill_d, pm_cats_nil, pm_cats_i, pm_cats_r, pm_cats_n, pm_cats_l, pm_cats_d, sz_1, sz_2, sl_1, sl_2, lc_0, lc_lt, lc_le, li_ne, Int32.reduceOfInt, Int64.reduceOfInt, Int32.reduceOfNat, Int32.reduceLT, Int32.reduceLE, Prod.mk.injEq, Nat.reduceEqDiff, reduceCtorEq, and_true, true_and, and_false, false_and, and_self, ite_true, ite_false, ↓reduceIte, not_true_eq_false, not_false_eq_true, pe_ri, pe_rz, Ri_g3 hA, Ri_g2 hA, Ri_g29 hA, Ri_g31 hA, Ri_g30 hA, Ri_g32 hA, Ri_r29 hA, Ri_w29 hA, Ri_l29 hA, Ri_r30 hA, Ri_w30 hA, Ri_l30 hA, Ri_r31 hA, Ri_w31 hA, Ri_l31 hA, Ri_r32 hA, Ri_w32 hA, Ri_l32 hA, z1, eq_true k2, k3]
  · rw [if_neg k2] at e
    have k4 := y1756_2 (h := h) hA hD e
    simp -implicitDefEqProofs (disch := first | assumption | exact Nat.le_of_ble_eq_true rfl | decide) only [b1756_0, g1756_1, b1756_1, g1756_5, b1756_5, g1756_7, b1756_7, g1756_8, b1756_8, pe_aload0, pe_sipush, pe_call2, pm_af_ret, pm_af_void, pm_af_thr, pe_istore1, pe_iload1, pe_if_eq, pe_getfield, pe_goto, pe_goto_w, pe_istore2, pe_istore3, pe_iload3, pe_iload2, pe_icmp_ge, pe_iadd, pe_istore4, pe_iload4, pe_icmp_gt, pe_call6, pe_call8, pe_istore5, pe_iload5, pe_laload, pe_lastore, pe_iaload, pe_iastore, pe_iinc4, pe_iinc3, pe_return, pm_prog_1, pm_ob_some, Nat.reduceDiv, Nat.reduceMod, Nat.reduceMul, Nat.reduceAdd, Int.reduceToNat, pm_kill_i, pm_kill_r, pm_kill_n, pm_kill_j, pm_kill_l, pm_kill_d, pm_cats_nil, pm_cats_i, pm_cats_r, pm_cats_n, pm_cats_l, pm_cats_d, sz_1, sz_2, sl_1, sl_2, lc_0, lc_lt, lc_le, li_ne, Int32.reduceOfInt, Int64.reduceOfInt, Int32.reduceOfNat, Int32.reduceLT, Int32.reduceLE, Prod.mk.injEq, Nat.reduceEqDiff, reduceCtorEq, and_true, true_and, and_false, false_and, and_self, ite_true, ite_false, ↓reduceIte, not_true_eq_false, not_false_eq_true, pe_ri, pe_rz, Ri_g3 hA, Ri_g2 hA, Ri_g29 hA, Ri_g31 hA, Ri_g30 hA, Ri_g32 hA, Ri_r29 hA, Ri_w29 hA, Ri_l29 hA, Ri_r30 hA, Ri_w30 hA, Ri_l30 hA, Ri_r31 hA, Ri_w31 hA, Ri_l31 hA, Ri_r32 hA, Ri_w32 hA, Ri_l32 hA, z1, eq_false k2, k4]
/-- TimberHouseModel$Rips.segmentFrom(IIIIII)I -/
theorem c1758 {d : Nat} {h : pm_H} {a : Nat} {x0 : Int32} {x1 : Int32} {x2 : Int32} {x3 : Int32} {x4 : Int32} {x5 : Int32} (hc : pm_cls h a = some 27) : pm_call pm_prog (d + 1) 1758 [.ref a, .int x0, .int x1, .int x2, .int x3, .int x4, .int x5] h = pm_ev pm_prog (pm_call pm_prog d) 1758 0 b1758_0 [.ref a, .int x0, .int x1, .int x2, .int x3, .int x4, .int x5, pm_junk, pm_junk, pm_junk, pm_junk, pm_junk, pm_junk] [] h := pm_cal (pm_rc1 hc rfl) rfl rfl rfl
theorem g1758_1 {cl : pm_C} {ls st : List Value} {h : pm_H} : pm_go pm_prog cl 1758 1 ls st h = pm_ev pm_prog cl 1758 1 b1758_1 ls st h := pm_go_eq pm_prog cl 1758 1 ls st h
theorem g1758_2 {cl : pm_C} {ls st : List Value} {h : pm_H} : pm_go pm_prog cl 1758 2 ls st h = pm_ev pm_prog cl 1758 2 b1758_2 ls st h := pm_go_eq pm_prog cl 1758 2 ls st h
theorem g1758_3 {cl : pm_C} {ls st : List Value} {h : pm_H} : pm_go pm_prog cl 1758 3 ls st h = pm_ev pm_prog cl 1758 3 b1758_3 ls st h := pm_go_eq pm_prog cl 1758 3 ls st h
theorem g1758_4 {cl : pm_C} {ls st : List Value} {h : pm_H} : pm_go pm_prog cl 1758 4 ls st h = pm_ev pm_prog cl 1758 4 b1758_4 ls st h := pm_go_eq pm_prog cl 1758 4 ls st h
theorem g1758_5 {cl : pm_C} {ls st : List Value} {h : pm_H} : pm_go pm_prog cl 1758 5 ls st h = pm_ev pm_prog cl 1758 5 b1758_5 ls st h := pm_go_eq pm_prog cl 1758 5 ls st h
theorem g1758_6 {cl : pm_C} {ls st : List Value} {h : pm_H} : pm_go pm_prog cl 1758 6 ls st h = pm_ev pm_prog cl 1758 6 b1758_6 ls st h := pm_go_eq pm_prog cl 1758 6 ls st h
theorem g1758_7 {cl : pm_C} {ls st : List Value} {h : pm_H} : pm_go pm_prog cl 1758 7 ls st h = pm_ev pm_prog cl 1758 7 b1758_7 ls st h := pm_go_eq pm_prog cl 1758 7 ls st h
noncomputable def f1758_5_3 (S : wS) (x1 : Int32) (x2 : Int32) (x3 : Int32) (x4 : Int32) (x5 : Int32) (x6 : Int32) (x7 : Int32) (x8 : Int32) (x9 : Int32) (x11 : Int32) (y0 : Int32) : Option ((Int32 × Int32 × Int32 × Int32 × Int32 × Int32 × Int32 × Int32 × Int32) ⊕ ((Unit) ⊕ (Int32))) :=
  if x11 ≤ 0 then
    some (.inl (x1, x2, x3, x4, x5, x6, x7, x8, (x9 + (-1))))
  else
    if y0 = 0 then
      some (.inl (x1, x2, x3, x4, x5, x6, x7, x8, (x9 + (-1))))
    else
      (f1754 S x1 (x9 - x2)).bind fun v5 =>
      if v5 = 0 then
        some (.inl (x1, x2, x3, x4, x5, x6, x7, x8, (x9 + (-1))))
      else
        some (.inr (.inr (x9)))
noncomputable def f1758_b3 (S : wS) : Int32 × Int32 × Int32 × Int32 × Int32 × Int32 × Int32 × Int32 × Int32 → Option ((Int32 × Int32 × Int32 × Int32 × Int32 × Int32 × Int32 × Int32 × Int32) ⊕ ((Unit) ⊕ (Int32))) := fun (x1, x2, x3, x4, x5, x6, x7, x8, x9) =>
  if x9 ≤ x2 then
    some (.inr (.inl ()))
  else
    (f1752 S x7 x3 x4 x5 x6 x2 x9).bind fun v2 =>
    (f1753 S (x1 - 1) v2).bind fun v3 =>
    if 0 ≤ (x8 + x9) ∧ (x8 + x9) < 128 then
      (f1755 S (x1 - 1) v2).bind fun v4 =>
      if 0 ≤ (x8 + x2) ∧ (x8 + x2) < 128 then
        if ((S.2 (32, 0, 0) (x8 + x9)) + v4) = (S.2 (32, 0, 0) (x8 + x2)) then
          if ((S.1 (33, 0, 0) (x8 + x9)) + v3) = (S.1 (33, 0, 0) (x8 + x2)) then
            f1758_5_3 S x1 x2 x3 x4 x5 x6 x7 x8 x9 v3 1
          else
            f1758_5_3 S x1 x2 x3 x4 x5 x6 x7 x8 x9 v3 0
        else
          f1758_5_3 S x1 x2 x3 x4 x5 x6 x7 x8 x9 v3 0
      else none
    else none
noncomputable def f1758_2 (S : wS) (x1 : Int32) (x2 : Int32) (x3 : Int32) (x4 : Int32) (x5 : Int32) (x6 : Int32) (x7 : Int32) (x8 : Int32) (y0 : Int32) : Option (Int32) :=
  (lp (f1758_b3 S) FU (x1, x2, x3, x4, x5, x6, x7, x8, y0)).bind fun b => match b with
  | (.inl ()) =>
    some (-1)
  | (.inr (v6)) =>
    some v6
/-- TimberHouseModel$Rips.segmentFrom(IIIIII)I -/
noncomputable def f1758 (S : wS) (x1 : Int32) (x2 : Int32) (x3 : Int32) (x4 : Int32) (x5 : Int32) (x6 : Int32) : Option (Int32) :=
  (f1751 S x1).bind fun v1 =>
  if v1 = 0 then
    f1758_2 S x1 x2 x3 x4 x5 x6 v1 (32 * x1) (x4 - x3)
  else
    f1758_2 S x1 x2 x3 x4 x5 x6 v1 (32 * x1) (x6 - x5)
def go1758_3 (A : wK → Nat) (h : pm_H) (D : Nat) (R : Outcome × pm_H) (S : wS) : Int32 × Int32 × Int32 × Int32 × Int32 × Int32 × Int32 × Int32 × Int32 → Prop := fun (x1, x2, x3, x4, x5, x6, x7, x8, x9) => ∀ q10 q11 q12 : Value, pm_go pm_prog (pm_call pm_prog D) 1758 3 [.ref (A (0, 0, 0)), .int x1, .int x2, .int x3, .int x4, .int x5, .int x6, .int x7, .int x8, .int x9, q10, q11, q12] [] (wput A Ri_d S h) = some R
def ex1758_3 (A : wK → Nat) (h : pm_H) (D : Nat) (R : Outcome × pm_H) (S : wS) : (Unit) ⊕ (Int32) → Prop := fun b => match b with
  | (.inl _) => ∀ q1 q2 q3 q4 q5 q6 q7 q8 q9 q10 q11 q12 : Value, pm_go pm_prog (pm_call pm_prog D) 1758 7 [.ref (A (0, 0, 0)), q1, q2, q3, q4, q5, q6, q7, q8, q9, q10, q11, q12] [] (wput A Ri_d S h) = some R
  | (.inr (xr)) => some (Outcome.returned (some (.int xr)), (wput A Ri_d S h)) = some R
theorem y1758_5_3 {A : wK → Nat} {h : pm_H} {m D : Nat} {R : Outcome × pm_H} {S : wS} {x1 : Int32} {x2 : Int32} {x3 : Int32} {x4 : Int32} {x5 : Int32} {x6 : Int32} {x7 : Int32} {x8 : Int32} {x9 : Int32} {x11 : Int32} {y0 : Int32} {r : (Int32 × Int32 × Int32 × Int32 × Int32 × Int32 × Int32 × Int32 × Int32) ⊕ ((Unit) ⊕ (Int32))} (hA : wok A Ri_d m) (hD : 2 ≤ D) (e : f1758_5_3 S x1 x2 x3 x4 x5 x6 x7 x8 x9 x11 y0 = some r) (hc : Sum.elim (go1758_3 A h D R S) (ex1758_3 A h D R S) r) : ∀ q10 q12 : Value, pm_go pm_prog (pm_call pm_prog D) 1758 5 [.ref (A (0, 0, 0)), .int x1, .int x2, .int x3, .int x4, .int x5, .int x6, .int x7, .int x8, .int x9, q10, .int x11, q12] [.int y0] (wput A Ri_d S h) = some R := by
  intro q10 q12
  simp only [f1758_5_3] at e
  rw [g1758_5, b1758_5]
  by_cases k1 : x11 ≤ 0
  · rw [if_pos k1] at e
    have e := Option.some.inj e; subst e
    dsimp only [Sum.elim_inl, go1758_3] at hc
    simp -implicitDefEqProofs (disch := first | assumption | exact Nat.le_of_ble_eq_true rfl | decide) only [b1758_0, g1758_1, b1758_1, g1758_4, b1758_4, g1758_6, b1758_6, g1758_7, b1758_7, pe_aload0, pe_iload1, pe_call2, pm_af_ret, pm_af_void, pm_af_thr, pe_istore7, pe_sipush, pe_imul, pe_istore8, pe_iload7, pe_if_eq, pe_iload6, pe_iload5, pe_isub, pe_goto, pe_iload4, pe_iload3, pe_goto_w, pe_istore9, pe_iload9, pe_iload2, pe_icmp_le, pe_call8, pe_istore10, pe_iload10, pe_call3, pe_istore11, pe_getfield, pe_iload8, pe_iadd, pe_laload, pe_ladd, pe_lcmp, pe_if_ne, pe_iaload, pe_iload11, pe_icmp_ne, pe_istore12, pe_if_le, pe_iload12, pe_iinc9, pm_prog_1, pm_ob_some, Nat.reduceDiv, Nat.reduceMod, Nat.reduceMul, Nat.reduceAdd, Int.reduceToNat, pm_kill_i, pm_kill_r, pm_kill_n, pm_kill_j, pm_kill_l, pm_kill_d, pm_cats_nil, pm_cats_i, pm_cats_r, pm_cats_n, pm_cats_l, pm_cats_d, sz_1, sz_2, sl_1, sl_2, lc_0, lc_lt, lc_le, li_ne, Int32.reduceOfInt, Int64.reduceOfInt, Int32.reduceOfNat, Int32.reduceLT, Int32.reduceLE, Prod.mk.injEq, Nat.reduceEqDiff, reduceCtorEq, and_true, true_and, and_false, false_and, and_self, ite_true, ite_false, ↓reduceIte, not_true_eq_false, not_false_eq_true, pe_ri, pe_rz, Ri_g31 hA, Ri_g32 hA, Ri_r31 hA, Ri_w31 hA, Ri_l31 hA, Ri_r32 hA, Ri_w32 hA, Ri_l32 hA, eq_true k1, hc]
  · rw [if_neg k1] at e
    by_cases k2 : y0 = 0
    · rw [if_pos k2] at e
      have e := Option.some.inj e; subst e
      dsimp only [Sum.elim_inl, go1758_3] at hc
      simp -implicitDefEqProofs (disch := first | assumption | exact Nat.le_of_ble_eq_true rfl | decide) only [b1758_0, g1758_1, b1758_1, g1758_4, b1758_4, g1758_6, b1758_6, g1758_7, b1758_7, pe_aload0, pe_iload1, pe_call2, pm_af_ret, pm_af_void, pm_af_thr, pe_istore7, pe_sipush, pe_imul, pe_istore8, pe_iload7, pe_if_eq, pe_iload6, pe_iload5, pe_isub, pe_goto, pe_iload4, pe_iload3, pe_goto_w, pe_istore9, pe_iload9, pe_iload2, pe_icmp_le, pe_call8, pe_istore10, pe_iload10, pe_call3, pe_istore11, pe_getfield, pe_iload8, pe_iadd, pe_laload, pe_ladd, pe_lcmp, pe_if_ne, pe_iaload, pe_iload11, pe_icmp_ne, pe_istore12, pe_if_le, pe_iload12, pe_iinc9, pm_prog_1, pm_ob_some, Nat.reduceDiv, Nat.reduceMod, Nat.reduceMul, Nat.reduceAdd, Int.reduceToNat, pm_kill_i, pm_kill_r, pm_kill_n, pm_kill_j, pm_kill_l, pm_kill_d, pm_cats_nil, pm_cats_i, pm_cats_r, pm_cats_n, pm_cats_l, pm_cats_d, sz_1, sz_2, sl_1, sl_2, lc_0, lc_lt, lc_le, li_ne, Int32.reduceOfInt, Int64.reduceOfInt, Int32.reduceOfNat, Int32.reduceLT, Int32.reduceLE, Prod.mk.injEq, Nat.reduceEqDiff, reduceCtorEq, and_true, true_and, and_false, false_and, and_self, ite_true, ite_false, ↓reduceIte, not_true_eq_false, not_false_eq_true, pe_ri, pe_rz, Ri_g31 hA, Ri_g32 hA, Ri_r31 hA, Ri_w31 hA, Ri_l31 hA, Ri_r32 hA, Ri_w32 hA, Ri_l32 hA, eq_false k1, eq_true k2, hc]
    · rw [if_neg k2] at e
      obtain ⟨v5, k3, e⟩ := Option.bind_eq_some_iff.mp e
      try dsimp only at e
      have z3 := x1754 (D := D) (h := h) hA (by omega) k3
      by_cases k4 : v5 = 0
      · rw [if_pos k4] at e
        have e := Option.some.inj e; subst e
        dsimp only [Sum.elim_inl, go1758_3] at hc
        simp -implicitDefEqProofs (disch := first | assumption | exact Nat.le_of_ble_eq_true rfl | decide) only [b1758_0, g1758_1, b1758_1, g1758_4, b1758_4, g1758_6, b1758_6, g1758_7, b1758_7, pe_aload0, pe_iload1, pe_call2, pm_af_ret, pm_af_void, pm_af_thr, pe_istore7, pe_sipush, pe_imul, pe_istore8, pe_iload7, pe_if_eq, pe_iload6, pe_iload5, pe_isub, pe_goto, pe_iload4, pe_iload3, pe_goto_w, pe_istore9, pe_iload9, pe_iload2, pe_icmp_le, pe_call8, pe_istore10, pe_iload10, pe_call3, pe_istore11, pe_getfield, pe_iload8, pe_iadd, pe_laload, pe_ladd, pe_lcmp, pe_if_ne, pe_iaload, pe_iload11, pe_icmp_ne, pe_istore12, pe_if_le, pe_iload12, pe_iinc9, pm_prog_1, pm_ob_some, Nat.reduceDiv, Nat.reduceMod, Nat.reduceMul, Nat.reduceAdd, Int.reduceToNat, pm_kill_i, pm_kill_r, pm_kill_n, pm_kill_j, pm_kill_l, pm_kill_d, pm_cats_nil, pm_cats_i, pm_cats_r, pm_cats_n, pm_cats_l, pm_cats_d, sz_1, sz_2, sl_1, sl_2, lc_0, lc_lt, lc_le, li_ne, Int32.reduceOfInt, Int64.reduceOfInt, Int32.reduceOfNat, Int32.reduceLT, Int32.reduceLE, Prod.mk.injEq, Nat.reduceEqDiff, reduceCtorEq, and_true, true_and, and_false, false_and, and_self, ite_true, ite_false, ↓reduceIte, not_true_eq_false, not_false_eq_true, pe_ri, pe_rz, Ri_g31 hA, Ri_g32 hA, Ri_r31 hA, Ri_w31 hA, Ri_l31 hA, Ri_r32 hA, Ri_w32 hA, Ri_l32 hA, eq_false k1, eq_false k2, z3, eq_true k4, hc]
      · rw [if_neg k4] at e
        have e := Option.some.inj e; subst e
        dsimp only [Sum.elim_inr, ex1758_3] at hc
        simp -implicitDefEqProofs (disch := first | assumption | exact Nat.le_of_ble_eq_true rfl | decide) only [b1758_0, g1758_1, b1758_1, g1758_4, b1758_4, g1758_6, b1758_6, g1758_7, b1758_7, pe_aload0, pe_iload1, pe_call2, pm_af_ret, pm_af_void, pm_af_thr, pe_istore7, pe_sipush, pe_imul, pe_istore8, pe_iload7, pe_if_eq, pe_iload6, pe_iload5, pe_isub, pe_goto, pe_iload4, pe_iload3, pe_goto_w, pe_istore9, pe_iload9, pe_iload2, pe_icmp_le, pe_call8, pe_istore10, pe_iload10, pe_call3, pe_istore11, pe_getfield, pe_iload8, pe_iadd, pe_laload, pe_ladd, pe_lcmp, pe_if_ne, pe_iaload, pe_iload11, pe_icmp_ne, pe_istore12, pe_if_le, pe_iload12, pe_iinc9, pm_prog_1, pm_ob_some, Nat.reduceDiv, Nat.reduceMod, Nat.reduceMul, Nat.reduceAdd, Int.reduceToNat, pm_kill_i, pm_kill_r, pm_kill_n, pm_kill_j, pm_kill_l, pm_kill_d, pm_cats_nil, pm_cats_i, pm_cats_r, pm_cats_n, pm_cats_l, pm_cats_d, sz_1, sz_2, sl_1, sl_2, lc_0, lc_lt, lc_le, li_ne, Int32.reduceOfInt, Int64.reduceOfInt, Int32.reduceOfNat, Int32.reduceLT, Int32.reduceLE, Prod.mk.injEq, Nat.reduceEqDiff, reduceCtorEq, and_true, true_and, and_false, false_and, and_self, ite_true, ite_false, ↓reduceIte, not_true_eq_false, not_false_eq_true, pe_ri, pe_rz, Ri_g31 hA, Ri_g32 hA, Ri_r31 hA, Ri_w31 hA, Ri_l31 hA, Ri_r32 hA, Ri_w32 hA, Ri_l32 hA, eq_false k1, eq_false k2, z3, eq_false k4, hc]
theorem y1758_b3 {A : wK → Nat} {h : pm_H} {m D : Nat} {R : Outcome × pm_H} {S : wS} (hA : wok A Ri_d m) (hD : 2 ≤ D) (a : Int32 × Int32 × Int32 × Int32 × Int32 × Int32 × Int32 × Int32 × Int32) (r : (Int32 × Int32 × Int32 × Int32 × Int32 × Int32 × Int32 × Int32 × Int32) ⊕ ((Unit) ⊕ (Int32))) (e : f1758_b3 S a = some r) (hc : Sum.elim (go1758_3 A h D R S) (ex1758_3 A h D R S) r) : go1758_3 A h D R S a := by
  obtain ⟨x1, x2, x3, x4, x5, x6, x7, x8, x9⟩ := a
  dsimp only [go1758_3]
  intro q10 q11 q12
  simp only [f1758_b3] at e
  rw [g1758_3, b1758_3]
  by_cases k1 : x9 ≤ x2
  · rw [if_pos k1] at e
    have e := Option.some.inj e; subst e
    dsimp only [Sum.elim_inr, ex1758_3] at hc
    simp -implicitDefEqProofs (disch := first | assumption | exact Nat.le_of_ble_eq_true rfl | decide) only [b1758_0, g1758_1, b1758_1, g1758_4, b1758_4, g1758_6, b1758_6, g1758_7, b1758_7, pe_aload0, pe_iload1, pe_call2, pm_af_ret, pm_af_void, pm_af_thr, pe_istore7, pe_sipush, pe_imul, pe_istore8, pe_iload7, pe_if_eq, pe_iload6, pe_iload5, pe_isub, pe_goto, pe_iload4, pe_iload3, pe_goto_w, pe_istore9, pe_iload9, pe_iload2, pe_icmp_le, pe_call8, pe_istore10, pe_iload10, pe_call3, pe_istore11, pe_getfield, pe_iload8, pe_iadd, pe_laload, pe_ladd, pe_lcmp, pe_if_ne, pe_iaload, pe_iload11, pe_icmp_ne, pe_istore12, pe_if_le, pe_iload12, pe_iinc9, pm_prog_1, pm_ob_some, Nat.reduceDiv, Nat.reduceMod, Nat.reduceMul, Nat.reduceAdd, Int.reduceToNat, pm_kill_i, pm_kill_r, pm_kill_n, pm_kill_j, pm_kill_l, pm_kill_d, pm_cats_nil, pm_cats_i, pm_cats_r, pm_cats_n, pm_cats_l, pm_cats_d, sz_1, sz_2, sl_1, sl_2, lc_0, lc_lt, lc_le, li_ne, Int32.reduceOfInt, Int64.reduceOfInt, Int32.reduceOfNat, Int32.reduceLT, Int32.reduceLE, Prod.mk.injEq, Nat.reduceEqDiff, reduceCtorEq, and_true, true_and, and_false, false_and, and_self, ite_true, ite_false, ↓reduceIte, not_true_eq_false, not_false_eq_true, pe_ri, pe_rz, Ri_g31 hA, Ri_g32 hA, Ri_r31 hA, Ri_w31 hA, Ri_l31 hA, Ri_r32 hA, Ri_w32 hA, Ri_l32 hA, eq_true k1, hc]
  · rw [if_neg k1] at e
    obtain ⟨v2, k2, e⟩ := Option.bind_eq_some_iff.mp e
    try dsimp only at e
    have z2 := x1752 (D := D) (h := h) hA (by omega) k2
    obtain ⟨v3, k3, e⟩ := Option.bind_eq_some_iff.mp e
    try dsimp only at e
    have z3 := x1753 (D := D) (h := h) hA (by omega) k3
    by_cases k4 : 0 ≤ (x8 + x9) ∧ (x8 + x9) < 128
    · rw [if_pos k4] at e
      obtain ⟨v4, k5, e⟩ := Option.bind_eq_some_iff.mp e
      try dsimp only at e
      have z5 := x1755 (D := D) (h := h) hA (by omega) k5
      by_cases k6 : 0 ≤ (x8 + x2) ∧ (x8 + x2) < 128
      · rw [if_pos k6] at e
        by_cases k7 : ((S.2 (32, 0, 0) (x8 + x9)) + v4) = (S.2 (32, 0, 0) (x8 + x2))
        · rw [if_pos k7] at e
          by_cases k8 : ((S.1 (33, 0, 0) (x8 + x9)) + v3) = (S.1 (33, 0, 0) (x8 + x2))
          · rw [if_pos k8] at e
            have k9 := y1758_5_3 (h := h) hA hD e hc
            simp -implicitDefEqProofs (disch := first | assumption | exact Nat.le_of_ble_eq_true rfl | decide) only [b1758_0, g1758_1, b1758_1, g1758_4, b1758_4, g1758_6, b1758_6, g1758_7, b1758_7, pe_aload0, pe_iload1, pe_call2, pm_af_ret, pm_af_void, pm_af_thr, pe_istore7, pe_sipush, pe_imul, pe_istore8, pe_iload7, pe_if_eq, pe_iload6, pe_iload5, pe_isub, pe_goto, pe_iload4, pe_iload3, pe_goto_w, pe_istore9, pe_iload9, pe_iload2, pe_icmp_le, pe_call8, pe_istore10, pe_iload10, pe_call3, pe_istore11, pe_getfield, pe_iload8, pe_iadd, pe_laload, pe_ladd, pe_lcmp, pe_if_ne, pe_iaload, pe_iload11, pe_icmp_ne, pe_istore12, pe_if_le, pe_iload12, pe_iinc9, pm_prog_1, pm_ob_some, Nat.reduceDiv, Nat.reduceMod, Nat.reduceMul, Nat.reduceAdd, Int.reduceToNat, pm_kill_i, pm_kill_r, pm_kill_n, pm_kill_j, pm_kill_l, pm_kill_d, pm_cats_nil, pm_cats_i, pm_cats_r, pm_cats_n, pm_cats_l, pm_cats_d, sz_1, sz_2, sl_1, sl_2, lc_0, lc_lt, lc_le, li_ne, Int32.reduceOfInt, Int64.reduceOfInt, Int32.reduceOfNat, Int32.reduceLT, Int32.reduceLE, Prod.mk.injEq, Nat.reduceEqDiff, reduceCtorEq, and_true, true_and, and_false, false_and, and_self, ite_true, ite_false, ↓reduceIte, not_true_eq_false, not_false_eq_true, pe_ri, pe_rz, Ri_g31 hA, Ri_g32 hA, Ri_r31 hA, Ri_w31 hA, Ri_l31 hA, Ri_r32 hA, Ri_w32 hA, Ri_l32 hA, eq_false k1, z2, z3, z5, eq_true k7, eq_true k8, k9]
          · rw [if_neg k8] at e
            have k10 := y1758_5_3 (h := h) hA hD e hc
            simp -implicitDefEqProofs (disch := first | assumption | exact Nat.le_of_ble_eq_true rfl | decide) only [b1758_0, g1758_1, b1758_1, g1758_4, b1758_4, g1758_6, b1758_6, g1758_7, b1758_7, pe_aload0, pe_iload1, pe_call2, pm_af_ret, pm_af_void, pm_af_thr, pe_istore7, pe_sipush, pe_imul, pe_istore8, pe_iload7, pe_if_eq, pe_iload6, pe_iload5, pe_isub, pe_goto, pe_iload4, pe_iload3, pe_goto_w, pe_istore9, pe_iload9, pe_iload2, pe_icmp_le, pe_call8, pe_istore10, pe_iload10, pe_call3, pe_istore11, pe_getfield, pe_iload8, pe_iadd, pe_laload, pe_ladd, pe_lcmp, pe_if_ne, pe_iaload, pe_iload11, pe_icmp_ne, pe_istore12, pe_if_le, pe_iload12, pe_iinc9, pm_prog_1, pm_ob_some, Nat.reduceDiv, Nat.reduceMod, Nat.reduceMul, Nat.reduceAdd, Int.reduceToNat, pm_kill_i, pm_kill_r, pm_kill_n, pm_kill_j, pm_kill_l, pm_kill_d, pm_cats_nil, pm_cats_i, pm_cats_r, pm_cats_n, pm_cats_l, pm_cats_d, sz_1, sz_2, sl_1, sl_2, lc_0, lc_lt, lc_le, li_ne, Int32.reduceOfInt, Int64.reduceOfInt, Int32.reduceOfNat, Int32.reduceLT, Int32.reduceLE, Prod.mk.injEq, Nat.reduceEqDiff, reduceCtorEq, and_true, true_and, and_false, false_and, and_self, ite_true, ite_false, ↓reduceIte, not_true_eq_false, not_false_eq_true, pe_ri, pe_rz, Ri_g31 hA, Ri_g32 hA, Ri_r31 hA, Ri_w31 hA, Ri_l31 hA, Ri_r32 hA, Ri_w32 hA, Ri_l32 hA, eq_false k1, z2, z3, z5, eq_true k7, eq_false k8, k10]
        · rw [if_neg k7] at e
          have k11 := y1758_5_3 (h := h) hA hD e hc
          simp -implicitDefEqProofs (disch := first | assumption | exact Nat.le_of_ble_eq_true rfl | decide) only [b1758_0, g1758_1, b1758_1, g1758_4, b1758_4, g1758_6, b1758_6, g1758_7, b1758_7, pe_aload0, pe_iload1, pe_call2, pm_af_ret, pm_af_void, pm_af_thr, pe_istore7, pe_sipush, pe_imul, pe_istore8, pe_iload7, pe_if_eq, pe_iload6, pe_iload5, pe_isub, pe_goto, pe_iload4, pe_iload3, pe_goto_w, pe_istore9, pe_iload9, pe_iload2, pe_icmp_le, pe_call8, pe_istore10, pe_iload10, pe_call3, pe_istore11, pe_getfield, pe_iload8, pe_iadd, pe_laload, pe_ladd, pe_lcmp, pe_if_ne, pe_iaload, pe_iload11, pe_icmp_ne, pe_istore12, pe_if_le, pe_iload12, pe_iinc9, pm_prog_1, pm_ob_some, Nat.reduceDiv, Nat.reduceMod, Nat.reduceMul, Nat.reduceAdd, Int.reduceToNat, pm_kill_i, pm_kill_r, pm_kill_n, pm_kill_j, pm_kill_l, pm_kill_d, pm_cats_nil, pm_cats_i, pm_cats_r, pm_cats_n, pm_cats_l, pm_cats_d, sz_1, sz_2, sl_1, sl_2, lc_0, lc_lt, lc_le, li_ne, Int32.reduceOfInt, Int64.reduceOfInt, Int32.reduceOfNat, Int32.reduceLT, Int32.reduceLE, Prod.mk.injEq, Nat.reduceEqDiff, reduceCtorEq, and_true, true_and, and_false, false_and, and_self, ite_true, ite_false, ↓reduceIte, not_true_eq_false, not_false_eq_true, pe_ri, pe_rz, Ri_g31 hA, Ri_g32 hA, Ri_r31 hA, Ri_w31 hA, Ri_l31 hA, Ri_r32 hA, Ri_w32 hA, Ri_l32 hA, eq_false k1, z2, z3, z5, eq_false k7, k11]
      · rw [if_neg k6] at e; cases e
    · rw [if_neg k4] at e; cases e
theorem z1758_3 {A : wK → Nat} {h : pm_H} {m D : Nat} {R : Outcome × pm_H} {S : wS} (hA : wok A Ri_d m) (hD : 2 ≤ D) {n : Nat} {a : Int32 × Int32 × Int32 × Int32 × Int32 × Int32 × Int32 × Int32 × Int32} {b : (Unit) ⊕ (Int32)} (e : lp (f1758_b3 S) n a = some b) (hx : ex1758_3 A h D R S b) : go1758_3 A h D R S a := lp_run (fun a r => y1758_b3 hA hD a r) n a b e hx
theorem y1758_2 {A : wK → Nat} {h : pm_H} {m D : Nat} {S : wS} {x1 : Int32} {x2 : Int32} {x3 : Int32} {x4 : Int32} {x5 : Int32} {x6 : Int32} {x7 : Int32} {x8 : Int32} {y0 : Int32} {r : Int32} (hA : wok A Ri_d m) (hD : 2 ≤ D) (e : f1758_2 S x1 x2 x3 x4 x5 x6 x7 x8 y0 = some r) : ∀ q9 q10 q11 q12 : Value, pm_go pm_prog (pm_call pm_prog D) 1758 2 [.ref (A (0, 0, 0)), .int x1, .int x2, .int x3, .int x4, .int x5, .int x6, .int x7, .int x8, q9, q10, q11, q12] [.int y0] (wput A Ri_d S h) = some (.returned (some (.int r)), (wput A Ri_d S h)) := by
  intro q9 q10 q11 q12
  simp only [f1758_2] at e
  rw [g1758_2, b1758_2]
  obtain ⟨b, k1, e⟩ := Option.bind_eq_some_iff.mp e
  rcases b with _ | v6
  ·
    try dsimp only at e
    try simp -implicitDefEqProofs (disch := first | assumption | exact Nat.le_of_ble_eq_true rfl | decide) only [b1758_0, g1758_1, b1758_1, g1758_4, b1758_4, g1758_6, b1758_6, g1758_7, b1758_7, pe_aload0, pe_iload1, pe_call2, pm_af_ret, pm_af_void, pm_af_thr, pe_istore7, pe_sipush, pe_imul, pe_istore8, pe_iload7, pe_if_eq, pe_iload6, pe_iload5, pe_isub, pe_goto, pe_iload4, pe_iload3, pe_goto_w, pe_istore9, pe_iload9, pe_iload2, pe_icmp_le, pe_call8, pe_istore10, pe_iload10, pe_call3, pe_istore11, pe_getfield, pe_iload8, pe_iadd, pe_laload, pe_ladd, pe_lcmp, pe_if_ne, pe_iaload, pe_iload11, pe_icmp_ne, pe_istore12, pe_if_le, pe_iload12, pe_iinc9, pm_prog_1, pm_ob_some, Nat.reduceDiv, Nat.reduceMod, Nat.reduceMul, Nat.reduceAdd, Int.reduceToNat, pm_kill_i, pm_kill_r, pm_kill_n, pm_kill_j, pm_kill_l, pm_kill_d, pm_cats_nil, pm_cats_i, pm_cats_r, pm_cats_n, pm_cats_l, pm_cats_d, sz_1, sz_2, sl_1, sl_2, lc_0, lc_lt, lc_le, li_ne, Int32.reduceOfInt, Int64.reduceOfInt, Int32.reduceOfNat, Int32.reduceLT, Int32.reduceLE, Prod.mk.injEq, Nat.reduceEqDiff, reduceCtorEq, and_true, true_and, and_false, false_and, and_self, ite_true, ite_false, ↓reduceIte, not_true_eq_false, not_false_eq_true, pe_ri, pe_rz, Ri_g31 hA, Ri_g32 hA, Ri_r31 hA, Ri_w31 hA, Ri_l31 hA, Ri_r32 hA, Ri_w32 hA, Ri_l32 hA]
    refine z1758_3 hA hD k1 ?_ _ _ _
    dsimp only [ex1758_3]
    intro q1 q2 q3 q4 q5 q6 q7 q8 q9 q10 q11 q12
    have e := Option.some.inj e; subst e
    simp -implicitDefEqProofs (disch := first | assumption | exact Nat.le_of_ble_eq_true rfl | decide) only [b1758_0, g1758_1, b1758_1, g1758_4, b1758_4, g1758_6, b1758_6, g1758_7, b1758_7, pe_aload0, pe_iload1, pe_call2, pm_af_ret, pm_af_void, pm_af_thr, pe_istore7, pe_sipush, pe_imul, pe_istore8, pe_iload7, pe_if_eq, pe_iload6, pe_iload5, pe_isub, pe_goto, pe_iload4, pe_iload3, pe_goto_w, pe_istore9, pe_iload9, pe_iload2, pe_icmp_le, pe_call8, pe_istore10, pe_iload10, pe_call3, pe_istore11, pe_getfield, pe_iload8, pe_iadd, pe_laload, pe_ladd, pe_lcmp, pe_if_ne, pe_iaload, pe_iload11, pe_icmp_ne, pe_istore12, pe_if_le, pe_iload12, pe_iinc9, pm_prog_1, pm_ob_some, Nat.reduceDiv, Nat.reduceMod, Nat.reduceMul, Nat.reduceAdd, Int.reduceToNat, pm_kill_i, pm_kill_r, pm_kill_n, pm_kill_j, pm_kill_l, pm_kill_d, pm_cats_nil, pm_cats_i, pm_cats_r, pm_cats_n, pm_cats_l, pm_cats_d, sz_1, sz_2, sl_1, sl_2, lc_0, lc_lt, lc_le, li_ne, Int32.reduceOfInt, Int64.reduceOfInt, Int32.reduceOfNat, Int32.reduceLT, Int32.reduceLE, Prod.mk.injEq, Nat.reduceEqDiff, reduceCtorEq, and_true, true_and, and_false, false_and, and_self, ite_true, ite_false, ↓reduceIte, not_true_eq_false, not_false_eq_true, pe_ri, pe_rz, Ri_g31 hA, Ri_g32 hA, Ri_r31 hA, Ri_w31 hA, Ri_l31 hA, Ri_r32 hA, Ri_w32 hA, Ri_l32 hA]
  ·
    try dsimp only at e
    try simp -implicitDefEqProofs (disch := first | assumption | exact Nat.le_of_ble_eq_true rfl | decide) only [b1758_0, g1758_1, b1758_1, g1758_4, b1758_4, g1758_6, b1758_6, g1758_7, b1758_7, pe_aload0, pe_iload1, pe_call2, pm_af_ret, pm_af_void, pm_af_thr, pe_istore7, pe_sipush, pe_imul, pe_istore8, pe_iload7, pe_if_eq, pe_iload6, pe_iload5, pe_isub, pe_goto, pe_iload4, pe_iload3, pe_goto_w, pe_istore9, pe_iload9, pe_iload2, pe_icmp_le, pe_call8, pe_istore10, pe_iload10, pe_call3, pe_istore11, pe_getfield, pe_iload8, pe_iadd, pe_laload, pe_ladd, pe_lcmp, pe_if_ne, pe_iaload, pe_iload11, pe_icmp_ne, pe_istore12, pe_if_le, pe_iload12, pe_iinc9, pm_prog_1, pm_ob_some, Nat.reduceDiv, Nat.reduceMod, Nat.reduceMul, Nat.reduceAdd, Int.reduceToNat, pm_kill_i, pm_kill_r, pm_kill_n, pm_kill_j, pm_kill_l, pm_kill_d, pm_cats_nil, pm_cats_i, pm_cats_r, pm_cats_n, pm_cats_l, pm_cats_d, sz_1, sz_2, sl_1, sl_2, lc_0, lc_lt, lc_le, li_ne, Int32.reduceOfInt, Int64.reduceOfInt, Int32.reduceOfNat, Int32.reduceLT, Int32.reduceLE, Prod.mk.injEq, Nat.reduceEqDiff, reduceCtorEq, and_true, true_and, and_false, false_and, and_self, ite_true, ite_false, ↓reduceIte, not_true_eq_false, not_false_eq_true, pe_ri, pe_rz, Ri_g31 hA, Ri_g32 hA, Ri_r31 hA, Ri_w31 hA, Ri_l31 hA, Ri_r32 hA, Ri_w32 hA, Ri_l32 hA]
    refine z1758_3 hA hD k1 ?_ _ _ _
    dsimp only [ex1758_3]
    have e := Option.some.inj e; subst e
    simp -implicitDefEqProofs (disch := first | assumption | exact Nat.le_of_ble_eq_true rfl | decide) only [b1758_0, g1758_1, b1758_1, g1758_4, b1758_4, g1758_6, b1758_6, g1758_7, b1758_7, pe_aload0, pe_iload1, pe_call2, pm_af_ret, pm_af_void, pm_af_thr, pe_istore7, pe_sipush, pe_imul, pe_istore8, pe_iload7, pe_if_eq, pe_iload6, pe_iload5, pe_isub, pe_goto, pe_iload4, pe_iload3, pe_goto_w, pe_istore9, pe_iload9, pe_iload2, pe_icmp_le, pe_call8, pe_istore10, pe_iload10, pe_call3, pe_istore11, pe_getfield, pe_iload8, pe_iadd, pe_laload, pe_ladd, pe_lcmp, pe_if_ne, pe_iaload, pe_iload11, pe_icmp_ne, pe_istore12, pe_if_le, pe_iload12, pe_iinc9, pm_prog_1, pm_ob_some, Nat.reduceDiv, Nat.reduceMod, Nat.reduceMul, Nat.reduceAdd, Int.reduceToNat, pm_kill_i, pm_kill_r, pm_kill_n, pm_kill_j, pm_kill_l, pm_kill_d, pm_cats_nil, pm_cats_i, pm_cats_r, pm_cats_n, pm_cats_l, pm_cats_d, sz_1, sz_2, sl_1, sl_2, lc_0, lc_lt, lc_le, li_ne, Int32.reduceOfInt, Int64.reduceOfInt, Int32.reduceOfNat, Int32.reduceLT, Int32.reduceLE, Prod.mk.injEq, Nat.reduceEqDiff, reduceCtorEq, and_true, true_and, and_false, false_and, and_self, ite_true, ite_false, ↓reduceIte, not_true_eq_false, not_false_eq_true, pe_ri, pe_rz, Ri_g31 hA, Ri_g32 hA, Ri_r31 hA, Ri_w31 hA, Ri_l31 hA, Ri_r32 hA, Ri_w32 hA, Ri_l32 hA]
theorem x1758 {A : wK → Nat} {h : pm_H} {m D : Nat} {S : wS} {x1 : Int32} {x2 : Int32} {x3 : Int32} {x4 : Int32} {x5 : Int32} {x6 : Int32} {r : Int32} (hA : wok A Ri_d m) (hD : 3 ≤ D) (e : f1758 S x1 x2 x3 x4 x5 x6 = some r) : pm_call pm_prog D 1758 [.ref (A (0, 0, 0)), .int x1, .int x2, .int x3, .int x4, .int x5, .int x6] (wput A Ri_d S h) = some (.returned (some (.int r)), (wput A Ri_d S h)) := by
  obtain ⟨D, rfl⟩ : ∃ D', D = D' + 1 := ⟨D - 1, by omega⟩
  have hD : 2 ≤ D := by omega
  rw [c1758 (Ri_c hA), b1758_0]
  simp only [f1758] at e
  obtain ⟨v1, k1, e⟩ := Option.bind_eq_some_iff.mp e
  try dsimp only at e
  have z1 := x1751 (D := D) (h := h) hA (by omega) k1
  by_cases k2 : v1 = 0
  · rw [if_pos k2] at e
    have k3 := y1758_2 (h := h) hA hD e
    simp -implicitDefEqProofs (disch := first | assumption | exact Nat.le_of_ble_eq_true rfl | decide) only [b1758_0, g1758_1, b1758_1, g1758_4, b1758_4, g1758_6, b1758_6, g1758_7, b1758_7, pe_aload0, pe_iload1, pe_call2, pm_af_ret, pm_af_void, pm_af_thr, pe_istore7, pe_sipush, pe_imul, pe_istore8, pe_iload7, pe_if_eq, pe_iload6, pe_iload5, pe_isub, pe_goto, pe_iload4, pe_iload3, pe_goto_w, pe_istore9, pe_iload9, pe_iload2, pe_icmp_le, pe_call8, pe_istore10, pe_iload10, pe_call3, pe_istore11, pe_getfield, pe_iload8, pe_iadd, pe_laload, pe_ladd, pe_lcmp, pe_if_ne, pe_iaload, pe_iload11, pe_icmp_ne, pe_istore12, pe_if_le, pe_iload12, pe_iinc9, pm_prog_1, pm_ob_some, Nat.reduceDiv, Nat.reduceMod, Nat.reduceMul, Nat.reduceAdd, Int.reduceToNat, pm_kill_i, pm_kill_r, pm_kill_n, pm_kill_j, pm_kill_l, pm_kill_d, pm_cats_nil, pm_cats_i, pm_cats_r, pm_cats_n, pm_cats_l, pm_cats_d, sz_1, sz_2, sl_1, sl_2, lc_0, lc_lt, lc_le, li_ne, Int32.reduceOfInt, Int64.reduceOfInt, Int32.reduceOfNat, Int32.reduceLT, Int32.reduceLE, Prod.mk.injEq, Nat.reduceEqDiff, reduceCtorEq, and_true, true_and, and_false, false_and, and_self, ite_true, ite_false, ↓reduceIte, not_true_eq_false, not_false_eq_true, pe_ri, pe_rz, Ri_g31 hA, Ri_g32 hA, Ri_r31 hA, Ri_w31 hA, Ri_l31 hA, Ri_r32 hA, Ri_w32 hA, Ri_l32 hA, z1, eq_true k2, k3]
  · rw [if_neg k2] at e
    have k4 := y1758_2 (h := h) hA hD e
    simp -implicitDefEqProofs (disch := first | assumption | exact Nat.le_of_ble_eq_true rfl | decide) only [b1758_0, g1758_1, b1758_1, g1758_4, b1758_4, g1758_6, b1758_6, g1758_7, b1758_7, pe_aload0, pe_iload1, pe_call2, pm_af_ret, pm_af_void, pm_af_thr, pe_istore7, pe_sipush, pe_imul, pe_istore8, pe_iload7, pe_if_eq, pe_iload6, pe_iload5, pe_isub, pe_goto, pe_iload4, pe_iload3, pe_goto_w, pe_istore9, pe_iload9, pe_iload2, pe_icmp_le, pe_call8, pe_istore10, pe_iload10, pe_call3, pe_istore11, pe_getfield, pe_iload8, pe_iadd, pe_laload, pe_ladd, pe_lcmp, pe_if_ne, pe_iaload, pe_iload11, pe_icmp_ne, pe_istore12, pe_if_le, pe_iload12, pe_iinc9, pm_prog_1, pm_ob_some, Nat.reduceDiv, Nat.reduceMod, Nat.reduceMul, Nat.reduceAdd, Int.reduceToNat, pm_kill_i, pm_kill_r, pm_kill_n, pm_kill_j, pm_kill_l, pm_kill_d, pm_cats_nil, pm_cats_i, pm_cats_r, pm_cats_n, pm_cats_l, pm_cats_d, sz_1, sz_2, sl_1, sl_2, lc_0, lc_lt, lc_le, li_ne, Int32.reduceOfInt, Int64.reduceOfInt, Int32.reduceOfNat, Int32.reduceLT, Int32.reduceLE, Prod.mk.injEq, Nat.reduceEqDiff, reduceCtorEq, and_true, true_and, and_false, false_and, and_self, ite_true, ite_false, ↓reduceIte, not_true_eq_false, not_false_eq_true, pe_ri, pe_rz, Ri_g31 hA, Ri_g32 hA, Ri_r31 hA, Ri_w31 hA, Ri_l31 hA, Ri_r32 hA, Ri_w32 hA, Ri_l32 hA, z1, eq_false k2, k4]
/-- TimberHouseModel$Rips.put(IIII)V -/
theorem c1759 {d : Nat} {h : pm_H} {a : Nat} {x0 : Int32} {x1 : Int32} {x2 : Int32} {x3 : Int32} (hc : pm_cls h a = some 27) : pm_call pm_prog (d + 1) 1759 [.ref a, .int x0, .int x1, .int x2, .int x3] h = pm_ev pm_prog (pm_call pm_prog d) 1759 0 b1759_0 [.ref a, .int x0, .int x1, .int x2, .int x3] [] h := pm_cal (pm_rc1 hc rfl) rfl rfl rfl
/-- TimberHouseModel$Rips.put(IIII)V -/
noncomputable def f1759 (S : wS) (x1 : Int32) (x2 : Int32) (x3 : Int32) (x4 : Int32) : Option (wS) :=
  if 0 ≤ (S.1 (0, 0, 0) 36) ∧ (S.1 (0, 0, 0) 36) < 240 then
    (f1746 x1 x2 x3 x4).bind fun v1 =>
    if 0 ≤ v1 ∧ v1 < 75625 then
      some (sz (sz (sz (sz (sz (sz S (38, 0, 0) (S.1 (0, 0, 0) 36) x1) (39, 0, 0) (S.1 (0, 0, 0) 36) x3) (40, 0, 0) (S.1 (0, 0, 0) 36) (x2 - x1)) (41, 0, 0) (S.1 (0, 0, 0) 36) (x4 - x3)) (42, 0, 0) (S.1 (0, 0, 0) 36) (S.1 (27, 0, 0) v1)) (0, 0, 0) 36 ((S.1 (0, 0, 0) 36) + 1))
    else none
  else none
theorem x1759 {A : wK → Nat} {h : pm_H} {m D : Nat} {S : wS} {x1 : Int32} {x2 : Int32} {x3 : Int32} {x4 : Int32} {r : wS} (hA : wok A Ri_d m) (hD : 2 ≤ D) (e : f1759 S x1 x2 x3 x4 = some r) : pm_call pm_prog D 1759 [.ref (A (0, 0, 0)), .int x1, .int x2, .int x3, .int x4] (wput A Ri_d S h) = some (.returned none, (wput A Ri_d r h)) := by
  obtain ⟨D, rfl⟩ : ∃ D', D = D' + 1 := ⟨D - 1, by omega⟩
  have hD : 1 ≤ D := by omega
  rw [c1759 (Ri_c hA), b1759_0]
  simp only [f1759] at e
  by_cases k1 : 0 ≤ (S.1 (0, 0, 0) 36) ∧ (S.1 (0, 0, 0) 36) < 240
  · rw [if_pos k1] at e
    obtain ⟨v1, k2, e⟩ := Option.bind_eq_some_iff.mp e
    try dsimp only at e
    have z2 := fun h => x1746 (D := D) (h := h) (by omega) k2
    by_cases k3 : 0 ≤ v1 ∧ v1 < 75625
    · rw [if_pos k3] at e
      have e := Option.some.inj e; subst e
      simp -implicitDefEqProofs (disch := first | assumption | exact Nat.le_of_ble_eq_true rfl | decide) only [b1759_0, pe_aload0, pe_getfield, pe_iload1, pe_iastore, pe_iload3, pe_iload2, pe_isub, pe_iload4, pe_call4, pm_af_ret, pm_af_void, pm_af_thr, pe_iaload, pe_dup_i, pe_dup_r, pe_sipush, pe_iadd, pe_putfield, pe_return, pm_prog_1, pm_ob_some, Nat.reduceDiv, Nat.reduceMod, Nat.reduceMul, Nat.reduceAdd, Int.reduceToNat, pm_kill_i, pm_kill_r, pm_kill_n, pm_kill_j, pm_kill_l, pm_kill_d, pm_cats_nil, pm_cats_i, pm_cats_r, pm_cats_n, pm_cats_l, pm_cats_d, sz_1, sz_2, sl_1, sl_2, lc_0, lc_lt, lc_le, li_ne, Int32.reduceOfInt, Int64.reduceOfInt, Int32.reduceOfNat, Int32.reduceLT, Int32.reduceLE, Prod.mk.injEq, Nat.reduceEqDiff, reduceCtorEq, and_true, true_and, and_false, false_and, and_self, ite_true, ite_false, ↓reduceIte, not_true_eq_false, not_false_eq_true, pe_ri, pe_rz, Ri_g37 hA, Ri_g36 hA, Ri_g38 hA, Ri_g39 hA, Ri_g40 hA, Ri_g41 hA, Ri_g26 hA, Ri_p36 hA, Ri_r26 hA, Ri_w26 hA, Ri_l26 hA, Ri_r37 hA, Ri_w37 hA, Ri_l37 hA, Ri_r38 hA, Ri_w38 hA, Ri_l38 hA, Ri_r39 hA, Ri_w39 hA, Ri_l39 hA, Ri_r40 hA, Ri_w40 hA, Ri_l40 hA, Ri_r41 hA, Ri_w41 hA, Ri_l41 hA, z2]
    · rw [if_neg k3] at e; cases e
  · rw [if_neg k1] at e; cases e
/-- TimberHouseModel$Rips.walkOne(IIII)V -/
theorem c1757 {d : Nat} {h : pm_H} {a : Nat} {x0 : Int32} {x1 : Int32} {x2 : Int32} {x3 : Int32} (hc : pm_cls h a = some 27) : pm_call pm_prog (d + 1) 1757 [.ref a, .int x0, .int x1, .int x2, .int x3] h = pm_ev pm_prog (pm_call pm_prog d) 1757 0 b1757_0 [.ref a, .int x0, .int x1, .int x2, .int x3, pm_junk, pm_junk, pm_junk, pm_junk] [] h := pm_cal (pm_rc1 hc rfl) rfl rfl rfl
theorem g1757_1 {cl : pm_C} {ls st : List Value} {h : pm_H} : pm_go pm_prog cl 1757 1 ls st h = pm_ev pm_prog cl 1757 1 b1757_1 ls st h := pm_go_eq pm_prog cl 1757 1 ls st h
theorem g1757_2 {cl : pm_C} {ls st : List Value} {h : pm_H} : pm_go pm_prog cl 1757 2 ls st h = pm_ev pm_prog cl 1757 2 b1757_2 ls st h := pm_go_eq pm_prog cl 1757 2 ls st h
theorem g1757_3 {cl : pm_C} {ls st : List Value} {h : pm_H} : pm_go pm_prog cl 1757 3 ls st h = pm_ev pm_prog cl 1757 3 b1757_3 ls st h := pm_go_eq pm_prog cl 1757 3 ls st h
theorem g1757_4 {cl : pm_C} {ls st : List Value} {h : pm_H} : pm_go pm_prog cl 1757 4 ls st h = pm_ev pm_prog cl 1757 4 b1757_4 ls st h := pm_go_eq pm_prog cl 1757 4 ls st h
theorem g1757_5 {cl : pm_C} {ls st : List Value} {h : pm_H} : pm_go pm_prog cl 1757 5 ls st h = pm_ev pm_prog cl 1757 5 b1757_5 ls st h := pm_go_eq pm_prog cl 1757 5 ls st h
theorem g1757_6 {cl : pm_C} {ls st : List Value} {h : pm_H} : pm_go pm_prog cl 1757 6 ls st h = pm_ev pm_prog cl 1757 6 b1757_6 ls st h := pm_go_eq pm_prog cl 1757 6 ls st h
theorem g1757_7 {cl : pm_C} {ls st : List Value} {h : pm_H} : pm_go pm_prog cl 1757 7 ls st h = pm_ev pm_prog cl 1757 7 b1757_7 ls st h := pm_go_eq pm_prog cl 1757 7 ls st h
theorem g1757_8 {cl : pm_C} {ls st : List Value} {h : pm_H} : pm_go pm_prog cl 1757 8 ls st h = pm_ev pm_prog cl 1757 8 b1757_8 ls st h := pm_go_eq pm_prog cl 1757 8 ls st h
noncomputable def f1757_5_3 (S : wS) (x1 : Int32) (x2 : Int32) (x3 : Int32) (x4 : Int32) (x5 : Int32) (x6 : Int32) (x7 : Int32) (x8 : Int32) : Option ((Int32 × Int32 × Int32 × Int32 × Int32 × Int32 × Int32 × wS) ⊕ ((wS))) :=
  if x8 ≤ 0 then
    some (.inl (x1, x2, x3, x4, x5, x6, (x7 + 1), S))
  else
    some (.inl (x1, x2, x3, x4, x5, x6, x8, S))
noncomputable def f1757_4_3 (S : wS) (x1 : Int32) (x2 : Int32) (x3 : Int32) (x4 : Int32) (x5 : Int32) (x6 : Int32) (x7 : Int32) (x8 : Int32) : Option ((Int32 × Int32 × Int32 × Int32 × Int32 × Int32 × Int32 × wS) ⊕ ((wS))) :=
  if x8 ≤ 0 then
    f1757_5_3 S x1 x2 x3 x4 x5 x6 x7 x8
  else
    (f1759 S (x1 + x7) (x1 + x8) x3 x4).bind fun S4 =>
    f1757_5_3 S4 x1 x2 x3 x4 x5 x6 x7 x8
noncomputable def f1757_b3 : Int32 × Int32 × Int32 × Int32 × Int32 × Int32 × Int32 × wS → Option ((Int32 × Int32 × Int32 × Int32 × Int32 × Int32 × Int32 × wS) ⊕ ((wS))) := fun (x1, x2, x3, x4, x5, x6, x7, S) =>
  if x7 < x6 then
    (f1758 S 1 x7 x1 x2 x3 x4).bind fun v3 =>
    if v3 ≤ 0 then
      f1757_4_3 S x1 x2 x3 x4 x5 x6 x7 v3
    else
      if x5 = 0 then
        f1757_4_3 S x1 x2 x3 x4 x5 x6 x7 v3
      else
        (f1759 S x1 x2 (x3 + x7) (x3 + v3)).bind fun S5 =>
        f1757_5_3 S5 x1 x2 x3 x4 x5 x6 x7 v3
  else
    some (.inr S)
noncomputable def f1757_2 (S : wS) (x1 : Int32) (x2 : Int32) (x3 : Int32) (x4 : Int32) (x5 : Int32) (y0 : Int32) : Option (wS) :=
  (lp (f1757_b3) FU (x1, x2, x3, x4, x5, y0, 0, S)).bind fun S6 =>
  some S6
/-- TimberHouseModel$Rips.walkOne(IIII)V -/
noncomputable def f1757 (S : wS) (x1 : Int32) (x2 : Int32) (x3 : Int32) (x4 : Int32) : Option (wS) :=
  (f1750 S 1 x1 x2 x3 x4).bind fun S1 =>
  (f1751 S1 1).bind fun v2 =>
  if v2 = 0 then
    f1757_2 S1 x1 x2 x3 x4 v2 (x2 - x1)
  else
    f1757_2 S1 x1 x2 x3 x4 v2 (x4 - x3)
def go1757_3 (A : wK → Nat) (h : pm_H) (D : Nat) (R : Outcome × pm_H) : Int32 × Int32 × Int32 × Int32 × Int32 × Int32 × Int32 × wS → Prop := fun (x1, x2, x3, x4, x5, x6, x7, S) => ∀ q8 : Value, pm_go pm_prog (pm_call pm_prog D) 1757 3 [.ref (A (0, 0, 0)), .int x1, .int x2, .int x3, .int x4, .int x5, .int x6, .int x7, q8] [] (wput A Ri_d S h) = some R
def ex1757_3 (A : wK → Nat) (h : pm_H) (D : Nat) (R : Outcome × pm_H) : (wS) → Prop := fun S => ∀ q1 q2 q3 q4 q5 q6 q7 q8 : Value, pm_go pm_prog (pm_call pm_prog D) 1757 8 [.ref (A (0, 0, 0)), q1, q2, q3, q4, q5, q6, q7, q8] [] (wput A Ri_d S h) = some R
theorem y1757_5_3 {A : wK → Nat} {h : pm_H} {m D : Nat} {R : Outcome × pm_H} {S : wS} {x1 : Int32} {x2 : Int32} {x3 : Int32} {x4 : Int32} {x5 : Int32} {x6 : Int32} {x7 : Int32} {x8 : Int32} {r : (Int32 × Int32 × Int32 × Int32 × Int32 × Int32 × Int32 × wS) ⊕ ((wS))} (hA : wok A Ri_d m) (hD : 3 ≤ D) (e : f1757_5_3 S x1 x2 x3 x4 x5 x6 x7 x8 = some r) (hc : Sum.elim (go1757_3 A h D R) (ex1757_3 A h D R) r) : pm_go pm_prog (pm_call pm_prog D) 1757 5 [.ref (A (0, 0, 0)), .int x1, .int x2, .int x3, .int x4, .int x5, .int x6, .int x7, .int x8] [] (wput A Ri_d S h) = some R := by
  simp only [f1757_5_3] at e
  rw [g1757_5, b1757_5]
  by_cases k1 : x8 ≤ 0
  · rw [if_pos k1] at e
    have e := Option.some.inj e; subst e
    dsimp only [Sum.elim_inl, go1757_3] at hc
    simp -implicitDefEqProofs (disch := first | assumption | exact Nat.le_of_ble_eq_true rfl | decide) only [b1757_0, g1757_1, b1757_1, g1757_6, b1757_6, g1757_7, b1757_7, g1757_8, b1757_8, pe_aload0, pe_sipush, pe_iload1, pe_iload2, pe_iload3, pe_iload4, pe_call6, pm_af_ret, pm_af_void, pm_af_thr, pe_call2, pe_istore5, pe_iload5, pe_if_eq, pe_isub, pe_goto, pe_goto_w, pe_istore6, pe_istore7, pe_iload7, pe_iload6, pe_icmp_ge, pe_call7, pe_istore8, pe_iload8, pe_if_le, pe_iadd, pe_call5, pe_return, pm_prog_1, pm_ob_some, Nat.reduceDiv, Nat.reduceMod, Nat.reduceMul, Nat.reduceAdd, Int.reduceToNat, pm_kill_i, pm_kill_r, pm_kill_n, pm_kill_j, pm_kill_l, pm_kill_d, pm_cats_nil, pm_cats_i, pm_cats_r, pm_cats_n, pm_cats_l, pm_cats_d, sz_1, sz_2, sl_1, sl_2, lc_0, lc_lt, lc_le, li_ne, Int32.reduceOfInt, Int64.reduceOfInt, Int32.reduceOfNat, Int32.reduceLT, Int32.reduceLE, Prod.mk.injEq, Nat.reduceEqDiff, reduceCtorEq, and_true, true_and, and_false, false_and, and_self, ite_true, ite_false, ↓reduceIte, not_true_eq_false, not_false_eq_true, pe_ri, pe_rz, eq_true k1, hc]
  · rw [if_neg k1] at e
    have e := Option.some.inj e; subst e
    dsimp only [Sum.elim_inl, go1757_3] at hc
    simp -implicitDefEqProofs (disch := first | assumption | exact Nat.le_of_ble_eq_true rfl | decide) only [b1757_0, g1757_1, b1757_1, g1757_6, b1757_6, g1757_7, b1757_7, g1757_8, b1757_8, pe_aload0, pe_sipush, pe_iload1, pe_iload2, pe_iload3, pe_iload4, pe_call6, pm_af_ret, pm_af_void, pm_af_thr, pe_call2, pe_istore5, pe_iload5, pe_if_eq, pe_isub, pe_goto, pe_goto_w, pe_istore6, pe_istore7, pe_iload7, pe_iload6, pe_icmp_ge, pe_call7, pe_istore8, pe_iload8, pe_if_le, pe_iadd, pe_call5, pe_return, pm_prog_1, pm_ob_some, Nat.reduceDiv, Nat.reduceMod, Nat.reduceMul, Nat.reduceAdd, Int.reduceToNat, pm_kill_i, pm_kill_r, pm_kill_n, pm_kill_j, pm_kill_l, pm_kill_d, pm_cats_nil, pm_cats_i, pm_cats_r, pm_cats_n, pm_cats_l, pm_cats_d, sz_1, sz_2, sl_1, sl_2, lc_0, lc_lt, lc_le, li_ne, Int32.reduceOfInt, Int64.reduceOfInt, Int32.reduceOfNat, Int32.reduceLT, Int32.reduceLE, Prod.mk.injEq, Nat.reduceEqDiff, reduceCtorEq, and_true, true_and, and_false, false_and, and_self, ite_true, ite_false, ↓reduceIte, not_true_eq_false, not_false_eq_true, pe_ri, pe_rz, eq_false k1, hc]
theorem y1757_4_3 {A : wK → Nat} {h : pm_H} {m D : Nat} {R : Outcome × pm_H} {S : wS} {x1 : Int32} {x2 : Int32} {x3 : Int32} {x4 : Int32} {x5 : Int32} {x6 : Int32} {x7 : Int32} {x8 : Int32} {r : (Int32 × Int32 × Int32 × Int32 × Int32 × Int32 × Int32 × wS) ⊕ ((wS))} (hA : wok A Ri_d m) (hD : 3 ≤ D) (e : f1757_4_3 S x1 x2 x3 x4 x5 x6 x7 x8 = some r) (hc : Sum.elim (go1757_3 A h D R) (ex1757_3 A h D R) r) : pm_go pm_prog (pm_call pm_prog D) 1757 4 [.ref (A (0, 0, 0)), .int x1, .int x2, .int x3, .int x4, .int x5, .int x6, .int x7, .int x8] [] (wput A Ri_d S h) = some R := by
  simp only [f1757_4_3] at e
  rw [g1757_4, b1757_4]
  by_cases k1 : x8 ≤ 0
  · rw [if_pos k1] at e
    have k2 := y1757_5_3 (h := h) hA hD e hc
    simp -implicitDefEqProofs (disch := first | assumption | exact Nat.le_of_ble_eq_true rfl | decide) only [b1757_0, g1757_1, b1757_1, g1757_6, b1757_6, g1757_7, b1757_7, g1757_8, b1757_8, pe_aload0, pe_sipush, pe_iload1, pe_iload2, pe_iload3, pe_iload4, pe_call6, pm_af_ret, pm_af_void, pm_af_thr, pe_call2, pe_istore5, pe_iload5, pe_if_eq, pe_isub, pe_goto, pe_goto_w, pe_istore6, pe_istore7, pe_iload7, pe_iload6, pe_icmp_ge, pe_call7, pe_istore8, pe_iload8, pe_if_le, pe_iadd, pe_call5, pe_return, pm_prog_1, pm_ob_some, Nat.reduceDiv, Nat.reduceMod, Nat.reduceMul, Nat.reduceAdd, Int.reduceToNat, pm_kill_i, pm_kill_r, pm_kill_n, pm_kill_j, pm_kill_l, pm_kill_d, pm_cats_nil, pm_cats_i, pm_cats_r, pm_cats_n, pm_cats_l, pm_cats_d, sz_1, sz_2, sl_1, sl_2, lc_0, lc_lt, lc_le, li_ne, Int32.reduceOfInt, Int64.reduceOfInt, Int32.reduceOfNat, Int32.reduceLT, Int32.reduceLE, Prod.mk.injEq, Nat.reduceEqDiff, reduceCtorEq, and_true, true_and, and_false, false_and, and_self, ite_true, ite_false, ↓reduceIte, not_true_eq_false, not_false_eq_true, pe_ri, pe_rz, eq_true k1, k2]
  · rw [if_neg k1] at e
    obtain ⟨S4, k3, e⟩ := Option.bind_eq_some_iff.mp e
    try dsimp only at e
    have z3 := x1759 (D := D) (h := h) hA (by omega) k3
    have k4 := y1757_5_3 (h := h) hA hD e hc
    simp -implicitDefEqProofs (disch := first | assumption | exact Nat.le_of_ble_eq_true rfl | decide) only [b1757_0, g1757_1, b1757_1, g1757_6, b1757_6, g1757_7, b1757_7, g1757_8, b1757_8, pe_aload0, pe_sipush, pe_iload1, pe_iload2, pe_iload3, pe_iload4, pe_call6, pm_af_ret, pm_af_void, pm_af_thr, pe_call2, pe_istore5, pe_iload5, pe_if_eq, pe_isub, pe_goto, pe_goto_w, pe_istore6, pe_istore7, pe_iload7, pe_iload6, pe_icmp_ge, pe_call7, pe_istore8, pe_iload8, pe_if_le, pe_iadd, pe_call5, pe_return, pm_prog_1, pm_ob_some, Nat.reduceDiv, Nat.reduceMod, Nat.reduceMul, Nat.reduceAdd, Int.reduceToNat, pm_kill_i, pm_kill_r, pm_kill_n, pm_kill_j, pm_kill_l, pm_kill_d, pm_cats_nil, pm_cats_i, pm_cats_r, pm_cats_n, pm_cats_l, pm_cats_d, sz_1, sz_2, sl_1, sl_2, lc_0, lc_lt, lc_le, li_ne, Int32.reduceOfInt, Int64.reduceOfInt, Int32.reduceOfNat, Int32.reduceLT, Int32.reduceLE, Prod.mk.injEq, Nat.reduceEqDiff, reduceCtorEq, and_true, true_and, and_false, false_and, and_self, ite_true, ite_false, ↓reduceIte, not_true_eq_false, not_false_eq_true, pe_ri, pe_rz, eq_false k1, z3, k4]
theorem y1757_b3 {A : wK → Nat} {h : pm_H} {m D : Nat} {R : Outcome × pm_H} (hA : wok A Ri_d m) (hD : 3 ≤ D) (a : Int32 × Int32 × Int32 × Int32 × Int32 × Int32 × Int32 × wS) (r : (Int32 × Int32 × Int32 × Int32 × Int32 × Int32 × Int32 × wS) ⊕ ((wS))) (e : f1757_b3 a = some r) (hc : Sum.elim (go1757_3 A h D R) (ex1757_3 A h D R) r) : go1757_3 A h D R a := by
  obtain ⟨x1, x2, x3, x4, x5, x6, x7, S⟩ := a
  dsimp only [go1757_3]
  intro q8
  simp only [f1757_b3] at e
  rw [g1757_3, b1757_3]
  by_cases k1 : x7 < x6
  · rw [if_pos k1] at e
    obtain ⟨v3, k2, e⟩ := Option.bind_eq_some_iff.mp e
    try dsimp only at e
    have z2 := x1758 (D := D) (h := h) hA (by omega) k2
    by_cases k3 : v3 ≤ 0
    · rw [if_pos k3] at e
      have k4 := y1757_4_3 (h := h) hA hD e hc
      simp -implicitDefEqProofs (disch := first | assumption | exact Nat.le_of_ble_eq_true rfl | decide) only [b1757_0, g1757_1, b1757_1, g1757_6, b1757_6, g1757_7, b1757_7, g1757_8, b1757_8, pe_aload0, pe_sipush, pe_iload1, pe_iload2, pe_iload3, pe_iload4, pe_call6, pm_af_ret, pm_af_void, pm_af_thr, pe_call2, pe_istore5, pe_iload5, pe_if_eq, pe_isub, pe_goto, pe_goto_w, pe_istore6, pe_istore7, pe_iload7, pe_iload6, pe_icmp_ge, pe_call7, pe_istore8, pe_iload8, pe_if_le, pe_iadd, pe_call5, pe_return, pm_prog_1, pm_ob_some, Nat.reduceDiv, Nat.reduceMod, Nat.reduceMul, Nat.reduceAdd, Int.reduceToNat, pm_kill_i, pm_kill_r, pm_kill_n, pm_kill_j, pm_kill_l, pm_kill_d, pm_cats_nil, pm_cats_i, pm_cats_r, pm_cats_n, pm_cats_l, pm_cats_d, sz_1, sz_2, sl_1, sl_2, lc_0, lc_lt, lc_le, li_ne, Int32.reduceOfInt, Int64.reduceOfInt, Int32.reduceOfNat, Int32.reduceLT, Int32.reduceLE, Prod.mk.injEq, Nat.reduceEqDiff, reduceCtorEq, and_true, true_and, and_false, false_and, and_self, ite_true, ite_false, ↓reduceIte, not_true_eq_false, not_false_eq_true, pe_ri, pe_rz, eq_true k1, z2, eq_true k3, k4]
    · rw [if_neg k3] at e
      by_cases k5 : x5 = 0
      · rw [if_pos k5] at e
        have k6 := y1757_4_3 (h := h) hA hD e hc
        simp -implicitDefEqProofs (disch := first | assumption | exact Nat.le_of_ble_eq_true rfl | decide) only [b1757_0, g1757_1, b1757_1, g1757_6, b1757_6, g1757_7, b1757_7, g1757_8, b1757_8, pe_aload0, pe_sipush, pe_iload1, pe_iload2, pe_iload3, pe_iload4, pe_call6, pm_af_ret, pm_af_void, pm_af_thr, pe_call2, pe_istore5, pe_iload5, pe_if_eq, pe_isub, pe_goto, pe_goto_w, pe_istore6, pe_istore7, pe_iload7, pe_iload6, pe_icmp_ge, pe_call7, pe_istore8, pe_iload8, pe_if_le, pe_iadd, pe_call5, pe_return, pm_prog_1, pm_ob_some, Nat.reduceDiv, Nat.reduceMod, Nat.reduceMul, Nat.reduceAdd, Int.reduceToNat, pm_kill_i, pm_kill_r, pm_kill_n, pm_kill_j, pm_kill_l, pm_kill_d, pm_cats_nil, pm_cats_i, pm_cats_r, pm_cats_n, pm_cats_l, pm_cats_d, sz_1, sz_2, sl_1, sl_2, lc_0, lc_lt, lc_le, li_ne, Int32.reduceOfInt, Int64.reduceOfInt, Int32.reduceOfNat, Int32.reduceLT, Int32.reduceLE, Prod.mk.injEq, Nat.reduceEqDiff, reduceCtorEq, and_true, true_and, and_false, false_and, and_self, ite_true, ite_false, ↓reduceIte, not_true_eq_false, not_false_eq_true, pe_ri, pe_rz, eq_true k1, z2, eq_false k3, eq_true k5, k6]
      · rw [if_neg k5] at e
        obtain ⟨S5, k7, e⟩ := Option.bind_eq_some_iff.mp e
        try dsimp only at e
        have z7 := x1759 (D := D) (h := h) hA (by omega) k7
        have k8 := y1757_5_3 (h := h) hA hD e hc
        simp -implicitDefEqProofs (disch := first | assumption | exact Nat.le_of_ble_eq_true rfl | decide) only [b1757_0, g1757_1, b1757_1, g1757_6, b1757_6, g1757_7, b1757_7, g1757_8, b1757_8, pe_aload0, pe_sipush, pe_iload1, pe_iload2, pe_iload3, pe_iload4, pe_call6, pm_af_ret, pm_af_void, pm_af_thr, pe_call2, pe_istore5, pe_iload5, pe_if_eq, pe_isub, pe_goto, pe_goto_w, pe_istore6, pe_istore7, pe_iload7, pe_iload6, pe_icmp_ge, pe_call7, pe_istore8, pe_iload8, pe_if_le, pe_iadd, pe_call5, pe_return, pm_prog_1, pm_ob_some, Nat.reduceDiv, Nat.reduceMod, Nat.reduceMul, Nat.reduceAdd, Int.reduceToNat, pm_kill_i, pm_kill_r, pm_kill_n, pm_kill_j, pm_kill_l, pm_kill_d, pm_cats_nil, pm_cats_i, pm_cats_r, pm_cats_n, pm_cats_l, pm_cats_d, sz_1, sz_2, sl_1, sl_2, lc_0, lc_lt, lc_le, li_ne, Int32.reduceOfInt, Int64.reduceOfInt, Int32.reduceOfNat, Int32.reduceLT, Int32.reduceLE, Prod.mk.injEq, Nat.reduceEqDiff, reduceCtorEq, and_true, true_and, and_false, false_and, and_self, ite_true, ite_false, ↓reduceIte, not_true_eq_false, not_false_eq_true, pe_ri, pe_rz, eq_true k1, z2, eq_false k3, eq_false k5, z7, k8]
  · rw [if_neg k1] at e
    have e := Option.some.inj e; subst e
    dsimp only [Sum.elim_inr, ex1757_3] at hc
    simp -implicitDefEqProofs (disch := first | assumption | exact Nat.le_of_ble_eq_true rfl | decide) only [b1757_0, g1757_1, b1757_1, g1757_6, b1757_6, g1757_7, b1757_7, g1757_8, b1757_8, pe_aload0, pe_sipush, pe_iload1, pe_iload2, pe_iload3, pe_iload4, pe_call6, pm_af_ret, pm_af_void, pm_af_thr, pe_call2, pe_istore5, pe_iload5, pe_if_eq, pe_isub, pe_goto, pe_goto_w, pe_istore6, pe_istore7, pe_iload7, pe_iload6, pe_icmp_ge, pe_call7, pe_istore8, pe_iload8, pe_if_le, pe_iadd, pe_call5, pe_return, pm_prog_1, pm_ob_some, Nat.reduceDiv, Nat.reduceMod, Nat.reduceMul, Nat.reduceAdd, Int.reduceToNat, pm_kill_i, pm_kill_r, pm_kill_n, pm_kill_j, pm_kill_l, pm_kill_d, pm_cats_nil, pm_cats_i, pm_cats_r, pm_cats_n, pm_cats_l, pm_cats_d, sz_1, sz_2, sl_1, sl_2, lc_0, lc_lt, lc_le, li_ne, Int32.reduceOfInt, Int64.reduceOfInt, Int32.reduceOfNat, Int32.reduceLT, Int32.reduceLE, Prod.mk.injEq, Nat.reduceEqDiff, reduceCtorEq, and_true, true_and, and_false, false_and, and_self, ite_true, ite_false, ↓reduceIte, not_true_eq_false, not_false_eq_true, pe_ri, pe_rz, eq_false k1, hc]
theorem z1757_3 {A : wK → Nat} {h : pm_H} {m D : Nat} {R : Outcome × pm_H} (hA : wok A Ri_d m) (hD : 3 ≤ D) {n : Nat} {a : Int32 × Int32 × Int32 × Int32 × Int32 × Int32 × Int32 × wS} {b : (wS)} (e : lp (f1757_b3) n a = some b) (hx : ex1757_3 A h D R b) : go1757_3 A h D R a := lp_run (fun a r => y1757_b3 hA hD a r) n a b e hx
theorem y1757_2 {A : wK → Nat} {h : pm_H} {m D : Nat} {S : wS} {x1 : Int32} {x2 : Int32} {x3 : Int32} {x4 : Int32} {x5 : Int32} {y0 : Int32} {r : wS} (hA : wok A Ri_d m) (hD : 3 ≤ D) (e : f1757_2 S x1 x2 x3 x4 x5 y0 = some r) : ∀ q6 q7 q8 : Value, pm_go pm_prog (pm_call pm_prog D) 1757 2 [.ref (A (0, 0, 0)), .int x1, .int x2, .int x3, .int x4, .int x5, q6, q7, q8] [.int y0] (wput A Ri_d S h) = some (.returned none, (wput A Ri_d r h)) := by
  intro q6 q7 q8
  simp only [f1757_2] at e
  rw [g1757_2, b1757_2]
  obtain ⟨S6, k1, e⟩ := Option.bind_eq_some_iff.mp e
  try dsimp only at e
  try simp -implicitDefEqProofs (disch := first | assumption | exact Nat.le_of_ble_eq_true rfl | decide) only [b1757_0, g1757_1, b1757_1, g1757_6, b1757_6, g1757_7, b1757_7, g1757_8, b1757_8, pe_aload0, pe_sipush, pe_iload1, pe_iload2, pe_iload3, pe_iload4, pe_call6, pm_af_ret, pm_af_void, pm_af_thr, pe_call2, pe_istore5, pe_iload5, pe_if_eq, pe_isub, pe_goto, pe_goto_w, pe_istore6, pe_istore7, pe_iload7, pe_iload6, pe_icmp_ge, pe_call7, pe_istore8, pe_iload8, pe_if_le, pe_iadd, pe_call5, pe_return, pm_prog_1, pm_ob_some, Nat.reduceDiv, Nat.reduceMod, Nat.reduceMul, Nat.reduceAdd, Int.reduceToNat, pm_kill_i, pm_kill_r, pm_kill_n, pm_kill_j, pm_kill_l, pm_kill_d, pm_cats_nil, pm_cats_i, pm_cats_r, pm_cats_n, pm_cats_l, pm_cats_d, sz_1, sz_2, sl_1, sl_2, lc_0, lc_lt, lc_le, li_ne, Int32.reduceOfInt, Int64.reduceOfInt, Int32.reduceOfNat, Int32.reduceLT, Int32.reduceLE, Prod.mk.injEq, Nat.reduceEqDiff, reduceCtorEq, and_true, true_and, and_false, false_and, and_self, ite_true, ite_false, ↓reduceIte, not_true_eq_false, not_false_eq_true, pe_ri, pe_rz]
  refine z1757_3 hA hD k1 ?_ _
  dsimp only [ex1757_3]
  intro q1 q2 q3 q4 q5 q6 q7 q8
  have e := Option.some.inj e; subst e
  simp -implicitDefEqProofs (disch := first | assumption | exact Nat.le_of_ble_eq_true rfl | decide) only [b1757_0, g1757_1, b1757_1, g1757_6, b1757_6, g1757_7, b1757_7, g1757_8, b1757_8, pe_aload0, pe_sipush, pe_iload1, pe_iload2, pe_iload3, pe_iload4, pe_call6, pm_af_ret, pm_af_void, pm_af_thr, pe_call2, pe_istore5, pe_iload5, pe_if_eq, pe_isub, pe_goto, pe_goto_w, pe_istore6, pe_istore7, pe_iload7, pe_iload6, pe_icmp_ge, pe_call7, pe_istore8, pe_iload8, pe_if_le, pe_iadd, pe_call5, pe_return, pm_prog_1, pm_ob_some, Nat.reduceDiv, Nat.reduceMod, Nat.reduceMul, Nat.reduceAdd, Int.reduceToNat, pm_kill_i, pm_kill_r, pm_kill_n, pm_kill_j, pm_kill_l, pm_kill_d, pm_cats_nil, pm_cats_i, pm_cats_r, pm_cats_n, pm_cats_l, pm_cats_d, sz_1, sz_2, sl_1, sl_2, lc_0, lc_lt, lc_le, li_ne, Int32.reduceOfInt, Int64.reduceOfInt, Int32.reduceOfNat, Int32.reduceLT, Int32.reduceLE, Prod.mk.injEq, Nat.reduceEqDiff, reduceCtorEq, and_true, true_and, and_false, false_and, and_self, ite_true, ite_false, ↓reduceIte, not_true_eq_false, not_false_eq_true, pe_ri, pe_rz]
theorem x1757 {A : wK → Nat} {h : pm_H} {m D : Nat} {S : wS} {x1 : Int32} {x2 : Int32} {x3 : Int32} {x4 : Int32} {r : wS} (hA : wok A Ri_d m) (hD : 4 ≤ D) (e : f1757 S x1 x2 x3 x4 = some r) : pm_call pm_prog D 1757 [.ref (A (0, 0, 0)), .int x1, .int x2, .int x3, .int x4] (wput A Ri_d S h) = some (.returned none, (wput A Ri_d r h)) := by
  obtain ⟨D, rfl⟩ : ∃ D', D = D' + 1 := ⟨D - 1, by omega⟩
  have hD : 3 ≤ D := by omega
  rw [c1757 (Ri_c hA), b1757_0]
  simp only [f1757] at e
  obtain ⟨S1, k1, e⟩ := Option.bind_eq_some_iff.mp e
  try dsimp only at e
  have z1 := x1750 (D := D) (h := h) hA (by omega) k1
  obtain ⟨v2, k2, e⟩ := Option.bind_eq_some_iff.mp e
  try dsimp only at e
  have z2 := x1751 (D := D) (h := h) hA (by omega) k2
  by_cases k3 : v2 = 0
  · rw [if_pos k3] at e
    have k4 := y1757_2 (h := h) hA hD e
    simp -implicitDefEqProofs (disch := first | assumption | exact Nat.le_of_ble_eq_true rfl | decide) only [b1757_0, g1757_1, b1757_1, g1757_6, b1757_6, g1757_7, b1757_7, g1757_8, b1757_8, pe_aload0, pe_sipush, pe_iload1, pe_iload2, pe_iload3, pe_iload4, pe_call6, pm_af_ret, pm_af_void, pm_af_thr, pe_call2, pe_istore5, pe_iload5, pe_if_eq, pe_isub, pe_goto, pe_goto_w, pe_istore6, pe_istore7, pe_iload7, pe_iload6, pe_icmp_ge, pe_call7, pe_istore8, pe_iload8, pe_if_le, pe_iadd, pe_call5, pe_return, pm_prog_1, pm_ob_some, Nat.reduceDiv, Nat.reduceMod, Nat.reduceMul, Nat.reduceAdd, Int.reduceToNat, pm_kill_i, pm_kill_r, pm_kill_n, pm_kill_j, pm_kill_l, pm_kill_d, pm_cats_nil, pm_cats_i, pm_cats_r, pm_cats_n, pm_cats_l, pm_cats_d, sz_1, sz_2, sl_1, sl_2, lc_0, lc_lt, lc_le, li_ne, Int32.reduceOfInt, Int64.reduceOfInt, Int32.reduceOfNat, Int32.reduceLT, Int32.reduceLE, Prod.mk.injEq, Nat.reduceEqDiff, reduceCtorEq, and_true, true_and, and_false, false_and, and_self, ite_true, ite_false, ↓reduceIte, not_true_eq_false, not_false_eq_true, pe_ri, pe_rz, z1, z2, eq_true k3, k4]
  · rw [if_neg k3] at e
    have k5 := y1757_2 (h := h) hA hD e
    simp -implicitDefEqProofs (disch := first | assumption | exact Nat.le_of_ble_eq_true rfl | decide) only [b1757_0, g1757_1, b1757_1, g1757_6, b1757_6, g1757_7, b1757_7, g1757_8, b1757_8, pe_aload0, pe_sipush, pe_iload1, pe_iload2, pe_iload3, pe_iload4, pe_call6, pm_af_ret, pm_af_void, pm_af_thr, pe_call2, pe_istore5, pe_iload5, pe_if_eq, pe_isub, pe_goto, pe_goto_w, pe_istore6, pe_istore7, pe_iload7, pe_iload6, pe_icmp_ge, pe_call7, pe_istore8, pe_iload8, pe_if_le, pe_iadd, pe_call5, pe_return, pm_prog_1, pm_ob_some, Nat.reduceDiv, Nat.reduceMod, Nat.reduceMul, Nat.reduceAdd, Int.reduceToNat, pm_kill_i, pm_kill_r, pm_kill_n, pm_kill_j, pm_kill_l, pm_kill_d, pm_cats_nil, pm_cats_i, pm_cats_r, pm_cats_n, pm_cats_l, pm_cats_d, sz_1, sz_2, sl_1, sl_2, lc_0, lc_lt, lc_le, li_ne, Int32.reduceOfInt, Int64.reduceOfInt, Int32.reduceOfNat, Int32.reduceLT, Int32.reduceLE, Prod.mk.injEq, Nat.reduceEqDiff, reduceCtorEq, and_true, true_and, and_false, false_and, and_self, ite_true, ite_false, ↓reduceIte, not_true_eq_false, not_false_eq_true, pe_ri, pe_rz, z1, z2, eq_false k3, k5]
/-- TimberHouseModel$Rips.walkTwo(IIII)V -/
theorem c1760 {d : Nat} {h : pm_H} {a : Nat} {x0 : Int32} {x1 : Int32} {x2 : Int32} {x3 : Int32} (hc : pm_cls h a = some 27) : pm_call pm_prog (d + 1) 1760 [.ref a, .int x0, .int x1, .int x2, .int x3] h = pm_ev pm_prog (pm_call pm_prog d) 1760 0 b1760_0 [.ref a, .int x0, .int x1, .int x2, .int x3, pm_junk, pm_junk, pm_junk, pm_junk] [] h := pm_cal (pm_rc1 hc rfl) rfl rfl rfl
theorem g1760_1 {cl : pm_C} {ls st : List Value} {h : pm_H} : pm_go pm_prog cl 1760 1 ls st h = pm_ev pm_prog cl 1760 1 b1760_1 ls st h := pm_go_eq pm_prog cl 1760 1 ls st h
theorem g1760_2 {cl : pm_C} {ls st : List Value} {h : pm_H} : pm_go pm_prog cl 1760 2 ls st h = pm_ev pm_prog cl 1760 2 b1760_2 ls st h := pm_go_eq pm_prog cl 1760 2 ls st h
theorem g1760_3 {cl : pm_C} {ls st : List Value} {h : pm_H} : pm_go pm_prog cl 1760 3 ls st h = pm_ev pm_prog cl 1760 3 b1760_3 ls st h := pm_go_eq pm_prog cl 1760 3 ls st h
theorem g1760_4 {cl : pm_C} {ls st : List Value} {h : pm_H} : pm_go pm_prog cl 1760 4 ls st h = pm_ev pm_prog cl 1760 4 b1760_4 ls st h := pm_go_eq pm_prog cl 1760 4 ls st h
theorem g1760_5 {cl : pm_C} {ls st : List Value} {h : pm_H} : pm_go pm_prog cl 1760 5 ls st h = pm_ev pm_prog cl 1760 5 b1760_5 ls st h := pm_go_eq pm_prog cl 1760 5 ls st h
theorem g1760_6 {cl : pm_C} {ls st : List Value} {h : pm_H} : pm_go pm_prog cl 1760 6 ls st h = pm_ev pm_prog cl 1760 6 b1760_6 ls st h := pm_go_eq pm_prog cl 1760 6 ls st h
theorem g1760_7 {cl : pm_C} {ls st : List Value} {h : pm_H} : pm_go pm_prog cl 1760 7 ls st h = pm_ev pm_prog cl 1760 7 b1760_7 ls st h := pm_go_eq pm_prog cl 1760 7 ls st h
theorem g1760_8 {cl : pm_C} {ls st : List Value} {h : pm_H} : pm_go pm_prog cl 1760 8 ls st h = pm_ev pm_prog cl 1760 8 b1760_8 ls st h := pm_go_eq pm_prog cl 1760 8 ls st h
noncomputable def f1760_5_3 (S : wS) (x1 : Int32) (x2 : Int32) (x3 : Int32) (x4 : Int32) (x5 : Int32) (x6 : Int32) (x7 : Int32) (x8 : Int32) : Option ((Int32 × Int32 × Int32 × Int32 × Int32 × Int32 × Int32 × wS) ⊕ ((wS))) :=
  if x8 ≤ 0 then
    some (.inl (x1, x2, x3, x4, x5, x6, (x7 + 1), S))
  else
    some (.inl (x1, x2, x3, x4, x5, x6, x8, S))
noncomputable def f1760_4_3 (S : wS) (x1 : Int32) (x2 : Int32) (x3 : Int32) (x4 : Int32) (x5 : Int32) (x6 : Int32) (x7 : Int32) (x8 : Int32) : Option ((Int32 × Int32 × Int32 × Int32 × Int32 × Int32 × Int32 × wS) ⊕ ((wS))) :=
  if x8 ≤ 0 then
    f1760_5_3 S x1 x2 x3 x4 x5 x6 x7 x8
  else
    (f1757 S (x1 + x7) (x1 + x8) x3 x4).bind fun S4 =>
    f1760_5_3 S4 x1 x2 x3 x4 x5 x6 x7 x8
noncomputable def f1760_b3 : Int32 × Int32 × Int32 × Int32 × Int32 × Int32 × Int32 × wS → Option ((Int32 × Int32 × Int32 × Int32 × Int32 × Int32 × Int32 × wS) ⊕ ((wS))) := fun (x1, x2, x3, x4, x5, x6, x7, S) =>
  if x7 < x6 then
    (f1758 S 2 x7 x1 x2 x3 x4).bind fun v3 =>
    if v3 ≤ 0 then
      f1760_4_3 S x1 x2 x3 x4 x5 x6 x7 v3
    else
      if x5 = 0 then
        f1760_4_3 S x1 x2 x3 x4 x5 x6 x7 v3
      else
        (f1757 S x1 x2 (x3 + x7) (x3 + v3)).bind fun S5 =>
        f1760_5_3 S5 x1 x2 x3 x4 x5 x6 x7 v3
  else
    some (.inr S)
noncomputable def f1760_2 (S : wS) (x1 : Int32) (x2 : Int32) (x3 : Int32) (x4 : Int32) (x5 : Int32) (y0 : Int32) : Option (wS) :=
  (lp (f1760_b3) FU (x1, x2, x3, x4, x5, y0, 0, S)).bind fun S6 =>
  some S6
/-- TimberHouseModel$Rips.walkTwo(IIII)V -/
noncomputable def f1760 (S : wS) (x1 : Int32) (x2 : Int32) (x3 : Int32) (x4 : Int32) : Option (wS) :=
  (f1750 S 2 x1 x2 x3 x4).bind fun S1 =>
  (f1751 S1 2).bind fun v2 =>
  if v2 = 0 then
    f1760_2 S1 x1 x2 x3 x4 v2 (x2 - x1)
  else
    f1760_2 S1 x1 x2 x3 x4 v2 (x4 - x3)
def go1760_3 (A : wK → Nat) (h : pm_H) (D : Nat) (R : Outcome × pm_H) : Int32 × Int32 × Int32 × Int32 × Int32 × Int32 × Int32 × wS → Prop := fun (x1, x2, x3, x4, x5, x6, x7, S) => ∀ q8 : Value, pm_go pm_prog (pm_call pm_prog D) 1760 3 [.ref (A (0, 0, 0)), .int x1, .int x2, .int x3, .int x4, .int x5, .int x6, .int x7, q8] [] (wput A Ri_d S h) = some R
def ex1760_3 (A : wK → Nat) (h : pm_H) (D : Nat) (R : Outcome × pm_H) : (wS) → Prop := fun S => ∀ q1 q2 q3 q4 q5 q6 q7 q8 : Value, pm_go pm_prog (pm_call pm_prog D) 1760 8 [.ref (A (0, 0, 0)), q1, q2, q3, q4, q5, q6, q7, q8] [] (wput A Ri_d S h) = some R
theorem y1760_5_3 {A : wK → Nat} {h : pm_H} {m D : Nat} {R : Outcome × pm_H} {S : wS} {x1 : Int32} {x2 : Int32} {x3 : Int32} {x4 : Int32} {x5 : Int32} {x6 : Int32} {x7 : Int32} {x8 : Int32} {r : (Int32 × Int32 × Int32 × Int32 × Int32 × Int32 × Int32 × wS) ⊕ ((wS))} (hA : wok A Ri_d m) (hD : 4 ≤ D) (e : f1760_5_3 S x1 x2 x3 x4 x5 x6 x7 x8 = some r) (hc : Sum.elim (go1760_3 A h D R) (ex1760_3 A h D R) r) : pm_go pm_prog (pm_call pm_prog D) 1760 5 [.ref (A (0, 0, 0)), .int x1, .int x2, .int x3, .int x4, .int x5, .int x6, .int x7, .int x8] [] (wput A Ri_d S h) = some R := by
  simp only [f1760_5_3] at e
  rw [g1760_5, b1760_5]
  by_cases k1 : x8 ≤ 0
  · rw [if_pos k1] at e
    have e := Option.some.inj e; subst e
    dsimp only [Sum.elim_inl, go1760_3] at hc
    simp -implicitDefEqProofs (disch := first | assumption | exact Nat.le_of_ble_eq_true rfl | decide) only [b1760_0, g1760_1, b1760_1, g1760_6, b1760_6, g1760_7, b1760_7, g1760_8, b1760_8, pe_aload0, pe_sipush, pe_iload1, pe_iload2, pe_iload3, pe_iload4, pe_call6, pm_af_ret, pm_af_void, pm_af_thr, pe_call2, pe_istore5, pe_iload5, pe_if_eq, pe_isub, pe_goto, pe_goto_w, pe_istore6, pe_istore7, pe_iload7, pe_iload6, pe_icmp_ge, pe_call7, pe_istore8, pe_iload8, pe_if_le, pe_iadd, pe_call5, pe_return, pm_prog_1, pm_ob_some, Nat.reduceDiv, Nat.reduceMod, Nat.reduceMul, Nat.reduceAdd, Int.reduceToNat, pm_kill_i, pm_kill_r, pm_kill_n, pm_kill_j, pm_kill_l, pm_kill_d, pm_cats_nil, pm_cats_i, pm_cats_r, pm_cats_n, pm_cats_l, pm_cats_d, sz_1, sz_2, sl_1, sl_2, lc_0, lc_lt, lc_le, li_ne, Int32.reduceOfInt, Int64.reduceOfInt, Int32.reduceOfNat, Int32.reduceLT, Int32.reduceLE, Prod.mk.injEq, Nat.reduceEqDiff, reduceCtorEq, and_true, true_and, and_false, false_and, and_self, ite_true, ite_false, ↓reduceIte, not_true_eq_false, not_false_eq_true, pe_ri, pe_rz, eq_true k1, hc]
  · rw [if_neg k1] at e
    have e := Option.some.inj e; subst e
    dsimp only [Sum.elim_inl, go1760_3] at hc
    simp -implicitDefEqProofs (disch := first | assumption | exact Nat.le_of_ble_eq_true rfl | decide) only [b1760_0, g1760_1, b1760_1, g1760_6, b1760_6, g1760_7, b1760_7, g1760_8, b1760_8, pe_aload0, pe_sipush, pe_iload1, pe_iload2, pe_iload3, pe_iload4, pe_call6, pm_af_ret, pm_af_void, pm_af_thr, pe_call2, pe_istore5, pe_iload5, pe_if_eq, pe_isub, pe_goto, pe_goto_w, pe_istore6, pe_istore7, pe_iload7, pe_iload6, pe_icmp_ge, pe_call7, pe_istore8, pe_iload8, pe_if_le, pe_iadd, pe_call5, pe_return, pm_prog_1, pm_ob_some, Nat.reduceDiv, Nat.reduceMod, Nat.reduceMul, Nat.reduceAdd, Int.reduceToNat, pm_kill_i, pm_kill_r, pm_kill_n, pm_kill_j, pm_kill_l, pm_kill_d, pm_cats_nil, pm_cats_i, pm_cats_r, pm_cats_n, pm_cats_l, pm_cats_d, sz_1, sz_2, sl_1, sl_2, lc_0, lc_lt, lc_le, li_ne, Int32.reduceOfInt, Int64.reduceOfInt, Int32.reduceOfNat, Int32.reduceLT, Int32.reduceLE, Prod.mk.injEq, Nat.reduceEqDiff, reduceCtorEq, and_true, true_and, and_false, false_and, and_self, ite_true, ite_false, ↓reduceIte, not_true_eq_false, not_false_eq_true, pe_ri, pe_rz, eq_false k1, hc]
theorem y1760_4_3 {A : wK → Nat} {h : pm_H} {m D : Nat} {R : Outcome × pm_H} {S : wS} {x1 : Int32} {x2 : Int32} {x3 : Int32} {x4 : Int32} {x5 : Int32} {x6 : Int32} {x7 : Int32} {x8 : Int32} {r : (Int32 × Int32 × Int32 × Int32 × Int32 × Int32 × Int32 × wS) ⊕ ((wS))} (hA : wok A Ri_d m) (hD : 4 ≤ D) (e : f1760_4_3 S x1 x2 x3 x4 x5 x6 x7 x8 = some r) (hc : Sum.elim (go1760_3 A h D R) (ex1760_3 A h D R) r) : pm_go pm_prog (pm_call pm_prog D) 1760 4 [.ref (A (0, 0, 0)), .int x1, .int x2, .int x3, .int x4, .int x5, .int x6, .int x7, .int x8] [] (wput A Ri_d S h) = some R := by
  simp only [f1760_4_3] at e
  rw [g1760_4, b1760_4]
  by_cases k1 : x8 ≤ 0
  · rw [if_pos k1] at e
    have k2 := y1760_5_3 (h := h) hA hD e hc
    simp -implicitDefEqProofs (disch := first | assumption | exact Nat.le_of_ble_eq_true rfl | decide) only [b1760_0, g1760_1, b1760_1, g1760_6, b1760_6, g1760_7, b1760_7, g1760_8, b1760_8, pe_aload0, pe_sipush, pe_iload1, pe_iload2, pe_iload3, pe_iload4, pe_call6, pm_af_ret, pm_af_void, pm_af_thr, pe_call2, pe_istore5, pe_iload5, pe_if_eq, pe_isub, pe_goto, pe_goto_w, pe_istore6, pe_istore7, pe_iload7, pe_iload6, pe_icmp_ge, pe_call7, pe_istore8, pe_iload8, pe_if_le, pe_iadd, pe_call5, pe_return, pm_prog_1, pm_ob_some, Nat.reduceDiv, Nat.reduceMod, Nat.reduceMul, Nat.reduceAdd, Int.reduceToNat, pm_kill_i, pm_kill_r, pm_kill_n, pm_kill_j, pm_kill_l, pm_kill_d, pm_cats_nil, pm_cats_i, pm_cats_r, pm_cats_n, pm_cats_l, pm_cats_d, sz_1, sz_2, sl_1, sl_2, lc_0, lc_lt, lc_le, li_ne, Int32.reduceOfInt, Int64.reduceOfInt, Int32.reduceOfNat, Int32.reduceLT, Int32.reduceLE, Prod.mk.injEq, Nat.reduceEqDiff, reduceCtorEq, and_true, true_and, and_false, false_and, and_self, ite_true, ite_false, ↓reduceIte, not_true_eq_false, not_false_eq_true, pe_ri, pe_rz, eq_true k1, k2]
  · rw [if_neg k1] at e
    obtain ⟨S4, k3, e⟩ := Option.bind_eq_some_iff.mp e
    try dsimp only at e
    have z3 := x1757 (D := D) (h := h) hA (by omega) k3
    have k4 := y1760_5_3 (h := h) hA hD e hc
    simp -implicitDefEqProofs (disch := first | assumption | exact Nat.le_of_ble_eq_true rfl | decide) only [b1760_0, g1760_1, b1760_1, g1760_6, b1760_6, g1760_7, b1760_7, g1760_8, b1760_8, pe_aload0, pe_sipush, pe_iload1, pe_iload2, pe_iload3, pe_iload4, pe_call6, pm_af_ret, pm_af_void, pm_af_thr, pe_call2, pe_istore5, pe_iload5, pe_if_eq, pe_isub, pe_goto, pe_goto_w, pe_istore6, pe_istore7, pe_iload7, pe_iload6, pe_icmp_ge, pe_call7, pe_istore8, pe_iload8, pe_if_le, pe_iadd, pe_call5, pe_return, pm_prog_1, pm_ob_some, Nat.reduceDiv, Nat.reduceMod, Nat.reduceMul, Nat.reduceAdd, Int.reduceToNat, pm_kill_i, pm_kill_r, pm_kill_n, pm_kill_j, pm_kill_l, pm_kill_d, pm_cats_nil, pm_cats_i, pm_cats_r, pm_cats_n, pm_cats_l, pm_cats_d, sz_1, sz_2, sl_1, sl_2, lc_0, lc_lt, lc_le, li_ne, Int32.reduceOfInt, Int64.reduceOfInt, Int32.reduceOfNat, Int32.reduceLT, Int32.reduceLE, Prod.mk.injEq, Nat.reduceEqDiff, reduceCtorEq, and_true, true_and, and_false, false_and, and_self, ite_true, ite_false, ↓reduceIte, not_true_eq_false, not_false_eq_true, pe_ri, pe_rz, eq_false k1, z3, k4]
theorem y1760_b3 {A : wK → Nat} {h : pm_H} {m D : Nat} {R : Outcome × pm_H} (hA : wok A Ri_d m) (hD : 4 ≤ D) (a : Int32 × Int32 × Int32 × Int32 × Int32 × Int32 × Int32 × wS) (r : (Int32 × Int32 × Int32 × Int32 × Int32 × Int32 × Int32 × wS) ⊕ ((wS))) (e : f1760_b3 a = some r) (hc : Sum.elim (go1760_3 A h D R) (ex1760_3 A h D R) r) : go1760_3 A h D R a := by
  obtain ⟨x1, x2, x3, x4, x5, x6, x7, S⟩ := a
  dsimp only [go1760_3]
  intro q8
  simp only [f1760_b3] at e
  rw [g1760_3, b1760_3]
  by_cases k1 : x7 < x6
  · rw [if_pos k1] at e
    obtain ⟨v3, k2, e⟩ := Option.bind_eq_some_iff.mp e
    try dsimp only at e
    have z2 := x1758 (D := D) (h := h) hA (by omega) k2
    by_cases k3 : v3 ≤ 0
    · rw [if_pos k3] at e
      have k4 := y1760_4_3 (h := h) hA hD e hc
      simp -implicitDefEqProofs (disch := first | assumption | exact Nat.le_of_ble_eq_true rfl | decide) only [b1760_0, g1760_1, b1760_1, g1760_6, b1760_6, g1760_7, b1760_7, g1760_8, b1760_8, pe_aload0, pe_sipush, pe_iload1, pe_iload2, pe_iload3, pe_iload4, pe_call6, pm_af_ret, pm_af_void, pm_af_thr, pe_call2, pe_istore5, pe_iload5, pe_if_eq, pe_isub, pe_goto, pe_goto_w, pe_istore6, pe_istore7, pe_iload7, pe_iload6, pe_icmp_ge, pe_call7, pe_istore8, pe_iload8, pe_if_le, pe_iadd, pe_call5, pe_return, pm_prog_1, pm_ob_some, Nat.reduceDiv, Nat.reduceMod, Nat.reduceMul, Nat.reduceAdd, Int.reduceToNat, pm_kill_i, pm_kill_r, pm_kill_n, pm_kill_j, pm_kill_l, pm_kill_d, pm_cats_nil, pm_cats_i, pm_cats_r, pm_cats_n, pm_cats_l, pm_cats_d, sz_1, sz_2, sl_1, sl_2, lc_0, lc_lt, lc_le, li_ne, Int32.reduceOfInt, Int64.reduceOfInt, Int32.reduceOfNat, Int32.reduceLT, Int32.reduceLE, Prod.mk.injEq, Nat.reduceEqDiff, reduceCtorEq, and_true, true_and, and_false, false_and, and_self, ite_true, ite_false, ↓reduceIte, not_true_eq_false, not_false_eq_true, pe_ri, pe_rz, eq_true k1, z2, eq_true k3, k4]
    · rw [if_neg k3] at e
      by_cases k5 : x5 = 0
      · rw [if_pos k5] at e
        have k6 := y1760_4_3 (h := h) hA hD e hc
        simp -implicitDefEqProofs (disch := first | assumption | exact Nat.le_of_ble_eq_true rfl | decide) only [b1760_0, g1760_1, b1760_1, g1760_6, b1760_6, g1760_7, b1760_7, g1760_8, b1760_8, pe_aload0, pe_sipush, pe_iload1, pe_iload2, pe_iload3, pe_iload4, pe_call6, pm_af_ret, pm_af_void, pm_af_thr, pe_call2, pe_istore5, pe_iload5, pe_if_eq, pe_isub, pe_goto, pe_goto_w, pe_istore6, pe_istore7, pe_iload7, pe_iload6, pe_icmp_ge, pe_call7, pe_istore8, pe_iload8, pe_if_le, pe_iadd, pe_call5, pe_return, pm_prog_1, pm_ob_some, Nat.reduceDiv, Nat.reduceMod, Nat.reduceMul, Nat.reduceAdd, Int.reduceToNat, pm_kill_i, pm_kill_r, pm_kill_n, pm_kill_j, pm_kill_l, pm_kill_d, pm_cats_nil, pm_cats_i, pm_cats_r, pm_cats_n, pm_cats_l, pm_cats_d, sz_1, sz_2, sl_1, sl_2, lc_0, lc_lt, lc_le, li_ne, Int32.reduceOfInt, Int64.reduceOfInt, Int32.reduceOfNat, Int32.reduceLT, Int32.reduceLE, Prod.mk.injEq, Nat.reduceEqDiff, reduceCtorEq, and_true, true_and, and_false, false_and, and_self, ite_true, ite_false, ↓reduceIte, not_true_eq_false, not_false_eq_true, pe_ri, pe_rz, eq_true k1, z2, eq_false k3, eq_true k5, k6]
      · rw [if_neg k5] at e
        obtain ⟨S5, k7, e⟩ := Option.bind_eq_some_iff.mp e
        try dsimp only at e
        have z7 := x1757 (D := D) (h := h) hA (by omega) k7
        have k8 := y1760_5_3 (h := h) hA hD e hc
        simp -implicitDefEqProofs (disch := first | assumption | exact Nat.le_of_ble_eq_true rfl | decide) only [b1760_0, g1760_1, b1760_1, g1760_6, b1760_6, g1760_7, b1760_7, g1760_8, b1760_8, pe_aload0, pe_sipush, pe_iload1, pe_iload2, pe_iload3, pe_iload4, pe_call6, pm_af_ret, pm_af_void, pm_af_thr, pe_call2, pe_istore5, pe_iload5, pe_if_eq, pe_isub, pe_goto, pe_goto_w, pe_istore6, pe_istore7, pe_iload7, pe_iload6, pe_icmp_ge, pe_call7, pe_istore8, pe_iload8, pe_if_le, pe_iadd, pe_call5, pe_return, pm_prog_1, pm_ob_some, Nat.reduceDiv, Nat.reduceMod, Nat.reduceMul, Nat.reduceAdd, Int.reduceToNat, pm_kill_i, pm_kill_r, pm_kill_n, pm_kill_j, pm_kill_l, pm_kill_d, pm_cats_nil, pm_cats_i, pm_cats_r, pm_cats_n, pm_cats_l, pm_cats_d, sz_1, sz_2, sl_1, sl_2, lc_0, lc_lt, lc_le, li_ne, Int32.reduceOfInt, Int64.reduceOfInt, Int32.reduceOfNat, Int32.reduceLT, Int32.reduceLE, Prod.mk.injEq, Nat.reduceEqDiff, reduceCtorEq, and_true, true_and, and_false, false_and, and_self, ite_true, ite_false, ↓reduceIte, not_true_eq_false, not_false_eq_true, pe_ri, pe_rz, eq_true k1, z2, eq_false k3, eq_false k5, z7, k8]
  · rw [if_neg k1] at e
    have e := Option.some.inj e; subst e
    dsimp only [Sum.elim_inr, ex1760_3] at hc
    simp -implicitDefEqProofs (disch := first | assumption | exact Nat.le_of_ble_eq_true rfl | decide) only [b1760_0, g1760_1, b1760_1, g1760_6, b1760_6, g1760_7, b1760_7, g1760_8, b1760_8, pe_aload0, pe_sipush, pe_iload1, pe_iload2, pe_iload3, pe_iload4, pe_call6, pm_af_ret, pm_af_void, pm_af_thr, pe_call2, pe_istore5, pe_iload5, pe_if_eq, pe_isub, pe_goto, pe_goto_w, pe_istore6, pe_istore7, pe_iload7, pe_iload6, pe_icmp_ge, pe_call7, pe_istore8, pe_iload8, pe_if_le, pe_iadd, pe_call5, pe_return, pm_prog_1, pm_ob_some, Nat.reduceDiv, Nat.reduceMod, Nat.reduceMul, Nat.reduceAdd, Int.reduceToNat, pm_kill_i, pm_kill_r, pm_kill_n, pm_kill_j, pm_kill_l, pm_kill_d, pm_cats_nil, pm_cats_i, pm_cats_r, pm_cats_n, pm_cats_l, pm_cats_d, sz_1, sz_2, sl_1, sl_2, lc_0, lc_lt, lc_le, li_ne, Int32.reduceOfInt, Int64.reduceOfInt, Int32.reduceOfNat, Int32.reduceLT, Int32.reduceLE, Prod.mk.injEq, Nat.reduceEqDiff, reduceCtorEq, and_true, true_and, and_false, false_and, and_self, ite_true, ite_false, ↓reduceIte, not_true_eq_false, not_false_eq_true, pe_ri, pe_rz, eq_false k1, hc]
theorem z1760_3 {A : wK → Nat} {h : pm_H} {m D : Nat} {R : Outcome × pm_H} (hA : wok A Ri_d m) (hD : 4 ≤ D) {n : Nat} {a : Int32 × Int32 × Int32 × Int32 × Int32 × Int32 × Int32 × wS} {b : (wS)} (e : lp (f1760_b3) n a = some b) (hx : ex1760_3 A h D R b) : go1760_3 A h D R a := lp_run (fun a r => y1760_b3 hA hD a r) n a b e hx
theorem y1760_2 {A : wK → Nat} {h : pm_H} {m D : Nat} {S : wS} {x1 : Int32} {x2 : Int32} {x3 : Int32} {x4 : Int32} {x5 : Int32} {y0 : Int32} {r : wS} (hA : wok A Ri_d m) (hD : 4 ≤ D) (e : f1760_2 S x1 x2 x3 x4 x5 y0 = some r) : ∀ q6 q7 q8 : Value, pm_go pm_prog (pm_call pm_prog D) 1760 2 [.ref (A (0, 0, 0)), .int x1, .int x2, .int x3, .int x4, .int x5, q6, q7, q8] [.int y0] (wput A Ri_d S h) = some (.returned none, (wput A Ri_d r h)) := by
  intro q6 q7 q8
  simp only [f1760_2] at e
  rw [g1760_2, b1760_2]
  obtain ⟨S6, k1, e⟩ := Option.bind_eq_some_iff.mp e
  try dsimp only at e
  try simp -implicitDefEqProofs (disch := first | assumption | exact Nat.le_of_ble_eq_true rfl | decide) only [b1760_0, g1760_1, b1760_1, g1760_6, b1760_6, g1760_7, b1760_7, g1760_8, b1760_8, pe_aload0, pe_sipush, pe_iload1, pe_iload2, pe_iload3, pe_iload4, pe_call6, pm_af_ret, pm_af_void, pm_af_thr, pe_call2, pe_istore5, pe_iload5, pe_if_eq, pe_isub, pe_goto, pe_goto_w, pe_istore6, pe_istore7, pe_iload7, pe_iload6, pe_icmp_ge, pe_call7, pe_istore8, pe_iload8, pe_if_le, pe_iadd, pe_call5, pe_return, pm_prog_1, pm_ob_some, Nat.reduceDiv, Nat.reduceMod, Nat.reduceMul, Nat.reduceAdd, Int.reduceToNat, pm_kill_i, pm_kill_r, pm_kill_n, pm_kill_j, pm_kill_l, pm_kill_d, pm_cats_nil, pm_cats_i, pm_cats_r, pm_cats_n, pm_cats_l, pm_cats_d, sz_1, sz_2, sl_1, sl_2, lc_0, lc_lt, lc_le, li_ne, Int32.reduceOfInt, Int64.reduceOfInt, Int32.reduceOfNat, Int32.reduceLT, Int32.reduceLE, Prod.mk.injEq, Nat.reduceEqDiff, reduceCtorEq, and_true, true_and, and_false, false_and, and_self, ite_true, ite_false, ↓reduceIte, not_true_eq_false, not_false_eq_true, pe_ri, pe_rz]
  refine z1760_3 hA hD k1 ?_ _
  dsimp only [ex1760_3]
  intro q1 q2 q3 q4 q5 q6 q7 q8
  have e := Option.some.inj e; subst e
  simp -implicitDefEqProofs (disch := first | assumption | exact Nat.le_of_ble_eq_true rfl | decide) only [b1760_0, g1760_1, b1760_1, g1760_6, b1760_6, g1760_7, b1760_7, g1760_8, b1760_8, pe_aload0, pe_sipush, pe_iload1, pe_iload2, pe_iload3, pe_iload4, pe_call6, pm_af_ret, pm_af_void, pm_af_thr, pe_call2, pe_istore5, pe_iload5, pe_if_eq, pe_isub, pe_goto, pe_goto_w, pe_istore6, pe_istore7, pe_iload7, pe_iload6, pe_icmp_ge, pe_call7, pe_istore8, pe_iload8, pe_if_le, pe_iadd, pe_call5, pe_return, pm_prog_1, pm_ob_some, Nat.reduceDiv, Nat.reduceMod, Nat.reduceMul, Nat.reduceAdd, Int.reduceToNat, pm_kill_i, pm_kill_r, pm_kill_n, pm_kill_j, pm_kill_l, pm_kill_d, pm_cats_nil, pm_cats_i, pm_cats_r, pm_cats_n, pm_cats_l, pm_cats_d, sz_1, sz_2, sl_1, sl_2, lc_0, lc_lt, lc_le, li_ne, Int32.reduceOfInt, Int64.reduceOfInt, Int32.reduceOfNat, Int32.reduceLT, Int32.reduceLE, Prod.mk.injEq, Nat.reduceEqDiff, reduceCtorEq, and_true, true_and, and_false, false_and, and_self, ite_true, ite_false, ↓reduceIte, not_true_eq_false, not_false_eq_true, pe_ri, pe_rz]
theorem x1760 {A : wK → Nat} {h : pm_H} {m D : Nat} {S : wS} {x1 : Int32} {x2 : Int32} {x3 : Int32} {x4 : Int32} {r : wS} (hA : wok A Ri_d m) (hD : 5 ≤ D) (e : f1760 S x1 x2 x3 x4 = some r) : pm_call pm_prog D 1760 [.ref (A (0, 0, 0)), .int x1, .int x2, .int x3, .int x4] (wput A Ri_d S h) = some (.returned none, (wput A Ri_d r h)) := by
  obtain ⟨D, rfl⟩ : ∃ D', D = D' + 1 := ⟨D - 1, by omega⟩
  have hD : 4 ≤ D := by omega
  rw [c1760 (Ri_c hA), b1760_0]
  simp only [f1760] at e
  obtain ⟨S1, k1, e⟩ := Option.bind_eq_some_iff.mp e
  try dsimp only at e
  have z1 := x1750 (D := D) (h := h) hA (by omega) k1
  obtain ⟨v2, k2, e⟩ := Option.bind_eq_some_iff.mp e
  try dsimp only at e
  have z2 := x1751 (D := D) (h := h) hA (by omega) k2
  by_cases k3 : v2 = 0
  · rw [if_pos k3] at e
    have k4 := y1760_2 (h := h) hA hD e
    simp -implicitDefEqProofs (disch := first | assumption | exact Nat.le_of_ble_eq_true rfl | decide) only [b1760_0, g1760_1, b1760_1, g1760_6, b1760_6, g1760_7, b1760_7, g1760_8, b1760_8, pe_aload0, pe_sipush, pe_iload1, pe_iload2, pe_iload3, pe_iload4, pe_call6, pm_af_ret, pm_af_void, pm_af_thr, pe_call2, pe_istore5, pe_iload5, pe_if_eq, pe_isub, pe_goto, pe_goto_w, pe_istore6, pe_istore7, pe_iload7, pe_iload6, pe_icmp_ge, pe_call7, pe_istore8, pe_iload8, pe_if_le, pe_iadd, pe_call5, pe_return, pm_prog_1, pm_ob_some, Nat.reduceDiv, Nat.reduceMod, Nat.reduceMul, Nat.reduceAdd, Int.reduceToNat, pm_kill_i, pm_kill_r, pm_kill_n, pm_kill_j, pm_kill_l, pm_kill_d, pm_cats_nil, pm_cats_i, pm_cats_r, pm_cats_n, pm_cats_l, pm_cats_d, sz_1, sz_2, sl_1, sl_2, lc_0, lc_lt, lc_le, li_ne, Int32.reduceOfInt, Int64.reduceOfInt, Int32.reduceOfNat, Int32.reduceLT, Int32.reduceLE, Prod.mk.injEq, Nat.reduceEqDiff, reduceCtorEq, and_true, true_and, and_false, false_and, and_self, ite_true, ite_false, ↓reduceIte, not_true_eq_false, not_false_eq_true, pe_ri, pe_rz, z1, z2, eq_true k3, k4]
  · rw [if_neg k3] at e
    have k5 := y1760_2 (h := h) hA hD e
    simp -implicitDefEqProofs (disch := first | assumption | exact Nat.le_of_ble_eq_true rfl | decide) only [b1760_0, g1760_1, b1760_1, g1760_6, b1760_6, g1760_7, b1760_7, g1760_8, b1760_8, pe_aload0, pe_sipush, pe_iload1, pe_iload2, pe_iload3, pe_iload4, pe_call6, pm_af_ret, pm_af_void, pm_af_thr, pe_call2, pe_istore5, pe_iload5, pe_if_eq, pe_isub, pe_goto, pe_goto_w, pe_istore6, pe_istore7, pe_iload7, pe_iload6, pe_icmp_ge, pe_call7, pe_istore8, pe_iload8, pe_if_le, pe_iadd, pe_call5, pe_return, pm_prog_1, pm_ob_some, Nat.reduceDiv, Nat.reduceMod, Nat.reduceMul, Nat.reduceAdd, Int.reduceToNat, pm_kill_i, pm_kill_r, pm_kill_n, pm_kill_j, pm_kill_l, pm_kill_d, pm_cats_nil, pm_cats_i, pm_cats_r, pm_cats_n, pm_cats_l, pm_cats_d, sz_1, sz_2, sl_1, sl_2, lc_0, lc_lt, lc_le, li_ne, Int32.reduceOfInt, Int64.reduceOfInt, Int32.reduceOfNat, Int32.reduceLT, Int32.reduceLE, Prod.mk.injEq, Nat.reduceEqDiff, reduceCtorEq, and_true, true_and, and_false, false_and, and_self, ite_true, ite_false, ↓reduceIte, not_true_eq_false, not_false_eq_true, pe_ri, pe_rz, z1, z2, eq_false k3, k5]
/-- TimberHouseModel$Rips.walkThree()V -/
theorem c1761 {d : Nat} {h : pm_H} {a : Nat} (hc : pm_cls h a = some 27) : pm_call pm_prog (d + 1) 1761 [.ref a] h = pm_ev pm_prog (pm_call pm_prog d) 1761 0 b1761_0 [.ref a, pm_junk, pm_junk, pm_junk, pm_junk] [] h := pm_cal (pm_rc1 hc rfl) rfl rfl rfl
theorem g1761_1 {cl : pm_C} {ls st : List Value} {h : pm_H} : pm_go pm_prog cl 1761 1 ls st h = pm_ev pm_prog cl 1761 1 b1761_1 ls st h := pm_go_eq pm_prog cl 1761 1 ls st h
theorem g1761_2 {cl : pm_C} {ls st : List Value} {h : pm_H} : pm_go pm_prog cl 1761 2 ls st h = pm_ev pm_prog cl 1761 2 b1761_2 ls st h := pm_go_eq pm_prog cl 1761 2 ls st h
theorem g1761_3 {cl : pm_C} {ls st : List Value} {h : pm_H} : pm_go pm_prog cl 1761 3 ls st h = pm_ev pm_prog cl 1761 3 b1761_3 ls st h := pm_go_eq pm_prog cl 1761 3 ls st h
theorem g1761_4 {cl : pm_C} {ls st : List Value} {h : pm_H} : pm_go pm_prog cl 1761 4 ls st h = pm_ev pm_prog cl 1761 4 b1761_4 ls st h := pm_go_eq pm_prog cl 1761 4 ls st h
theorem g1761_5 {cl : pm_C} {ls st : List Value} {h : pm_H} : pm_go pm_prog cl 1761 5 ls st h = pm_ev pm_prog cl 1761 5 b1761_5 ls st h := pm_go_eq pm_prog cl 1761 5 ls st h
theorem g1761_6 {cl : pm_C} {ls st : List Value} {h : pm_H} : pm_go pm_prog cl 1761 6 ls st h = pm_ev pm_prog cl 1761 6 b1761_6 ls st h := pm_go_eq pm_prog cl 1761 6 ls st h
theorem g1761_7 {cl : pm_C} {ls st : List Value} {h : pm_H} : pm_go pm_prog cl 1761 7 ls st h = pm_ev pm_prog cl 1761 7 b1761_7 ls st h := pm_go_eq pm_prog cl 1761 7 ls st h
theorem g1761_8 {cl : pm_C} {ls st : List Value} {h : pm_H} : pm_go pm_prog cl 1761 8 ls st h = pm_ev pm_prog cl 1761 8 b1761_8 ls st h := pm_go_eq pm_prog cl 1761 8 ls st h
noncomputable def f1761_5_3 (S : wS) (x1 : Int32) (x2 : Int32) (x3 : Int32) (x4 : Int32) : Option ((Int32 × Int32 × Int32 × wS) ⊕ ((wS))) :=
  if x4 ≤ 0 then
    some (.inl (x1, x2, (x3 + 1), S))
  else
    some (.inl (x1, x2, x4, S))
noncomputable def f1761_4_3 (S : wS) (x1 : Int32) (x2 : Int32) (x3 : Int32) (x4 : Int32) : Option ((Int32 × Int32 × Int32 × wS) ⊕ ((wS))) :=
  if x4 ≤ 0 then
    f1761_5_3 S x1 x2 x3 x4
  else
    (f1760 S x3 x4 0 (S.1 (0, 0, 0) 3)).bind fun S4 =>
    f1761_5_3 S4 x1 x2 x3 x4
noncomputable def f1761_b3 : Int32 × Int32 × Int32 × wS → Option ((Int32 × Int32 × Int32 × wS) ⊕ ((wS))) := fun (x1, x2, x3, S) =>
  if x3 < x2 then
    (f1758 S 3 x3 0 (S.1 (0, 0, 0) 2) 0 (S.1 (0, 0, 0) 3)).bind fun v3 =>
    if v3 ≤ 0 then
      f1761_4_3 S x1 x2 x3 v3
    else
      if x1 = 0 then
        f1761_4_3 S x1 x2 x3 v3
      else
        (f1760 S 0 (S.1 (0, 0, 0) 2) x3 v3).bind fun S5 =>
        f1761_5_3 S5 x1 x2 x3 v3
  else
    some (.inr S)
noncomputable def f1761_2 (S : wS) (x1 : Int32) (y0 : Int32) : Option (wS) :=
  (lp (f1761_b3) FU (x1, y0, 0, S)).bind fun S6 =>
  some S6
/-- TimberHouseModel$Rips.walkThree()V -/
noncomputable def f1761 (S : wS) : Option (wS) :=
  (f1750 S 3 0 (S.1 (0, 0, 0) 2) 0 (S.1 (0, 0, 0) 3)).bind fun S1 =>
  (f1751 S1 3).bind fun v2 =>
  if v2 = 0 then
    f1761_2 S1 v2 (S1.1 (0, 0, 0) 2)
  else
    f1761_2 S1 v2 (S1.1 (0, 0, 0) 3)
def go1761_3 (A : wK → Nat) (h : pm_H) (D : Nat) (R : Outcome × pm_H) : Int32 × Int32 × Int32 × wS → Prop := fun (x1, x2, x3, S) => ∀ q4 : Value, pm_go pm_prog (pm_call pm_prog D) 1761 3 [.ref (A (0, 0, 0)), .int x1, .int x2, .int x3, q4] [] (wput A Ri_d S h) = some R
def ex1761_3 (A : wK → Nat) (h : pm_H) (D : Nat) (R : Outcome × pm_H) : (wS) → Prop := fun S => ∀ q1 q2 q3 q4 : Value, pm_go pm_prog (pm_call pm_prog D) 1761 8 [.ref (A (0, 0, 0)), q1, q2, q3, q4] [] (wput A Ri_d S h) = some R
theorem y1761_5_3 {A : wK → Nat} {h : pm_H} {m D : Nat} {R : Outcome × pm_H} {S : wS} {x1 : Int32} {x2 : Int32} {x3 : Int32} {x4 : Int32} {r : (Int32 × Int32 × Int32 × wS) ⊕ ((wS))} (hA : wok A Ri_d m) (hD : 5 ≤ D) (e : f1761_5_3 S x1 x2 x3 x4 = some r) (hc : Sum.elim (go1761_3 A h D R) (ex1761_3 A h D R) r) : pm_go pm_prog (pm_call pm_prog D) 1761 5 [.ref (A (0, 0, 0)), .int x1, .int x2, .int x3, .int x4] [] (wput A Ri_d S h) = some R := by
  simp only [f1761_5_3] at e
  rw [g1761_5, b1761_5]
  by_cases k1 : x4 ≤ 0
  · rw [if_pos k1] at e
    have e := Option.some.inj e; subst e
    dsimp only [Sum.elim_inl, go1761_3] at hc
    simp -implicitDefEqProofs (disch := first | assumption | exact Nat.le_of_ble_eq_true rfl | decide) only [b1761_0, g1761_1, b1761_1, g1761_6, b1761_6, g1761_7, b1761_7, g1761_8, b1761_8, pe_aload0, pe_sipush, pe_getfield, pe_call6, pm_af_ret, pm_af_void, pm_af_thr, pe_call2, pe_istore1, pe_iload1, pe_if_eq, pe_goto, pe_goto_w, pe_istore2, pe_istore3, pe_iload3, pe_iload2, pe_icmp_ge, pe_call7, pe_istore4, pe_iload4, pe_if_le, pe_call5, pe_iadd, pe_return, pm_prog_1, pm_ob_some, Nat.reduceDiv, Nat.reduceMod, Nat.reduceMul, Nat.reduceAdd, Int.reduceToNat, pm_kill_i, pm_kill_r, pm_kill_n, pm_kill_j, pm_kill_l, pm_kill_d, pm_cats_nil, pm_cats_i, pm_cats_r, pm_cats_n, pm_cats_l, pm_cats_d, sz_1, sz_2, sl_1, sl_2, lc_0, lc_lt, lc_le, li_ne, Int32.reduceOfInt, Int64.reduceOfInt, Int32.reduceOfNat, Int32.reduceLT, Int32.reduceLE, Prod.mk.injEq, Nat.reduceEqDiff, reduceCtorEq, and_true, true_and, and_false, false_and, and_self, ite_true, ite_false, ↓reduceIte, not_true_eq_false, not_false_eq_true, pe_ri, pe_rz, Ri_g2 hA, Ri_g3 hA, eq_true k1, hc]
  · rw [if_neg k1] at e
    have e := Option.some.inj e; subst e
    dsimp only [Sum.elim_inl, go1761_3] at hc
    simp -implicitDefEqProofs (disch := first | assumption | exact Nat.le_of_ble_eq_true rfl | decide) only [b1761_0, g1761_1, b1761_1, g1761_6, b1761_6, g1761_7, b1761_7, g1761_8, b1761_8, pe_aload0, pe_sipush, pe_getfield, pe_call6, pm_af_ret, pm_af_void, pm_af_thr, pe_call2, pe_istore1, pe_iload1, pe_if_eq, pe_goto, pe_goto_w, pe_istore2, pe_istore3, pe_iload3, pe_iload2, pe_icmp_ge, pe_call7, pe_istore4, pe_iload4, pe_if_le, pe_call5, pe_iadd, pe_return, pm_prog_1, pm_ob_some, Nat.reduceDiv, Nat.reduceMod, Nat.reduceMul, Nat.reduceAdd, Int.reduceToNat, pm_kill_i, pm_kill_r, pm_kill_n, pm_kill_j, pm_kill_l, pm_kill_d, pm_cats_nil, pm_cats_i, pm_cats_r, pm_cats_n, pm_cats_l, pm_cats_d, sz_1, sz_2, sl_1, sl_2, lc_0, lc_lt, lc_le, li_ne, Int32.reduceOfInt, Int64.reduceOfInt, Int32.reduceOfNat, Int32.reduceLT, Int32.reduceLE, Prod.mk.injEq, Nat.reduceEqDiff, reduceCtorEq, and_true, true_and, and_false, false_and, and_self, ite_true, ite_false, ↓reduceIte, not_true_eq_false, not_false_eq_true, pe_ri, pe_rz, Ri_g2 hA, Ri_g3 hA, eq_false k1, hc]
theorem y1761_4_3 {A : wK → Nat} {h : pm_H} {m D : Nat} {R : Outcome × pm_H} {S : wS} {x1 : Int32} {x2 : Int32} {x3 : Int32} {x4 : Int32} {r : (Int32 × Int32 × Int32 × wS) ⊕ ((wS))} (hA : wok A Ri_d m) (hD : 5 ≤ D) (e : f1761_4_3 S x1 x2 x3 x4 = some r) (hc : Sum.elim (go1761_3 A h D R) (ex1761_3 A h D R) r) : pm_go pm_prog (pm_call pm_prog D) 1761 4 [.ref (A (0, 0, 0)), .int x1, .int x2, .int x3, .int x4] [] (wput A Ri_d S h) = some R := by
  simp only [f1761_4_3] at e
  rw [g1761_4, b1761_4]
  by_cases k1 : x4 ≤ 0
  · rw [if_pos k1] at e
    have k2 := y1761_5_3 (h := h) hA hD e hc
    simp -implicitDefEqProofs (disch := first | assumption | exact Nat.le_of_ble_eq_true rfl | decide) only [b1761_0, g1761_1, b1761_1, g1761_6, b1761_6, g1761_7, b1761_7, g1761_8, b1761_8, pe_aload0, pe_sipush, pe_getfield, pe_call6, pm_af_ret, pm_af_void, pm_af_thr, pe_call2, pe_istore1, pe_iload1, pe_if_eq, pe_goto, pe_goto_w, pe_istore2, pe_istore3, pe_iload3, pe_iload2, pe_icmp_ge, pe_call7, pe_istore4, pe_iload4, pe_if_le, pe_call5, pe_iadd, pe_return, pm_prog_1, pm_ob_some, Nat.reduceDiv, Nat.reduceMod, Nat.reduceMul, Nat.reduceAdd, Int.reduceToNat, pm_kill_i, pm_kill_r, pm_kill_n, pm_kill_j, pm_kill_l, pm_kill_d, pm_cats_nil, pm_cats_i, pm_cats_r, pm_cats_n, pm_cats_l, pm_cats_d, sz_1, sz_2, sl_1, sl_2, lc_0, lc_lt, lc_le, li_ne, Int32.reduceOfInt, Int64.reduceOfInt, Int32.reduceOfNat, Int32.reduceLT, Int32.reduceLE, Prod.mk.injEq, Nat.reduceEqDiff, reduceCtorEq, and_true, true_and, and_false, false_and, and_self, ite_true, ite_false, ↓reduceIte, not_true_eq_false, not_false_eq_true, pe_ri, pe_rz, Ri_g2 hA, Ri_g3 hA, eq_true k1, k2]
  · rw [if_neg k1] at e
    obtain ⟨S4, k3, e⟩ := Option.bind_eq_some_iff.mp e
    try dsimp only at e
    have z3 := x1760 (D := D) (h := h) hA (by omega) k3
    have k4 := y1761_5_3 (h := h) hA hD e hc
    simp -implicitDefEqProofs (disch := first | assumption | exact Nat.le_of_ble_eq_true rfl | decide) only [b1761_0, g1761_1, b1761_1, g1761_6, b1761_6, g1761_7, b1761_7, g1761_8, b1761_8, pe_aload0, pe_sipush, pe_getfield, pe_call6, pm_af_ret, pm_af_void, pm_af_thr, pe_call2, pe_istore1, pe_iload1, pe_if_eq, pe_goto, pe_goto_w, pe_istore2, pe_istore3, pe_iload3, pe_iload2, pe_icmp_ge, pe_call7, pe_istore4, pe_iload4, pe_if_le, pe_call5, pe_iadd, pe_return, pm_prog_1, pm_ob_some, Nat.reduceDiv, Nat.reduceMod, Nat.reduceMul, Nat.reduceAdd, Int.reduceToNat, pm_kill_i, pm_kill_r, pm_kill_n, pm_kill_j, pm_kill_l, pm_kill_d, pm_cats_nil, pm_cats_i, pm_cats_r, pm_cats_n, pm_cats_l, pm_cats_d, sz_1, sz_2, sl_1, sl_2, lc_0, lc_lt, lc_le, li_ne, Int32.reduceOfInt, Int64.reduceOfInt, Int32.reduceOfNat, Int32.reduceLT, Int32.reduceLE, Prod.mk.injEq, Nat.reduceEqDiff, reduceCtorEq, and_true, true_and, and_false, false_and, and_self, ite_true, ite_false, ↓reduceIte, not_true_eq_false, not_false_eq_true, pe_ri, pe_rz, Ri_g2 hA, Ri_g3 hA, eq_false k1, z3, k4]
theorem y1761_b3 {A : wK → Nat} {h : pm_H} {m D : Nat} {R : Outcome × pm_H} (hA : wok A Ri_d m) (hD : 5 ≤ D) (a : Int32 × Int32 × Int32 × wS) (r : (Int32 × Int32 × Int32 × wS) ⊕ ((wS))) (e : f1761_b3 a = some r) (hc : Sum.elim (go1761_3 A h D R) (ex1761_3 A h D R) r) : go1761_3 A h D R a := by
  obtain ⟨x1, x2, x3, S⟩ := a
  dsimp only [go1761_3]
  intro q4
  simp only [f1761_b3] at e
  rw [g1761_3, b1761_3]
  by_cases k1 : x3 < x2
  · rw [if_pos k1] at e
    obtain ⟨v3, k2, e⟩ := Option.bind_eq_some_iff.mp e
    try dsimp only at e
    have z2 := x1758 (D := D) (h := h) hA (by omega) k2
    by_cases k3 : v3 ≤ 0
    · rw [if_pos k3] at e
      have k4 := y1761_4_3 (h := h) hA hD e hc
      simp -implicitDefEqProofs (disch := first | assumption | exact Nat.le_of_ble_eq_true rfl | decide) only [b1761_0, g1761_1, b1761_1, g1761_6, b1761_6, g1761_7, b1761_7, g1761_8, b1761_8, pe_aload0, pe_sipush, pe_getfield, pe_call6, pm_af_ret, pm_af_void, pm_af_thr, pe_call2, pe_istore1, pe_iload1, pe_if_eq, pe_goto, pe_goto_w, pe_istore2, pe_istore3, pe_iload3, pe_iload2, pe_icmp_ge, pe_call7, pe_istore4, pe_iload4, pe_if_le, pe_call5, pe_iadd, pe_return, pm_prog_1, pm_ob_some, Nat.reduceDiv, Nat.reduceMod, Nat.reduceMul, Nat.reduceAdd, Int.reduceToNat, pm_kill_i, pm_kill_r, pm_kill_n, pm_kill_j, pm_kill_l, pm_kill_d, pm_cats_nil, pm_cats_i, pm_cats_r, pm_cats_n, pm_cats_l, pm_cats_d, sz_1, sz_2, sl_1, sl_2, lc_0, lc_lt, lc_le, li_ne, Int32.reduceOfInt, Int64.reduceOfInt, Int32.reduceOfNat, Int32.reduceLT, Int32.reduceLE, Prod.mk.injEq, Nat.reduceEqDiff, reduceCtorEq, and_true, true_and, and_false, false_and, and_self, ite_true, ite_false, ↓reduceIte, not_true_eq_false, not_false_eq_true, pe_ri, pe_rz, Ri_g2 hA, Ri_g3 hA, eq_true k1, z2, eq_true k3, k4]
    · rw [if_neg k3] at e
      by_cases k5 : x1 = 0
      · rw [if_pos k5] at e
        have k6 := y1761_4_3 (h := h) hA hD e hc
        simp -implicitDefEqProofs (disch := first | assumption | exact Nat.le_of_ble_eq_true rfl | decide) only [b1761_0, g1761_1, b1761_1, g1761_6, b1761_6, g1761_7, b1761_7, g1761_8, b1761_8, pe_aload0, pe_sipush, pe_getfield, pe_call6, pm_af_ret, pm_af_void, pm_af_thr, pe_call2, pe_istore1, pe_iload1, pe_if_eq, pe_goto, pe_goto_w, pe_istore2, pe_istore3, pe_iload3, pe_iload2, pe_icmp_ge, pe_call7, pe_istore4, pe_iload4, pe_if_le, pe_call5, pe_iadd, pe_return, pm_prog_1, pm_ob_some, Nat.reduceDiv, Nat.reduceMod, Nat.reduceMul, Nat.reduceAdd, Int.reduceToNat, pm_kill_i, pm_kill_r, pm_kill_n, pm_kill_j, pm_kill_l, pm_kill_d, pm_cats_nil, pm_cats_i, pm_cats_r, pm_cats_n, pm_cats_l, pm_cats_d, sz_1, sz_2, sl_1, sl_2, lc_0, lc_lt, lc_le, li_ne, Int32.reduceOfInt, Int64.reduceOfInt, Int32.reduceOfNat, Int32.reduceLT, Int32.reduceLE, Prod.mk.injEq, Nat.reduceEqDiff, reduceCtorEq, and_true, true_and, and_false, false_and, and_self, ite_true, ite_false, ↓reduceIte, not_true_eq_false, not_false_eq_true, pe_ri, pe_rz, Ri_g2 hA, Ri_g3 hA, eq_true k1, z2, eq_false k3, eq_true k5, k6]
      · rw [if_neg k5] at e
        obtain ⟨S5, k7, e⟩ := Option.bind_eq_some_iff.mp e
        try dsimp only at e
        have z7 := x1760 (D := D) (h := h) hA (by omega) k7
        have k8 := y1761_5_3 (h := h) hA hD e hc
        simp -implicitDefEqProofs (disch := first | assumption | exact Nat.le_of_ble_eq_true rfl | decide) only [b1761_0, g1761_1, b1761_1, g1761_6, b1761_6, g1761_7, b1761_7, g1761_8, b1761_8, pe_aload0, pe_sipush, pe_getfield, pe_call6, pm_af_ret, pm_af_void, pm_af_thr, pe_call2, pe_istore1, pe_iload1, pe_if_eq, pe_goto, pe_goto_w, pe_istore2, pe_istore3, pe_iload3, pe_iload2, pe_icmp_ge, pe_call7, pe_istore4, pe_iload4, pe_if_le, pe_call5, pe_iadd, pe_return, pm_prog_1, pm_ob_some, Nat.reduceDiv, Nat.reduceMod, Nat.reduceMul, Nat.reduceAdd, Int.reduceToNat, pm_kill_i, pm_kill_r, pm_kill_n, pm_kill_j, pm_kill_l, pm_kill_d, pm_cats_nil, pm_cats_i, pm_cats_r, pm_cats_n, pm_cats_l, pm_cats_d, sz_1, sz_2, sl_1, sl_2, lc_0, lc_lt, lc_le, li_ne, Int32.reduceOfInt, Int64.reduceOfInt, Int32.reduceOfNat, Int32.reduceLT, Int32.reduceLE, Prod.mk.injEq, Nat.reduceEqDiff, reduceCtorEq, and_true, true_and, and_false, false_and, and_self, ite_true, ite_false, ↓reduceIte, not_true_eq_false, not_false_eq_true, pe_ri, pe_rz, Ri_g2 hA, Ri_g3 hA, eq_true k1, z2, eq_false k3, eq_false k5, z7, k8]
  · rw [if_neg k1] at e
    have e := Option.some.inj e; subst e
    dsimp only [Sum.elim_inr, ex1761_3] at hc
    simp -implicitDefEqProofs (disch := first | assumption | exact Nat.le_of_ble_eq_true rfl | decide) only [b1761_0, g1761_1, b1761_1, g1761_6, b1761_6, g1761_7, b1761_7, g1761_8, b1761_8, pe_aload0, pe_sipush, pe_getfield, pe_call6, pm_af_ret, pm_af_void, pm_af_thr, pe_call2, pe_istore1, pe_iload1, pe_if_eq, pe_goto, pe_goto_w, pe_istore2, pe_istore3, pe_iload3, pe_iload2, pe_icmp_ge, pe_call7, pe_istore4, pe_iload4, pe_if_le, pe_call5, pe_iadd, pe_return, pm_prog_1, pm_ob_some, Nat.reduceDiv, Nat.reduceMod, Nat.reduceMul, Nat.reduceAdd, Int.reduceToNat, pm_kill_i, pm_kill_r, pm_kill_n, pm_kill_j, pm_kill_l, pm_kill_d, pm_cats_nil, pm_cats_i, pm_cats_r, pm_cats_n, pm_cats_l, pm_cats_d, sz_1, sz_2, sl_1, sl_2, lc_0, lc_lt, lc_le, li_ne, Int32.reduceOfInt, Int64.reduceOfInt, Int32.reduceOfNat, Int32.reduceLT, Int32.reduceLE, Prod.mk.injEq, Nat.reduceEqDiff, reduceCtorEq, and_true, true_and, and_false, false_and, and_self, ite_true, ite_false, ↓reduceIte, not_true_eq_false, not_false_eq_true, pe_ri, pe_rz, Ri_g2 hA, Ri_g3 hA, eq_false k1, hc]
theorem z1761_3 {A : wK → Nat} {h : pm_H} {m D : Nat} {R : Outcome × pm_H} (hA : wok A Ri_d m) (hD : 5 ≤ D) {n : Nat} {a : Int32 × Int32 × Int32 × wS} {b : (wS)} (e : lp (f1761_b3) n a = some b) (hx : ex1761_3 A h D R b) : go1761_3 A h D R a := lp_run (fun a r => y1761_b3 hA hD a r) n a b e hx
theorem y1761_2 {A : wK → Nat} {h : pm_H} {m D : Nat} {S : wS} {x1 : Int32} {y0 : Int32} {r : wS} (hA : wok A Ri_d m) (hD : 5 ≤ D) (e : f1761_2 S x1 y0 = some r) : ∀ q2 q3 q4 : Value, pm_go pm_prog (pm_call pm_prog D) 1761 2 [.ref (A (0, 0, 0)), .int x1, q2, q3, q4] [.int y0] (wput A Ri_d S h) = some (.returned none, (wput A Ri_d r h)) := by
  intro q2 q3 q4
  simp only [f1761_2] at e
  rw [g1761_2, b1761_2]
  obtain ⟨S6, k1, e⟩ := Option.bind_eq_some_iff.mp e
  try dsimp only at e
  try simp -implicitDefEqProofs (disch := first | assumption | exact Nat.le_of_ble_eq_true rfl | decide) only [b1761_0, g1761_1, b1761_1, g1761_6, b1761_6, g1761_7, b1761_7, g1761_8, b1761_8, pe_aload0, pe_sipush, pe_getfield, pe_call6, pm_af_ret, pm_af_void, pm_af_thr, pe_call2, pe_istore1, pe_iload1, pe_if_eq, pe_goto, pe_goto_w, pe_istore2, pe_istore3, pe_iload3, pe_iload2, pe_icmp_ge, pe_call7, pe_istore4, pe_iload4, pe_if_le, pe_call5, pe_iadd, pe_return, pm_prog_1, pm_ob_some, Nat.reduceDiv, Nat.reduceMod, Nat.reduceMul, Nat.reduceAdd, Int.reduceToNat, pm_kill_i, pm_kill_r, pm_kill_n, pm_kill_j, pm_kill_l, pm_kill_d, pm_cats_nil, pm_cats_i, pm_cats_r, pm_cats_n, pm_cats_l, pm_cats_d, sz_1, sz_2, sl_1, sl_2, lc_0, lc_lt, lc_le, li_ne, Int32.reduceOfInt, Int64.reduceOfInt, Int32.reduceOfNat, Int32.reduceLT, Int32.reduceLE, Prod.mk.injEq, Nat.reduceEqDiff, reduceCtorEq, and_true, true_and, and_false, false_and, and_self, ite_true, ite_false, ↓reduceIte, not_true_eq_false, not_false_eq_true, pe_ri, pe_rz, Ri_g2 hA, Ri_g3 hA]
  refine z1761_3 hA hD k1 ?_ _
  dsimp only [ex1761_3]
  intro q1 q2 q3 q4
  have e := Option.some.inj e; subst e
  simp -implicitDefEqProofs (disch := first | assumption | exact Nat.le_of_ble_eq_true rfl | decide) only [b1761_0, g1761_1, b1761_1, g1761_6, b1761_6, g1761_7, b1761_7, g1761_8, b1761_8, pe_aload0, pe_sipush, pe_getfield, pe_call6, pm_af_ret, pm_af_void, pm_af_thr, pe_call2, pe_istore1, pe_iload1, pe_if_eq, pe_goto, pe_goto_w, pe_istore2, pe_istore3, pe_iload3, pe_iload2, pe_icmp_ge, pe_call7, pe_istore4, pe_iload4, pe_if_le, pe_call5, pe_iadd, pe_return, pm_prog_1, pm_ob_some, Nat.reduceDiv, Nat.reduceMod, Nat.reduceMul, Nat.reduceAdd, Int.reduceToNat, pm_kill_i, pm_kill_r, pm_kill_n, pm_kill_j, pm_kill_l, pm_kill_d, pm_cats_nil, pm_cats_i, pm_cats_r, pm_cats_n, pm_cats_l, pm_cats_d, sz_1, sz_2, sl_1, sl_2, lc_0, lc_lt, lc_le, li_ne, Int32.reduceOfInt, Int64.reduceOfInt, Int32.reduceOfNat, Int32.reduceLT, Int32.reduceLE, Prod.mk.injEq, Nat.reduceEqDiff, reduceCtorEq, and_true, true_and, and_false, false_and, and_self, ite_true, ite_false, ↓reduceIte, not_true_eq_false, not_false_eq_true, pe_ri, pe_rz, Ri_g2 hA, Ri_g3 hA]
theorem x1761 {A : wK → Nat} {h : pm_H} {m D : Nat} {S : wS} {r : wS} (hA : wok A Ri_d m) (hD : 6 ≤ D) (e : f1761 S = some r) : pm_call pm_prog D 1761 [.ref (A (0, 0, 0))] (wput A Ri_d S h) = some (.returned none, (wput A Ri_d r h)) := by
  obtain ⟨D, rfl⟩ : ∃ D', D = D' + 1 := ⟨D - 1, by omega⟩
  have hD : 5 ≤ D := by omega
  rw [c1761 (Ri_c hA), b1761_0]
  simp only [f1761] at e
  obtain ⟨S1, k1, e⟩ := Option.bind_eq_some_iff.mp e
  try dsimp only at e
  have z1 := x1750 (D := D) (h := h) hA (by omega) k1
  obtain ⟨v2, k2, e⟩ := Option.bind_eq_some_iff.mp e
  try dsimp only at e
  have z2 := x1751 (D := D) (h := h) hA (by omega) k2
  by_cases k3 : v2 = 0
  · rw [if_pos k3] at e
    have k4 := y1761_2 (h := h) hA hD e
    simp -implicitDefEqProofs (disch := first | assumption | exact Nat.le_of_ble_eq_true rfl | decide) only [b1761_0, g1761_1, b1761_1, g1761_6, b1761_6, g1761_7, b1761_7, g1761_8, b1761_8, pe_aload0, pe_sipush, pe_getfield, pe_call6, pm_af_ret, pm_af_void, pm_af_thr, pe_call2, pe_istore1, pe_iload1, pe_if_eq, pe_goto, pe_goto_w, pe_istore2, pe_istore3, pe_iload3, pe_iload2, pe_icmp_ge, pe_call7, pe_istore4, pe_iload4, pe_if_le, pe_call5, pe_iadd, pe_return, pm_prog_1, pm_ob_some, Nat.reduceDiv, Nat.reduceMod, Nat.reduceMul, Nat.reduceAdd, Int.reduceToNat, pm_kill_i, pm_kill_r, pm_kill_n, pm_kill_j, pm_kill_l, pm_kill_d, pm_cats_nil, pm_cats_i, pm_cats_r, pm_cats_n, pm_cats_l, pm_cats_d, sz_1, sz_2, sl_1, sl_2, lc_0, lc_lt, lc_le, li_ne, Int32.reduceOfInt, Int64.reduceOfInt, Int32.reduceOfNat, Int32.reduceLT, Int32.reduceLE, Prod.mk.injEq, Nat.reduceEqDiff, reduceCtorEq, and_true, true_and, and_false, false_and, and_self, ite_true, ite_false, ↓reduceIte, not_true_eq_false, not_false_eq_true, pe_ri, pe_rz, Ri_g2 hA, Ri_g3 hA, z1, z2, eq_true k3, k4]
  · rw [if_neg k3] at e
    have k5 := y1761_2 (h := h) hA hD e
    simp -implicitDefEqProofs (disch := first | assumption | exact Nat.le_of_ble_eq_true rfl | decide) only [b1761_0, g1761_1, b1761_1, g1761_6, b1761_6, g1761_7, b1761_7, g1761_8, b1761_8, pe_aload0, pe_sipush, pe_getfield, pe_call6, pm_af_ret, pm_af_void, pm_af_thr, pe_call2, pe_istore1, pe_iload1, pe_if_eq, pe_goto, pe_goto_w, pe_istore2, pe_istore3, pe_iload3, pe_iload2, pe_icmp_ge, pe_call7, pe_istore4, pe_iload4, pe_if_le, pe_call5, pe_iadd, pe_return, pm_prog_1, pm_ob_some, Nat.reduceDiv, Nat.reduceMod, Nat.reduceMul, Nat.reduceAdd, Int.reduceToNat, pm_kill_i, pm_kill_r, pm_kill_n, pm_kill_j, pm_kill_l, pm_kill_d, pm_cats_nil, pm_cats_i, pm_cats_r, pm_cats_n, pm_cats_l, pm_cats_d, sz_1, sz_2, sl_1, sl_2, lc_0, lc_lt, lc_le, li_ne, Int32.reduceOfInt, Int64.reduceOfInt, Int32.reduceOfNat, Int32.reduceLT, Int32.reduceLE, Prod.mk.injEq, Nat.reduceEqDiff, reduceCtorEq, and_true, true_and, and_false, false_and, and_self, ite_true, ite_false, ↓reduceIte, not_true_eq_false, not_false_eq_true, pe_ri, pe_rz, Ri_g2 hA, Ri_g3 hA, z1, z2, eq_false k3, k5]
/-- TimberHouseModel$Rips.plan()J -/
theorem c1743 {d : Nat} {h : pm_H} {a : Nat} (hc : pm_cls h a = some 27) : pm_call pm_prog (d + 1) 1743 [.ref a] h = pm_ev pm_prog (pm_call pm_prog d) 1743 0 b1743_0 [.ref a, pm_junk, pm_junk, pm_junk] [] h := pm_cal (pm_rc1 hc rfl) rfl rfl rfl
theorem g1743_1 {cl : pm_C} {ls st : List Value} {h : pm_H} : pm_go pm_prog cl 1743 1 ls st h = pm_ev pm_prog cl 1743 1 b1743_1 ls st h := pm_go_eq pm_prog cl 1743 1 ls st h
theorem g1743_2 {cl : pm_C} {ls st : List Value} {h : pm_H} : pm_go pm_prog cl 1743 2 ls st h = pm_ev pm_prog cl 1743 2 b1743_2 ls st h := pm_go_eq pm_prog cl 1743 2 ls st h
theorem g1743_3 {cl : pm_C} {ls st : List Value} {h : pm_H} : pm_go pm_prog cl 1743 3 ls st h = pm_ev pm_prog cl 1743 3 b1743_3 ls st h := pm_go_eq pm_prog cl 1743 3 ls st h
theorem g1743_4 {cl : pm_C} {ls st : List Value} {h : pm_H} : pm_go pm_prog cl 1743 4 ls st h = pm_ev pm_prog cl 1743 4 b1743_4 ls st h := pm_go_eq pm_prog cl 1743 4 ls st h
theorem g1743_5 {cl : pm_C} {ls st : List Value} {h : pm_H} : pm_go pm_prog cl 1743 5 ls st h = pm_ev pm_prog cl 1743 5 b1743_5 ls st h := pm_go_eq pm_prog cl 1743 5 ls st h
theorem g1743_6 {cl : pm_C} {ls st : List Value} {h : pm_H} : pm_go pm_prog cl 1743 6 ls st h = pm_ev pm_prog cl 1743 6 b1743_6 ls st h := pm_go_eq pm_prog cl 1743 6 ls st h
theorem g1743_7 {cl : pm_C} {ls st : List Value} {h : pm_H} : pm_go pm_prog cl 1743 7 ls st h = pm_ev pm_prog cl 1743 7 b1743_7 ls st h := pm_go_eq pm_prog cl 1743 7 ls st h
theorem g1743_8 {cl : pm_C} {ls st : List Value} {h : pm_H} : pm_go pm_prog cl 1743 8 ls st h = pm_ev pm_prog cl 1743 8 b1743_8 ls st h := pm_go_eq pm_prog cl 1743 8 ls st h
theorem g1743_9 {cl : pm_C} {ls st : List Value} {h : pm_H} : pm_go pm_prog cl 1743 9 ls st h = pm_ev pm_prog cl 1743 9 b1743_9 ls st h := pm_go_eq pm_prog cl 1743 9 ls st h
noncomputable def f1743_b8 (S : wS) : Int64 × Int32 → Option ((Int64 × Int32) ⊕ ((Int64))) := fun (x1, x3) =>
  if x3 < (S.1 (0, 0, 0) 36) then
    if 0 ≤ x3 ∧ x3 < 240 then
      if 0 ≤ (S.1 (42, 0, 0) x3) ∧ (S.1 (42, 0, 0) x3) < 8 then
        some (.inl ((x1 + (((S.2 (16, 0, 0) (S.1 (42, 0, 0) x3)) * (Int32.toInt64 (S.1 (40, 0, 0) x3))) - (S.2 (19, 0, 0) (S.1 (42, 0, 0) x3)))), (x3 + 1)))
      else none
    else none
  else
    some (.inr x1)
noncomputable def f1743_7 (S : wS) : Option (Int64 × wS) :=
  (lp (f1743_b8 S) FU (0, 0)).bind fun v3 =>
  some (v3, S)
noncomputable def f1743_4 (S : wS) : Option (Int64 × wS) :=
  if (S.1 (0, 0, 0) 35) = 1 then
    (f1757 S 0 (S.1 (0, 0, 0) 2) 0 (S.1 (0, 0, 0) 3)).bind fun S2 =>
    f1743_7 S2
  else
    if (S.1 (0, 0, 0) 35) = 2 then
      (f1760 S 0 (S.1 (0, 0, 0) 2) 0 (S.1 (0, 0, 0) 3)).bind fun S4 =>
      f1743_7 S4
    else
      (f1761 S).bind fun S5 =>
      f1743_7 S5
noncomputable def f1743_3 (S : wS) : Option (Int64 × wS) :=
  if (S.1 (0, 0, 0) 35) ≤ 2 then
    f1743_4 S
  else
    (f1756 S).bind fun S6 =>
    f1743_4 S6
/-- TimberHouseModel$Rips.plan()J -/
noncomputable def f1743 (S : wS) : Option (Int64 × wS) :=
  if (S.1 (0, 0, 0) 2) = 0 then
    some (0, (sz S (0, 0, 0) 36 0))
  else
    if (S.1 (0, 0, 0) 3) = 0 then
      some (0, (sz S (0, 0, 0) 36 0))
    else
      (f1744 (sz S (0, 0, 0) 36 0)).bind fun S1 =>
      if (S1.1 (0, 0, 0) 35) ≤ 1 then
        f1743_3 S1
      else
        (f1749 S1).bind fun S7 =>
        f1743_3 S7
def go1743_8 (A : wK → Nat) (h : pm_H) (D : Nat) (R : Outcome × pm_H) (S : wS) : Int64 × Int32 → Prop := fun (x1, x3) => pm_go pm_prog (pm_call pm_prog D) 1743 8 [.ref (A (0, 0, 0)), .long x1, pm_junk, .int x3] [] (wput A Ri_d S h) = some R
def ex1743_8 (A : wK → Nat) (h : pm_H) (D : Nat) (R : Outcome × pm_H) (S : wS) : (Int64) → Prop := fun x1 => ∀ q3 : Value, pm_go pm_prog (pm_call pm_prog D) 1743 9 [.ref (A (0, 0, 0)), .long x1, pm_junk, q3] [] (wput A Ri_d S h) = some R
theorem y1743_b8 {A : wK → Nat} {h : pm_H} {m D : Nat} {R : Outcome × pm_H} {S : wS} (hA : wok A Ri_d m) (hD : 6 ≤ D) (a : Int64 × Int32) (r : (Int64 × Int32) ⊕ ((Int64))) (e : f1743_b8 S a = some r) (hc : Sum.elim (go1743_8 A h D R S) (ex1743_8 A h D R S) r) : go1743_8 A h D R S a := by
  obtain ⟨x1, x3⟩ := a
  dsimp only [go1743_8]
  simp only [f1743_b8] at e
  rw [g1743_8, b1743_8]
  by_cases k1 : x3 < (S.1 (0, 0, 0) 36)
  · rw [if_pos k1] at e
    by_cases k2 : 0 ≤ x3 ∧ x3 < 240
    · rw [if_pos k2] at e
      by_cases k3 : 0 ≤ (S.1 (42, 0, 0) x3) ∧ (S.1 (42, 0, 0) x3) < 8
      · rw [if_pos k3] at e
        have e := Option.some.inj e; subst e
        dsimp only [Sum.elim_inl, go1743_8] at hc
        simp -implicitDefEqProofs (disch := first | assumption | exact Nat.le_of_ble_eq_true rfl | decide) only [b1743_0, g1743_1, b1743_1, g1743_2, b1743_2, g1743_5, b1743_5, g1743_6, b1743_6, g1743_9, b1743_9, pe_aload0, pe_sipush, pe_putfield, pe_getfield, pe_if_eq, pe_if_ne, pe_goto_w, pe_bipush, pe_lreturn, pe_call1, pm_af_ret, pm_af_void, pm_af_thr, pe_icmp_le, pe_icmp_ne, pe_call5, pe_goto, pe_lstore1, pe_istore3, pe_iload3, pe_icmp_ge, pe_lload1, pe_iaload, pe_laload, pe_i2l, pe_lmul, pe_lsub, pe_ladd, pe_iinc3, pm_prog_1, pm_ob_some, Nat.reduceDiv, Nat.reduceMod, Nat.reduceMul, Nat.reduceAdd, Int.reduceToNat, pm_kill_i, pm_kill_r, pm_kill_n, pm_kill_j, pm_kill_l, pm_kill_d, pm_cats_nil, pm_cats_i, pm_cats_r, pm_cats_n, pm_cats_l, pm_cats_d, sz_1, sz_2, sl_1, sl_2, lc_0, lc_lt, lc_le, li_ne, Int32.reduceOfInt, Int64.reduceOfInt, Int32.reduceOfNat, Int32.reduceLT, Int32.reduceLE, Prod.mk.injEq, Nat.reduceEqDiff, reduceCtorEq, and_true, true_and, and_false, false_and, and_self, ite_true, ite_false, ↓reduceIte, not_true_eq_false, not_false_eq_true, pe_ri, pe_rz, Ri_p36 hA, Ri_g2 hA, Ri_g3 hA, Ri_g35 hA, Ri_g36 hA, Ri_g15 hA, Ri_g41 hA, Ri_g39 hA, Ri_g18 hA, Ri_r15 hA, Ri_w15 hA, Ri_l15 hA, Ri_r18 hA, Ri_w18 hA, Ri_l18 hA, Ri_r39 hA, Ri_w39 hA, Ri_l39 hA, Ri_r41 hA, Ri_w41 hA, Ri_l41 hA, eq_true k1, hc]
      · rw [if_neg k3] at e; cases e
    · rw [if_neg k2] at e; cases e
  · rw [if_neg k1] at e
    have e := Option.some.inj e; subst e
    dsimp only [Sum.elim_inr, ex1743_8] at hc
    simp -implicitDefEqProofs (disch := first | assumption | exact Nat.le_of_ble_eq_true rfl | decide) only [b1743_0, g1743_1, b1743_1, g1743_2, b1743_2, g1743_5, b1743_5, g1743_6, b1743_6, g1743_9, b1743_9, pe_aload0, pe_sipush, pe_putfield, pe_getfield, pe_if_eq, pe_if_ne, pe_goto_w, pe_bipush, pe_lreturn, pe_call1, pm_af_ret, pm_af_void, pm_af_thr, pe_icmp_le, pe_icmp_ne, pe_call5, pe_goto, pe_lstore1, pe_istore3, pe_iload3, pe_icmp_ge, pe_lload1, pe_iaload, pe_laload, pe_i2l, pe_lmul, pe_lsub, pe_ladd, pe_iinc3, pm_prog_1, pm_ob_some, Nat.reduceDiv, Nat.reduceMod, Nat.reduceMul, Nat.reduceAdd, Int.reduceToNat, pm_kill_i, pm_kill_r, pm_kill_n, pm_kill_j, pm_kill_l, pm_kill_d, pm_cats_nil, pm_cats_i, pm_cats_r, pm_cats_n, pm_cats_l, pm_cats_d, sz_1, sz_2, sl_1, sl_2, lc_0, lc_lt, lc_le, li_ne, Int32.reduceOfInt, Int64.reduceOfInt, Int32.reduceOfNat, Int32.reduceLT, Int32.reduceLE, Prod.mk.injEq, Nat.reduceEqDiff, reduceCtorEq, and_true, true_and, and_false, false_and, and_self, ite_true, ite_false, ↓reduceIte, not_true_eq_false, not_false_eq_true, pe_ri, pe_rz, Ri_p36 hA, Ri_g2 hA, Ri_g3 hA, Ri_g35 hA, Ri_g36 hA, Ri_g15 hA, Ri_g41 hA, Ri_g39 hA, Ri_g18 hA, Ri_r15 hA, Ri_w15 hA, Ri_l15 hA, Ri_r18 hA, Ri_w18 hA, Ri_l18 hA, Ri_r39 hA, Ri_w39 hA, Ri_l39 hA, Ri_r41 hA, Ri_w41 hA, Ri_l41 hA, eq_false k1, hc]
theorem z1743_8 {A : wK → Nat} {h : pm_H} {m D : Nat} {R : Outcome × pm_H} {S : wS} (hA : wok A Ri_d m) (hD : 6 ≤ D) {n : Nat} {a : Int64 × Int32} {b : (Int64)} (e : lp (f1743_b8 S) n a = some b) (hx : ex1743_8 A h D R S b) : go1743_8 A h D R S a := lp_run (fun a r => y1743_b8 hA hD a r) n a b e hx
theorem y1743_7 {A : wK → Nat} {h : pm_H} {m D : Nat} {S : wS} {r : Int64 × wS} (hA : wok A Ri_d m) (hD : 6 ≤ D) (e : f1743_7 S = some r) : ∀ q1 q2 q3 : Value, pm_go pm_prog (pm_call pm_prog D) 1743 7 [.ref (A (0, 0, 0)), q1, q2, q3] [] (wput A Ri_d S h) = some (.returned (some (.long r.1)), (wput A Ri_d r.2 h)) := by
  intro q1 q2 q3
  simp only [f1743_7] at e
  rw [g1743_7, b1743_7]
  obtain ⟨v3, k1, e⟩ := Option.bind_eq_some_iff.mp e
  try dsimp only at e
  try simp -implicitDefEqProofs (disch := first | assumption | exact Nat.le_of_ble_eq_true rfl | decide) only [b1743_0, g1743_1, b1743_1, g1743_2, b1743_2, g1743_5, b1743_5, g1743_6, b1743_6, g1743_9, b1743_9, pe_aload0, pe_sipush, pe_putfield, pe_getfield, pe_if_eq, pe_if_ne, pe_goto_w, pe_bipush, pe_lreturn, pe_call1, pm_af_ret, pm_af_void, pm_af_thr, pe_icmp_le, pe_icmp_ne, pe_call5, pe_goto, pe_lstore1, pe_istore3, pe_iload3, pe_icmp_ge, pe_lload1, pe_iaload, pe_laload, pe_i2l, pe_lmul, pe_lsub, pe_ladd, pe_iinc3, pm_prog_1, pm_ob_some, Nat.reduceDiv, Nat.reduceMod, Nat.reduceMul, Nat.reduceAdd, Int.reduceToNat, pm_kill_i, pm_kill_r, pm_kill_n, pm_kill_j, pm_kill_l, pm_kill_d, pm_cats_nil, pm_cats_i, pm_cats_r, pm_cats_n, pm_cats_l, pm_cats_d, sz_1, sz_2, sl_1, sl_2, lc_0, lc_lt, lc_le, li_ne, Int32.reduceOfInt, Int64.reduceOfInt, Int32.reduceOfNat, Int32.reduceLT, Int32.reduceLE, Prod.mk.injEq, Nat.reduceEqDiff, reduceCtorEq, and_true, true_and, and_false, false_and, and_self, ite_true, ite_false, ↓reduceIte, not_true_eq_false, not_false_eq_true, pe_ri, pe_rz, Ri_p36 hA, Ri_g2 hA, Ri_g3 hA, Ri_g35 hA, Ri_g36 hA, Ri_g15 hA, Ri_g41 hA, Ri_g39 hA, Ri_g18 hA, Ri_r15 hA, Ri_w15 hA, Ri_l15 hA, Ri_r18 hA, Ri_w18 hA, Ri_l18 hA, Ri_r39 hA, Ri_w39 hA, Ri_l39 hA, Ri_r41 hA, Ri_w41 hA, Ri_l41 hA]
  refine z1743_8 hA hD k1 ?_
  dsimp only [ex1743_8]
  intro q3
  have e := Option.some.inj e; subst e
  simp -implicitDefEqProofs (disch := first | assumption | exact Nat.le_of_ble_eq_true rfl | decide) only [b1743_0, g1743_1, b1743_1, g1743_2, b1743_2, g1743_5, b1743_5, g1743_6, b1743_6, g1743_9, b1743_9, pe_aload0, pe_sipush, pe_putfield, pe_getfield, pe_if_eq, pe_if_ne, pe_goto_w, pe_bipush, pe_lreturn, pe_call1, pm_af_ret, pm_af_void, pm_af_thr, pe_icmp_le, pe_icmp_ne, pe_call5, pe_goto, pe_lstore1, pe_istore3, pe_iload3, pe_icmp_ge, pe_lload1, pe_iaload, pe_laload, pe_i2l, pe_lmul, pe_lsub, pe_ladd, pe_iinc3, pm_prog_1, pm_ob_some, Nat.reduceDiv, Nat.reduceMod, Nat.reduceMul, Nat.reduceAdd, Int.reduceToNat, pm_kill_i, pm_kill_r, pm_kill_n, pm_kill_j, pm_kill_l, pm_kill_d, pm_cats_nil, pm_cats_i, pm_cats_r, pm_cats_n, pm_cats_l, pm_cats_d, sz_1, sz_2, sl_1, sl_2, lc_0, lc_lt, lc_le, li_ne, Int32.reduceOfInt, Int64.reduceOfInt, Int32.reduceOfNat, Int32.reduceLT, Int32.reduceLE, Prod.mk.injEq, Nat.reduceEqDiff, reduceCtorEq, and_true, true_and, and_false, false_and, and_self, ite_true, ite_false, ↓reduceIte, not_true_eq_false, not_false_eq_true, pe_ri, pe_rz, Ri_p36 hA, Ri_g2 hA, Ri_g3 hA, Ri_g35 hA, Ri_g36 hA, Ri_g15 hA, Ri_g41 hA, Ri_g39 hA, Ri_g18 hA, Ri_r15 hA, Ri_w15 hA, Ri_l15 hA, Ri_r18 hA, Ri_w18 hA, Ri_l18 hA, Ri_r39 hA, Ri_w39 hA, Ri_l39 hA, Ri_r41 hA, Ri_w41 hA, Ri_l41 hA]
theorem y1743_4 {A : wK → Nat} {h : pm_H} {m D : Nat} {S : wS} {r : Int64 × wS} (hA : wok A Ri_d m) (hD : 6 ≤ D) (e : f1743_4 S = some r) : ∀ q1 q2 q3 : Value, pm_go pm_prog (pm_call pm_prog D) 1743 4 [.ref (A (0, 0, 0)), q1, q2, q3] [] (wput A Ri_d S h) = some (.returned (some (.long r.1)), (wput A Ri_d r.2 h)) := by
  intro q1 q2 q3
  simp only [f1743_4] at e
  rw [g1743_4, b1743_4]
  by_cases k1 : (S.1 (0, 0, 0) 35) = 1
  · rw [if_pos k1] at e
    obtain ⟨S2, k2, e⟩ := Option.bind_eq_some_iff.mp e
    try dsimp only at e
    have z2 := x1757 (D := D) (h := h) hA (by omega) k2
    have k3 := y1743_7 (h := h) hA hD e
    simp -implicitDefEqProofs (disch := first | assumption | exact Nat.le_of_ble_eq_true rfl | decide) only [b1743_0, g1743_1, b1743_1, g1743_2, b1743_2, g1743_5, b1743_5, g1743_6, b1743_6, g1743_9, b1743_9, pe_aload0, pe_sipush, pe_putfield, pe_getfield, pe_if_eq, pe_if_ne, pe_goto_w, pe_bipush, pe_lreturn, pe_call1, pm_af_ret, pm_af_void, pm_af_thr, pe_icmp_le, pe_icmp_ne, pe_call5, pe_goto, pe_lstore1, pe_istore3, pe_iload3, pe_icmp_ge, pe_lload1, pe_iaload, pe_laload, pe_i2l, pe_lmul, pe_lsub, pe_ladd, pe_iinc3, pm_prog_1, pm_ob_some, Nat.reduceDiv, Nat.reduceMod, Nat.reduceMul, Nat.reduceAdd, Int.reduceToNat, pm_kill_i, pm_kill_r, pm_kill_n, pm_kill_j, pm_kill_l, pm_kill_d, pm_cats_nil, pm_cats_i, pm_cats_r, pm_cats_n, pm_cats_l, pm_cats_d, sz_1, sz_2, sl_1, sl_2, lc_0, lc_lt, lc_le, li_ne, Int32.reduceOfInt, Int64.reduceOfInt, Int32.reduceOfNat, Int32.reduceLT, Int32.reduceLE, Prod.mk.injEq, Nat.reduceEqDiff, reduceCtorEq, and_true, true_and, and_false, false_and, and_self, ite_true, ite_false, ↓reduceIte, not_true_eq_false, not_false_eq_true, pe_ri, pe_rz, Ri_p36 hA, Ri_g2 hA, Ri_g3 hA, Ri_g35 hA, Ri_g36 hA, Ri_g15 hA, Ri_g41 hA, Ri_g39 hA, Ri_g18 hA, Ri_r15 hA, Ri_w15 hA, Ri_l15 hA, Ri_r18 hA, Ri_w18 hA, Ri_l18 hA, Ri_r39 hA, Ri_w39 hA, Ri_l39 hA, Ri_r41 hA, Ri_w41 hA, Ri_l41 hA, eq_true k1, z2, k3]
  · rw [if_neg k1] at e
    by_cases k4 : (S.1 (0, 0, 0) 35) = 2
    · rw [if_pos k4] at e
      obtain ⟨S4, k5, e⟩ := Option.bind_eq_some_iff.mp e
      try dsimp only at e
      have z5 := x1760 (D := D) (h := h) hA (by omega) k5
      have k6 := y1743_7 (h := h) hA hD e
      simp -implicitDefEqProofs (disch := first | assumption | exact Nat.le_of_ble_eq_true rfl | decide) only [b1743_0, g1743_1, b1743_1, g1743_2, b1743_2, g1743_5, b1743_5, g1743_6, b1743_6, g1743_9, b1743_9, pe_aload0, pe_sipush, pe_putfield, pe_getfield, pe_if_eq, pe_if_ne, pe_goto_w, pe_bipush, pe_lreturn, pe_call1, pm_af_ret, pm_af_void, pm_af_thr, pe_icmp_le, pe_icmp_ne, pe_call5, pe_goto, pe_lstore1, pe_istore3, pe_iload3, pe_icmp_ge, pe_lload1, pe_iaload, pe_laload, pe_i2l, pe_lmul, pe_lsub, pe_ladd, pe_iinc3, pm_prog_1, pm_ob_some, Nat.reduceDiv, Nat.reduceMod, Nat.reduceMul, Nat.reduceAdd, Int.reduceToNat, pm_kill_i, pm_kill_r, pm_kill_n, pm_kill_j, pm_kill_l, pm_kill_d, pm_cats_nil, pm_cats_i, pm_cats_r, pm_cats_n, pm_cats_l, pm_cats_d, sz_1, sz_2, sl_1, sl_2, lc_0, lc_lt, lc_le, li_ne, Int32.reduceOfInt, Int64.reduceOfInt, Int32.reduceOfNat, Int32.reduceLT, Int32.reduceLE, Prod.mk.injEq, Nat.reduceEqDiff, reduceCtorEq, and_true, true_and, and_false, false_and, and_self, ite_true, ite_false, ↓reduceIte, not_true_eq_false, not_false_eq_true, pe_ri, pe_rz, Ri_p36 hA, Ri_g2 hA, Ri_g3 hA, Ri_g35 hA, Ri_g36 hA, Ri_g15 hA, Ri_g41 hA, Ri_g39 hA, Ri_g18 hA, Ri_r15 hA, Ri_w15 hA, Ri_l15 hA, Ri_r18 hA, Ri_w18 hA, Ri_l18 hA, Ri_r39 hA, Ri_w39 hA, Ri_l39 hA, Ri_r41 hA, Ri_w41 hA, Ri_l41 hA, eq_false k1, eq_true k4, z5, k6]
    · rw [if_neg k4] at e
      obtain ⟨S5, k7, e⟩ := Option.bind_eq_some_iff.mp e
      try dsimp only at e
      have z7 := x1761 (D := D) (h := h) hA (by omega) k7
      have k8 := y1743_7 (h := h) hA hD e
      simp -implicitDefEqProofs (disch := first | assumption | exact Nat.le_of_ble_eq_true rfl | decide) only [b1743_0, g1743_1, b1743_1, g1743_2, b1743_2, g1743_5, b1743_5, g1743_6, b1743_6, g1743_9, b1743_9, pe_aload0, pe_sipush, pe_putfield, pe_getfield, pe_if_eq, pe_if_ne, pe_goto_w, pe_bipush, pe_lreturn, pe_call1, pm_af_ret, pm_af_void, pm_af_thr, pe_icmp_le, pe_icmp_ne, pe_call5, pe_goto, pe_lstore1, pe_istore3, pe_iload3, pe_icmp_ge, pe_lload1, pe_iaload, pe_laload, pe_i2l, pe_lmul, pe_lsub, pe_ladd, pe_iinc3, pm_prog_1, pm_ob_some, Nat.reduceDiv, Nat.reduceMod, Nat.reduceMul, Nat.reduceAdd, Int.reduceToNat, pm_kill_i, pm_kill_r, pm_kill_n, pm_kill_j, pm_kill_l, pm_kill_d, pm_cats_nil, pm_cats_i, pm_cats_r, pm_cats_n, pm_cats_l, pm_cats_d, sz_1, sz_2, sl_1, sl_2, lc_0, lc_lt, lc_le, li_ne, Int32.reduceOfInt, Int64.reduceOfInt, Int32.reduceOfNat, Int32.reduceLT, Int32.reduceLE, Prod.mk.injEq, Nat.reduceEqDiff, reduceCtorEq, and_true, true_and, and_false, false_and, and_self, ite_true, ite_false, ↓reduceIte, not_true_eq_false, not_false_eq_true, pe_ri, pe_rz, Ri_p36 hA, Ri_g2 hA, Ri_g3 hA, Ri_g35 hA, Ri_g36 hA, Ri_g15 hA, Ri_g41 hA, Ri_g39 hA, Ri_g18 hA, Ri_r15 hA, Ri_w15 hA, Ri_l15 hA, Ri_r18 hA, Ri_w18 hA, Ri_l18 hA, Ri_r39 hA, Ri_w39 hA, Ri_l39 hA, Ri_r41 hA, Ri_w41 hA, Ri_l41 hA, eq_false k1, eq_false k4, z7, k8]
theorem y1743_3 {A : wK → Nat} {h : pm_H} {m D : Nat} {S : wS} {r : Int64 × wS} (hA : wok A Ri_d m) (hD : 6 ≤ D) (e : f1743_3 S = some r) : ∀ q1 q2 q3 : Value, pm_go pm_prog (pm_call pm_prog D) 1743 3 [.ref (A (0, 0, 0)), q1, q2, q3] [] (wput A Ri_d S h) = some (.returned (some (.long r.1)), (wput A Ri_d r.2 h)) := by
  intro q1 q2 q3
  simp only [f1743_3] at e
  rw [g1743_3, b1743_3]
  by_cases k1 : (S.1 (0, 0, 0) 35) ≤ 2
  · rw [if_pos k1] at e
    have k2 := y1743_4 (h := h) hA hD e
    simp -implicitDefEqProofs (disch := first | assumption | exact Nat.le_of_ble_eq_true rfl | decide) only [b1743_0, g1743_1, b1743_1, g1743_2, b1743_2, g1743_5, b1743_5, g1743_6, b1743_6, g1743_9, b1743_9, pe_aload0, pe_sipush, pe_putfield, pe_getfield, pe_if_eq, pe_if_ne, pe_goto_w, pe_bipush, pe_lreturn, pe_call1, pm_af_ret, pm_af_void, pm_af_thr, pe_icmp_le, pe_icmp_ne, pe_call5, pe_goto, pe_lstore1, pe_istore3, pe_iload3, pe_icmp_ge, pe_lload1, pe_iaload, pe_laload, pe_i2l, pe_lmul, pe_lsub, pe_ladd, pe_iinc3, pm_prog_1, pm_ob_some, Nat.reduceDiv, Nat.reduceMod, Nat.reduceMul, Nat.reduceAdd, Int.reduceToNat, pm_kill_i, pm_kill_r, pm_kill_n, pm_kill_j, pm_kill_l, pm_kill_d, pm_cats_nil, pm_cats_i, pm_cats_r, pm_cats_n, pm_cats_l, pm_cats_d, sz_1, sz_2, sl_1, sl_2, lc_0, lc_lt, lc_le, li_ne, Int32.reduceOfInt, Int64.reduceOfInt, Int32.reduceOfNat, Int32.reduceLT, Int32.reduceLE, Prod.mk.injEq, Nat.reduceEqDiff, reduceCtorEq, and_true, true_and, and_false, false_and, and_self, ite_true, ite_false, ↓reduceIte, not_true_eq_false, not_false_eq_true, pe_ri, pe_rz, Ri_p36 hA, Ri_g2 hA, Ri_g3 hA, Ri_g35 hA, Ri_g36 hA, Ri_g15 hA, Ri_g41 hA, Ri_g39 hA, Ri_g18 hA, Ri_r15 hA, Ri_w15 hA, Ri_l15 hA, Ri_r18 hA, Ri_w18 hA, Ri_l18 hA, Ri_r39 hA, Ri_w39 hA, Ri_l39 hA, Ri_r41 hA, Ri_w41 hA, Ri_l41 hA, eq_true k1, k2]
  · rw [if_neg k1] at e
    obtain ⟨S6, k3, e⟩ := Option.bind_eq_some_iff.mp e
    try dsimp only at e
    have z3 := x1756 (D := D) (h := h) hA (by omega) k3
    have k4 := y1743_4 (h := h) hA hD e
    simp -implicitDefEqProofs (disch := first | assumption | exact Nat.le_of_ble_eq_true rfl | decide) only [b1743_0, g1743_1, b1743_1, g1743_2, b1743_2, g1743_5, b1743_5, g1743_6, b1743_6, g1743_9, b1743_9, pe_aload0, pe_sipush, pe_putfield, pe_getfield, pe_if_eq, pe_if_ne, pe_goto_w, pe_bipush, pe_lreturn, pe_call1, pm_af_ret, pm_af_void, pm_af_thr, pe_icmp_le, pe_icmp_ne, pe_call5, pe_goto, pe_lstore1, pe_istore3, pe_iload3, pe_icmp_ge, pe_lload1, pe_iaload, pe_laload, pe_i2l, pe_lmul, pe_lsub, pe_ladd, pe_iinc3, pm_prog_1, pm_ob_some, Nat.reduceDiv, Nat.reduceMod, Nat.reduceMul, Nat.reduceAdd, Int.reduceToNat, pm_kill_i, pm_kill_r, pm_kill_n, pm_kill_j, pm_kill_l, pm_kill_d, pm_cats_nil, pm_cats_i, pm_cats_r, pm_cats_n, pm_cats_l, pm_cats_d, sz_1, sz_2, sl_1, sl_2, lc_0, lc_lt, lc_le, li_ne, Int32.reduceOfInt, Int64.reduceOfInt, Int32.reduceOfNat, Int32.reduceLT, Int32.reduceLE, Prod.mk.injEq, Nat.reduceEqDiff, reduceCtorEq, and_true, true_and, and_false, false_and, and_self, ite_true, ite_false, ↓reduceIte, not_true_eq_false, not_false_eq_true, pe_ri, pe_rz, Ri_p36 hA, Ri_g2 hA, Ri_g3 hA, Ri_g35 hA, Ri_g36 hA, Ri_g15 hA, Ri_g41 hA, Ri_g39 hA, Ri_g18 hA, Ri_r15 hA, Ri_w15 hA, Ri_l15 hA, Ri_r18 hA, Ri_w18 hA, Ri_l18 hA, Ri_r39 hA, Ri_w39 hA, Ri_l39 hA, Ri_r41 hA, Ri_w41 hA, Ri_l41 hA, eq_false k1, z3, k4]
theorem x1743 {A : wK → Nat} {h : pm_H} {m D : Nat} {S : wS} {r : Int64 × wS} (hA : wok A Ri_d m) (hD : 7 ≤ D) (e : f1743 S = some r) : pm_call pm_prog D 1743 [.ref (A (0, 0, 0))] (wput A Ri_d S h) = some (.returned (some (.long r.1)), (wput A Ri_d r.2 h)) := by
  obtain ⟨D, rfl⟩ : ∃ D', D = D' + 1 := ⟨D - 1, by omega⟩
  have hD : 6 ≤ D := by omega
  rw [c1743 (Ri_c hA), b1743_0]
  simp only [f1743] at e
  by_cases k1 : (S.1 (0, 0, 0) 2) = 0
  · rw [if_pos k1] at e
    have e := Option.some.inj e; subst e
    simp -implicitDefEqProofs (disch := first | assumption | exact Nat.le_of_ble_eq_true rfl | decide) only [b1743_0, g1743_1, b1743_1, g1743_2, b1743_2, g1743_5, b1743_5, g1743_6, b1743_6, g1743_9, b1743_9, pe_aload0, pe_sipush, pe_putfield, pe_getfield, pe_if_eq, pe_if_ne, pe_goto_w, pe_bipush, pe_lreturn, pe_call1, pm_af_ret, pm_af_void, pm_af_thr, pe_icmp_le, pe_icmp_ne, pe_call5, pe_goto, pe_lstore1, pe_istore3, pe_iload3, pe_icmp_ge, pe_lload1, pe_iaload, pe_laload, pe_i2l, pe_lmul, pe_lsub, pe_ladd, pe_iinc3, pm_prog_1, pm_ob_some, Nat.reduceDiv, Nat.reduceMod, Nat.reduceMul, Nat.reduceAdd, Int.reduceToNat, pm_kill_i, pm_kill_r, pm_kill_n, pm_kill_j, pm_kill_l, pm_kill_d, pm_cats_nil, pm_cats_i, pm_cats_r, pm_cats_n, pm_cats_l, pm_cats_d, sz_1, sz_2, sl_1, sl_2, lc_0, lc_lt, lc_le, li_ne, Int32.reduceOfInt, Int64.reduceOfInt, Int32.reduceOfNat, Int32.reduceLT, Int32.reduceLE, Prod.mk.injEq, Nat.reduceEqDiff, reduceCtorEq, and_true, true_and, and_false, false_and, and_self, ite_true, ite_false, ↓reduceIte, not_true_eq_false, not_false_eq_true, pe_ri, pe_rz, Ri_p36 hA, Ri_g2 hA, Ri_g3 hA, Ri_g35 hA, Ri_g36 hA, Ri_g15 hA, Ri_g41 hA, Ri_g39 hA, Ri_g18 hA, Ri_r15 hA, Ri_w15 hA, Ri_l15 hA, Ri_r18 hA, Ri_w18 hA, Ri_l18 hA, Ri_r39 hA, Ri_w39 hA, Ri_l39 hA, Ri_r41 hA, Ri_w41 hA, Ri_l41 hA, eq_true k1]
  · rw [if_neg k1] at e
    by_cases k2 : (S.1 (0, 0, 0) 3) = 0
    · rw [if_pos k2] at e
      have e := Option.some.inj e; subst e
      simp -implicitDefEqProofs (disch := first | assumption | exact Nat.le_of_ble_eq_true rfl | decide) only [b1743_0, g1743_1, b1743_1, g1743_2, b1743_2, g1743_5, b1743_5, g1743_6, b1743_6, g1743_9, b1743_9, pe_aload0, pe_sipush, pe_putfield, pe_getfield, pe_if_eq, pe_if_ne, pe_goto_w, pe_bipush, pe_lreturn, pe_call1, pm_af_ret, pm_af_void, pm_af_thr, pe_icmp_le, pe_icmp_ne, pe_call5, pe_goto, pe_lstore1, pe_istore3, pe_iload3, pe_icmp_ge, pe_lload1, pe_iaload, pe_laload, pe_i2l, pe_lmul, pe_lsub, pe_ladd, pe_iinc3, pm_prog_1, pm_ob_some, Nat.reduceDiv, Nat.reduceMod, Nat.reduceMul, Nat.reduceAdd, Int.reduceToNat, pm_kill_i, pm_kill_r, pm_kill_n, pm_kill_j, pm_kill_l, pm_kill_d, pm_cats_nil, pm_cats_i, pm_cats_r, pm_cats_n, pm_cats_l, pm_cats_d, sz_1, sz_2, sl_1, sl_2, lc_0, lc_lt, lc_le, li_ne, Int32.reduceOfInt, Int64.reduceOfInt, Int32.reduceOfNat, Int32.reduceLT, Int32.reduceLE, Prod.mk.injEq, Nat.reduceEqDiff, reduceCtorEq, and_true, true_and, and_false, false_and, and_self, ite_true, ite_false, ↓reduceIte, not_true_eq_false, not_false_eq_true, pe_ri, pe_rz, Ri_p36 hA, Ri_g2 hA, Ri_g3 hA, Ri_g35 hA, Ri_g36 hA, Ri_g15 hA, Ri_g41 hA, Ri_g39 hA, Ri_g18 hA, Ri_r15 hA, Ri_w15 hA, Ri_l15 hA, Ri_r18 hA, Ri_w18 hA, Ri_l18 hA, Ri_r39 hA, Ri_w39 hA, Ri_l39 hA, Ri_r41 hA, Ri_w41 hA, Ri_l41 hA, eq_false k1, eq_true k2]
    · rw [if_neg k2] at e
      obtain ⟨S1, k3, e⟩ := Option.bind_eq_some_iff.mp e
      try dsimp only at e
      have z3 := x1744 (D := D) (h := h) hA (by omega) k3
      by_cases k4 : (S1.1 (0, 0, 0) 35) ≤ 1
      · rw [if_pos k4] at e
        have k5 := y1743_3 (h := h) hA hD e
        simp -implicitDefEqProofs (disch := first | assumption | exact Nat.le_of_ble_eq_true rfl | decide) only [b1743_0, g1743_1, b1743_1, g1743_2, b1743_2, g1743_5, b1743_5, g1743_6, b1743_6, g1743_9, b1743_9, pe_aload0, pe_sipush, pe_putfield, pe_getfield, pe_if_eq, pe_if_ne, pe_goto_w, pe_bipush, pe_lreturn, pe_call1, pm_af_ret, pm_af_void, pm_af_thr, pe_icmp_le, pe_icmp_ne, pe_call5, pe_goto, pe_lstore1, pe_istore3, pe_iload3, pe_icmp_ge, pe_lload1, pe_iaload, pe_laload, pe_i2l, pe_lmul, pe_lsub, pe_ladd, pe_iinc3, pm_prog_1, pm_ob_some, Nat.reduceDiv, Nat.reduceMod, Nat.reduceMul, Nat.reduceAdd, Int.reduceToNat, pm_kill_i, pm_kill_r, pm_kill_n, pm_kill_j, pm_kill_l, pm_kill_d, pm_cats_nil, pm_cats_i, pm_cats_r, pm_cats_n, pm_cats_l, pm_cats_d, sz_1, sz_2, sl_1, sl_2, lc_0, lc_lt, lc_le, li_ne, Int32.reduceOfInt, Int64.reduceOfInt, Int32.reduceOfNat, Int32.reduceLT, Int32.reduceLE, Prod.mk.injEq, Nat.reduceEqDiff, reduceCtorEq, and_true, true_and, and_false, false_and, and_self, ite_true, ite_false, ↓reduceIte, not_true_eq_false, not_false_eq_true, pe_ri, pe_rz, Ri_p36 hA, Ri_g2 hA, Ri_g3 hA, Ri_g35 hA, Ri_g36 hA, Ri_g15 hA, Ri_g41 hA, Ri_g39 hA, Ri_g18 hA, Ri_r15 hA, Ri_w15 hA, Ri_l15 hA, Ri_r18 hA, Ri_w18 hA, Ri_l18 hA, Ri_r39 hA, Ri_w39 hA, Ri_l39 hA, Ri_r41 hA, Ri_w41 hA, Ri_l41 hA, eq_false k1, eq_false k2, z3, eq_true k4, k5]
      · rw [if_neg k4] at e
        obtain ⟨S7, k6, e⟩ := Option.bind_eq_some_iff.mp e
        try dsimp only at e
        have z6 := x1749 (D := D) (h := h) hA (by omega) k6
        have k7 := y1743_3 (h := h) hA hD e
        simp -implicitDefEqProofs (disch := first | assumption | exact Nat.le_of_ble_eq_true rfl | decide) only [b1743_0, g1743_1, b1743_1, g1743_2, b1743_2, g1743_5, b1743_5, g1743_6, b1743_6, g1743_9, b1743_9, pe_aload0, pe_sipush, pe_putfield, pe_getfield, pe_if_eq, pe_if_ne, pe_goto_w, pe_bipush, pe_lreturn, pe_call1, pm_af_ret, pm_af_void, pm_af_thr, pe_icmp_le, pe_icmp_ne, pe_call5, pe_goto, pe_lstore1, pe_istore3, pe_iload3, pe_icmp_ge, pe_lload1, pe_iaload, pe_laload, pe_i2l, pe_lmul, pe_lsub, pe_ladd, pe_iinc3, pm_prog_1, pm_ob_some, Nat.reduceDiv, Nat.reduceMod, Nat.reduceMul, Nat.reduceAdd, Int.reduceToNat, pm_kill_i, pm_kill_r, pm_kill_n, pm_kill_j, pm_kill_l, pm_kill_d, pm_cats_nil, pm_cats_i, pm_cats_r, pm_cats_n, pm_cats_l, pm_cats_d, sz_1, sz_2, sl_1, sl_2, lc_0, lc_lt, lc_le, li_ne, Int32.reduceOfInt, Int64.reduceOfInt, Int32.reduceOfNat, Int32.reduceLT, Int32.reduceLE, Prod.mk.injEq, Nat.reduceEqDiff, reduceCtorEq, and_true, true_and, and_false, false_and, and_self, ite_true, ite_false, ↓reduceIte, not_true_eq_false, not_false_eq_true, pe_ri, pe_rz, Ri_p36 hA, Ri_g2 hA, Ri_g3 hA, Ri_g35 hA, Ri_g36 hA, Ri_g15 hA, Ri_g41 hA, Ri_g39 hA, Ri_g18 hA, Ri_r15 hA, Ri_w15 hA, Ri_l15 hA, Ri_r18 hA, Ri_w18 hA, Ri_l18 hA, Ri_r39 hA, Ri_w39 hA, Ri_l39 hA, Ri_r41 hA, Ri_w41 hA, Ri_l41 hA, eq_false k1, eq_false k2, z3, eq_false k4, z6, k7]
/-- TimberHouseModel$Rips.allHold(Z)Z -/
theorem c1763 {d : Nat} {h : pm_H} {a : Nat} {x0 : Int32} (hc : pm_cls h a = some 27) : pm_call pm_prog (d + 1) 1763 [.ref a, .int x0] h = pm_ev pm_prog (pm_call pm_prog d) 1763 0 b1763_0 [.ref a, .int x0, pm_junk, pm_junk, pm_junk] [] h := pm_cal (pm_rc1 hc rfl) rfl rfl rfl
theorem g1763_1 {cl : pm_C} {ls st : List Value} {h : pm_H} : pm_go pm_prog cl 1763 1 ls st h = pm_ev pm_prog cl 1763 1 b1763_1 ls st h := pm_go_eq pm_prog cl 1763 1 ls st h
theorem g1763_2 {cl : pm_C} {ls st : List Value} {h : pm_H} : pm_go pm_prog cl 1763 2 ls st h = pm_ev pm_prog cl 1763 2 b1763_2 ls st h := pm_go_eq pm_prog cl 1763 2 ls st h
theorem g1763_3 {cl : pm_C} {ls st : List Value} {h : pm_H} : pm_go pm_prog cl 1763 3 ls st h = pm_ev pm_prog cl 1763 3 b1763_3 ls st h := pm_go_eq pm_prog cl 1763 3 ls st h
theorem g1763_4 {cl : pm_C} {ls st : List Value} {h : pm_H} : pm_go pm_prog cl 1763 4 ls st h = pm_ev pm_prog cl 1763 4 b1763_4 ls st h := pm_go_eq pm_prog cl 1763 4 ls st h
theorem g1763_5 {cl : pm_C} {ls st : List Value} {h : pm_H} : pm_go pm_prog cl 1763 5 ls st h = pm_ev pm_prog cl 1763 5 b1763_5 ls st h := pm_go_eq pm_prog cl 1763 5 ls st h
theorem g1763_6 {cl : pm_C} {ls st : List Value} {h : pm_H} : pm_go pm_prog cl 1763 6 ls st h = pm_ev pm_prog cl 1763 6 b1763_6 ls st h := pm_go_eq pm_prog cl 1763 6 ls st h
theorem g1763_7 {cl : pm_C} {ls st : List Value} {h : pm_H} : pm_go pm_prog cl 1763 7 ls st h = pm_ev pm_prog cl 1763 7 b1763_7 ls st h := pm_go_eq pm_prog cl 1763 7 ls st h
theorem g1763_8 {cl : pm_C} {ls st : List Value} {h : pm_H} : pm_go pm_prog cl 1763 8 ls st h = pm_ev pm_prog cl 1763 8 b1763_8 ls st h := pm_go_eq pm_prog cl 1763 8 ls st h
noncomputable def f1763_4_1 (S : wS) (x1 : Int32) (x2 : Int32) (x3 : Int32) (y0 : Int32) : Option ((Int32 × Int32 × Int32) ⊕ ((Int32))) :=
  if x2 = 0 then
    some (.inl (x1, 0, (x3 + 1)))
  else
    if y0 = 0 then
      some (.inl (x1, 0, (x3 + 1)))
    else
      if 0 ≤ x3 ∧ x3 < 8 then
        if (S.1 (18, 0, 0) x3) < 0 then
          some (.inl (x1, 1, (x3 + 1)))
        else
          (f1764 S x3).bind fun v1 =>
          if v1 ≤ (S.1 (18, 0, 0) x3) then
            some (.inl (x1, 1, (x3 + 1)))
          else
            some (.inl (x1, 0, (x3 + 1)))
      else none
noncomputable def f1763_b1 (S : wS) : Int32 × Int32 × Int32 → Option ((Int32 × Int32 × Int32) ⊕ ((Int32))) := fun (x1, x2, x3) =>
  if x3 < (S.1 (0, 0, 0) 11) then
    if x1 = 0 then
      f1763_4_1 S x1 x2 x3 1
    else
      if 0 ≤ x3 ∧ x3 < 8 then
        if (S.2 (19, 0, 0) x3) = 0 then
          f1763_4_1 S x1 x2 x3 1
        else
          (f1764 S x3).bind fun v2 =>
          if v2 = (S.1 (18, 0, 0) x3) then
            f1763_4_1 S x1 x2 x3 1
          else
            f1763_4_1 S x1 x2 x3 0
      else none
  else
    some (.inr x2)
/-- TimberHouseModel$Rips.allHold(Z)Z -/
noncomputable def f1763 (S : wS) (x1 : Int32) : Option (Int32) :=
  (lp (f1763_b1 S) FU (x1, 1, 0)).bind fun v3 =>
  if v3 = 0 ∨ v3 = 1 then
    some v3
  else none
def go1763_1 (A : wK → Nat) (h : pm_H) (D : Nat) (R : Outcome × pm_H) (S : wS) : Int32 × Int32 × Int32 → Prop := fun (x1, x2, x3) => ∀ q4 : Value, pm_go pm_prog (pm_call pm_prog D) 1763 1 [.ref (A (0, 0, 0)), .int x1, .int x2, .int x3, q4] [] (wput A Ri_d S h) = some R
def ex1763_1 (A : wK → Nat) (h : pm_H) (D : Nat) (R : Outcome × pm_H) (S : wS) : (Int32) → Prop := fun x2 => ∀ q1 q3 q4 : Value, pm_go pm_prog (pm_call pm_prog D) 1763 8 [.ref (A (0, 0, 0)), q1, .int x2, q3, q4] [] (wput A Ri_d S h) = some R
theorem y1763_4_1 {A : wK → Nat} {h : pm_H} {m D : Nat} {R : Outcome × pm_H} {S : wS} {x1 : Int32} {x2 : Int32} {x3 : Int32} {y0 : Int32} {r : (Int32 × Int32 × Int32) ⊕ ((Int32))} (hA : wok A Ri_d m) (hD : 1 ≤ D) (e : f1763_4_1 S x1 x2 x3 y0 = some r) (hc : Sum.elim (go1763_1 A h D R S) (ex1763_1 A h D R S) r) : ∀ q4 : Value, pm_go pm_prog (pm_call pm_prog D) 1763 4 [.ref (A (0, 0, 0)), .int x1, .int x2, .int x3, q4] [.int y0] (wput A Ri_d S h) = some R := by
  intro q4
  simp only [f1763_4_1] at e
  rw [g1763_4, b1763_4]
  by_cases k1 : x2 = 0
  · rw [if_pos k1] at e
    have e := Option.some.inj e; subst e
    dsimp only [Sum.elim_inl, go1763_1] at hc
    simp -implicitDefEqProofs (disch := first | assumption | exact Nat.le_of_ble_eq_true rfl | decide) only [b1763_0, g1763_2, b1763_2, g1763_3, b1763_3, g1763_5, b1763_5, g1763_6, b1763_6, g1763_7, b1763_7, g1763_8, b1763_8, pe_sipush, pe_istore2, pe_istore3, pe_goto_w, pe_iload3, pe_aload0, pe_getfield, pe_icmp_ge, pe_iload1, pe_if_eq, pe_laload, pe_bipush, pe_lcmp, pe_call2, pm_af_ret, pm_af_void, pm_af_thr, pe_iaload, pe_icmp_ne, pe_goto, pe_istore4, pe_iload2, pe_iload4, pe_if_lt, pe_icmp_gt, pe_iinc3, pm_prog_1, pm_ob_some, Nat.reduceDiv, Nat.reduceMod, Nat.reduceMul, Nat.reduceAdd, Int.reduceToNat, pm_kill_i, pm_kill_r, pm_kill_n, pm_kill_j, pm_kill_l, pm_kill_d, pm_cats_nil, pm_cats_i, pm_cats_r, pm_cats_n, pm_cats_l, pm_cats_d, sz_1, sz_2, sl_1, sl_2, lc_0, lc_lt, lc_le, li_ne, Int32.reduceOfInt, Int64.reduceOfInt, Int32.reduceOfNat, Int32.reduceLT, Int32.reduceLE, Prod.mk.injEq, Nat.reduceEqDiff, reduceCtorEq, and_true, true_and, and_false, false_and, and_self, ite_true, ite_false, ↓reduceIte, not_true_eq_false, not_false_eq_true, pe_ri, pe_rz, Ri_g11 hA, Ri_g18 hA, Ri_g17 hA, Ri_r17 hA, Ri_w17 hA, Ri_l17 hA, Ri_r18 hA, Ri_w18 hA, Ri_l18 hA, eq_true k1, hc]
  · rw [if_neg k1] at e
    by_cases k2 : y0 = 0
    · rw [if_pos k2] at e
      have e := Option.some.inj e; subst e
      dsimp only [Sum.elim_inl, go1763_1] at hc
      simp -implicitDefEqProofs (disch := first | assumption | exact Nat.le_of_ble_eq_true rfl | decide) only [b1763_0, g1763_2, b1763_2, g1763_3, b1763_3, g1763_5, b1763_5, g1763_6, b1763_6, g1763_7, b1763_7, g1763_8, b1763_8, pe_sipush, pe_istore2, pe_istore3, pe_goto_w, pe_iload3, pe_aload0, pe_getfield, pe_icmp_ge, pe_iload1, pe_if_eq, pe_laload, pe_bipush, pe_lcmp, pe_call2, pm_af_ret, pm_af_void, pm_af_thr, pe_iaload, pe_icmp_ne, pe_goto, pe_istore4, pe_iload2, pe_iload4, pe_if_lt, pe_icmp_gt, pe_iinc3, pm_prog_1, pm_ob_some, Nat.reduceDiv, Nat.reduceMod, Nat.reduceMul, Nat.reduceAdd, Int.reduceToNat, pm_kill_i, pm_kill_r, pm_kill_n, pm_kill_j, pm_kill_l, pm_kill_d, pm_cats_nil, pm_cats_i, pm_cats_r, pm_cats_n, pm_cats_l, pm_cats_d, sz_1, sz_2, sl_1, sl_2, lc_0, lc_lt, lc_le, li_ne, Int32.reduceOfInt, Int64.reduceOfInt, Int32.reduceOfNat, Int32.reduceLT, Int32.reduceLE, Prod.mk.injEq, Nat.reduceEqDiff, reduceCtorEq, and_true, true_and, and_false, false_and, and_self, ite_true, ite_false, ↓reduceIte, not_true_eq_false, not_false_eq_true, pe_ri, pe_rz, Ri_g11 hA, Ri_g18 hA, Ri_g17 hA, Ri_r17 hA, Ri_w17 hA, Ri_l17 hA, Ri_r18 hA, Ri_w18 hA, Ri_l18 hA, eq_false k1, eq_true k2, hc]
    · rw [if_neg k2] at e
      by_cases k3 : 0 ≤ x3 ∧ x3 < 8
      · rw [if_pos k3] at e
        by_cases k4 : (S.1 (18, 0, 0) x3) < 0
        · rw [if_pos k4] at e
          have e := Option.some.inj e; subst e
          dsimp only [Sum.elim_inl, go1763_1] at hc
          simp -implicitDefEqProofs (disch := first | assumption | exact Nat.le_of_ble_eq_true rfl | decide) only [b1763_0, g1763_2, b1763_2, g1763_3, b1763_3, g1763_5, b1763_5, g1763_6, b1763_6, g1763_7, b1763_7, g1763_8, b1763_8, pe_sipush, pe_istore2, pe_istore3, pe_goto_w, pe_iload3, pe_aload0, pe_getfield, pe_icmp_ge, pe_iload1, pe_if_eq, pe_laload, pe_bipush, pe_lcmp, pe_call2, pm_af_ret, pm_af_void, pm_af_thr, pe_iaload, pe_icmp_ne, pe_goto, pe_istore4, pe_iload2, pe_iload4, pe_if_lt, pe_icmp_gt, pe_iinc3, pm_prog_1, pm_ob_some, Nat.reduceDiv, Nat.reduceMod, Nat.reduceMul, Nat.reduceAdd, Int.reduceToNat, pm_kill_i, pm_kill_r, pm_kill_n, pm_kill_j, pm_kill_l, pm_kill_d, pm_cats_nil, pm_cats_i, pm_cats_r, pm_cats_n, pm_cats_l, pm_cats_d, sz_1, sz_2, sl_1, sl_2, lc_0, lc_lt, lc_le, li_ne, Int32.reduceOfInt, Int64.reduceOfInt, Int32.reduceOfNat, Int32.reduceLT, Int32.reduceLE, Prod.mk.injEq, Nat.reduceEqDiff, reduceCtorEq, and_true, true_and, and_false, false_and, and_self, ite_true, ite_false, ↓reduceIte, not_true_eq_false, not_false_eq_true, pe_ri, pe_rz, Ri_g11 hA, Ri_g18 hA, Ri_g17 hA, Ri_r17 hA, Ri_w17 hA, Ri_l17 hA, Ri_r18 hA, Ri_w18 hA, Ri_l18 hA, eq_false k1, eq_false k2, eq_true k4, hc]
        · rw [if_neg k4] at e
          obtain ⟨v1, k5, e⟩ := Option.bind_eq_some_iff.mp e
          try dsimp only at e
          have z5 := x1764 (D := D) (h := h) hA (by omega) k5
          by_cases k6 : v1 ≤ (S.1 (18, 0, 0) x3)
          · rw [if_pos k6] at e
            have e := Option.some.inj e; subst e
            dsimp only [Sum.elim_inl, go1763_1] at hc
            simp -implicitDefEqProofs (disch := first | assumption | exact Nat.le_of_ble_eq_true rfl | decide) only [b1763_0, g1763_2, b1763_2, g1763_3, b1763_3, g1763_5, b1763_5, g1763_6, b1763_6, g1763_7, b1763_7, g1763_8, b1763_8, pe_sipush, pe_istore2, pe_istore3, pe_goto_w, pe_iload3, pe_aload0, pe_getfield, pe_icmp_ge, pe_iload1, pe_if_eq, pe_laload, pe_bipush, pe_lcmp, pe_call2, pm_af_ret, pm_af_void, pm_af_thr, pe_iaload, pe_icmp_ne, pe_goto, pe_istore4, pe_iload2, pe_iload4, pe_if_lt, pe_icmp_gt, pe_iinc3, pm_prog_1, pm_ob_some, Nat.reduceDiv, Nat.reduceMod, Nat.reduceMul, Nat.reduceAdd, Int.reduceToNat, pm_kill_i, pm_kill_r, pm_kill_n, pm_kill_j, pm_kill_l, pm_kill_d, pm_cats_nil, pm_cats_i, pm_cats_r, pm_cats_n, pm_cats_l, pm_cats_d, sz_1, sz_2, sl_1, sl_2, lc_0, lc_lt, lc_le, li_ne, Int32.reduceOfInt, Int64.reduceOfInt, Int32.reduceOfNat, Int32.reduceLT, Int32.reduceLE, Prod.mk.injEq, Nat.reduceEqDiff, reduceCtorEq, and_true, true_and, and_false, false_and, and_self, ite_true, ite_false, ↓reduceIte, not_true_eq_false, not_false_eq_true, pe_ri, pe_rz, Ri_g11 hA, Ri_g18 hA, Ri_g17 hA, Ri_r17 hA, Ri_w17 hA, Ri_l17 hA, Ri_r18 hA, Ri_w18 hA, Ri_l18 hA, eq_false k1, eq_false k2, eq_false k4, z5, eq_true k6, hc]
          · rw [if_neg k6] at e
            have e := Option.some.inj e; subst e
            dsimp only [Sum.elim_inl, go1763_1] at hc
            simp -implicitDefEqProofs (disch := first | assumption | exact Nat.le_of_ble_eq_true rfl | decide) only [b1763_0, g1763_2, b1763_2, g1763_3, b1763_3, g1763_5, b1763_5, g1763_6, b1763_6, g1763_7, b1763_7, g1763_8, b1763_8, pe_sipush, pe_istore2, pe_istore3, pe_goto_w, pe_iload3, pe_aload0, pe_getfield, pe_icmp_ge, pe_iload1, pe_if_eq, pe_laload, pe_bipush, pe_lcmp, pe_call2, pm_af_ret, pm_af_void, pm_af_thr, pe_iaload, pe_icmp_ne, pe_goto, pe_istore4, pe_iload2, pe_iload4, pe_if_lt, pe_icmp_gt, pe_iinc3, pm_prog_1, pm_ob_some, Nat.reduceDiv, Nat.reduceMod, Nat.reduceMul, Nat.reduceAdd, Int.reduceToNat, pm_kill_i, pm_kill_r, pm_kill_n, pm_kill_j, pm_kill_l, pm_kill_d, pm_cats_nil, pm_cats_i, pm_cats_r, pm_cats_n, pm_cats_l, pm_cats_d, sz_1, sz_2, sl_1, sl_2, lc_0, lc_lt, lc_le, li_ne, Int32.reduceOfInt, Int64.reduceOfInt, Int32.reduceOfNat, Int32.reduceLT, Int32.reduceLE, Prod.mk.injEq, Nat.reduceEqDiff, reduceCtorEq, and_true, true_and, and_false, false_and, and_self, ite_true, ite_false, ↓reduceIte, not_true_eq_false, not_false_eq_true, pe_ri, pe_rz, Ri_g11 hA, Ri_g18 hA, Ri_g17 hA, Ri_r17 hA, Ri_w17 hA, Ri_l17 hA, Ri_r18 hA, Ri_w18 hA, Ri_l18 hA, eq_false k1, eq_false k2, eq_false k4, z5, eq_false k6, hc]
      · rw [if_neg k3] at e; cases e
theorem y1763_b1 {A : wK → Nat} {h : pm_H} {m D : Nat} {R : Outcome × pm_H} {S : wS} (hA : wok A Ri_d m) (hD : 1 ≤ D) (a : Int32 × Int32 × Int32) (r : (Int32 × Int32 × Int32) ⊕ ((Int32))) (e : f1763_b1 S a = some r) (hc : Sum.elim (go1763_1 A h D R S) (ex1763_1 A h D R S) r) : go1763_1 A h D R S a := by
  obtain ⟨x1, x2, x3⟩ := a
  dsimp only [go1763_1]
  intro q4
  simp only [f1763_b1] at e
  rw [g1763_1, b1763_1]
  by_cases k1 : x3 < (S.1 (0, 0, 0) 11)
  · rw [if_pos k1] at e
    by_cases k2 : x1 = 0
    · rw [if_pos k2] at e
      have k3 := y1763_4_1 (h := h) hA hD e hc
      simp -implicitDefEqProofs (disch := first | assumption | exact Nat.le_of_ble_eq_true rfl | decide) only [b1763_0, g1763_2, b1763_2, g1763_3, b1763_3, g1763_5, b1763_5, g1763_6, b1763_6, g1763_7, b1763_7, g1763_8, b1763_8, pe_sipush, pe_istore2, pe_istore3, pe_goto_w, pe_iload3, pe_aload0, pe_getfield, pe_icmp_ge, pe_iload1, pe_if_eq, pe_laload, pe_bipush, pe_lcmp, pe_call2, pm_af_ret, pm_af_void, pm_af_thr, pe_iaload, pe_icmp_ne, pe_goto, pe_istore4, pe_iload2, pe_iload4, pe_if_lt, pe_icmp_gt, pe_iinc3, pm_prog_1, pm_ob_some, Nat.reduceDiv, Nat.reduceMod, Nat.reduceMul, Nat.reduceAdd, Int.reduceToNat, pm_kill_i, pm_kill_r, pm_kill_n, pm_kill_j, pm_kill_l, pm_kill_d, pm_cats_nil, pm_cats_i, pm_cats_r, pm_cats_n, pm_cats_l, pm_cats_d, sz_1, sz_2, sl_1, sl_2, lc_0, lc_lt, lc_le, li_ne, Int32.reduceOfInt, Int64.reduceOfInt, Int32.reduceOfNat, Int32.reduceLT, Int32.reduceLE, Prod.mk.injEq, Nat.reduceEqDiff, reduceCtorEq, and_true, true_and, and_false, false_and, and_self, ite_true, ite_false, ↓reduceIte, not_true_eq_false, not_false_eq_true, pe_ri, pe_rz, Ri_g11 hA, Ri_g18 hA, Ri_g17 hA, Ri_r17 hA, Ri_w17 hA, Ri_l17 hA, Ri_r18 hA, Ri_w18 hA, Ri_l18 hA, eq_true k1, eq_true k2, k3]
    · rw [if_neg k2] at e
      by_cases k4 : 0 ≤ x3 ∧ x3 < 8
      · rw [if_pos k4] at e
        by_cases k5 : (S.2 (19, 0, 0) x3) = 0
        · rw [if_pos k5] at e
          have k6 := y1763_4_1 (h := h) hA hD e hc
          simp -implicitDefEqProofs (disch := first | assumption | exact Nat.le_of_ble_eq_true rfl | decide) only [b1763_0, g1763_2, b1763_2, g1763_3, b1763_3, g1763_5, b1763_5, g1763_6, b1763_6, g1763_7, b1763_7, g1763_8, b1763_8, pe_sipush, pe_istore2, pe_istore3, pe_goto_w, pe_iload3, pe_aload0, pe_getfield, pe_icmp_ge, pe_iload1, pe_if_eq, pe_laload, pe_bipush, pe_lcmp, pe_call2, pm_af_ret, pm_af_void, pm_af_thr, pe_iaload, pe_icmp_ne, pe_goto, pe_istore4, pe_iload2, pe_iload4, pe_if_lt, pe_icmp_gt, pe_iinc3, pm_prog_1, pm_ob_some, Nat.reduceDiv, Nat.reduceMod, Nat.reduceMul, Nat.reduceAdd, Int.reduceToNat, pm_kill_i, pm_kill_r, pm_kill_n, pm_kill_j, pm_kill_l, pm_kill_d, pm_cats_nil, pm_cats_i, pm_cats_r, pm_cats_n, pm_cats_l, pm_cats_d, sz_1, sz_2, sl_1, sl_2, lc_0, lc_lt, lc_le, li_ne, Int32.reduceOfInt, Int64.reduceOfInt, Int32.reduceOfNat, Int32.reduceLT, Int32.reduceLE, Prod.mk.injEq, Nat.reduceEqDiff, reduceCtorEq, and_true, true_and, and_false, false_and, and_self, ite_true, ite_false, ↓reduceIte, not_true_eq_false, not_false_eq_true, pe_ri, pe_rz, Ri_g11 hA, Ri_g18 hA, Ri_g17 hA, Ri_r17 hA, Ri_w17 hA, Ri_l17 hA, Ri_r18 hA, Ri_w18 hA, Ri_l18 hA, eq_true k1, eq_false k2, eq_true k5, k6]
        · rw [if_neg k5] at e
          obtain ⟨v2, k7, e⟩ := Option.bind_eq_some_iff.mp e
          try dsimp only at e
          have z7 := x1764 (D := D) (h := h) hA (by omega) k7
          by_cases k8 : v2 = (S.1 (18, 0, 0) x3)
          · rw [if_pos k8] at e
            have k9 := y1763_4_1 (h := h) hA hD e hc
            simp -implicitDefEqProofs (disch := first | assumption | exact Nat.le_of_ble_eq_true rfl | decide) only [b1763_0, g1763_2, b1763_2, g1763_3, b1763_3, g1763_5, b1763_5, g1763_6, b1763_6, g1763_7, b1763_7, g1763_8, b1763_8, pe_sipush, pe_istore2, pe_istore3, pe_goto_w, pe_iload3, pe_aload0, pe_getfield, pe_icmp_ge, pe_iload1, pe_if_eq, pe_laload, pe_bipush, pe_lcmp, pe_call2, pm_af_ret, pm_af_void, pm_af_thr, pe_iaload, pe_icmp_ne, pe_goto, pe_istore4, pe_iload2, pe_iload4, pe_if_lt, pe_icmp_gt, pe_iinc3, pm_prog_1, pm_ob_some, Nat.reduceDiv, Nat.reduceMod, Nat.reduceMul, Nat.reduceAdd, Int.reduceToNat, pm_kill_i, pm_kill_r, pm_kill_n, pm_kill_j, pm_kill_l, pm_kill_d, pm_cats_nil, pm_cats_i, pm_cats_r, pm_cats_n, pm_cats_l, pm_cats_d, sz_1, sz_2, sl_1, sl_2, lc_0, lc_lt, lc_le, li_ne, Int32.reduceOfInt, Int64.reduceOfInt, Int32.reduceOfNat, Int32.reduceLT, Int32.reduceLE, Prod.mk.injEq, Nat.reduceEqDiff, reduceCtorEq, and_true, true_and, and_false, false_and, and_self, ite_true, ite_false, ↓reduceIte, not_true_eq_false, not_false_eq_true, pe_ri, pe_rz, Ri_g11 hA, Ri_g18 hA, Ri_g17 hA, Ri_r17 hA, Ri_w17 hA, Ri_l17 hA, Ri_r18 hA, Ri_w18 hA, Ri_l18 hA, eq_true k1, eq_false k2, eq_false k5, z7, eq_true k8, k9]
          · rw [if_neg k8] at e
            have k10 := y1763_4_1 (h := h) hA hD e hc
            simp -implicitDefEqProofs (disch := first | assumption | exact Nat.le_of_ble_eq_true rfl | decide) only [b1763_0, g1763_2, b1763_2, g1763_3, b1763_3, g1763_5, b1763_5, g1763_6, b1763_6, g1763_7, b1763_7, g1763_8, b1763_8, pe_sipush, pe_istore2, pe_istore3, pe_goto_w, pe_iload3, pe_aload0, pe_getfield, pe_icmp_ge, pe_iload1, pe_if_eq, pe_laload, pe_bipush, pe_lcmp, pe_call2, pm_af_ret, pm_af_void, pm_af_thr, pe_iaload, pe_icmp_ne, pe_goto, pe_istore4, pe_iload2, pe_iload4, pe_if_lt, pe_icmp_gt, pe_iinc3, pm_prog_1, pm_ob_some, Nat.reduceDiv, Nat.reduceMod, Nat.reduceMul, Nat.reduceAdd, Int.reduceToNat, pm_kill_i, pm_kill_r, pm_kill_n, pm_kill_j, pm_kill_l, pm_kill_d, pm_cats_nil, pm_cats_i, pm_cats_r, pm_cats_n, pm_cats_l, pm_cats_d, sz_1, sz_2, sl_1, sl_2, lc_0, lc_lt, lc_le, li_ne, Int32.reduceOfInt, Int64.reduceOfInt, Int32.reduceOfNat, Int32.reduceLT, Int32.reduceLE, Prod.mk.injEq, Nat.reduceEqDiff, reduceCtorEq, and_true, true_and, and_false, false_and, and_self, ite_true, ite_false, ↓reduceIte, not_true_eq_false, not_false_eq_true, pe_ri, pe_rz, Ri_g11 hA, Ri_g18 hA, Ri_g17 hA, Ri_r17 hA, Ri_w17 hA, Ri_l17 hA, Ri_r18 hA, Ri_w18 hA, Ri_l18 hA, eq_true k1, eq_false k2, eq_false k5, z7, eq_false k8, k10]
      · rw [if_neg k4] at e; cases e
  · rw [if_neg k1] at e
    have e := Option.some.inj e; subst e
    dsimp only [Sum.elim_inr, ex1763_1] at hc
    simp -implicitDefEqProofs (disch := first | assumption | exact Nat.le_of_ble_eq_true rfl | decide) only [b1763_0, g1763_2, b1763_2, g1763_3, b1763_3, g1763_5, b1763_5, g1763_6, b1763_6, g1763_7, b1763_7, g1763_8, b1763_8, pe_sipush, pe_istore2, pe_istore3, pe_goto_w, pe_iload3, pe_aload0, pe_getfield, pe_icmp_ge, pe_iload1, pe_if_eq, pe_laload, pe_bipush, pe_lcmp, pe_call2, pm_af_ret, pm_af_void, pm_af_thr, pe_iaload, pe_icmp_ne, pe_goto, pe_istore4, pe_iload2, pe_iload4, pe_if_lt, pe_icmp_gt, pe_iinc3, pm_prog_1, pm_ob_some, Nat.reduceDiv, Nat.reduceMod, Nat.reduceMul, Nat.reduceAdd, Int.reduceToNat, pm_kill_i, pm_kill_r, pm_kill_n, pm_kill_j, pm_kill_l, pm_kill_d, pm_cats_nil, pm_cats_i, pm_cats_r, pm_cats_n, pm_cats_l, pm_cats_d, sz_1, sz_2, sl_1, sl_2, lc_0, lc_lt, lc_le, li_ne, Int32.reduceOfInt, Int64.reduceOfInt, Int32.reduceOfNat, Int32.reduceLT, Int32.reduceLE, Prod.mk.injEq, Nat.reduceEqDiff, reduceCtorEq, and_true, true_and, and_false, false_and, and_self, ite_true, ite_false, ↓reduceIte, not_true_eq_false, not_false_eq_true, pe_ri, pe_rz, Ri_g11 hA, Ri_g18 hA, Ri_g17 hA, Ri_r17 hA, Ri_w17 hA, Ri_l17 hA, Ri_r18 hA, Ri_w18 hA, Ri_l18 hA, eq_false k1, hc]
theorem z1763_1 {A : wK → Nat} {h : pm_H} {m D : Nat} {R : Outcome × pm_H} {S : wS} (hA : wok A Ri_d m) (hD : 1 ≤ D) {n : Nat} {a : Int32 × Int32 × Int32} {b : (Int32)} (e : lp (f1763_b1 S) n a = some b) (hx : ex1763_1 A h D R S b) : go1763_1 A h D R S a := lp_run (fun a r => y1763_b1 hA hD a r) n a b e hx
theorem x1763 {A : wK → Nat} {h : pm_H} {m D : Nat} {S : wS} {x1 : Int32} {r : Int32} (hA : wok A Ri_d m) (hD : 2 ≤ D) (e : f1763 S x1 = some r) : pm_call pm_prog D 1763 [.ref (A (0, 0, 0)), .int x1] (wput A Ri_d S h) = some (.returned (some (.int r)), (wput A Ri_d S h)) := by
  obtain ⟨D, rfl⟩ : ∃ D', D = D' + 1 := ⟨D - 1, by omega⟩
  have hD : 1 ≤ D := by omega
  rw [c1763 (Ri_c hA), b1763_0]
  simp only [f1763] at e
  obtain ⟨v3, k1, e⟩ := Option.bind_eq_some_iff.mp e
  try dsimp only at e
  try simp -implicitDefEqProofs (disch := first | assumption | exact Nat.le_of_ble_eq_true rfl | decide) only [b1763_0, g1763_2, b1763_2, g1763_3, b1763_3, g1763_5, b1763_5, g1763_6, b1763_6, g1763_7, b1763_7, g1763_8, b1763_8, pe_sipush, pe_istore2, pe_istore3, pe_goto_w, pe_iload3, pe_aload0, pe_getfield, pe_icmp_ge, pe_iload1, pe_if_eq, pe_laload, pe_bipush, pe_lcmp, pe_call2, pm_af_ret, pm_af_void, pm_af_thr, pe_iaload, pe_icmp_ne, pe_goto, pe_istore4, pe_iload2, pe_iload4, pe_if_lt, pe_icmp_gt, pe_iinc3, pm_prog_1, pm_ob_some, Nat.reduceDiv, Nat.reduceMod, Nat.reduceMul, Nat.reduceAdd, Int.reduceToNat, pm_kill_i, pm_kill_r, pm_kill_n, pm_kill_j, pm_kill_l, pm_kill_d, pm_cats_nil, pm_cats_i, pm_cats_r, pm_cats_n, pm_cats_l, pm_cats_d, sz_1, sz_2, sl_1, sl_2, lc_0, lc_lt, lc_le, li_ne, Int32.reduceOfInt, Int64.reduceOfInt, Int32.reduceOfNat, Int32.reduceLT, Int32.reduceLE, Prod.mk.injEq, Nat.reduceEqDiff, reduceCtorEq, and_true, true_and, and_false, false_and, and_self, ite_true, ite_false, ↓reduceIte, not_true_eq_false, not_false_eq_true, pe_ri, pe_rz, Ri_g11 hA, Ri_g18 hA, Ri_g17 hA, Ri_r17 hA, Ri_w17 hA, Ri_l17 hA, Ri_r18 hA, Ri_w18 hA, Ri_l18 hA]
  refine z1763_1 hA hD k1 ?_ _
  dsimp only [ex1763_1]
  intro q1 q3 q4
  by_cases k2 : v3 = 0 ∨ v3 = 1
  · rw [if_pos k2] at e
    have e := Option.some.inj e; subst e
    simp -implicitDefEqProofs (disch := first | assumption | exact Nat.le_of_ble_eq_true rfl | decide) only [b1763_0, g1763_2, b1763_2, g1763_3, b1763_3, g1763_5, b1763_5, g1763_6, b1763_6, g1763_7, b1763_7, g1763_8, b1763_8, pe_sipush, pe_istore2, pe_istore3, pe_goto_w, pe_iload3, pe_aload0, pe_getfield, pe_icmp_ge, pe_iload1, pe_if_eq, pe_laload, pe_bipush, pe_lcmp, pe_call2, pm_af_ret, pm_af_void, pm_af_thr, pe_iaload, pe_icmp_ne, pe_goto, pe_istore4, pe_iload2, pe_iload4, pe_if_lt, pe_icmp_gt, pe_iinc3, pm_prog_1, pm_ob_some, Nat.reduceDiv, Nat.reduceMod, Nat.reduceMul, Nat.reduceAdd, Int.reduceToNat, pm_kill_i, pm_kill_r, pm_kill_n, pm_kill_j, pm_kill_l, pm_kill_d, pm_cats_nil, pm_cats_i, pm_cats_r, pm_cats_n, pm_cats_l, pm_cats_d, sz_1, sz_2, sl_1, sl_2, lc_0, lc_lt, lc_le, li_ne, Int32.reduceOfInt, Int64.reduceOfInt, Int32.reduceOfNat, Int32.reduceLT, Int32.reduceLE, Prod.mk.injEq, Nat.reduceEqDiff, reduceCtorEq, and_true, true_and, and_false, false_and, and_self, ite_true, ite_false, ↓reduceIte, not_true_eq_false, not_false_eq_true, pe_ri, pe_rz, Ri_g11 hA, Ri_g18 hA, Ri_g17 hA, Ri_r17 hA, Ri_w17 hA, Ri_l17 hA, Ri_r18 hA, Ri_w18 hA, Ri_l18 hA]
  · rw [if_neg k2] at e; cases e
/-- TimberHouseModel$Rips.keep()V -/
theorem c1766 {d : Nat} {h : pm_H} {a : Nat} (hc : pm_cls h a = some 27) : pm_call pm_prog (d + 1) 1766 [.ref a] h = pm_ev pm_prog (pm_call pm_prog d) 1766 0 b1766_0 [.ref a, pm_junk] [] h := pm_cal (pm_rc1 hc rfl) rfl rfl rfl
theorem g1766_1 {cl : pm_C} {ls st : List Value} {h : pm_H} : pm_go pm_prog cl 1766 1 ls st h = pm_ev pm_prog cl 1766 1 b1766_1 ls st h := pm_go_eq pm_prog cl 1766 1 ls st h
theorem g1766_2 {cl : pm_C} {ls st : List Value} {h : pm_H} : pm_go pm_prog cl 1766 2 ls st h = pm_ev pm_prog cl 1766 2 b1766_2 ls st h := pm_go_eq pm_prog cl 1766 2 ls st h
noncomputable def f1766_b1 : Int32 × wS → Option ((Int32 × wS) ⊕ ((wS))) := fun (x1, S) =>
  if x1 < (S.1 (0, 0, 0) 36) then
    if 0 ≤ x1 ∧ x1 < 240 then
      if 0 ≤ (5 * x1) ∧ (5 * x1) < 1200 then
        if 0 ≤ ((5 * x1) + 1) ∧ ((5 * x1) + 1) < 1200 then
          if 0 ≤ ((5 * x1) + 2) ∧ ((5 * x1) + 2) < 1200 then
            if 0 ≤ ((5 * x1) + 3) ∧ ((5 * x1) + 3) < 1200 then
              if 0 ≤ ((5 * x1) + 4) ∧ ((5 * x1) + 4) < 1200 then
                some (.inl ((x1 + 1), (sz (sz (sz (sz (sz S (44, 0, 0) (5 * x1) (S.1 (38, 0, 0) x1)) (44, 0, 0) ((5 * x1) + 1) (S.1 (39, 0, 0) x1)) (44, 0, 0) ((5 * x1) + 2) (S.1 (40, 0, 0) x1)) (44, 0, 0) ((5 * x1) + 3) (S.1 (41, 0, 0) x1)) (44, 0, 0) ((5 * x1) + 4) (S.1 (42, 0, 0) x1))))
              else none
            else none
          else none
        else none
      else none
    else none
  else
    some (.inr S)
/-- TimberHouseModel$Rips.keep()V -/
noncomputable def f1766 (S : wS) : Option (wS) :=
  (lp (f1766_b1) FU (0, (sz S (0, 0, 0) 42 (S.1 (0, 0, 0) 36)))).bind fun S1 =>
  some S1
def go1766_1 (A : wK → Nat) (h : pm_H) (D : Nat) (R : Outcome × pm_H) : Int32 × wS → Prop := fun (x1, S) => pm_go pm_prog (pm_call pm_prog D) 1766 1 [.ref (A (0, 0, 0)), .int x1] [] (wput A Ri_d S h) = some R
def ex1766_1 (A : wK → Nat) (h : pm_H) (D : Nat) (R : Outcome × pm_H) : (wS) → Prop := fun S => ∀ q1 : Value, pm_go pm_prog (pm_call pm_prog D) 1766 2 [.ref (A (0, 0, 0)), q1] [] (wput A Ri_d S h) = some R
theorem y1766_b1 {A : wK → Nat} {h : pm_H} {m D : Nat} {R : Outcome × pm_H} (hA : wok A Ri_d m) (hD : 0 ≤ D) (a : Int32 × wS) (r : (Int32 × wS) ⊕ ((wS))) (e : f1766_b1 a = some r) (hc : Sum.elim (go1766_1 A h D R) (ex1766_1 A h D R) r) : go1766_1 A h D R a := by
  obtain ⟨x1, S⟩ := a
  dsimp only [go1766_1]
  simp only [f1766_b1] at e
  rw [g1766_1, b1766_1]
  by_cases k1 : x1 < (S.1 (0, 0, 0) 36)
  · rw [if_pos k1] at e
    by_cases k2 : 0 ≤ x1 ∧ x1 < 240
    · rw [if_pos k2] at e
      by_cases k3 : 0 ≤ (5 * x1) ∧ (5 * x1) < 1200
      · rw [if_pos k3] at e
        by_cases k4 : 0 ≤ ((5 * x1) + 1) ∧ ((5 * x1) + 1) < 1200
        · rw [if_pos k4] at e
          by_cases k5 : 0 ≤ ((5 * x1) + 2) ∧ ((5 * x1) + 2) < 1200
          · rw [if_pos k5] at e
            by_cases k6 : 0 ≤ ((5 * x1) + 3) ∧ ((5 * x1) + 3) < 1200
            · rw [if_pos k6] at e
              by_cases k7 : 0 ≤ ((5 * x1) + 4) ∧ ((5 * x1) + 4) < 1200
              · rw [if_pos k7] at e
                have e := Option.some.inj e; subst e
                dsimp only [Sum.elim_inl, go1766_1] at hc
                simp -implicitDefEqProofs (disch := first | assumption | exact Nat.le_of_ble_eq_true rfl | decide) only [b1766_0, g1766_2, b1766_2, pe_aload0, pe_getfield, pe_putfield, pe_sipush, pe_istore1, pe_goto_w, pe_iload1, pe_icmp_ge, pe_imul, pe_iaload, pe_iastore, pe_iadd, pe_iinc1, pe_goto, pe_return, pm_prog_1, pm_ob_some, Nat.reduceDiv, Nat.reduceMod, Nat.reduceMul, Nat.reduceAdd, Int.reduceToNat, pm_kill_i, pm_kill_r, pm_kill_n, pm_kill_j, pm_kill_l, pm_kill_d, pm_cats_nil, pm_cats_i, pm_cats_r, pm_cats_n, pm_cats_l, pm_cats_d, sz_1, sz_2, sl_1, sl_2, lc_0, lc_lt, lc_le, li_ne, Int32.reduceOfInt, Int64.reduceOfInt, Int32.reduceOfNat, Int32.reduceLT, Int32.reduceLE, Prod.mk.injEq, Nat.reduceEqDiff, reduceCtorEq, and_true, true_and, and_false, false_and, and_self, ite_true, ite_false, ↓reduceIte, not_true_eq_false, not_false_eq_true, pe_ri, pe_rz, Ri_g36 hA, Ri_p42 hA, Ri_g43 hA, Ri_g37 hA, Ri_g38 hA, Ri_g39 hA, Ri_g40 hA, Ri_g41 hA, Ri_r37 hA, Ri_w37 hA, Ri_l37 hA, Ri_r38 hA, Ri_w38 hA, Ri_l38 hA, Ri_r39 hA, Ri_w39 hA, Ri_l39 hA, Ri_r40 hA, Ri_w40 hA, Ri_l40 hA, Ri_r41 hA, Ri_w41 hA, Ri_l41 hA, Ri_r43 hA, Ri_w43 hA, Ri_l43 hA, eq_true k1, hc]
              · rw [if_neg k7] at e; cases e
            · rw [if_neg k6] at e; cases e
          · rw [if_neg k5] at e; cases e
        · rw [if_neg k4] at e; cases e
      · rw [if_neg k3] at e; cases e
    · rw [if_neg k2] at e; cases e
  · rw [if_neg k1] at e
    have e := Option.some.inj e; subst e
    dsimp only [Sum.elim_inr, ex1766_1] at hc
    simp -implicitDefEqProofs (disch := first | assumption | exact Nat.le_of_ble_eq_true rfl | decide) only [b1766_0, g1766_2, b1766_2, pe_aload0, pe_getfield, pe_putfield, pe_sipush, pe_istore1, pe_goto_w, pe_iload1, pe_icmp_ge, pe_imul, pe_iaload, pe_iastore, pe_iadd, pe_iinc1, pe_goto, pe_return, pm_prog_1, pm_ob_some, Nat.reduceDiv, Nat.reduceMod, Nat.reduceMul, Nat.reduceAdd, Int.reduceToNat, pm_kill_i, pm_kill_r, pm_kill_n, pm_kill_j, pm_kill_l, pm_kill_d, pm_cats_nil, pm_cats_i, pm_cats_r, pm_cats_n, pm_cats_l, pm_cats_d, sz_1, sz_2, sl_1, sl_2, lc_0, lc_lt, lc_le, li_ne, Int32.reduceOfInt, Int64.reduceOfInt, Int32.reduceOfNat, Int32.reduceLT, Int32.reduceLE, Prod.mk.injEq, Nat.reduceEqDiff, reduceCtorEq, and_true, true_and, and_false, false_and, and_self, ite_true, ite_false, ↓reduceIte, not_true_eq_false, not_false_eq_true, pe_ri, pe_rz, Ri_g36 hA, Ri_p42 hA, Ri_g43 hA, Ri_g37 hA, Ri_g38 hA, Ri_g39 hA, Ri_g40 hA, Ri_g41 hA, Ri_r37 hA, Ri_w37 hA, Ri_l37 hA, Ri_r38 hA, Ri_w38 hA, Ri_l38 hA, Ri_r39 hA, Ri_w39 hA, Ri_l39 hA, Ri_r40 hA, Ri_w40 hA, Ri_l40 hA, Ri_r41 hA, Ri_w41 hA, Ri_l41 hA, Ri_r43 hA, Ri_w43 hA, Ri_l43 hA, eq_false k1, hc]
theorem z1766_1 {A : wK → Nat} {h : pm_H} {m D : Nat} {R : Outcome × pm_H} (hA : wok A Ri_d m) (hD : 0 ≤ D) {n : Nat} {a : Int32 × wS} {b : (wS)} (e : lp (f1766_b1) n a = some b) (hx : ex1766_1 A h D R b) : go1766_1 A h D R a := lp_run (fun a r => y1766_b1 hA hD a r) n a b e hx
theorem x1766 {A : wK → Nat} {h : pm_H} {m D : Nat} {S : wS} {r : wS} (hA : wok A Ri_d m) (hD : 1 ≤ D) (e : f1766 S = some r) : pm_call pm_prog D 1766 [.ref (A (0, 0, 0))] (wput A Ri_d S h) = some (.returned none, (wput A Ri_d r h)) := by
  obtain ⟨D, rfl⟩ : ∃ D', D = D' + 1 := ⟨D - 1, by omega⟩
  have hD : 0 ≤ D := by omega
  rw [c1766 (Ri_c hA), b1766_0]
  simp only [f1766] at e
  obtain ⟨S1, k1, e⟩ := Option.bind_eq_some_iff.mp e
  try dsimp only at e
  try simp -implicitDefEqProofs (disch := first | assumption | exact Nat.le_of_ble_eq_true rfl | decide) only [b1766_0, g1766_2, b1766_2, pe_aload0, pe_getfield, pe_putfield, pe_sipush, pe_istore1, pe_goto_w, pe_iload1, pe_icmp_ge, pe_imul, pe_iaload, pe_iastore, pe_iadd, pe_iinc1, pe_goto, pe_return, pm_prog_1, pm_ob_some, Nat.reduceDiv, Nat.reduceMod, Nat.reduceMul, Nat.reduceAdd, Int.reduceToNat, pm_kill_i, pm_kill_r, pm_kill_n, pm_kill_j, pm_kill_l, pm_kill_d, pm_cats_nil, pm_cats_i, pm_cats_r, pm_cats_n, pm_cats_l, pm_cats_d, sz_1, sz_2, sl_1, sl_2, lc_0, lc_lt, lc_le, li_ne, Int32.reduceOfInt, Int64.reduceOfInt, Int32.reduceOfNat, Int32.reduceLT, Int32.reduceLE, Prod.mk.injEq, Nat.reduceEqDiff, reduceCtorEq, and_true, true_and, and_false, false_and, and_self, ite_true, ite_false, ↓reduceIte, not_true_eq_false, not_false_eq_true, pe_ri, pe_rz, Ri_g36 hA, Ri_p42 hA, Ri_g43 hA, Ri_g37 hA, Ri_g38 hA, Ri_g39 hA, Ri_g40 hA, Ri_g41 hA, Ri_r37 hA, Ri_w37 hA, Ri_l37 hA, Ri_r38 hA, Ri_w38 hA, Ri_l38 hA, Ri_r39 hA, Ri_w39 hA, Ri_l39 hA, Ri_r40 hA, Ri_w40 hA, Ri_l40 hA, Ri_r41 hA, Ri_w41 hA, Ri_l41 hA, Ri_r43 hA, Ri_w43 hA, Ri_l43 hA]
  refine z1766_1 hA hD k1 ?_
  dsimp only [ex1766_1]
  intro q1
  have e := Option.some.inj e; subst e
  simp -implicitDefEqProofs (disch := first | assumption | exact Nat.le_of_ble_eq_true rfl | decide) only [b1766_0, g1766_2, b1766_2, pe_aload0, pe_getfield, pe_putfield, pe_sipush, pe_istore1, pe_goto_w, pe_iload1, pe_icmp_ge, pe_imul, pe_iaload, pe_iastore, pe_iadd, pe_iinc1, pe_goto, pe_return, pm_prog_1, pm_ob_some, Nat.reduceDiv, Nat.reduceMod, Nat.reduceMul, Nat.reduceAdd, Int.reduceToNat, pm_kill_i, pm_kill_r, pm_kill_n, pm_kill_j, pm_kill_l, pm_kill_d, pm_cats_nil, pm_cats_i, pm_cats_r, pm_cats_n, pm_cats_l, pm_cats_d, sz_1, sz_2, sl_1, sl_2, lc_0, lc_lt, lc_le, li_ne, Int32.reduceOfInt, Int64.reduceOfInt, Int32.reduceOfNat, Int32.reduceLT, Int32.reduceLE, Prod.mk.injEq, Nat.reduceEqDiff, reduceCtorEq, and_true, true_and, and_false, false_and, and_self, ite_true, ite_false, ↓reduceIte, not_true_eq_false, not_false_eq_true, pe_ri, pe_rz, Ri_g36 hA, Ri_p42 hA, Ri_g43 hA, Ri_g37 hA, Ri_g38 hA, Ri_g39 hA, Ri_g40 hA, Ri_g41 hA, Ri_r37 hA, Ri_w37 hA, Ri_l37 hA, Ri_r38 hA, Ri_w38 hA, Ri_l38 hA, Ri_r39 hA, Ri_w39 hA, Ri_l39 hA, Ri_r40 hA, Ri_w40 hA, Ri_l40 hA, Ri_r41 hA, Ri_w41 hA, Ri_l41 hA, Ri_r43 hA, Ri_w43 hA, Ri_l43 hA]
/-- TimberHouseModel$Rips.setPrices(I)V -/
theorem c1767 {d : Nat} {h : pm_H} {a : Nat} {x0 : Int32} (hc : pm_cls h a = some 27) : pm_call pm_prog (d + 1) 1767 [.ref a, .int x0] h = pm_ev pm_prog (pm_call pm_prog d) 1767 0 b1767_0 [.ref a, .int x0, pm_junk, pm_junk, pm_junk, pm_junk, pm_junk] [] h := pm_cal (pm_rc1 hc rfl) rfl rfl rfl
theorem g1767_1 {cl : pm_C} {ls st : List Value} {h : pm_H} : pm_go pm_prog cl 1767 1 ls st h = pm_ev pm_prog cl 1767 1 b1767_1 ls st h := pm_go_eq pm_prog cl 1767 1 ls st h
theorem g1767_2 {cl : pm_C} {ls st : List Value} {h : pm_H} : pm_go pm_prog cl 1767 2 ls st h = pm_ev pm_prog cl 1767 2 b1767_2 ls st h := pm_go_eq pm_prog cl 1767 2 ls st h
theorem g1767_3 {cl : pm_C} {ls st : List Value} {h : pm_H} : pm_go pm_prog cl 1767 3 ls st h = pm_ev pm_prog cl 1767 3 b1767_3 ls st h := pm_go_eq pm_prog cl 1767 3 ls st h
theorem g1767_4 {cl : pm_C} {ls st : List Value} {h : pm_H} : pm_go pm_prog cl 1767 4 ls st h = pm_ev pm_prog cl 1767 4 b1767_4 ls st h := pm_go_eq pm_prog cl 1767 4 ls st h
theorem g1767_5 {cl : pm_C} {ls st : List Value} {h : pm_H} : pm_go pm_prog cl 1767 5 ls st h = pm_ev pm_prog cl 1767 5 b1767_5 ls st h := pm_go_eq pm_prog cl 1767 5 ls st h
theorem g1767_6 {cl : pm_C} {ls st : List Value} {h : pm_H} : pm_go pm_prog cl 1767 6 ls st h = pm_ev pm_prog cl 1767 6 b1767_6 ls st h := pm_go_eq pm_prog cl 1767 6 ls st h
theorem g1767_7 {cl : pm_C} {ls st : List Value} {h : pm_H} : pm_go pm_prog cl 1767 7 ls st h = pm_ev pm_prog cl 1767 7 b1767_7 ls st h := pm_go_eq pm_prog cl 1767 7 ls st h
noncomputable def f1767_b3 : Int64 × Int32 × wS → Option ((Int64 × Int32 × wS) ⊕ ((wS))) := fun (x2, x4, S) =>
  if x4 < (S.1 (0, 0, 0) 11) then
    if 0 ≤ x4 ∧ x4 < 8 then
      (f1764 (sl S (20, 0, 0) x4 (S.2 (19, 0, 0) x4)) x4).bind fun v1 =>
      if (S.1 (18, 0, 0) x4) < 0 then
        some (.inl (x2, (x4 + 1), (sl (sl S (20, 0, 0) x4 (S.2 (19, 0, 0) x4)) (19, 0, 0) x4 0)))
      else
        if ((S.2 (19, 0, 0) x4) + ((Int32.toInt64 (v1 - (S.1 (18, 0, 0) x4))) * x2)) < 0 then
          some (.inl (x2, (x4 + 1), (sl (sl S (20, 0, 0) x4 (S.2 (19, 0, 0) x4)) (19, 0, 0) x4 0)))
        else
          some (.inl (x2, (x4 + 1), (sl (sl S (20, 0, 0) x4 (S.2 (19, 0, 0) x4)) (19, 0, 0) x4 ((S.2 (19, 0, 0) x4) + ((Int32.toInt64 (v1 - (S.1 (18, 0, 0) x4))) * x2)))))
    else none
  else
    some (.inr S)
noncomputable def f1767_2 (S : wS) (y0 : Int64) : Option (wS) :=
  (lp (f1767_b3) FU (y0, 0, S)).bind fun S2 =>
  some S2
/-- TimberHouseModel$Rips.setPrices(I)V -/
noncomputable def f1767 (S : wS) (x1 : Int32) : Option (wS) :=
  if ¬ x1 = 0 then
    if (256 / x1) ≤ 1 then
      f1767_2 S 1
    else
      f1767_2 S (Int32.toInt64 (256 / x1))
  else none
def go1767_3 (A : wK → Nat) (h : pm_H) (D : Nat) (R : Outcome × pm_H) : Int64 × Int32 × wS → Prop := fun (x2, x4, S) => ∀ q1 q5 q6 : Value, pm_go pm_prog (pm_call pm_prog D) 1767 3 [.ref (A (0, 0, 0)), q1, .long x2, pm_junk, .int x4, q5, q6] [] (wput A Ri_d S h) = some R
def ex1767_3 (A : wK → Nat) (h : pm_H) (D : Nat) (R : Outcome × pm_H) : (wS) → Prop := fun S => ∀ q1 q2 q3 q4 q5 q6 : Value, pm_go pm_prog (pm_call pm_prog D) 1767 7 [.ref (A (0, 0, 0)), q1, q2, q3, q4, q5, q6] [] (wput A Ri_d S h) = some R
theorem y1767_b3 {A : wK → Nat} {h : pm_H} {m D : Nat} {R : Outcome × pm_H} (hA : wok A Ri_d m) (hD : 1 ≤ D) (a : Int64 × Int32 × wS) (r : (Int64 × Int32 × wS) ⊕ ((wS))) (e : f1767_b3 a = some r) (hc : Sum.elim (go1767_3 A h D R) (ex1767_3 A h D R) r) : go1767_3 A h D R a := by
  obtain ⟨x2, x4, S⟩ := a
  dsimp only [go1767_3]
  intro q1 q5 q6
  simp only [f1767_b3] at e
  rw [g1767_3, b1767_3]
  by_cases k1 : x4 < (S.1 (0, 0, 0) 11)
  · rw [if_pos k1] at e
    by_cases k2 : 0 ≤ x4 ∧ x4 < 8
    · rw [if_pos k2] at e
      obtain ⟨v1, k3, e⟩ := Option.bind_eq_some_iff.mp e
      try dsimp only at e
      have z3 := x1764 (D := D) (h := h) hA (by omega) k3
      by_cases k4 : (S.1 (18, 0, 0) x4) < 0
      · rw [if_pos k4] at e
        have e := Option.some.inj e; subst e
        dsimp only [Sum.elim_inl, go1767_3] at hc
        simp -implicitDefEqProofs (disch := first | assumption | exact Nat.le_of_ble_eq_true rfl | decide) only [b1767_0, g1767_1, b1767_1, g1767_4, b1767_4, g1767_5, b1767_5, g1767_6, b1767_6, g1767_7, b1767_7, pe_sipush, pe_iload1, pe_idiv, pe_icmp_le, pe_i2l, pe_goto, pe_bipush, pe_goto_w, pe_lstore2, pe_istore4, pe_iload4, pe_aload0, pe_getfield, pe_icmp_ge, pe_laload, pe_lastore, pe_call2, pm_af_ret, pm_af_void, pm_af_thr, pe_iaload, pe_isub, pe_lload2, pe_lmul, pe_ladd, pe_lstore5, pe_if_lt, pe_lload5, pe_lcmp, pe_if_ge, pe_iinc4, pe_return, pm_prog_1, pm_ob_some, Nat.reduceDiv, Nat.reduceMod, Nat.reduceMul, Nat.reduceAdd, Int.reduceToNat, pm_kill_i, pm_kill_r, pm_kill_n, pm_kill_j, pm_kill_l, pm_kill_d, pm_cats_nil, pm_cats_i, pm_cats_r, pm_cats_n, pm_cats_l, pm_cats_d, sz_1, sz_2, sl_1, sl_2, lc_0, lc_lt, lc_le, li_ne, Int32.reduceOfInt, Int64.reduceOfInt, Int32.reduceOfNat, Int32.reduceLT, Int32.reduceLE, Prod.mk.injEq, Nat.reduceEqDiff, reduceCtorEq, and_true, true_and, and_false, false_and, and_self, ite_true, ite_false, ↓reduceIte, not_true_eq_false, not_false_eq_true, pe_ri, pe_rz, Ri_g11 hA, Ri_g19 hA, Ri_g18 hA, Ri_g17 hA, Ri_r17 hA, Ri_w17 hA, Ri_l17 hA, Ri_r18 hA, Ri_w18 hA, Ri_l18 hA, Ri_r19 hA, Ri_w19 hA, Ri_l19 hA, eq_true k1, z3, eq_true k4, hc]
      · rw [if_neg k4] at e
        by_cases k5 : ((S.2 (19, 0, 0) x4) + ((Int32.toInt64 (v1 - (S.1 (18, 0, 0) x4))) * x2)) < 0
        · rw [if_pos k5] at e
          have e := Option.some.inj e; subst e
          dsimp only [Sum.elim_inl, go1767_3] at hc
          simp -implicitDefEqProofs (disch := first | assumption | exact Nat.le_of_ble_eq_true rfl | decide) only [b1767_0, g1767_1, b1767_1, g1767_4, b1767_4, g1767_5, b1767_5, g1767_6, b1767_6, g1767_7, b1767_7, pe_sipush, pe_iload1, pe_idiv, pe_icmp_le, pe_i2l, pe_goto, pe_bipush, pe_goto_w, pe_lstore2, pe_istore4, pe_iload4, pe_aload0, pe_getfield, pe_icmp_ge, pe_laload, pe_lastore, pe_call2, pm_af_ret, pm_af_void, pm_af_thr, pe_iaload, pe_isub, pe_lload2, pe_lmul, pe_ladd, pe_lstore5, pe_if_lt, pe_lload5, pe_lcmp, pe_if_ge, pe_iinc4, pe_return, pm_prog_1, pm_ob_some, Nat.reduceDiv, Nat.reduceMod, Nat.reduceMul, Nat.reduceAdd, Int.reduceToNat, pm_kill_i, pm_kill_r, pm_kill_n, pm_kill_j, pm_kill_l, pm_kill_d, pm_cats_nil, pm_cats_i, pm_cats_r, pm_cats_n, pm_cats_l, pm_cats_d, sz_1, sz_2, sl_1, sl_2, lc_0, lc_lt, lc_le, li_ne, Int32.reduceOfInt, Int64.reduceOfInt, Int32.reduceOfNat, Int32.reduceLT, Int32.reduceLE, Prod.mk.injEq, Nat.reduceEqDiff, reduceCtorEq, and_true, true_and, and_false, false_and, and_self, ite_true, ite_false, ↓reduceIte, not_true_eq_false, not_false_eq_true, pe_ri, pe_rz, Ri_g11 hA, Ri_g19 hA, Ri_g18 hA, Ri_g17 hA, Ri_r17 hA, Ri_w17 hA, Ri_l17 hA, Ri_r18 hA, Ri_w18 hA, Ri_l18 hA, Ri_r19 hA, Ri_w19 hA, Ri_l19 hA, eq_true k1, z3, eq_false k4, eq_true k5, hc]
        · rw [if_neg k5] at e
          have e := Option.some.inj e; subst e
          dsimp only [Sum.elim_inl, go1767_3] at hc
          simp -implicitDefEqProofs (disch := first | assumption | exact Nat.le_of_ble_eq_true rfl | decide) only [b1767_0, g1767_1, b1767_1, g1767_4, b1767_4, g1767_5, b1767_5, g1767_6, b1767_6, g1767_7, b1767_7, pe_sipush, pe_iload1, pe_idiv, pe_icmp_le, pe_i2l, pe_goto, pe_bipush, pe_goto_w, pe_lstore2, pe_istore4, pe_iload4, pe_aload0, pe_getfield, pe_icmp_ge, pe_laload, pe_lastore, pe_call2, pm_af_ret, pm_af_void, pm_af_thr, pe_iaload, pe_isub, pe_lload2, pe_lmul, pe_ladd, pe_lstore5, pe_if_lt, pe_lload5, pe_lcmp, pe_if_ge, pe_iinc4, pe_return, pm_prog_1, pm_ob_some, Nat.reduceDiv, Nat.reduceMod, Nat.reduceMul, Nat.reduceAdd, Int.reduceToNat, pm_kill_i, pm_kill_r, pm_kill_n, pm_kill_j, pm_kill_l, pm_kill_d, pm_cats_nil, pm_cats_i, pm_cats_r, pm_cats_n, pm_cats_l, pm_cats_d, sz_1, sz_2, sl_1, sl_2, lc_0, lc_lt, lc_le, li_ne, Int32.reduceOfInt, Int64.reduceOfInt, Int32.reduceOfNat, Int32.reduceLT, Int32.reduceLE, Prod.mk.injEq, Nat.reduceEqDiff, reduceCtorEq, and_true, true_and, and_false, false_and, and_self, ite_true, ite_false, ↓reduceIte, not_true_eq_false, not_false_eq_true, pe_ri, pe_rz, Ri_g11 hA, Ri_g19 hA, Ri_g18 hA, Ri_g17 hA, Ri_r17 hA, Ri_w17 hA, Ri_l17 hA, Ri_r18 hA, Ri_w18 hA, Ri_l18 hA, Ri_r19 hA, Ri_w19 hA, Ri_l19 hA, eq_true k1, z3, eq_false k4, eq_false k5, hc]
    · rw [if_neg k2] at e; cases e
  · rw [if_neg k1] at e
    have e := Option.some.inj e; subst e
    dsimp only [Sum.elim_inr, ex1767_3] at hc
    simp -implicitDefEqProofs (disch := first | assumption | exact Nat.le_of_ble_eq_true rfl | decide) only [b1767_0, g1767_1, b1767_1, g1767_4, b1767_4, g1767_5, b1767_5, g1767_6, b1767_6, g1767_7, b1767_7, pe_sipush, pe_iload1, pe_idiv, pe_icmp_le, pe_i2l, pe_goto, pe_bipush, pe_goto_w, pe_lstore2, pe_istore4, pe_iload4, pe_aload0, pe_getfield, pe_icmp_ge, pe_laload, pe_lastore, pe_call2, pm_af_ret, pm_af_void, pm_af_thr, pe_iaload, pe_isub, pe_lload2, pe_lmul, pe_ladd, pe_lstore5, pe_if_lt, pe_lload5, pe_lcmp, pe_if_ge, pe_iinc4, pe_return, pm_prog_1, pm_ob_some, Nat.reduceDiv, Nat.reduceMod, Nat.reduceMul, Nat.reduceAdd, Int.reduceToNat, pm_kill_i, pm_kill_r, pm_kill_n, pm_kill_j, pm_kill_l, pm_kill_d, pm_cats_nil, pm_cats_i, pm_cats_r, pm_cats_n, pm_cats_l, pm_cats_d, sz_1, sz_2, sl_1, sl_2, lc_0, lc_lt, lc_le, li_ne, Int32.reduceOfInt, Int64.reduceOfInt, Int32.reduceOfNat, Int32.reduceLT, Int32.reduceLE, Prod.mk.injEq, Nat.reduceEqDiff, reduceCtorEq, and_true, true_and, and_false, false_and, and_self, ite_true, ite_false, ↓reduceIte, not_true_eq_false, not_false_eq_true, pe_ri, pe_rz, Ri_g11 hA, Ri_g19 hA, Ri_g18 hA, Ri_g17 hA, Ri_r17 hA, Ri_w17 hA, Ri_l17 hA, Ri_r18 hA, Ri_w18 hA, Ri_l18 hA, Ri_r19 hA, Ri_w19 hA, Ri_l19 hA, eq_false k1, hc]
theorem z1767_3 {A : wK → Nat} {h : pm_H} {m D : Nat} {R : Outcome × pm_H} (hA : wok A Ri_d m) (hD : 1 ≤ D) {n : Nat} {a : Int64 × Int32 × wS} {b : (wS)} (e : lp (f1767_b3) n a = some b) (hx : ex1767_3 A h D R b) : go1767_3 A h D R a := lp_run (fun a r => y1767_b3 hA hD a r) n a b e hx
theorem y1767_2 {A : wK → Nat} {h : pm_H} {m D : Nat} {S : wS} {y0 : Int64} {r : wS} (hA : wok A Ri_d m) (hD : 1 ≤ D) (e : f1767_2 S y0 = some r) : ∀ q1 q2 q3 q4 q5 q6 : Value, pm_go pm_prog (pm_call pm_prog D) 1767 2 [.ref (A (0, 0, 0)), q1, q2, q3, q4, q5, q6] [.long y0] (wput A Ri_d S h) = some (.returned none, (wput A Ri_d r h)) := by
  intro q1 q2 q3 q4 q5 q6
  simp only [f1767_2] at e
  rw [g1767_2, b1767_2]
  obtain ⟨S2, k1, e⟩ := Option.bind_eq_some_iff.mp e
  try dsimp only at e
  try simp -implicitDefEqProofs (disch := first | assumption | exact Nat.le_of_ble_eq_true rfl | decide) only [b1767_0, g1767_1, b1767_1, g1767_4, b1767_4, g1767_5, b1767_5, g1767_6, b1767_6, g1767_7, b1767_7, pe_sipush, pe_iload1, pe_idiv, pe_icmp_le, pe_i2l, pe_goto, pe_bipush, pe_goto_w, pe_lstore2, pe_istore4, pe_iload4, pe_aload0, pe_getfield, pe_icmp_ge, pe_laload, pe_lastore, pe_call2, pm_af_ret, pm_af_void, pm_af_thr, pe_iaload, pe_isub, pe_lload2, pe_lmul, pe_ladd, pe_lstore5, pe_if_lt, pe_lload5, pe_lcmp, pe_if_ge, pe_iinc4, pe_return, pm_prog_1, pm_ob_some, Nat.reduceDiv, Nat.reduceMod, Nat.reduceMul, Nat.reduceAdd, Int.reduceToNat, pm_kill_i, pm_kill_r, pm_kill_n, pm_kill_j, pm_kill_l, pm_kill_d, pm_cats_nil, pm_cats_i, pm_cats_r, pm_cats_n, pm_cats_l, pm_cats_d, sz_1, sz_2, sl_1, sl_2, lc_0, lc_lt, lc_le, li_ne, Int32.reduceOfInt, Int64.reduceOfInt, Int32.reduceOfNat, Int32.reduceLT, Int32.reduceLE, Prod.mk.injEq, Nat.reduceEqDiff, reduceCtorEq, and_true, true_and, and_false, false_and, and_self, ite_true, ite_false, ↓reduceIte, not_true_eq_false, not_false_eq_true, pe_ri, pe_rz, Ri_g11 hA, Ri_g19 hA, Ri_g18 hA, Ri_g17 hA, Ri_r17 hA, Ri_w17 hA, Ri_l17 hA, Ri_r18 hA, Ri_w18 hA, Ri_l18 hA, Ri_r19 hA, Ri_w19 hA, Ri_l19 hA]
  refine z1767_3 hA hD k1 ?_ _ _ _
  dsimp only [ex1767_3]
  intro q1 q2 q3 q4 q5 q6
  have e := Option.some.inj e; subst e
  simp -implicitDefEqProofs (disch := first | assumption | exact Nat.le_of_ble_eq_true rfl | decide) only [b1767_0, g1767_1, b1767_1, g1767_4, b1767_4, g1767_5, b1767_5, g1767_6, b1767_6, g1767_7, b1767_7, pe_sipush, pe_iload1, pe_idiv, pe_icmp_le, pe_i2l, pe_goto, pe_bipush, pe_goto_w, pe_lstore2, pe_istore4, pe_iload4, pe_aload0, pe_getfield, pe_icmp_ge, pe_laload, pe_lastore, pe_call2, pm_af_ret, pm_af_void, pm_af_thr, pe_iaload, pe_isub, pe_lload2, pe_lmul, pe_ladd, pe_lstore5, pe_if_lt, pe_lload5, pe_lcmp, pe_if_ge, pe_iinc4, pe_return, pm_prog_1, pm_ob_some, Nat.reduceDiv, Nat.reduceMod, Nat.reduceMul, Nat.reduceAdd, Int.reduceToNat, pm_kill_i, pm_kill_r, pm_kill_n, pm_kill_j, pm_kill_l, pm_kill_d, pm_cats_nil, pm_cats_i, pm_cats_r, pm_cats_n, pm_cats_l, pm_cats_d, sz_1, sz_2, sl_1, sl_2, lc_0, lc_lt, lc_le, li_ne, Int32.reduceOfInt, Int64.reduceOfInt, Int32.reduceOfNat, Int32.reduceLT, Int32.reduceLE, Prod.mk.injEq, Nat.reduceEqDiff, reduceCtorEq, and_true, true_and, and_false, false_and, and_self, ite_true, ite_false, ↓reduceIte, not_true_eq_false, not_false_eq_true, pe_ri, pe_rz, Ri_g11 hA, Ri_g19 hA, Ri_g18 hA, Ri_g17 hA, Ri_r17 hA, Ri_w17 hA, Ri_l17 hA, Ri_r18 hA, Ri_w18 hA, Ri_l18 hA, Ri_r19 hA, Ri_w19 hA, Ri_l19 hA]
theorem x1767 {A : wK → Nat} {h : pm_H} {m D : Nat} {S : wS} {x1 : Int32} {r : wS} (hA : wok A Ri_d m) (hD : 2 ≤ D) (e : f1767 S x1 = some r) : pm_call pm_prog D 1767 [.ref (A (0, 0, 0)), .int x1] (wput A Ri_d S h) = some (.returned none, (wput A Ri_d r h)) := by
  obtain ⟨D, rfl⟩ : ∃ D', D = D' + 1 := ⟨D - 1, by omega⟩
  have hD : 1 ≤ D := by omega
  rw [c1767 (Ri_c hA), b1767_0]
  simp only [f1767] at e
  by_cases k1 : ¬ x1 = 0
  · rw [if_pos k1] at e
    by_cases k2 : (256 / x1) ≤ 1
    · rw [if_pos k2] at e
      have k3 := y1767_2 (h := h) hA hD e
      simp -implicitDefEqProofs (disch := first | assumption | exact Nat.le_of_ble_eq_true rfl | decide) only [b1767_0, g1767_1, b1767_1, g1767_4, b1767_4, g1767_5, b1767_5, g1767_6, b1767_6, g1767_7, b1767_7, pe_sipush, pe_iload1, pe_idiv, pe_icmp_le, pe_i2l, pe_goto, pe_bipush, pe_goto_w, pe_lstore2, pe_istore4, pe_iload4, pe_aload0, pe_getfield, pe_icmp_ge, pe_laload, pe_lastore, pe_call2, pm_af_ret, pm_af_void, pm_af_thr, pe_iaload, pe_isub, pe_lload2, pe_lmul, pe_ladd, pe_lstore5, pe_if_lt, pe_lload5, pe_lcmp, pe_if_ge, pe_iinc4, pe_return, pm_prog_1, pm_ob_some, Nat.reduceDiv, Nat.reduceMod, Nat.reduceMul, Nat.reduceAdd, Int.reduceToNat, pm_kill_i, pm_kill_r, pm_kill_n, pm_kill_j, pm_kill_l, pm_kill_d, pm_cats_nil, pm_cats_i, pm_cats_r, pm_cats_n, pm_cats_l, pm_cats_d, sz_1, sz_2, sl_1, sl_2, lc_0, lc_lt, lc_le, li_ne, Int32.reduceOfInt, Int64.reduceOfInt, Int32.reduceOfNat, Int32.reduceLT, Int32.reduceLE, Prod.mk.injEq, Nat.reduceEqDiff, reduceCtorEq, and_true, true_and, and_false, false_and, and_self, ite_true, ite_false, ↓reduceIte, not_true_eq_false, not_false_eq_true, pe_ri, pe_rz, Ri_g11 hA, Ri_g19 hA, Ri_g18 hA, Ri_g17 hA, Ri_r17 hA, Ri_w17 hA, Ri_l17 hA, Ri_r18 hA, Ri_w18 hA, Ri_l18 hA, Ri_r19 hA, Ri_w19 hA, Ri_l19 hA, eq_true k2, k3]
    · rw [if_neg k2] at e
      have k4 := y1767_2 (h := h) hA hD e
      simp -implicitDefEqProofs (disch := first | assumption | exact Nat.le_of_ble_eq_true rfl | decide) only [b1767_0, g1767_1, b1767_1, g1767_4, b1767_4, g1767_5, b1767_5, g1767_6, b1767_6, g1767_7, b1767_7, pe_sipush, pe_iload1, pe_idiv, pe_icmp_le, pe_i2l, pe_goto, pe_bipush, pe_goto_w, pe_lstore2, pe_istore4, pe_iload4, pe_aload0, pe_getfield, pe_icmp_ge, pe_laload, pe_lastore, pe_call2, pm_af_ret, pm_af_void, pm_af_thr, pe_iaload, pe_isub, pe_lload2, pe_lmul, pe_ladd, pe_lstore5, pe_if_lt, pe_lload5, pe_lcmp, pe_if_ge, pe_iinc4, pe_return, pm_prog_1, pm_ob_some, Nat.reduceDiv, Nat.reduceMod, Nat.reduceMul, Nat.reduceAdd, Int.reduceToNat, pm_kill_i, pm_kill_r, pm_kill_n, pm_kill_j, pm_kill_l, pm_kill_d, pm_cats_nil, pm_cats_i, pm_cats_r, pm_cats_n, pm_cats_l, pm_cats_d, sz_1, sz_2, sl_1, sl_2, lc_0, lc_lt, lc_le, li_ne, Int32.reduceOfInt, Int64.reduceOfInt, Int32.reduceOfNat, Int32.reduceLT, Int32.reduceLE, Prod.mk.injEq, Nat.reduceEqDiff, reduceCtorEq, and_true, true_and, and_false, false_and, and_self, ite_true, ite_false, ↓reduceIte, not_true_eq_false, not_false_eq_true, pe_ri, pe_rz, Ri_g11 hA, Ri_g19 hA, Ri_g18 hA, Ri_g17 hA, Ri_r17 hA, Ri_w17 hA, Ri_l17 hA, Ri_r18 hA, Ri_w18 hA, Ri_l18 hA, Ri_r19 hA, Ri_w19 hA, Ri_l19 hA, eq_false k2, k4]
  · rw [if_neg k1] at e; cases e
/-- TimberHouseModel$Rips.bringBack()V -/
theorem c1768 {d : Nat} {h : pm_H} {a : Nat} (hc : pm_cls h a = some 27) : pm_call pm_prog (d + 1) 1768 [.ref a] h = pm_ev pm_prog (pm_call pm_prog d) 1768 0 b1768_0 [.ref a, pm_junk] [] h := pm_cal (pm_rc1 hc rfl) rfl rfl rfl
theorem g1768_1 {cl : pm_C} {ls st : List Value} {h : pm_H} : pm_go pm_prog cl 1768 1 ls st h = pm_ev pm_prog cl 1768 1 b1768_1 ls st h := pm_go_eq pm_prog cl 1768 1 ls st h
theorem g1768_2 {cl : pm_C} {ls st : List Value} {h : pm_H} : pm_go pm_prog cl 1768 2 ls st h = pm_ev pm_prog cl 1768 2 b1768_2 ls st h := pm_go_eq pm_prog cl 1768 2 ls st h
noncomputable def f1768_b1 : Int32 × wS → Option ((Int32 × wS) ⊕ ((wS))) := fun (x1, S) =>
  if x1 < (S.1 (0, 0, 0) 36) then
    if 0 ≤ (5 * x1) ∧ (5 * x1) < 1200 then
      if 0 ≤ x1 ∧ x1 < 240 then
        if 0 ≤ ((5 * x1) + 1) ∧ ((5 * x1) + 1) < 1200 then
          if 0 ≤ ((5 * x1) + 2) ∧ ((5 * x1) + 2) < 1200 then
            if 0 ≤ ((5 * x1) + 3) ∧ ((5 * x1) + 3) < 1200 then
              if 0 ≤ ((5 * x1) + 4) ∧ ((5 * x1) + 4) < 1200 then
                some (.inl ((x1 + 1), (sz (sz (sz (sz (sz S (38, 0, 0) x1 (S.1 (44, 0, 0) (5 * x1))) (39, 0, 0) x1 (S.1 (44, 0, 0) ((5 * x1) + 1))) (40, 0, 0) x1 (S.1 (44, 0, 0) ((5 * x1) + 2))) (41, 0, 0) x1 (S.1 (44, 0, 0) ((5 * x1) + 3))) (42, 0, 0) x1 (S.1 (44, 0, 0) ((5 * x1) + 4)))))
              else none
            else none
          else none
        else none
      else none
    else none
  else
    some (.inr S)
/-- TimberHouseModel$Rips.bringBack()V -/
noncomputable def f1768 (S : wS) : Option (wS) :=
  (lp (f1768_b1) FU (0, (sz S (0, 0, 0) 36 (S.1 (0, 0, 0) 42)))).bind fun S1 =>
  some S1
def go1768_1 (A : wK → Nat) (h : pm_H) (D : Nat) (R : Outcome × pm_H) : Int32 × wS → Prop := fun (x1, S) => pm_go pm_prog (pm_call pm_prog D) 1768 1 [.ref (A (0, 0, 0)), .int x1] [] (wput A Ri_d S h) = some R
def ex1768_1 (A : wK → Nat) (h : pm_H) (D : Nat) (R : Outcome × pm_H) : (wS) → Prop := fun S => ∀ q1 : Value, pm_go pm_prog (pm_call pm_prog D) 1768 2 [.ref (A (0, 0, 0)), q1] [] (wput A Ri_d S h) = some R
theorem y1768_b1 {A : wK → Nat} {h : pm_H} {m D : Nat} {R : Outcome × pm_H} (hA : wok A Ri_d m) (hD : 0 ≤ D) (a : Int32 × wS) (r : (Int32 × wS) ⊕ ((wS))) (e : f1768_b1 a = some r) (hc : Sum.elim (go1768_1 A h D R) (ex1768_1 A h D R) r) : go1768_1 A h D R a := by
  obtain ⟨x1, S⟩ := a
  dsimp only [go1768_1]
  simp only [f1768_b1] at e
  rw [g1768_1, b1768_1]
  by_cases k1 : x1 < (S.1 (0, 0, 0) 36)
  · rw [if_pos k1] at e
    by_cases k2 : 0 ≤ (5 * x1) ∧ (5 * x1) < 1200
    · rw [if_pos k2] at e
      by_cases k3 : 0 ≤ x1 ∧ x1 < 240
      · rw [if_pos k3] at e
        by_cases k4 : 0 ≤ ((5 * x1) + 1) ∧ ((5 * x1) + 1) < 1200
        · rw [if_pos k4] at e
          by_cases k5 : 0 ≤ ((5 * x1) + 2) ∧ ((5 * x1) + 2) < 1200
          · rw [if_pos k5] at e
            by_cases k6 : 0 ≤ ((5 * x1) + 3) ∧ ((5 * x1) + 3) < 1200
            · rw [if_pos k6] at e
              by_cases k7 : 0 ≤ ((5 * x1) + 4) ∧ ((5 * x1) + 4) < 1200
              · rw [if_pos k7] at e
                have e := Option.some.inj e; subst e
                dsimp only [Sum.elim_inl, go1768_1] at hc
                simp -implicitDefEqProofs (disch := first | assumption | exact Nat.le_of_ble_eq_true rfl | decide) only [b1768_0, g1768_2, b1768_2, pe_aload0, pe_getfield, pe_putfield, pe_sipush, pe_istore1, pe_goto_w, pe_iload1, pe_icmp_ge, pe_imul, pe_iaload, pe_iastore, pe_iadd, pe_iinc1, pe_goto, pe_return, pm_prog_1, pm_ob_some, Nat.reduceDiv, Nat.reduceMod, Nat.reduceMul, Nat.reduceAdd, Int.reduceToNat, pm_kill_i, pm_kill_r, pm_kill_n, pm_kill_j, pm_kill_l, pm_kill_d, pm_cats_nil, pm_cats_i, pm_cats_r, pm_cats_n, pm_cats_l, pm_cats_d, sz_1, sz_2, sl_1, sl_2, lc_0, lc_lt, lc_le, li_ne, Int32.reduceOfInt, Int64.reduceOfInt, Int32.reduceOfNat, Int32.reduceLT, Int32.reduceLE, Prod.mk.injEq, Nat.reduceEqDiff, reduceCtorEq, and_true, true_and, and_false, false_and, and_self, ite_true, ite_false, ↓reduceIte, not_true_eq_false, not_false_eq_true, pe_ri, pe_rz, Ri_g42 hA, Ri_p36 hA, Ri_g36 hA, Ri_g37 hA, Ri_g43 hA, Ri_g38 hA, Ri_g39 hA, Ri_g40 hA, Ri_g41 hA, Ri_r37 hA, Ri_w37 hA, Ri_l37 hA, Ri_r38 hA, Ri_w38 hA, Ri_l38 hA, Ri_r39 hA, Ri_w39 hA, Ri_l39 hA, Ri_r40 hA, Ri_w40 hA, Ri_l40 hA, Ri_r41 hA, Ri_w41 hA, Ri_l41 hA, Ri_r43 hA, Ri_w43 hA, Ri_l43 hA, eq_true k1, hc]
              · rw [if_neg k7] at e; cases e
            · rw [if_neg k6] at e; cases e
          · rw [if_neg k5] at e; cases e
        · rw [if_neg k4] at e; cases e
      · rw [if_neg k3] at e; cases e
    · rw [if_neg k2] at e; cases e
  · rw [if_neg k1] at e
    have e := Option.some.inj e; subst e
    dsimp only [Sum.elim_inr, ex1768_1] at hc
    simp -implicitDefEqProofs (disch := first | assumption | exact Nat.le_of_ble_eq_true rfl | decide) only [b1768_0, g1768_2, b1768_2, pe_aload0, pe_getfield, pe_putfield, pe_sipush, pe_istore1, pe_goto_w, pe_iload1, pe_icmp_ge, pe_imul, pe_iaload, pe_iastore, pe_iadd, pe_iinc1, pe_goto, pe_return, pm_prog_1, pm_ob_some, Nat.reduceDiv, Nat.reduceMod, Nat.reduceMul, Nat.reduceAdd, Int.reduceToNat, pm_kill_i, pm_kill_r, pm_kill_n, pm_kill_j, pm_kill_l, pm_kill_d, pm_cats_nil, pm_cats_i, pm_cats_r, pm_cats_n, pm_cats_l, pm_cats_d, sz_1, sz_2, sl_1, sl_2, lc_0, lc_lt, lc_le, li_ne, Int32.reduceOfInt, Int64.reduceOfInt, Int32.reduceOfNat, Int32.reduceLT, Int32.reduceLE, Prod.mk.injEq, Nat.reduceEqDiff, reduceCtorEq, and_true, true_and, and_false, false_and, and_self, ite_true, ite_false, ↓reduceIte, not_true_eq_false, not_false_eq_true, pe_ri, pe_rz, Ri_g42 hA, Ri_p36 hA, Ri_g36 hA, Ri_g37 hA, Ri_g43 hA, Ri_g38 hA, Ri_g39 hA, Ri_g40 hA, Ri_g41 hA, Ri_r37 hA, Ri_w37 hA, Ri_l37 hA, Ri_r38 hA, Ri_w38 hA, Ri_l38 hA, Ri_r39 hA, Ri_w39 hA, Ri_l39 hA, Ri_r40 hA, Ri_w40 hA, Ri_l40 hA, Ri_r41 hA, Ri_w41 hA, Ri_l41 hA, Ri_r43 hA, Ri_w43 hA, Ri_l43 hA, eq_false k1, hc]
theorem z1768_1 {A : wK → Nat} {h : pm_H} {m D : Nat} {R : Outcome × pm_H} (hA : wok A Ri_d m) (hD : 0 ≤ D) {n : Nat} {a : Int32 × wS} {b : (wS)} (e : lp (f1768_b1) n a = some b) (hx : ex1768_1 A h D R b) : go1768_1 A h D R a := lp_run (fun a r => y1768_b1 hA hD a r) n a b e hx
theorem x1768 {A : wK → Nat} {h : pm_H} {m D : Nat} {S : wS} {r : wS} (hA : wok A Ri_d m) (hD : 1 ≤ D) (e : f1768 S = some r) : pm_call pm_prog D 1768 [.ref (A (0, 0, 0))] (wput A Ri_d S h) = some (.returned none, (wput A Ri_d r h)) := by
  obtain ⟨D, rfl⟩ : ∃ D', D = D' + 1 := ⟨D - 1, by omega⟩
  have hD : 0 ≤ D := by omega
  rw [c1768 (Ri_c hA), b1768_0]
  simp only [f1768] at e
  obtain ⟨S1, k1, e⟩ := Option.bind_eq_some_iff.mp e
  try dsimp only at e
  try simp -implicitDefEqProofs (disch := first | assumption | exact Nat.le_of_ble_eq_true rfl | decide) only [b1768_0, g1768_2, b1768_2, pe_aload0, pe_getfield, pe_putfield, pe_sipush, pe_istore1, pe_goto_w, pe_iload1, pe_icmp_ge, pe_imul, pe_iaload, pe_iastore, pe_iadd, pe_iinc1, pe_goto, pe_return, pm_prog_1, pm_ob_some, Nat.reduceDiv, Nat.reduceMod, Nat.reduceMul, Nat.reduceAdd, Int.reduceToNat, pm_kill_i, pm_kill_r, pm_kill_n, pm_kill_j, pm_kill_l, pm_kill_d, pm_cats_nil, pm_cats_i, pm_cats_r, pm_cats_n, pm_cats_l, pm_cats_d, sz_1, sz_2, sl_1, sl_2, lc_0, lc_lt, lc_le, li_ne, Int32.reduceOfInt, Int64.reduceOfInt, Int32.reduceOfNat, Int32.reduceLT, Int32.reduceLE, Prod.mk.injEq, Nat.reduceEqDiff, reduceCtorEq, and_true, true_and, and_false, false_and, and_self, ite_true, ite_false, ↓reduceIte, not_true_eq_false, not_false_eq_true, pe_ri, pe_rz, Ri_g42 hA, Ri_p36 hA, Ri_g36 hA, Ri_g37 hA, Ri_g43 hA, Ri_g38 hA, Ri_g39 hA, Ri_g40 hA, Ri_g41 hA, Ri_r37 hA, Ri_w37 hA, Ri_l37 hA, Ri_r38 hA, Ri_w38 hA, Ri_l38 hA, Ri_r39 hA, Ri_w39 hA, Ri_l39 hA, Ri_r40 hA, Ri_w40 hA, Ri_l40 hA, Ri_r41 hA, Ri_w41 hA, Ri_l41 hA, Ri_r43 hA, Ri_w43 hA, Ri_l43 hA]
  refine z1768_1 hA hD k1 ?_
  dsimp only [ex1768_1]
  intro q1
  have e := Option.some.inj e; subst e
  simp -implicitDefEqProofs (disch := first | assumption | exact Nat.le_of_ble_eq_true rfl | decide) only [b1768_0, g1768_2, b1768_2, pe_aload0, pe_getfield, pe_putfield, pe_sipush, pe_istore1, pe_goto_w, pe_iload1, pe_icmp_ge, pe_imul, pe_iaload, pe_iastore, pe_iadd, pe_iinc1, pe_goto, pe_return, pm_prog_1, pm_ob_some, Nat.reduceDiv, Nat.reduceMod, Nat.reduceMul, Nat.reduceAdd, Int.reduceToNat, pm_kill_i, pm_kill_r, pm_kill_n, pm_kill_j, pm_kill_l, pm_kill_d, pm_cats_nil, pm_cats_i, pm_cats_r, pm_cats_n, pm_cats_l, pm_cats_d, sz_1, sz_2, sl_1, sl_2, lc_0, lc_lt, lc_le, li_ne, Int32.reduceOfInt, Int64.reduceOfInt, Int32.reduceOfNat, Int32.reduceLT, Int32.reduceLE, Prod.mk.injEq, Nat.reduceEqDiff, reduceCtorEq, and_true, true_and, and_false, false_and, and_self, ite_true, ite_false, ↓reduceIte, not_true_eq_false, not_false_eq_true, pe_ri, pe_rz, Ri_g42 hA, Ri_p36 hA, Ri_g36 hA, Ri_g37 hA, Ri_g43 hA, Ri_g38 hA, Ri_g39 hA, Ri_g40 hA, Ri_g41 hA, Ri_r37 hA, Ri_w37 hA, Ri_l37 hA, Ri_r38 hA, Ri_w38 hA, Ri_l38 hA, Ri_r39 hA, Ri_w39 hA, Ri_l39 hA, Ri_r40 hA, Ri_w40 hA, Ri_l40 hA, Ri_r41 hA, Ri_w41 hA, Ri_l41 hA, Ri_r43 hA, Ri_w43 hA, Ri_l43 hA]
/-- TimberHouseModel$Rips.drop(I)V -/
theorem c1770 {d : Nat} {h : pm_H} {a : Nat} {x0 : Int32} (hc : pm_cls h a = some 27) : pm_call pm_prog (d + 1) 1770 [.ref a, .int x0] h = pm_ev pm_prog (pm_call pm_prog d) 1770 0 b1770_0 [.ref a, .int x0, pm_junk] [] h := pm_cal (pm_rc1 hc rfl) rfl rfl rfl
theorem g1770_1 {cl : pm_C} {ls st : List Value} {h : pm_H} : pm_go pm_prog cl 1770 1 ls st h = pm_ev pm_prog cl 1770 1 b1770_1 ls st h := pm_go_eq pm_prog cl 1770 1 ls st h
theorem g1770_2 {cl : pm_C} {ls st : List Value} {h : pm_H} : pm_go pm_prog cl 1770 2 ls st h = pm_ev pm_prog cl 1770 2 b1770_2 ls st h := pm_go_eq pm_prog cl 1770 2 ls st h
noncomputable def f1770_b1 : Int32 × wS → Option ((Int32 × wS) ⊕ ((wS))) := fun (x2, S) =>
  if x2 < (S.1 (0, 0, 0) 36) then
    if 0 ≤ x2 ∧ x2 < 240 then
      if 0 ≤ (x2 - 1) ∧ (x2 - 1) < 240 then
        some (.inl ((x2 + 1), (sz (sz (sz (sz (sz S (38, 0, 0) (x2 - 1) (S.1 (38, 0, 0) x2)) (39, 0, 0) (x2 - 1) (S.1 (39, 0, 0) x2)) (40, 0, 0) (x2 - 1) (S.1 (40, 0, 0) x2)) (41, 0, 0) (x2 - 1) (S.1 (41, 0, 0) x2)) (42, 0, 0) (x2 - 1) (S.1 (42, 0, 0) x2))))
      else none
    else none
  else
    some (.inr S)
/-- TimberHouseModel$Rips.drop(I)V -/
noncomputable def f1770 (S : wS) (x1 : Int32) : Option (wS) :=
  (lp (f1770_b1) FU ((x1 + 1), S)).bind fun S1 =>
  some (sz S1 (0, 0, 0) 36 ((S1.1 (0, 0, 0) 36) - 1))
def go1770_1 (A : wK → Nat) (h : pm_H) (D : Nat) (R : Outcome × pm_H) : Int32 × wS → Prop := fun (x2, S) => ∀ q1 : Value, pm_go pm_prog (pm_call pm_prog D) 1770 1 [.ref (A (0, 0, 0)), q1, .int x2] [] (wput A Ri_d S h) = some R
def ex1770_1 (A : wK → Nat) (h : pm_H) (D : Nat) (R : Outcome × pm_H) : (wS) → Prop := fun S => ∀ q1 q2 : Value, pm_go pm_prog (pm_call pm_prog D) 1770 2 [.ref (A (0, 0, 0)), q1, q2] [] (wput A Ri_d S h) = some R
theorem y1770_b1 {A : wK → Nat} {h : pm_H} {m D : Nat} {R : Outcome × pm_H} (hA : wok A Ri_d m) (hD : 0 ≤ D) (a : Int32 × wS) (r : (Int32 × wS) ⊕ ((wS))) (e : f1770_b1 a = some r) (hc : Sum.elim (go1770_1 A h D R) (ex1770_1 A h D R) r) : go1770_1 A h D R a := by
  obtain ⟨x2, S⟩ := a
  dsimp only [go1770_1]
  intro q1
  simp only [f1770_b1] at e
  rw [g1770_1, b1770_1]
  by_cases k1 : x2 < (S.1 (0, 0, 0) 36)
  · rw [if_pos k1] at e
    by_cases k2 : 0 ≤ x2 ∧ x2 < 240
    · rw [if_pos k2] at e
      by_cases k3 : 0 ≤ (x2 - 1) ∧ (x2 - 1) < 240
      · rw [if_pos k3] at e
        have e := Option.some.inj e; subst e
        dsimp only [Sum.elim_inl, go1770_1] at hc
        simp -implicitDefEqProofs (disch := first | assumption | exact Nat.le_of_ble_eq_true rfl | decide) only [b1770_0, g1770_2, b1770_2, pe_iload1, pe_sipush, pe_iadd, pe_istore2, pe_goto_w, pe_iload2, pe_aload0, pe_getfield, pe_icmp_ge, pe_isub, pe_iaload, pe_iastore, pe_iinc2, pe_goto, pe_dup_i, pe_dup_r, pe_putfield, pe_return, pm_prog_1, pm_ob_some, Nat.reduceDiv, Nat.reduceMod, Nat.reduceMul, Nat.reduceAdd, Int.reduceToNat, pm_kill_i, pm_kill_r, pm_kill_n, pm_kill_j, pm_kill_l, pm_kill_d, pm_cats_nil, pm_cats_i, pm_cats_r, pm_cats_n, pm_cats_l, pm_cats_d, sz_1, sz_2, sl_1, sl_2, lc_0, lc_lt, lc_le, li_ne, Int32.reduceOfInt, Int64.reduceOfInt, Int32.reduceOfNat, Int32.reduceLT, Int32.reduceLE, Prod.mk.injEq, Nat.reduceEqDiff, reduceCtorEq, and_true, true_and, and_false, false_and, and_self, ite_true, ite_false, ↓reduceIte, not_true_eq_false, not_false_eq_true, pe_ri, pe_rz, Ri_g36 hA, Ri_g37 hA, Ri_g38 hA, Ri_g39 hA, Ri_g40 hA, Ri_g41 hA, Ri_p36 hA, Ri_r37 hA, Ri_w37 hA, Ri_l37 hA, Ri_r38 hA, Ri_w38 hA, Ri_l38 hA, Ri_r39 hA, Ri_w39 hA, Ri_l39 hA, Ri_r40 hA, Ri_w40 hA, Ri_l40 hA, Ri_r41 hA, Ri_w41 hA, Ri_l41 hA, eq_true k1, hc]
      · rw [if_neg k3] at e; cases e
    · rw [if_neg k2] at e; cases e
  · rw [if_neg k1] at e
    have e := Option.some.inj e; subst e
    dsimp only [Sum.elim_inr, ex1770_1] at hc
    simp -implicitDefEqProofs (disch := first | assumption | exact Nat.le_of_ble_eq_true rfl | decide) only [b1770_0, g1770_2, b1770_2, pe_iload1, pe_sipush, pe_iadd, pe_istore2, pe_goto_w, pe_iload2, pe_aload0, pe_getfield, pe_icmp_ge, pe_isub, pe_iaload, pe_iastore, pe_iinc2, pe_goto, pe_dup_i, pe_dup_r, pe_putfield, pe_return, pm_prog_1, pm_ob_some, Nat.reduceDiv, Nat.reduceMod, Nat.reduceMul, Nat.reduceAdd, Int.reduceToNat, pm_kill_i, pm_kill_r, pm_kill_n, pm_kill_j, pm_kill_l, pm_kill_d, pm_cats_nil, pm_cats_i, pm_cats_r, pm_cats_n, pm_cats_l, pm_cats_d, sz_1, sz_2, sl_1, sl_2, lc_0, lc_lt, lc_le, li_ne, Int32.reduceOfInt, Int64.reduceOfInt, Int32.reduceOfNat, Int32.reduceLT, Int32.reduceLE, Prod.mk.injEq, Nat.reduceEqDiff, reduceCtorEq, and_true, true_and, and_false, false_and, and_self, ite_true, ite_false, ↓reduceIte, not_true_eq_false, not_false_eq_true, pe_ri, pe_rz, Ri_g36 hA, Ri_g37 hA, Ri_g38 hA, Ri_g39 hA, Ri_g40 hA, Ri_g41 hA, Ri_p36 hA, Ri_r37 hA, Ri_w37 hA, Ri_l37 hA, Ri_r38 hA, Ri_w38 hA, Ri_l38 hA, Ri_r39 hA, Ri_w39 hA, Ri_l39 hA, Ri_r40 hA, Ri_w40 hA, Ri_l40 hA, Ri_r41 hA, Ri_w41 hA, Ri_l41 hA, eq_false k1, hc]
theorem z1770_1 {A : wK → Nat} {h : pm_H} {m D : Nat} {R : Outcome × pm_H} (hA : wok A Ri_d m) (hD : 0 ≤ D) {n : Nat} {a : Int32 × wS} {b : (wS)} (e : lp (f1770_b1) n a = some b) (hx : ex1770_1 A h D R b) : go1770_1 A h D R a := lp_run (fun a r => y1770_b1 hA hD a r) n a b e hx
theorem x1770 {A : wK → Nat} {h : pm_H} {m D : Nat} {S : wS} {x1 : Int32} {r : wS} (hA : wok A Ri_d m) (hD : 1 ≤ D) (e : f1770 S x1 = some r) : pm_call pm_prog D 1770 [.ref (A (0, 0, 0)), .int x1] (wput A Ri_d S h) = some (.returned none, (wput A Ri_d r h)) := by
  obtain ⟨D, rfl⟩ : ∃ D', D = D' + 1 := ⟨D - 1, by omega⟩
  have hD : 0 ≤ D := by omega
  rw [c1770 (Ri_c hA), b1770_0]
  simp only [f1770] at e
  obtain ⟨S1, k1, e⟩ := Option.bind_eq_some_iff.mp e
  try dsimp only at e
  try simp -implicitDefEqProofs (disch := first | assumption | exact Nat.le_of_ble_eq_true rfl | decide) only [b1770_0, g1770_2, b1770_2, pe_iload1, pe_sipush, pe_iadd, pe_istore2, pe_goto_w, pe_iload2, pe_aload0, pe_getfield, pe_icmp_ge, pe_isub, pe_iaload, pe_iastore, pe_iinc2, pe_goto, pe_dup_i, pe_dup_r, pe_putfield, pe_return, pm_prog_1, pm_ob_some, Nat.reduceDiv, Nat.reduceMod, Nat.reduceMul, Nat.reduceAdd, Int.reduceToNat, pm_kill_i, pm_kill_r, pm_kill_n, pm_kill_j, pm_kill_l, pm_kill_d, pm_cats_nil, pm_cats_i, pm_cats_r, pm_cats_n, pm_cats_l, pm_cats_d, sz_1, sz_2, sl_1, sl_2, lc_0, lc_lt, lc_le, li_ne, Int32.reduceOfInt, Int64.reduceOfInt, Int32.reduceOfNat, Int32.reduceLT, Int32.reduceLE, Prod.mk.injEq, Nat.reduceEqDiff, reduceCtorEq, and_true, true_and, and_false, false_and, and_self, ite_true, ite_false, ↓reduceIte, not_true_eq_false, not_false_eq_true, pe_ri, pe_rz, Ri_g36 hA, Ri_g37 hA, Ri_g38 hA, Ri_g39 hA, Ri_g40 hA, Ri_g41 hA, Ri_p36 hA, Ri_r37 hA, Ri_w37 hA, Ri_l37 hA, Ri_r38 hA, Ri_w38 hA, Ri_l38 hA, Ri_r39 hA, Ri_w39 hA, Ri_l39 hA, Ri_r40 hA, Ri_w40 hA, Ri_l40 hA, Ri_r41 hA, Ri_w41 hA, Ri_l41 hA]
  refine z1770_1 hA hD k1 ?_ _
  dsimp only [ex1770_1]
  intro q1 q2
  have e := Option.some.inj e; subst e
  simp -implicitDefEqProofs (disch := first | assumption | exact Nat.le_of_ble_eq_true rfl | decide) only [b1770_0, g1770_2, b1770_2, pe_iload1, pe_sipush, pe_iadd, pe_istore2, pe_goto_w, pe_iload2, pe_aload0, pe_getfield, pe_icmp_ge, pe_isub, pe_iaload, pe_iastore, pe_iinc2, pe_goto, pe_dup_i, pe_dup_r, pe_putfield, pe_return, pm_prog_1, pm_ob_some, Nat.reduceDiv, Nat.reduceMod, Nat.reduceMul, Nat.reduceAdd, Int.reduceToNat, pm_kill_i, pm_kill_r, pm_kill_n, pm_kill_j, pm_kill_l, pm_kill_d, pm_cats_nil, pm_cats_i, pm_cats_r, pm_cats_n, pm_cats_l, pm_cats_d, sz_1, sz_2, sl_1, sl_2, lc_0, lc_lt, lc_le, li_ne, Int32.reduceOfInt, Int64.reduceOfInt, Int32.reduceOfNat, Int32.reduceLT, Int32.reduceLE, Prod.mk.injEq, Nat.reduceEqDiff, reduceCtorEq, and_true, true_and, and_false, false_and, and_self, ite_true, ite_false, ↓reduceIte, not_true_eq_false, not_false_eq_true, pe_ri, pe_rz, Ri_g36 hA, Ri_g37 hA, Ri_g38 hA, Ri_g39 hA, Ri_g40 hA, Ri_g41 hA, Ri_p36 hA, Ri_r37 hA, Ri_w37 hA, Ri_l37 hA, Ri_r38 hA, Ri_w38 hA, Ri_l38 hA, Ri_r39 hA, Ri_w39 hA, Ri_l39 hA, Ri_r40 hA, Ri_w40 hA, Ri_l40 hA, Ri_r41 hA, Ri_w41 hA, Ri_l41 hA]
/-- TimberHouseModel$Rips.dropTooMany()V -/
theorem c1769 {d : Nat} {h : pm_H} {a : Nat} (hc : pm_cls h a = some 27) : pm_call pm_prog (d + 1) 1769 [.ref a] h = pm_ev pm_prog (pm_call pm_prog d) 1769 0 b1769_0 [.ref a, pm_junk, pm_junk] [] h := pm_cal (pm_rc1 hc rfl) rfl rfl rfl
theorem g1769_1 {cl : pm_C} {ls st : List Value} {h : pm_H} : pm_go pm_prog cl 1769 1 ls st h = pm_ev pm_prog cl 1769 1 b1769_1 ls st h := pm_go_eq pm_prog cl 1769 1 ls st h
theorem g1769_2 {cl : pm_C} {ls st : List Value} {h : pm_H} : pm_go pm_prog cl 1769 2 ls st h = pm_ev pm_prog cl 1769 2 b1769_2 ls st h := pm_go_eq pm_prog cl 1769 2 ls st h
theorem g1769_3 {cl : pm_C} {ls st : List Value} {h : pm_H} : pm_go pm_prog cl 1769 3 ls st h = pm_ev pm_prog cl 1769 3 b1769_3 ls st h := pm_go_eq pm_prog cl 1769 3 ls st h
noncomputable def f1769_b1 : Int32 × wS → Option ((Int32 × wS) ⊕ ((wS))) := fun (x1, S) =>
  if x1 < 0 then
    some (.inr S)
  else
    if 0 ≤ x1 ∧ x1 < 240 then
      if 0 ≤ (S.1 (42, 0, 0) x1) ∧ (S.1 (42, 0, 0) x1) < 8 then
        if (S.1 (18, 0, 0) (S.1 (42, 0, 0) x1)) < 0 then
          some (.inl ((x1 + (-1)), S))
        else
          (f1764 S (S.1 (42, 0, 0) x1)).bind fun v1 =>
          if v1 ≤ (S.1 (18, 0, 0) (S.1 (42, 0, 0) x1)) then
            some (.inl ((x1 + (-1)), S))
          else
            (f1770 S x1).bind fun S2 =>
            some (.inl ((x1 + (-1)), S2))
      else none
    else none
/-- TimberHouseModel$Rips.dropTooMany()V -/
noncomputable def f1769 (S : wS) : Option (wS) :=
  (lp (f1769_b1) FU (((S.1 (0, 0, 0) 36) - 1), S)).bind fun S3 =>
  some S3
def go1769_1 (A : wK → Nat) (h : pm_H) (D : Nat) (R : Outcome × pm_H) : Int32 × wS → Prop := fun (x1, S) => ∀ q2 : Value, pm_go pm_prog (pm_call pm_prog D) 1769 1 [.ref (A (0, 0, 0)), .int x1, q2] [] (wput A Ri_d S h) = some R
def ex1769_1 (A : wK → Nat) (h : pm_H) (D : Nat) (R : Outcome × pm_H) : (wS) → Prop := fun S => ∀ q1 q2 : Value, pm_go pm_prog (pm_call pm_prog D) 1769 3 [.ref (A (0, 0, 0)), q1, q2] [] (wput A Ri_d S h) = some R
theorem y1769_b1 {A : wK → Nat} {h : pm_H} {m D : Nat} {R : Outcome × pm_H} (hA : wok A Ri_d m) (hD : 1 ≤ D) (a : Int32 × wS) (r : (Int32 × wS) ⊕ ((wS))) (e : f1769_b1 a = some r) (hc : Sum.elim (go1769_1 A h D R) (ex1769_1 A h D R) r) : go1769_1 A h D R a := by
  obtain ⟨x1, S⟩ := a
  dsimp only [go1769_1]
  intro q2
  simp only [f1769_b1] at e
  rw [g1769_1, b1769_1]
  by_cases k1 : x1 < 0
  · rw [if_pos k1] at e
    have e := Option.some.inj e; subst e
    dsimp only [Sum.elim_inr, ex1769_1] at hc
    simp -implicitDefEqProofs (disch := first | assumption | exact Nat.le_of_ble_eq_true rfl | decide) only [b1769_0, g1769_2, b1769_2, g1769_3, b1769_3, pe_aload0, pe_getfield, pe_sipush, pe_isub, pe_istore1, pe_goto_w, pe_iload1, pe_if_lt, pe_iaload, pe_istore2, pe_iload2, pe_call2, pm_af_ret, pm_af_void, pm_af_thr, pe_icmp_le, pe_iinc1, pe_goto, pe_return, pm_prog_1, pm_ob_some, Nat.reduceDiv, Nat.reduceMod, Nat.reduceMul, Nat.reduceAdd, Int.reduceToNat, pm_kill_i, pm_kill_r, pm_kill_n, pm_kill_j, pm_kill_l, pm_kill_d, pm_cats_nil, pm_cats_i, pm_cats_r, pm_cats_n, pm_cats_l, pm_cats_d, sz_1, sz_2, sl_1, sl_2, lc_0, lc_lt, lc_le, li_ne, Int32.reduceOfInt, Int64.reduceOfInt, Int32.reduceOfNat, Int32.reduceLT, Int32.reduceLE, Prod.mk.injEq, Nat.reduceEqDiff, reduceCtorEq, and_true, true_and, and_false, false_and, and_self, ite_true, ite_false, ↓reduceIte, not_true_eq_false, not_false_eq_true, pe_ri, pe_rz, Ri_g36 hA, Ri_g41 hA, Ri_g17 hA, Ri_r17 hA, Ri_w17 hA, Ri_l17 hA, Ri_r41 hA, Ri_w41 hA, Ri_l41 hA, eq_true k1, hc]
  · rw [if_neg k1] at e
    by_cases k2 : 0 ≤ x1 ∧ x1 < 240
    · rw [if_pos k2] at e
      by_cases k3 : 0 ≤ (S.1 (42, 0, 0) x1) ∧ (S.1 (42, 0, 0) x1) < 8
      · rw [if_pos k3] at e
        by_cases k4 : (S.1 (18, 0, 0) (S.1 (42, 0, 0) x1)) < 0
        · rw [if_pos k4] at e
          have e := Option.some.inj e; subst e
          dsimp only [Sum.elim_inl, go1769_1] at hc
          simp -implicitDefEqProofs (disch := first | assumption | exact Nat.le_of_ble_eq_true rfl | decide) only [b1769_0, g1769_2, b1769_2, g1769_3, b1769_3, pe_aload0, pe_getfield, pe_sipush, pe_isub, pe_istore1, pe_goto_w, pe_iload1, pe_if_lt, pe_iaload, pe_istore2, pe_iload2, pe_call2, pm_af_ret, pm_af_void, pm_af_thr, pe_icmp_le, pe_iinc1, pe_goto, pe_return, pm_prog_1, pm_ob_some, Nat.reduceDiv, Nat.reduceMod, Nat.reduceMul, Nat.reduceAdd, Int.reduceToNat, pm_kill_i, pm_kill_r, pm_kill_n, pm_kill_j, pm_kill_l, pm_kill_d, pm_cats_nil, pm_cats_i, pm_cats_r, pm_cats_n, pm_cats_l, pm_cats_d, sz_1, sz_2, sl_1, sl_2, lc_0, lc_lt, lc_le, li_ne, Int32.reduceOfInt, Int64.reduceOfInt, Int32.reduceOfNat, Int32.reduceLT, Int32.reduceLE, Prod.mk.injEq, Nat.reduceEqDiff, reduceCtorEq, and_true, true_and, and_false, false_and, and_self, ite_true, ite_false, ↓reduceIte, not_true_eq_false, not_false_eq_true, pe_ri, pe_rz, Ri_g36 hA, Ri_g41 hA, Ri_g17 hA, Ri_r17 hA, Ri_w17 hA, Ri_l17 hA, Ri_r41 hA, Ri_w41 hA, Ri_l41 hA, eq_false k1, eq_true k4, hc]
        · rw [if_neg k4] at e
          obtain ⟨v1, k5, e⟩ := Option.bind_eq_some_iff.mp e
          try dsimp only at e
          have z5 := x1764 (D := D) (h := h) hA (by omega) k5
          by_cases k6 : v1 ≤ (S.1 (18, 0, 0) (S.1 (42, 0, 0) x1))
          · rw [if_pos k6] at e
            have e := Option.some.inj e; subst e
            dsimp only [Sum.elim_inl, go1769_1] at hc
            simp -implicitDefEqProofs (disch := first | assumption | exact Nat.le_of_ble_eq_true rfl | decide) only [b1769_0, g1769_2, b1769_2, g1769_3, b1769_3, pe_aload0, pe_getfield, pe_sipush, pe_isub, pe_istore1, pe_goto_w, pe_iload1, pe_if_lt, pe_iaload, pe_istore2, pe_iload2, pe_call2, pm_af_ret, pm_af_void, pm_af_thr, pe_icmp_le, pe_iinc1, pe_goto, pe_return, pm_prog_1, pm_ob_some, Nat.reduceDiv, Nat.reduceMod, Nat.reduceMul, Nat.reduceAdd, Int.reduceToNat, pm_kill_i, pm_kill_r, pm_kill_n, pm_kill_j, pm_kill_l, pm_kill_d, pm_cats_nil, pm_cats_i, pm_cats_r, pm_cats_n, pm_cats_l, pm_cats_d, sz_1, sz_2, sl_1, sl_2, lc_0, lc_lt, lc_le, li_ne, Int32.reduceOfInt, Int64.reduceOfInt, Int32.reduceOfNat, Int32.reduceLT, Int32.reduceLE, Prod.mk.injEq, Nat.reduceEqDiff, reduceCtorEq, and_true, true_and, and_false, false_and, and_self, ite_true, ite_false, ↓reduceIte, not_true_eq_false, not_false_eq_true, pe_ri, pe_rz, Ri_g36 hA, Ri_g41 hA, Ri_g17 hA, Ri_r17 hA, Ri_w17 hA, Ri_l17 hA, Ri_r41 hA, Ri_w41 hA, Ri_l41 hA, eq_false k1, eq_false k4, z5, eq_true k6, hc]
          · rw [if_neg k6] at e
            obtain ⟨S2, k7, e⟩ := Option.bind_eq_some_iff.mp e
            try dsimp only at e
            have z7 := x1770 (D := D) (h := h) hA (by omega) k7
            have e := Option.some.inj e; subst e
            dsimp only [Sum.elim_inl, go1769_1] at hc
            simp -implicitDefEqProofs (disch := first | assumption | exact Nat.le_of_ble_eq_true rfl | decide) only [b1769_0, g1769_2, b1769_2, g1769_3, b1769_3, pe_aload0, pe_getfield, pe_sipush, pe_isub, pe_istore1, pe_goto_w, pe_iload1, pe_if_lt, pe_iaload, pe_istore2, pe_iload2, pe_call2, pm_af_ret, pm_af_void, pm_af_thr, pe_icmp_le, pe_iinc1, pe_goto, pe_return, pm_prog_1, pm_ob_some, Nat.reduceDiv, Nat.reduceMod, Nat.reduceMul, Nat.reduceAdd, Int.reduceToNat, pm_kill_i, pm_kill_r, pm_kill_n, pm_kill_j, pm_kill_l, pm_kill_d, pm_cats_nil, pm_cats_i, pm_cats_r, pm_cats_n, pm_cats_l, pm_cats_d, sz_1, sz_2, sl_1, sl_2, lc_0, lc_lt, lc_le, li_ne, Int32.reduceOfInt, Int64.reduceOfInt, Int32.reduceOfNat, Int32.reduceLT, Int32.reduceLE, Prod.mk.injEq, Nat.reduceEqDiff, reduceCtorEq, and_true, true_and, and_false, false_and, and_self, ite_true, ite_false, ↓reduceIte, not_true_eq_false, not_false_eq_true, pe_ri, pe_rz, Ri_g36 hA, Ri_g41 hA, Ri_g17 hA, Ri_r17 hA, Ri_w17 hA, Ri_l17 hA, Ri_r41 hA, Ri_w41 hA, Ri_l41 hA, eq_false k1, eq_false k4, z5, eq_false k6, z7, hc]
      · rw [if_neg k3] at e; cases e
    · rw [if_neg k2] at e; cases e
theorem z1769_1 {A : wK → Nat} {h : pm_H} {m D : Nat} {R : Outcome × pm_H} (hA : wok A Ri_d m) (hD : 1 ≤ D) {n : Nat} {a : Int32 × wS} {b : (wS)} (e : lp (f1769_b1) n a = some b) (hx : ex1769_1 A h D R b) : go1769_1 A h D R a := lp_run (fun a r => y1769_b1 hA hD a r) n a b e hx
theorem x1769 {A : wK → Nat} {h : pm_H} {m D : Nat} {S : wS} {r : wS} (hA : wok A Ri_d m) (hD : 2 ≤ D) (e : f1769 S = some r) : pm_call pm_prog D 1769 [.ref (A (0, 0, 0))] (wput A Ri_d S h) = some (.returned none, (wput A Ri_d r h)) := by
  obtain ⟨D, rfl⟩ : ∃ D', D = D' + 1 := ⟨D - 1, by omega⟩
  have hD : 1 ≤ D := by omega
  rw [c1769 (Ri_c hA), b1769_0]
  simp only [f1769] at e
  obtain ⟨S3, k1, e⟩ := Option.bind_eq_some_iff.mp e
  try dsimp only at e
  try simp -implicitDefEqProofs (disch := first | assumption | exact Nat.le_of_ble_eq_true rfl | decide) only [b1769_0, g1769_2, b1769_2, g1769_3, b1769_3, pe_aload0, pe_getfield, pe_sipush, pe_isub, pe_istore1, pe_goto_w, pe_iload1, pe_if_lt, pe_iaload, pe_istore2, pe_iload2, pe_call2, pm_af_ret, pm_af_void, pm_af_thr, pe_icmp_le, pe_iinc1, pe_goto, pe_return, pm_prog_1, pm_ob_some, Nat.reduceDiv, Nat.reduceMod, Nat.reduceMul, Nat.reduceAdd, Int.reduceToNat, pm_kill_i, pm_kill_r, pm_kill_n, pm_kill_j, pm_kill_l, pm_kill_d, pm_cats_nil, pm_cats_i, pm_cats_r, pm_cats_n, pm_cats_l, pm_cats_d, sz_1, sz_2, sl_1, sl_2, lc_0, lc_lt, lc_le, li_ne, Int32.reduceOfInt, Int64.reduceOfInt, Int32.reduceOfNat, Int32.reduceLT, Int32.reduceLE, Prod.mk.injEq, Nat.reduceEqDiff, reduceCtorEq, and_true, true_and, and_false, false_and, and_self, ite_true, ite_false, ↓reduceIte, not_true_eq_false, not_false_eq_true, pe_ri, pe_rz, Ri_g36 hA, Ri_g41 hA, Ri_g17 hA, Ri_r17 hA, Ri_w17 hA, Ri_l17 hA, Ri_r41 hA, Ri_w41 hA, Ri_l41 hA]
  refine z1769_1 hA hD k1 ?_ _
  dsimp only [ex1769_1]
  intro q1 q2
  have e := Option.some.inj e; subst e
  simp -implicitDefEqProofs (disch := first | assumption | exact Nat.le_of_ble_eq_true rfl | decide) only [b1769_0, g1769_2, b1769_2, g1769_3, b1769_3, pe_aload0, pe_getfield, pe_sipush, pe_isub, pe_istore1, pe_goto_w, pe_iload1, pe_if_lt, pe_iaload, pe_istore2, pe_iload2, pe_call2, pm_af_ret, pm_af_void, pm_af_thr, pe_icmp_le, pe_iinc1, pe_goto, pe_return, pm_prog_1, pm_ob_some, Nat.reduceDiv, Nat.reduceMod, Nat.reduceMul, Nat.reduceAdd, Int.reduceToNat, pm_kill_i, pm_kill_r, pm_kill_n, pm_kill_j, pm_kill_l, pm_kill_d, pm_cats_nil, pm_cats_i, pm_cats_r, pm_cats_n, pm_cats_l, pm_cats_d, sz_1, sz_2, sl_1, sl_2, lc_0, lc_lt, lc_le, li_ne, Int32.reduceOfInt, Int64.reduceOfInt, Int32.reduceOfNat, Int32.reduceLT, Int32.reduceLE, Prod.mk.injEq, Nat.reduceEqDiff, reduceCtorEq, and_true, true_and, and_false, false_and, and_self, ite_true, ite_false, ↓reduceIte, not_true_eq_false, not_false_eq_true, pe_ri, pe_rz, Ri_g36 hA, Ri_g41 hA, Ri_g17 hA, Ri_r17 hA, Ri_w17 hA, Ri_l17 hA, Ri_r41 hA, Ri_w41 hA, Ri_l41 hA]
/-- TimberHouseModel$Rips.prices(I)I -/
theorem c1762 {d : Nat} {h : pm_H} {a : Nat} {x0 : Int32} (hc : pm_cls h a = some 27) : pm_call pm_prog (d + 1) 1762 [.ref a, .int x0] h = pm_ev pm_prog (pm_call pm_prog d) 1762 0 b1762_0 [.ref a, .int x0, pm_junk, pm_junk, pm_junk, pm_junk, pm_junk, pm_junk, pm_junk, pm_junk] [] h := pm_cal (pm_rc1 hc rfl) rfl rfl rfl
theorem g1762_1 {cl : pm_C} {ls st : List Value} {h : pm_H} : pm_go pm_prog cl 1762 1 ls st h = pm_ev pm_prog cl 1762 1 b1762_1 ls st h := pm_go_eq pm_prog cl 1762 1 ls st h
theorem g1762_2 {cl : pm_C} {ls st : List Value} {h : pm_H} : pm_go pm_prog cl 1762 2 ls st h = pm_ev pm_prog cl 1762 2 b1762_2 ls st h := pm_go_eq pm_prog cl 1762 2 ls st h
theorem g1762_3 {cl : pm_C} {ls st : List Value} {h : pm_H} : pm_go pm_prog cl 1762 3 ls st h = pm_ev pm_prog cl 1762 3 b1762_3 ls st h := pm_go_eq pm_prog cl 1762 3 ls st h
theorem g1762_4 {cl : pm_C} {ls st : List Value} {h : pm_H} : pm_go pm_prog cl 1762 4 ls st h = pm_ev pm_prog cl 1762 4 b1762_4 ls st h := pm_go_eq pm_prog cl 1762 4 ls st h
theorem g1762_5 {cl : pm_C} {ls st : List Value} {h : pm_H} : pm_go pm_prog cl 1762 5 ls st h = pm_ev pm_prog cl 1762 5 b1762_5 ls st h := pm_go_eq pm_prog cl 1762 5 ls st h
theorem g1762_6 {cl : pm_C} {ls st : List Value} {h : pm_H} : pm_go pm_prog cl 1762 6 ls st h = pm_ev pm_prog cl 1762 6 b1762_6 ls st h := pm_go_eq pm_prog cl 1762 6 ls st h
theorem g1762_7 {cl : pm_C} {ls st : List Value} {h : pm_H} : pm_go pm_prog cl 1762 7 ls st h = pm_ev pm_prog cl 1762 7 b1762_7 ls st h := pm_go_eq pm_prog cl 1762 7 ls st h
theorem g1762_8 {cl : pm_C} {ls st : List Value} {h : pm_H} : pm_go pm_prog cl 1762 8 ls st h = pm_ev pm_prog cl 1762 8 b1762_8 ls st h := pm_go_eq pm_prog cl 1762 8 ls st h
theorem g1762_9 {cl : pm_C} {ls st : List Value} {h : pm_H} : pm_go pm_prog cl 1762 9 ls st h = pm_ev pm_prog cl 1762 9 b1762_9 ls st h := pm_go_eq pm_prog cl 1762 9 ls st h
theorem g1762_10 {cl : pm_C} {ls st : List Value} {h : pm_H} : pm_go pm_prog cl 1762 10 ls st h = pm_ev pm_prog cl 1762 10 b1762_10 ls st h := pm_go_eq pm_prog cl 1762 10 ls st h
theorem g1762_11 {cl : pm_C} {ls st : List Value} {h : pm_H} : pm_go pm_prog cl 1762 11 ls st h = pm_ev pm_prog cl 1762 11 b1762_11 ls st h := pm_go_eq pm_prog cl 1762 11 ls st h
theorem g1762_12 {cl : pm_C} {ls st : List Value} {h : pm_H} : pm_go pm_prog cl 1762 12 ls st h = pm_ev pm_prog cl 1762 12 b1762_12 ls st h := pm_go_eq pm_prog cl 1762 12 ls st h
theorem g1762_13 {cl : pm_C} {ls st : List Value} {h : pm_H} : pm_go pm_prog cl 1762 13 ls st h = pm_ev pm_prog cl 1762 13 b1762_13 ls st h := pm_go_eq pm_prog cl 1762 13 ls st h
theorem g1762_14 {cl : pm_C} {ls st : List Value} {h : pm_H} : pm_go pm_prog cl 1762 14 ls st h = pm_ev pm_prog cl 1762 14 b1762_14 ls st h := pm_go_eq pm_prog cl 1762 14 ls st h
theorem g1762_15 {cl : pm_C} {ls st : List Value} {h : pm_H} : pm_go pm_prog cl 1762 15 ls st h = pm_ev pm_prog cl 1762 15 b1762_15 ls st h := pm_go_eq pm_prog cl 1762 15 ls st h
theorem g1762_16 {cl : pm_C} {ls st : List Value} {h : pm_H} : pm_go pm_prog cl 1762 16 ls st h = pm_ev pm_prog cl 1762 16 b1762_16 ls st h := pm_go_eq pm_prog cl 1762 16 ls st h
theorem g1762_17 {cl : pm_C} {ls st : List Value} {h : pm_H} : pm_go pm_prog cl 1762 17 ls st h = pm_ev pm_prog cl 1762 17 b1762_17 ls st h := pm_go_eq pm_prog cl 1762 17 ls st h
theorem g1762_18 {cl : pm_C} {ls st : List Value} {h : pm_H} : pm_go pm_prog cl 1762 18 ls st h = pm_ev pm_prog cl 1762 18 b1762_18 ls st h := pm_go_eq pm_prog cl 1762 18 ls st h
noncomputable def f1762_b4 : Int32 × Int32 × wS → Option ((Int32 × Int32 × wS) ⊕ ((Int32 × wS))) := fun (x1, x2, S) =>
  if x2 < 8 then
    if 0 ≤ x2 ∧ x2 < 8 then
      some (.inl (x1, (x2 + 1), (sl S (19, 0, 0) x2 0)))
    else none
  else
    some (.inr (x1, S))
noncomputable def f1762_b7 (S : wS) : Int32 × Int32 × Int64 × Int32 × Int64 × Int32 → Option ((Int32 × Int32 × Int64 × Int32 × Int64 × Int32) ⊕ ((Int32 × Int32 × Int64 × Int32 × Int64))) := fun (x1, x2, x4, x6, x7, x9) =>
  if x9 < (S.1 (0, 0, 0) 11) then
    if 0 ≤ x9 ∧ x9 < 8 then
      if (S.1 (18, 0, 0) x9) < 0 then
        some (.inl (x1, x2, x4, x6, (x7 + 0), (x9 + 1)))
      else
        some (.inl (x1, x2, x4, x6, (x7 + ((S.2 (19, 0, 0) x9) * (Int32.toInt64 (S.1 (18, 0, 0) x9)))), (x9 + 1)))
    else none
  else
    some (.inr (x1, x2, x4, x6, x7))
noncomputable def f1762_15_6 (S : wS) (x1 : Int32) (x2 : Int32) (x4 : Int64) (x6 : Int32) : Option ((Int32 × Int32 × Int32 × Int64 × Int32 × wS) ⊕ ((Int32 × Int32 × wS))) :=
  (f1763 S 1).bind fun v12 =>
  (f1767 S x6).bind fun S13 =>
  some (.inl (x1, x2, v12, x4, x6, S13))
noncomputable def f1762_14_6 (S : wS) (x1 : Int32) (x6 : Int32) : Option ((Int32 × Int32 × Int32 × Int64 × Int32 × wS) ⊕ ((Int32 × Int32 × wS))) :=
  (f1765 S).bind fun v14 =>
  (f1766 S).bind fun S15 =>
  f1762_15_6 S15 x1 1 v14 x6
noncomputable def f1762_13_6 (S : wS) (x1 : Int32) (x2 : Int32) (x4 : Int64) (x6 : Int32) (y1 : Int64) : Option ((Int32 × Int32 × Int32 × Int64 × Int32 × wS) ⊕ ((Int32 × Int32 × wS))) :=
  (f1763 (sl S (0, 0, 0) 44 y1) 0).bind fun v11 =>
  if v11 = 0 then
    f1762_15_6 (sl S (0, 0, 0) 44 y1) x1 x2 x4 x6
  else
    if x2 = 0 then
      f1762_14_6 (sl S (0, 0, 0) 44 y1) x1 x6
    else
      (f1765 (sl S (0, 0, 0) 44 y1)).bind fun v16 =>
      if v16 ≤ x4 then
        f1762_15_6 (sl S (0, 0, 0) 44 y1) x1 x2 x4 x6
      else
        f1762_14_6 (sl S (0, 0, 0) 44 y1) x1 x6
noncomputable def f1762_b6 : Int32 × Int32 × Int32 × Int64 × Int32 × wS → Option ((Int32 × Int32 × Int32 × Int64 × Int32 × wS) ⊕ ((Int32 × Int32 × wS))) := fun (x1, x2, x3, x4, x6, S) =>
  if x6 < x1 then
    if x3 = 0 then
      (f1743 S).bind fun (v4, S5) =>
      (lp (f1762_b7 S5) FU (x1, x2, x4, (x6 + 1), v4, 0)).bind fun (v6, v7, v8, v9, v10) =>
      if v9 = 1 then
        f1762_13_6 S5 v6 v7 v8 v9 v10
      else
        if v10 < (S5.2 (0, 0, 0) 44) then
          f1762_13_6 S5 v6 v7 v8 v9 v10
        else
          f1762_13_6 S5 v6 v7 v8 v9 (S5.2 (0, 0, 0) 44)
    else
      some (.inr (x2, x6, S))
  else
    some (.inr (x2, x6, S))
noncomputable def f1762_16 (S : wS) (x2 : Int32) (x6 : Int32) : Option (Int32 × wS) :=
  if x2 = 0 then
    (f1769 S).bind fun S20 =>
    some (x6, (sz S20 (0, 0, 0) 33 1))
  else
    (f1768 S).bind fun S21 =>
    some (x6, (sz S21 (0, 0, 0) 33 1))
noncomputable def f1762_2 (S : wS) (x1 : Int32) (y1 : Int32) : Option (Int32 × wS) :=
  if y1 ≤ 0 then
    (lp (f1762_b4) FU (x1, 0, (sz S (0, 0, 0) 0 y1))).bind fun (v2, S3) =>
    (lp (f1762_b6) FU (v2, 0, 0, 0, 0, S3)).bind fun (v17, v18, S19) =>
    f1762_16 S19 v17 v18
  else
    some (0, (sz S (0, 0, 0) 0 y1))
/-- TimberHouseModel$Rips.prices(I)I -/
noncomputable def f1762 (S : wS) (x1 : Int32) : Option (Int32 × wS) :=
  (f1731 (Int32.toInt64 x1) 1 6).bind fun v1 =>
  if v1 = 0 then
    f1762_2 S x1 1
  else
    f1762_2 S x1 0
def go1762_4 (A : wK → Nat) (h : pm_H) (D : Nat) (R : Outcome × pm_H) : Int32 × Int32 × wS → Prop := fun (x1, x2, S) => ∀ q3 q4 q5 q6 q7 q8 q9 : Value, pm_go pm_prog (pm_call pm_prog D) 1762 4 [.ref (A (0, 0, 0)), .int x1, .int x2, q3, q4, q5, q6, q7, q8, q9] [] (wput A Ri_d S h) = some R
def ex1762_4 (A : wK → Nat) (h : pm_H) (D : Nat) (R : Outcome × pm_H) : (Int32 × wS) → Prop := fun (x1, S) => ∀ q2 q3 q4 q5 q6 q7 q8 q9 : Value, pm_go pm_prog (pm_call pm_prog D) 1762 5 [.ref (A (0, 0, 0)), .int x1, q2, q3, q4, q5, q6, q7, q8, q9] [] (wput A Ri_d S h) = some R
theorem y1762_b4 {A : wK → Nat} {h : pm_H} {m D : Nat} {R : Outcome × pm_H} (hA : wok A Ri_d m) (hD : 7 ≤ D) (a : Int32 × Int32 × wS) (r : (Int32 × Int32 × wS) ⊕ ((Int32 × wS))) (e : f1762_b4 a = some r) (hc : Sum.elim (go1762_4 A h D R) (ex1762_4 A h D R) r) : go1762_4 A h D R a := by
  obtain ⟨x1, x2, S⟩ := a
  dsimp only [go1762_4]
  intro q3 q4 q5 q6 q7 q8 q9
  simp only [f1762_b4] at e
  rw [g1762_4, b1762_4]
  by_cases k1 : x2 < 8
  · rw [if_pos k1] at e
    by_cases k2 : 0 ≤ x2 ∧ x2 < 8
    · rw [if_pos k2] at e
      have e := Option.some.inj e; subst e
      dsimp only [Sum.elim_inl, go1762_4] at hc
      simp -implicitDefEqProofs (disch := first | assumption | exact Nat.le_of_ble_eq_true rfl | decide) only [b1762_0, g1762_1, b1762_1, g1762_3, b1762_3, g1762_5, b1762_5, g1762_8, b1762_8, g1762_9, b1762_9, g1762_10, b1762_10, g1762_11, b1762_11, g1762_12, b1762_12, g1762_17, b1762_17, g1762_18, b1762_18, pe_aload0, pe_iload1, pe_i2l, pe_bipush, pe_call3, pm_af_ret, pm_af_void, pm_af_thr, pe_if_eq, pe_sipush, pe_goto, pe_goto_w, pe_putfield, pe_getfield, pe_if_le, pe_istore2, pe_iload2, pe_icmp_ge, pe_lastore, pe_iinc2, pe_istore3, pe_lstore4, pe_istore6, pe_iload6, pe_iload3, pe_if_ne, pe_iinc6, pe_call1, pe_lstore7, pe_istore9, pe_iload9, pe_lload7, pe_iaload, pe_if_ge, pe_laload, pe_lmul, pe_ladd, pe_iinc9, pe_icmp_eq, pe_lcmp, pe_call2, pe_lload4, pm_prog_1, pm_ob_some, Nat.reduceDiv, Nat.reduceMod, Nat.reduceMul, Nat.reduceAdd, Int.reduceToNat, pm_kill_i, pm_kill_r, pm_kill_n, pm_kill_j, pm_kill_l, pm_kill_d, pm_cats_nil, pm_cats_i, pm_cats_r, pm_cats_n, pm_cats_l, pm_cats_d, sz_1, sz_2, sl_1, sl_2, lc_0, lc_lt, lc_le, li_ne, Int32.reduceOfInt, Int64.reduceOfInt, Int32.reduceOfNat, Int32.reduceLT, Int32.reduceLE, Prod.mk.injEq, Nat.reduceEqDiff, reduceCtorEq, and_true, true_and, and_false, false_and, and_self, ite_true, ite_false, ↓reduceIte, not_true_eq_false, not_false_eq_true, pe_ri, pe_rz, Ri_p0 hA, Ri_g0 hA, Ri_g18 hA, Ri_g11 hA, Ri_g17 hA, Ri_g44 hA, Ri_p44 hA, Ri_p33 hA, Ri_r17 hA, Ri_w17 hA, Ri_l17 hA, Ri_r18 hA, Ri_w18 hA, Ri_l18 hA, eq_true k1, hc]
    · rw [if_neg k2] at e; cases e
  · rw [if_neg k1] at e
    have e := Option.some.inj e; subst e
    dsimp only [Sum.elim_inr, ex1762_4] at hc
    simp -implicitDefEqProofs (disch := first | assumption | exact Nat.le_of_ble_eq_true rfl | decide) only [b1762_0, g1762_1, b1762_1, g1762_3, b1762_3, g1762_5, b1762_5, g1762_8, b1762_8, g1762_9, b1762_9, g1762_10, b1762_10, g1762_11, b1762_11, g1762_12, b1762_12, g1762_17, b1762_17, g1762_18, b1762_18, pe_aload0, pe_iload1, pe_i2l, pe_bipush, pe_call3, pm_af_ret, pm_af_void, pm_af_thr, pe_if_eq, pe_sipush, pe_goto, pe_goto_w, pe_putfield, pe_getfield, pe_if_le, pe_istore2, pe_iload2, pe_icmp_ge, pe_lastore, pe_iinc2, pe_istore3, pe_lstore4, pe_istore6, pe_iload6, pe_iload3, pe_if_ne, pe_iinc6, pe_call1, pe_lstore7, pe_istore9, pe_iload9, pe_lload7, pe_iaload, pe_if_ge, pe_laload, pe_lmul, pe_ladd, pe_iinc9, pe_icmp_eq, pe_lcmp, pe_call2, pe_lload4, pm_prog_1, pm_ob_some, Nat.reduceDiv, Nat.reduceMod, Nat.reduceMul, Nat.reduceAdd, Int.reduceToNat, pm_kill_i, pm_kill_r, pm_kill_n, pm_kill_j, pm_kill_l, pm_kill_d, pm_cats_nil, pm_cats_i, pm_cats_r, pm_cats_n, pm_cats_l, pm_cats_d, sz_1, sz_2, sl_1, sl_2, lc_0, lc_lt, lc_le, li_ne, Int32.reduceOfInt, Int64.reduceOfInt, Int32.reduceOfNat, Int32.reduceLT, Int32.reduceLE, Prod.mk.injEq, Nat.reduceEqDiff, reduceCtorEq, and_true, true_and, and_false, false_and, and_self, ite_true, ite_false, ↓reduceIte, not_true_eq_false, not_false_eq_true, pe_ri, pe_rz, Ri_p0 hA, Ri_g0 hA, Ri_g18 hA, Ri_g11 hA, Ri_g17 hA, Ri_g44 hA, Ri_p44 hA, Ri_p33 hA, Ri_r17 hA, Ri_w17 hA, Ri_l17 hA, Ri_r18 hA, Ri_w18 hA, Ri_l18 hA, eq_false k1, hc]
theorem z1762_4 {A : wK → Nat} {h : pm_H} {m D : Nat} {R : Outcome × pm_H} (hA : wok A Ri_d m) (hD : 7 ≤ D) {n : Nat} {a : Int32 × Int32 × wS} {b : (Int32 × wS)} (e : lp (f1762_b4) n a = some b) (hx : ex1762_4 A h D R b) : go1762_4 A h D R a := lp_run (fun a r => y1762_b4 hA hD a r) n a b e hx
def go1762_7 (A : wK → Nat) (h : pm_H) (D : Nat) (R : Outcome × pm_H) (S : wS) : Int32 × Int32 × Int64 × Int32 × Int64 × Int32 → Prop := fun (x1, x2, x4, x6, x7, x9) => ∀ q3 : Value, pm_go pm_prog (pm_call pm_prog D) 1762 7 [.ref (A (0, 0, 0)), .int x1, .int x2, q3, .long x4, pm_junk, .int x6, .long x7, pm_junk, .int x9] [] (wput A Ri_d S h) = some R
def ex1762_7 (A : wK → Nat) (h : pm_H) (D : Nat) (R : Outcome × pm_H) (S : wS) : (Int32 × Int32 × Int64 × Int32 × Int64) → Prop := fun (x1, x2, x4, x6, x7) => ∀ q3 q9 : Value, pm_go pm_prog (pm_call pm_prog D) 1762 10 [.ref (A (0, 0, 0)), .int x1, .int x2, q3, .long x4, pm_junk, .int x6, .long x7, pm_junk, q9] [] (wput A Ri_d S h) = some R
theorem y1762_b7 {A : wK → Nat} {h : pm_H} {m D : Nat} {R : Outcome × pm_H} {S : wS} (hA : wok A Ri_d m) (hD : 7 ≤ D) (a : Int32 × Int32 × Int64 × Int32 × Int64 × Int32) (r : (Int32 × Int32 × Int64 × Int32 × Int64 × Int32) ⊕ ((Int32 × Int32 × Int64 × Int32 × Int64))) (e : f1762_b7 S a = some r) (hc : Sum.elim (go1762_7 A h D R S) (ex1762_7 A h D R S) r) : go1762_7 A h D R S a := by
  obtain ⟨x1, x2, x4, x6, x7, x9⟩ := a
  dsimp only [go1762_7]
  intro q3
  simp only [f1762_b7] at e
  rw [g1762_7, b1762_7]
  by_cases k1 : x9 < (S.1 (0, 0, 0) 11)
  · rw [if_pos k1] at e
    by_cases k2 : 0 ≤ x9 ∧ x9 < 8
    · rw [if_pos k2] at e
      by_cases k3 : (S.1 (18, 0, 0) x9) < 0
      · rw [if_pos k3] at e
        have e := Option.some.inj e; subst e
        dsimp only [Sum.elim_inl, go1762_7] at hc
        simp -implicitDefEqProofs (disch := first | assumption | exact Nat.le_of_ble_eq_true rfl | decide) only [b1762_0, g1762_1, b1762_1, g1762_3, b1762_3, g1762_5, b1762_5, g1762_8, b1762_8, g1762_9, b1762_9, g1762_10, b1762_10, g1762_11, b1762_11, g1762_12, b1762_12, g1762_17, b1762_17, g1762_18, b1762_18, pe_aload0, pe_iload1, pe_i2l, pe_bipush, pe_call3, pm_af_ret, pm_af_void, pm_af_thr, pe_if_eq, pe_sipush, pe_goto, pe_goto_w, pe_putfield, pe_getfield, pe_if_le, pe_istore2, pe_iload2, pe_icmp_ge, pe_lastore, pe_iinc2, pe_istore3, pe_lstore4, pe_istore6, pe_iload6, pe_iload3, pe_if_ne, pe_iinc6, pe_call1, pe_lstore7, pe_istore9, pe_iload9, pe_lload7, pe_iaload, pe_if_ge, pe_laload, pe_lmul, pe_ladd, pe_iinc9, pe_icmp_eq, pe_lcmp, pe_call2, pe_lload4, pm_prog_1, pm_ob_some, Nat.reduceDiv, Nat.reduceMod, Nat.reduceMul, Nat.reduceAdd, Int.reduceToNat, pm_kill_i, pm_kill_r, pm_kill_n, pm_kill_j, pm_kill_l, pm_kill_d, pm_cats_nil, pm_cats_i, pm_cats_r, pm_cats_n, pm_cats_l, pm_cats_d, sz_1, sz_2, sl_1, sl_2, lc_0, lc_lt, lc_le, li_ne, Int32.reduceOfInt, Int64.reduceOfInt, Int32.reduceOfNat, Int32.reduceLT, Int32.reduceLE, Prod.mk.injEq, Nat.reduceEqDiff, reduceCtorEq, and_true, true_and, and_false, false_and, and_self, ite_true, ite_false, ↓reduceIte, not_true_eq_false, not_false_eq_true, pe_ri, pe_rz, Ri_p0 hA, Ri_g0 hA, Ri_g18 hA, Ri_g11 hA, Ri_g17 hA, Ri_g44 hA, Ri_p44 hA, Ri_p33 hA, Ri_r17 hA, Ri_w17 hA, Ri_l17 hA, Ri_r18 hA, Ri_w18 hA, Ri_l18 hA, eq_true k1, eq_true k3, hc]
      · rw [if_neg k3] at e
        have e := Option.some.inj e; subst e
        dsimp only [Sum.elim_inl, go1762_7] at hc
        simp -implicitDefEqProofs (disch := first | assumption | exact Nat.le_of_ble_eq_true rfl | decide) only [b1762_0, g1762_1, b1762_1, g1762_3, b1762_3, g1762_5, b1762_5, g1762_8, b1762_8, g1762_9, b1762_9, g1762_10, b1762_10, g1762_11, b1762_11, g1762_12, b1762_12, g1762_17, b1762_17, g1762_18, b1762_18, pe_aload0, pe_iload1, pe_i2l, pe_bipush, pe_call3, pm_af_ret, pm_af_void, pm_af_thr, pe_if_eq, pe_sipush, pe_goto, pe_goto_w, pe_putfield, pe_getfield, pe_if_le, pe_istore2, pe_iload2, pe_icmp_ge, pe_lastore, pe_iinc2, pe_istore3, pe_lstore4, pe_istore6, pe_iload6, pe_iload3, pe_if_ne, pe_iinc6, pe_call1, pe_lstore7, pe_istore9, pe_iload9, pe_lload7, pe_iaload, pe_if_ge, pe_laload, pe_lmul, pe_ladd, pe_iinc9, pe_icmp_eq, pe_lcmp, pe_call2, pe_lload4, pm_prog_1, pm_ob_some, Nat.reduceDiv, Nat.reduceMod, Nat.reduceMul, Nat.reduceAdd, Int.reduceToNat, pm_kill_i, pm_kill_r, pm_kill_n, pm_kill_j, pm_kill_l, pm_kill_d, pm_cats_nil, pm_cats_i, pm_cats_r, pm_cats_n, pm_cats_l, pm_cats_d, sz_1, sz_2, sl_1, sl_2, lc_0, lc_lt, lc_le, li_ne, Int32.reduceOfInt, Int64.reduceOfInt, Int32.reduceOfNat, Int32.reduceLT, Int32.reduceLE, Prod.mk.injEq, Nat.reduceEqDiff, reduceCtorEq, and_true, true_and, and_false, false_and, and_self, ite_true, ite_false, ↓reduceIte, not_true_eq_false, not_false_eq_true, pe_ri, pe_rz, Ri_p0 hA, Ri_g0 hA, Ri_g18 hA, Ri_g11 hA, Ri_g17 hA, Ri_g44 hA, Ri_p44 hA, Ri_p33 hA, Ri_r17 hA, Ri_w17 hA, Ri_l17 hA, Ri_r18 hA, Ri_w18 hA, Ri_l18 hA, eq_true k1, eq_false k3, hc]
    · rw [if_neg k2] at e; cases e
  · rw [if_neg k1] at e
    have e := Option.some.inj e; subst e
    dsimp only [Sum.elim_inr, ex1762_7] at hc
    simp -implicitDefEqProofs (disch := first | assumption | exact Nat.le_of_ble_eq_true rfl | decide) only [b1762_0, g1762_1, b1762_1, g1762_3, b1762_3, g1762_5, b1762_5, g1762_8, b1762_8, g1762_9, b1762_9, g1762_10, b1762_10, g1762_11, b1762_11, g1762_12, b1762_12, g1762_17, b1762_17, g1762_18, b1762_18, pe_aload0, pe_iload1, pe_i2l, pe_bipush, pe_call3, pm_af_ret, pm_af_void, pm_af_thr, pe_if_eq, pe_sipush, pe_goto, pe_goto_w, pe_putfield, pe_getfield, pe_if_le, pe_istore2, pe_iload2, pe_icmp_ge, pe_lastore, pe_iinc2, pe_istore3, pe_lstore4, pe_istore6, pe_iload6, pe_iload3, pe_if_ne, pe_iinc6, pe_call1, pe_lstore7, pe_istore9, pe_iload9, pe_lload7, pe_iaload, pe_if_ge, pe_laload, pe_lmul, pe_ladd, pe_iinc9, pe_icmp_eq, pe_lcmp, pe_call2, pe_lload4, pm_prog_1, pm_ob_some, Nat.reduceDiv, Nat.reduceMod, Nat.reduceMul, Nat.reduceAdd, Int.reduceToNat, pm_kill_i, pm_kill_r, pm_kill_n, pm_kill_j, pm_kill_l, pm_kill_d, pm_cats_nil, pm_cats_i, pm_cats_r, pm_cats_n, pm_cats_l, pm_cats_d, sz_1, sz_2, sl_1, sl_2, lc_0, lc_lt, lc_le, li_ne, Int32.reduceOfInt, Int64.reduceOfInt, Int32.reduceOfNat, Int32.reduceLT, Int32.reduceLE, Prod.mk.injEq, Nat.reduceEqDiff, reduceCtorEq, and_true, true_and, and_false, false_and, and_self, ite_true, ite_false, ↓reduceIte, not_true_eq_false, not_false_eq_true, pe_ri, pe_rz, Ri_p0 hA, Ri_g0 hA, Ri_g18 hA, Ri_g11 hA, Ri_g17 hA, Ri_g44 hA, Ri_p44 hA, Ri_p33 hA, Ri_r17 hA, Ri_w17 hA, Ri_l17 hA, Ri_r18 hA, Ri_w18 hA, Ri_l18 hA, eq_false k1, hc]
theorem z1762_7 {A : wK → Nat} {h : pm_H} {m D : Nat} {R : Outcome × pm_H} {S : wS} (hA : wok A Ri_d m) (hD : 7 ≤ D) {n : Nat} {a : Int32 × Int32 × Int64 × Int32 × Int64 × Int32} {b : (Int32 × Int32 × Int64 × Int32 × Int64)} (e : lp (f1762_b7 S) n a = some b) (hx : ex1762_7 A h D R S b) : go1762_7 A h D R S a := lp_run (fun a r => y1762_b7 hA hD a r) n a b e hx
def go1762_6 (A : wK → Nat) (h : pm_H) (D : Nat) (R : Outcome × pm_H) : Int32 × Int32 × Int32 × Int64 × Int32 × wS → Prop := fun (x1, x2, x3, x4, x6, S) => ∀ q7 q8 q9 : Value, pm_go pm_prog (pm_call pm_prog D) 1762 6 [.ref (A (0, 0, 0)), .int x1, .int x2, .int x3, .long x4, pm_junk, .int x6, q7, q8, q9] [] (wput A Ri_d S h) = some R
def ex1762_6 (A : wK → Nat) (h : pm_H) (D : Nat) (R : Outcome × pm_H) : (Int32 × Int32 × wS) → Prop := fun (x2, x6, S) => ∀ q1 q3 q4 q5 q7 q8 q9 : Value, pm_go pm_prog (pm_call pm_prog D) 1762 16 [.ref (A (0, 0, 0)), q1, .int x2, q3, q4, q5, .int x6, q7, q8, q9] [] (wput A Ri_d S h) = some R
theorem y1762_15_6 {A : wK → Nat} {h : pm_H} {m D : Nat} {R : Outcome × pm_H} {S : wS} {x1 : Int32} {x2 : Int32} {x4 : Int64} {x6 : Int32} {r : (Int32 × Int32 × Int32 × Int64 × Int32 × wS) ⊕ ((Int32 × Int32 × wS))} (hA : wok A Ri_d m) (hD : 7 ≤ D) (e : f1762_15_6 S x1 x2 x4 x6 = some r) (hc : Sum.elim (go1762_6 A h D R) (ex1762_6 A h D R) r) : ∀ q3 q7 q8 q9 : Value, pm_go pm_prog (pm_call pm_prog D) 1762 15 [.ref (A (0, 0, 0)), .int x1, .int x2, q3, .long x4, pm_junk, .int x6, q7, q8, q9] [] (wput A Ri_d S h) = some R := by
  intro q3 q7 q8 q9
  simp only [f1762_15_6] at e
  rw [g1762_15, b1762_15]
  obtain ⟨v12, k1, e⟩ := Option.bind_eq_some_iff.mp e
  try dsimp only at e
  have z1 := x1763 (D := D) (h := h) hA (by omega) k1
  obtain ⟨S13, k2, e⟩ := Option.bind_eq_some_iff.mp e
  try dsimp only at e
  have z2 := x1767 (D := D) (h := h) hA (by omega) k2
  have e := Option.some.inj e; subst e
  dsimp only [Sum.elim_inl, go1762_6] at hc
  simp -implicitDefEqProofs (disch := first | assumption | exact Nat.le_of_ble_eq_true rfl | decide) only [b1762_0, g1762_1, b1762_1, g1762_3, b1762_3, g1762_5, b1762_5, g1762_8, b1762_8, g1762_9, b1762_9, g1762_10, b1762_10, g1762_11, b1762_11, g1762_12, b1762_12, g1762_17, b1762_17, g1762_18, b1762_18, pe_aload0, pe_iload1, pe_i2l, pe_bipush, pe_call3, pm_af_ret, pm_af_void, pm_af_thr, pe_if_eq, pe_sipush, pe_goto, pe_goto_w, pe_putfield, pe_getfield, pe_if_le, pe_istore2, pe_iload2, pe_icmp_ge, pe_lastore, pe_iinc2, pe_istore3, pe_lstore4, pe_istore6, pe_iload6, pe_iload3, pe_if_ne, pe_iinc6, pe_call1, pe_lstore7, pe_istore9, pe_iload9, pe_lload7, pe_iaload, pe_if_ge, pe_laload, pe_lmul, pe_ladd, pe_iinc9, pe_icmp_eq, pe_lcmp, pe_call2, pe_lload4, pm_prog_1, pm_ob_some, Nat.reduceDiv, Nat.reduceMod, Nat.reduceMul, Nat.reduceAdd, Int.reduceToNat, pm_kill_i, pm_kill_r, pm_kill_n, pm_kill_j, pm_kill_l, pm_kill_d, pm_cats_nil, pm_cats_i, pm_cats_r, pm_cats_n, pm_cats_l, pm_cats_d, sz_1, sz_2, sl_1, sl_2, lc_0, lc_lt, lc_le, li_ne, Int32.reduceOfInt, Int64.reduceOfInt, Int32.reduceOfNat, Int32.reduceLT, Int32.reduceLE, Prod.mk.injEq, Nat.reduceEqDiff, reduceCtorEq, and_true, true_and, and_false, false_and, and_self, ite_true, ite_false, ↓reduceIte, not_true_eq_false, not_false_eq_true, pe_ri, pe_rz, Ri_p0 hA, Ri_g0 hA, Ri_g18 hA, Ri_g11 hA, Ri_g17 hA, Ri_g44 hA, Ri_p44 hA, Ri_p33 hA, Ri_r17 hA, Ri_w17 hA, Ri_l17 hA, Ri_r18 hA, Ri_w18 hA, Ri_l18 hA, z1, z2, hc]
theorem y1762_14_6 {A : wK → Nat} {h : pm_H} {m D : Nat} {R : Outcome × pm_H} {S : wS} {x1 : Int32} {x6 : Int32} {r : (Int32 × Int32 × Int32 × Int64 × Int32 × wS) ⊕ ((Int32 × Int32 × wS))} (hA : wok A Ri_d m) (hD : 7 ≤ D) (e : f1762_14_6 S x1 x6 = some r) (hc : Sum.elim (go1762_6 A h D R) (ex1762_6 A h D R) r) : ∀ q2 q3 q4 q5 q7 q8 q9 : Value, pm_go pm_prog (pm_call pm_prog D) 1762 14 [.ref (A (0, 0, 0)), .int x1, q2, q3, q4, q5, .int x6, q7, q8, q9] [] (wput A Ri_d S h) = some R := by
  intro q2 q3 q4 q5 q7 q8 q9
  simp only [f1762_14_6] at e
  rw [g1762_14, b1762_14]
  obtain ⟨v14, k1, e⟩ := Option.bind_eq_some_iff.mp e
  try dsimp only at e
  have z1 := x1765 (D := D) (h := h) hA (by omega) k1
  obtain ⟨S15, k2, e⟩ := Option.bind_eq_some_iff.mp e
  try dsimp only at e
  have z2 := x1766 (D := D) (h := h) hA (by omega) k2
  have k3 := y1762_15_6 (h := h) hA hD e hc
  simp -implicitDefEqProofs (disch := first | assumption | exact Nat.le_of_ble_eq_true rfl | decide) only [b1762_0, g1762_1, b1762_1, g1762_3, b1762_3, g1762_5, b1762_5, g1762_8, b1762_8, g1762_9, b1762_9, g1762_10, b1762_10, g1762_11, b1762_11, g1762_12, b1762_12, g1762_17, b1762_17, g1762_18, b1762_18, pe_aload0, pe_iload1, pe_i2l, pe_bipush, pe_call3, pm_af_ret, pm_af_void, pm_af_thr, pe_if_eq, pe_sipush, pe_goto, pe_goto_w, pe_putfield, pe_getfield, pe_if_le, pe_istore2, pe_iload2, pe_icmp_ge, pe_lastore, pe_iinc2, pe_istore3, pe_lstore4, pe_istore6, pe_iload6, pe_iload3, pe_if_ne, pe_iinc6, pe_call1, pe_lstore7, pe_istore9, pe_iload9, pe_lload7, pe_iaload, pe_if_ge, pe_laload, pe_lmul, pe_ladd, pe_iinc9, pe_icmp_eq, pe_lcmp, pe_call2, pe_lload4, pm_prog_1, pm_ob_some, Nat.reduceDiv, Nat.reduceMod, Nat.reduceMul, Nat.reduceAdd, Int.reduceToNat, pm_kill_i, pm_kill_r, pm_kill_n, pm_kill_j, pm_kill_l, pm_kill_d, pm_cats_nil, pm_cats_i, pm_cats_r, pm_cats_n, pm_cats_l, pm_cats_d, sz_1, sz_2, sl_1, sl_2, lc_0, lc_lt, lc_le, li_ne, Int32.reduceOfInt, Int64.reduceOfInt, Int32.reduceOfNat, Int32.reduceLT, Int32.reduceLE, Prod.mk.injEq, Nat.reduceEqDiff, reduceCtorEq, and_true, true_and, and_false, false_and, and_self, ite_true, ite_false, ↓reduceIte, not_true_eq_false, not_false_eq_true, pe_ri, pe_rz, Ri_p0 hA, Ri_g0 hA, Ri_g18 hA, Ri_g11 hA, Ri_g17 hA, Ri_g44 hA, Ri_p44 hA, Ri_p33 hA, Ri_r17 hA, Ri_w17 hA, Ri_l17 hA, Ri_r18 hA, Ri_w18 hA, Ri_l18 hA, z1, z2, k3]
theorem y1762_13_6 {A : wK → Nat} {h : pm_H} {m D : Nat} {R : Outcome × pm_H} {S : wS} {x1 : Int32} {x2 : Int32} {x4 : Int64} {x6 : Int32} {y1 : Int64} {r : (Int32 × Int32 × Int32 × Int64 × Int32 × wS) ⊕ ((Int32 × Int32 × wS))} (hA : wok A Ri_d m) (hD : 7 ≤ D) (e : f1762_13_6 S x1 x2 x4 x6 y1 = some r) (hc : Sum.elim (go1762_6 A h D R) (ex1762_6 A h D R) r) : ∀ q3 q7 q8 q9 : Value, pm_go pm_prog (pm_call pm_prog D) 1762 13 [.ref (A (0, 0, 0)), .int x1, .int x2, q3, .long x4, pm_junk, .int x6, q7, q8, q9] [.long y1, .ref (A (0, 0, 0))] (wput A Ri_d S h) = some R := by
  intro q3 q7 q8 q9
  simp only [f1762_13_6] at e
  rw [g1762_13, b1762_13]
  obtain ⟨v11, k1, e⟩ := Option.bind_eq_some_iff.mp e
  try dsimp only at e
  have z1 := x1763 (D := D) (h := h) hA (by omega) k1
  by_cases k2 : v11 = 0
  · rw [if_pos k2] at e
    have k3 := y1762_15_6 (h := h) hA hD e hc
    simp -implicitDefEqProofs (disch := first | assumption | exact Nat.le_of_ble_eq_true rfl | decide) only [b1762_0, g1762_1, b1762_1, g1762_3, b1762_3, g1762_5, b1762_5, g1762_8, b1762_8, g1762_9, b1762_9, g1762_10, b1762_10, g1762_11, b1762_11, g1762_12, b1762_12, g1762_17, b1762_17, g1762_18, b1762_18, pe_aload0, pe_iload1, pe_i2l, pe_bipush, pe_call3, pm_af_ret, pm_af_void, pm_af_thr, pe_if_eq, pe_sipush, pe_goto, pe_goto_w, pe_putfield, pe_getfield, pe_if_le, pe_istore2, pe_iload2, pe_icmp_ge, pe_lastore, pe_iinc2, pe_istore3, pe_lstore4, pe_istore6, pe_iload6, pe_iload3, pe_if_ne, pe_iinc6, pe_call1, pe_lstore7, pe_istore9, pe_iload9, pe_lload7, pe_iaload, pe_if_ge, pe_laload, pe_lmul, pe_ladd, pe_iinc9, pe_icmp_eq, pe_lcmp, pe_call2, pe_lload4, pm_prog_1, pm_ob_some, Nat.reduceDiv, Nat.reduceMod, Nat.reduceMul, Nat.reduceAdd, Int.reduceToNat, pm_kill_i, pm_kill_r, pm_kill_n, pm_kill_j, pm_kill_l, pm_kill_d, pm_cats_nil, pm_cats_i, pm_cats_r, pm_cats_n, pm_cats_l, pm_cats_d, sz_1, sz_2, sl_1, sl_2, lc_0, lc_lt, lc_le, li_ne, Int32.reduceOfInt, Int64.reduceOfInt, Int32.reduceOfNat, Int32.reduceLT, Int32.reduceLE, Prod.mk.injEq, Nat.reduceEqDiff, reduceCtorEq, and_true, true_and, and_false, false_and, and_self, ite_true, ite_false, ↓reduceIte, not_true_eq_false, not_false_eq_true, pe_ri, pe_rz, Ri_p0 hA, Ri_g0 hA, Ri_g18 hA, Ri_g11 hA, Ri_g17 hA, Ri_g44 hA, Ri_p44 hA, Ri_p33 hA, Ri_r17 hA, Ri_w17 hA, Ri_l17 hA, Ri_r18 hA, Ri_w18 hA, Ri_l18 hA, z1, eq_true k2, k3]
  · rw [if_neg k2] at e
    by_cases k4 : x2 = 0
    · rw [if_pos k4] at e
      have k5 := y1762_14_6 (h := h) hA hD e hc
      simp -implicitDefEqProofs (disch := first | assumption | exact Nat.le_of_ble_eq_true rfl | decide) only [b1762_0, g1762_1, b1762_1, g1762_3, b1762_3, g1762_5, b1762_5, g1762_8, b1762_8, g1762_9, b1762_9, g1762_10, b1762_10, g1762_11, b1762_11, g1762_12, b1762_12, g1762_17, b1762_17, g1762_18, b1762_18, pe_aload0, pe_iload1, pe_i2l, pe_bipush, pe_call3, pm_af_ret, pm_af_void, pm_af_thr, pe_if_eq, pe_sipush, pe_goto, pe_goto_w, pe_putfield, pe_getfield, pe_if_le, pe_istore2, pe_iload2, pe_icmp_ge, pe_lastore, pe_iinc2, pe_istore3, pe_lstore4, pe_istore6, pe_iload6, pe_iload3, pe_if_ne, pe_iinc6, pe_call1, pe_lstore7, pe_istore9, pe_iload9, pe_lload7, pe_iaload, pe_if_ge, pe_laload, pe_lmul, pe_ladd, pe_iinc9, pe_icmp_eq, pe_lcmp, pe_call2, pe_lload4, pm_prog_1, pm_ob_some, Nat.reduceDiv, Nat.reduceMod, Nat.reduceMul, Nat.reduceAdd, Int.reduceToNat, pm_kill_i, pm_kill_r, pm_kill_n, pm_kill_j, pm_kill_l, pm_kill_d, pm_cats_nil, pm_cats_i, pm_cats_r, pm_cats_n, pm_cats_l, pm_cats_d, sz_1, sz_2, sl_1, sl_2, lc_0, lc_lt, lc_le, li_ne, Int32.reduceOfInt, Int64.reduceOfInt, Int32.reduceOfNat, Int32.reduceLT, Int32.reduceLE, Prod.mk.injEq, Nat.reduceEqDiff, reduceCtorEq, and_true, true_and, and_false, false_and, and_self, ite_true, ite_false, ↓reduceIte, not_true_eq_false, not_false_eq_true, pe_ri, pe_rz, Ri_p0 hA, Ri_g0 hA, Ri_g18 hA, Ri_g11 hA, Ri_g17 hA, Ri_g44 hA, Ri_p44 hA, Ri_p33 hA, Ri_r17 hA, Ri_w17 hA, Ri_l17 hA, Ri_r18 hA, Ri_w18 hA, Ri_l18 hA, z1, eq_false k2, eq_true k4, k5]
    · rw [if_neg k4] at e
      obtain ⟨v16, k6, e⟩ := Option.bind_eq_some_iff.mp e
      try dsimp only at e
      have z6 := x1765 (D := D) (h := h) hA (by omega) k6
      by_cases k7 : v16 ≤ x4
      · rw [if_pos k7] at e
        have k8 := y1762_15_6 (h := h) hA hD e hc
        simp -implicitDefEqProofs (disch := first | assumption | exact Nat.le_of_ble_eq_true rfl | decide) only [b1762_0, g1762_1, b1762_1, g1762_3, b1762_3, g1762_5, b1762_5, g1762_8, b1762_8, g1762_9, b1762_9, g1762_10, b1762_10, g1762_11, b1762_11, g1762_12, b1762_12, g1762_17, b1762_17, g1762_18, b1762_18, pe_aload0, pe_iload1, pe_i2l, pe_bipush, pe_call3, pm_af_ret, pm_af_void, pm_af_thr, pe_if_eq, pe_sipush, pe_goto, pe_goto_w, pe_putfield, pe_getfield, pe_if_le, pe_istore2, pe_iload2, pe_icmp_ge, pe_lastore, pe_iinc2, pe_istore3, pe_lstore4, pe_istore6, pe_iload6, pe_iload3, pe_if_ne, pe_iinc6, pe_call1, pe_lstore7, pe_istore9, pe_iload9, pe_lload7, pe_iaload, pe_if_ge, pe_laload, pe_lmul, pe_ladd, pe_iinc9, pe_icmp_eq, pe_lcmp, pe_call2, pe_lload4, pm_prog_1, pm_ob_some, Nat.reduceDiv, Nat.reduceMod, Nat.reduceMul, Nat.reduceAdd, Int.reduceToNat, pm_kill_i, pm_kill_r, pm_kill_n, pm_kill_j, pm_kill_l, pm_kill_d, pm_cats_nil, pm_cats_i, pm_cats_r, pm_cats_n, pm_cats_l, pm_cats_d, sz_1, sz_2, sl_1, sl_2, lc_0, lc_lt, lc_le, li_ne, Int32.reduceOfInt, Int64.reduceOfInt, Int32.reduceOfNat, Int32.reduceLT, Int32.reduceLE, Prod.mk.injEq, Nat.reduceEqDiff, reduceCtorEq, and_true, true_and, and_false, false_and, and_self, ite_true, ite_false, ↓reduceIte, not_true_eq_false, not_false_eq_true, pe_ri, pe_rz, Ri_p0 hA, Ri_g0 hA, Ri_g18 hA, Ri_g11 hA, Ri_g17 hA, Ri_g44 hA, Ri_p44 hA, Ri_p33 hA, Ri_r17 hA, Ri_w17 hA, Ri_l17 hA, Ri_r18 hA, Ri_w18 hA, Ri_l18 hA, z1, eq_false k2, eq_false k4, z6, eq_true k7, k8]
      · rw [if_neg k7] at e
        have k9 := y1762_14_6 (h := h) hA hD e hc
        simp -implicitDefEqProofs (disch := first | assumption | exact Nat.le_of_ble_eq_true rfl | decide) only [b1762_0, g1762_1, b1762_1, g1762_3, b1762_3, g1762_5, b1762_5, g1762_8, b1762_8, g1762_9, b1762_9, g1762_10, b1762_10, g1762_11, b1762_11, g1762_12, b1762_12, g1762_17, b1762_17, g1762_18, b1762_18, pe_aload0, pe_iload1, pe_i2l, pe_bipush, pe_call3, pm_af_ret, pm_af_void, pm_af_thr, pe_if_eq, pe_sipush, pe_goto, pe_goto_w, pe_putfield, pe_getfield, pe_if_le, pe_istore2, pe_iload2, pe_icmp_ge, pe_lastore, pe_iinc2, pe_istore3, pe_lstore4, pe_istore6, pe_iload6, pe_iload3, pe_if_ne, pe_iinc6, pe_call1, pe_lstore7, pe_istore9, pe_iload9, pe_lload7, pe_iaload, pe_if_ge, pe_laload, pe_lmul, pe_ladd, pe_iinc9, pe_icmp_eq, pe_lcmp, pe_call2, pe_lload4, pm_prog_1, pm_ob_some, Nat.reduceDiv, Nat.reduceMod, Nat.reduceMul, Nat.reduceAdd, Int.reduceToNat, pm_kill_i, pm_kill_r, pm_kill_n, pm_kill_j, pm_kill_l, pm_kill_d, pm_cats_nil, pm_cats_i, pm_cats_r, pm_cats_n, pm_cats_l, pm_cats_d, sz_1, sz_2, sl_1, sl_2, lc_0, lc_lt, lc_le, li_ne, Int32.reduceOfInt, Int64.reduceOfInt, Int32.reduceOfNat, Int32.reduceLT, Int32.reduceLE, Prod.mk.injEq, Nat.reduceEqDiff, reduceCtorEq, and_true, true_and, and_false, false_and, and_self, ite_true, ite_false, ↓reduceIte, not_true_eq_false, not_false_eq_true, pe_ri, pe_rz, Ri_p0 hA, Ri_g0 hA, Ri_g18 hA, Ri_g11 hA, Ri_g17 hA, Ri_g44 hA, Ri_p44 hA, Ri_p33 hA, Ri_r17 hA, Ri_w17 hA, Ri_l17 hA, Ri_r18 hA, Ri_w18 hA, Ri_l18 hA, z1, eq_false k2, eq_false k4, z6, eq_false k7, k9]
theorem y1762_b6 {A : wK → Nat} {h : pm_H} {m D : Nat} {R : Outcome × pm_H} (hA : wok A Ri_d m) (hD : 7 ≤ D) (a : Int32 × Int32 × Int32 × Int64 × Int32 × wS) (r : (Int32 × Int32 × Int32 × Int64 × Int32 × wS) ⊕ ((Int32 × Int32 × wS))) (e : f1762_b6 a = some r) (hc : Sum.elim (go1762_6 A h D R) (ex1762_6 A h D R) r) : go1762_6 A h D R a := by
  obtain ⟨x1, x2, x3, x4, x6, S⟩ := a
  dsimp only [go1762_6]
  intro q7 q8 q9
  simp only [f1762_b6] at e
  rw [g1762_6, b1762_6]
  by_cases k1 : x6 < x1
  · rw [if_pos k1] at e
    by_cases k2 : x3 = 0
    · rw [if_pos k2] at e
      obtain ⟨⟨v4, S5⟩, k3, e⟩ := Option.bind_eq_some_iff.mp e
      try dsimp only at e
      have z3 := x1743 (D := D) (h := h) hA (by omega) k3
      dsimp only at z3
      obtain ⟨⟨v6, v7, v8, v9, v10⟩, k4, e⟩ := Option.bind_eq_some_iff.mp e
      try dsimp only at e
      try simp -implicitDefEqProofs (disch := first | assumption | exact Nat.le_of_ble_eq_true rfl | decide) only [b1762_0, g1762_1, b1762_1, g1762_3, b1762_3, g1762_5, b1762_5, g1762_8, b1762_8, g1762_9, b1762_9, g1762_10, b1762_10, g1762_11, b1762_11, g1762_12, b1762_12, g1762_17, b1762_17, g1762_18, b1762_18, pe_aload0, pe_iload1, pe_i2l, pe_bipush, pe_call3, pm_af_ret, pm_af_void, pm_af_thr, pe_if_eq, pe_sipush, pe_goto, pe_goto_w, pe_putfield, pe_getfield, pe_if_le, pe_istore2, pe_iload2, pe_icmp_ge, pe_lastore, pe_iinc2, pe_istore3, pe_lstore4, pe_istore6, pe_iload6, pe_iload3, pe_if_ne, pe_iinc6, pe_call1, pe_lstore7, pe_istore9, pe_iload9, pe_lload7, pe_iaload, pe_if_ge, pe_laload, pe_lmul, pe_ladd, pe_iinc9, pe_icmp_eq, pe_lcmp, pe_call2, pe_lload4, pm_prog_1, pm_ob_some, Nat.reduceDiv, Nat.reduceMod, Nat.reduceMul, Nat.reduceAdd, Int.reduceToNat, pm_kill_i, pm_kill_r, pm_kill_n, pm_kill_j, pm_kill_l, pm_kill_d, pm_cats_nil, pm_cats_i, pm_cats_r, pm_cats_n, pm_cats_l, pm_cats_d, sz_1, sz_2, sl_1, sl_2, lc_0, lc_lt, lc_le, li_ne, Int32.reduceOfInt, Int64.reduceOfInt, Int32.reduceOfNat, Int32.reduceLT, Int32.reduceLE, Prod.mk.injEq, Nat.reduceEqDiff, reduceCtorEq, and_true, true_and, and_false, false_and, and_self, ite_true, ite_false, ↓reduceIte, not_true_eq_false, not_false_eq_true, pe_ri, pe_rz, Ri_p0 hA, Ri_g0 hA, Ri_g18 hA, Ri_g11 hA, Ri_g17 hA, Ri_g44 hA, Ri_p44 hA, Ri_p33 hA, Ri_r17 hA, Ri_w17 hA, Ri_l17 hA, Ri_r18 hA, Ri_w18 hA, Ri_l18 hA, eq_true k1, eq_true k2, z3]
      refine z1762_7 hA hD k4 ?_ _
      dsimp only [ex1762_7]
      intro q3 q9
      by_cases k5 : v9 = 1
      · rw [if_pos k5] at e
        have k6 := y1762_13_6 (h := h) hA hD e hc
        simp -implicitDefEqProofs (disch := first | assumption | exact Nat.le_of_ble_eq_true rfl | decide) only [b1762_0, g1762_1, b1762_1, g1762_3, b1762_3, g1762_5, b1762_5, g1762_8, b1762_8, g1762_9, b1762_9, g1762_10, b1762_10, g1762_11, b1762_11, g1762_12, b1762_12, g1762_17, b1762_17, g1762_18, b1762_18, pe_aload0, pe_iload1, pe_i2l, pe_bipush, pe_call3, pm_af_ret, pm_af_void, pm_af_thr, pe_if_eq, pe_sipush, pe_goto, pe_goto_w, pe_putfield, pe_getfield, pe_if_le, pe_istore2, pe_iload2, pe_icmp_ge, pe_lastore, pe_iinc2, pe_istore3, pe_lstore4, pe_istore6, pe_iload6, pe_iload3, pe_if_ne, pe_iinc6, pe_call1, pe_lstore7, pe_istore9, pe_iload9, pe_lload7, pe_iaload, pe_if_ge, pe_laload, pe_lmul, pe_ladd, pe_iinc9, pe_icmp_eq, pe_lcmp, pe_call2, pe_lload4, pm_prog_1, pm_ob_some, Nat.reduceDiv, Nat.reduceMod, Nat.reduceMul, Nat.reduceAdd, Int.reduceToNat, pm_kill_i, pm_kill_r, pm_kill_n, pm_kill_j, pm_kill_l, pm_kill_d, pm_cats_nil, pm_cats_i, pm_cats_r, pm_cats_n, pm_cats_l, pm_cats_d, sz_1, sz_2, sl_1, sl_2, lc_0, lc_lt, lc_le, li_ne, Int32.reduceOfInt, Int64.reduceOfInt, Int32.reduceOfNat, Int32.reduceLT, Int32.reduceLE, Prod.mk.injEq, Nat.reduceEqDiff, reduceCtorEq, and_true, true_and, and_false, false_and, and_self, ite_true, ite_false, ↓reduceIte, not_true_eq_false, not_false_eq_true, pe_ri, pe_rz, Ri_p0 hA, Ri_g0 hA, Ri_g18 hA, Ri_g11 hA, Ri_g17 hA, Ri_g44 hA, Ri_p44 hA, Ri_p33 hA, Ri_r17 hA, Ri_w17 hA, Ri_l17 hA, Ri_r18 hA, Ri_w18 hA, Ri_l18 hA, eq_true k1, eq_true k2, z3, eq_true k5, k6]
      · rw [if_neg k5] at e
        by_cases k7 : v10 < (S5.2 (0, 0, 0) 44)
        · rw [if_pos k7] at e
          have k8 := y1762_13_6 (h := h) hA hD e hc
          simp -implicitDefEqProofs (disch := first | assumption | exact Nat.le_of_ble_eq_true rfl | decide) only [b1762_0, g1762_1, b1762_1, g1762_3, b1762_3, g1762_5, b1762_5, g1762_8, b1762_8, g1762_9, b1762_9, g1762_10, b1762_10, g1762_11, b1762_11, g1762_12, b1762_12, g1762_17, b1762_17, g1762_18, b1762_18, pe_aload0, pe_iload1, pe_i2l, pe_bipush, pe_call3, pm_af_ret, pm_af_void, pm_af_thr, pe_if_eq, pe_sipush, pe_goto, pe_goto_w, pe_putfield, pe_getfield, pe_if_le, pe_istore2, pe_iload2, pe_icmp_ge, pe_lastore, pe_iinc2, pe_istore3, pe_lstore4, pe_istore6, pe_iload6, pe_iload3, pe_if_ne, pe_iinc6, pe_call1, pe_lstore7, pe_istore9, pe_iload9, pe_lload7, pe_iaload, pe_if_ge, pe_laload, pe_lmul, pe_ladd, pe_iinc9, pe_icmp_eq, pe_lcmp, pe_call2, pe_lload4, pm_prog_1, pm_ob_some, Nat.reduceDiv, Nat.reduceMod, Nat.reduceMul, Nat.reduceAdd, Int.reduceToNat, pm_kill_i, pm_kill_r, pm_kill_n, pm_kill_j, pm_kill_l, pm_kill_d, pm_cats_nil, pm_cats_i, pm_cats_r, pm_cats_n, pm_cats_l, pm_cats_d, sz_1, sz_2, sl_1, sl_2, lc_0, lc_lt, lc_le, li_ne, Int32.reduceOfInt, Int64.reduceOfInt, Int32.reduceOfNat, Int32.reduceLT, Int32.reduceLE, Prod.mk.injEq, Nat.reduceEqDiff, reduceCtorEq, and_true, true_and, and_false, false_and, and_self, ite_true, ite_false, ↓reduceIte, not_true_eq_false, not_false_eq_true, pe_ri, pe_rz, Ri_p0 hA, Ri_g0 hA, Ri_g18 hA, Ri_g11 hA, Ri_g17 hA, Ri_g44 hA, Ri_p44 hA, Ri_p33 hA, Ri_r17 hA, Ri_w17 hA, Ri_l17 hA, Ri_r18 hA, Ri_w18 hA, Ri_l18 hA, eq_true k1, eq_true k2, z3, eq_false k5, eq_true k7, k8]
        · rw [if_neg k7] at e
          have k9 := y1762_13_6 (h := h) hA hD e hc
          simp -implicitDefEqProofs (disch := first | assumption | exact Nat.le_of_ble_eq_true rfl | decide) only [b1762_0, g1762_1, b1762_1, g1762_3, b1762_3, g1762_5, b1762_5, g1762_8, b1762_8, g1762_9, b1762_9, g1762_10, b1762_10, g1762_11, b1762_11, g1762_12, b1762_12, g1762_17, b1762_17, g1762_18, b1762_18, pe_aload0, pe_iload1, pe_i2l, pe_bipush, pe_call3, pm_af_ret, pm_af_void, pm_af_thr, pe_if_eq, pe_sipush, pe_goto, pe_goto_w, pe_putfield, pe_getfield, pe_if_le, pe_istore2, pe_iload2, pe_icmp_ge, pe_lastore, pe_iinc2, pe_istore3, pe_lstore4, pe_istore6, pe_iload6, pe_iload3, pe_if_ne, pe_iinc6, pe_call1, pe_lstore7, pe_istore9, pe_iload9, pe_lload7, pe_iaload, pe_if_ge, pe_laload, pe_lmul, pe_ladd, pe_iinc9, pe_icmp_eq, pe_lcmp, pe_call2, pe_lload4, pm_prog_1, pm_ob_some, Nat.reduceDiv, Nat.reduceMod, Nat.reduceMul, Nat.reduceAdd, Int.reduceToNat, pm_kill_i, pm_kill_r, pm_kill_n, pm_kill_j, pm_kill_l, pm_kill_d, pm_cats_nil, pm_cats_i, pm_cats_r, pm_cats_n, pm_cats_l, pm_cats_d, sz_1, sz_2, sl_1, sl_2, lc_0, lc_lt, lc_le, li_ne, Int32.reduceOfInt, Int64.reduceOfInt, Int32.reduceOfNat, Int32.reduceLT, Int32.reduceLE, Prod.mk.injEq, Nat.reduceEqDiff, reduceCtorEq, and_true, true_and, and_false, false_and, and_self, ite_true, ite_false, ↓reduceIte, not_true_eq_false, not_false_eq_true, pe_ri, pe_rz, Ri_p0 hA, Ri_g0 hA, Ri_g18 hA, Ri_g11 hA, Ri_g17 hA, Ri_g44 hA, Ri_p44 hA, Ri_p33 hA, Ri_r17 hA, Ri_w17 hA, Ri_l17 hA, Ri_r18 hA, Ri_w18 hA, Ri_l18 hA, eq_true k1, eq_true k2, z3, eq_false k5, eq_false k7, k9]
    · rw [if_neg k2] at e
      have e := Option.some.inj e; subst e
      dsimp only [Sum.elim_inr, ex1762_6] at hc
      simp -implicitDefEqProofs (disch := first | assumption | exact Nat.le_of_ble_eq_true rfl | decide) only [b1762_0, g1762_1, b1762_1, g1762_3, b1762_3, g1762_5, b1762_5, g1762_8, b1762_8, g1762_9, b1762_9, g1762_10, b1762_10, g1762_11, b1762_11, g1762_12, b1762_12, g1762_17, b1762_17, g1762_18, b1762_18, pe_aload0, pe_iload1, pe_i2l, pe_bipush, pe_call3, pm_af_ret, pm_af_void, pm_af_thr, pe_if_eq, pe_sipush, pe_goto, pe_goto_w, pe_putfield, pe_getfield, pe_if_le, pe_istore2, pe_iload2, pe_icmp_ge, pe_lastore, pe_iinc2, pe_istore3, pe_lstore4, pe_istore6, pe_iload6, pe_iload3, pe_if_ne, pe_iinc6, pe_call1, pe_lstore7, pe_istore9, pe_iload9, pe_lload7, pe_iaload, pe_if_ge, pe_laload, pe_lmul, pe_ladd, pe_iinc9, pe_icmp_eq, pe_lcmp, pe_call2, pe_lload4, pm_prog_1, pm_ob_some, Nat.reduceDiv, Nat.reduceMod, Nat.reduceMul, Nat.reduceAdd, Int.reduceToNat, pm_kill_i, pm_kill_r, pm_kill_n, pm_kill_j, pm_kill_l, pm_kill_d, pm_cats_nil, pm_cats_i, pm_cats_r, pm_cats_n, pm_cats_l, pm_cats_d, sz_1, sz_2, sl_1, sl_2, lc_0, lc_lt, lc_le, li_ne, Int32.reduceOfInt, Int64.reduceOfInt, Int32.reduceOfNat, Int32.reduceLT, Int32.reduceLE, Prod.mk.injEq, Nat.reduceEqDiff, reduceCtorEq, and_true, true_and, and_false, false_and, and_self, ite_true, ite_false, ↓reduceIte, not_true_eq_false, not_false_eq_true, pe_ri, pe_rz, Ri_p0 hA, Ri_g0 hA, Ri_g18 hA, Ri_g11 hA, Ri_g17 hA, Ri_g44 hA, Ri_p44 hA, Ri_p33 hA, Ri_r17 hA, Ri_w17 hA, Ri_l17 hA, Ri_r18 hA, Ri_w18 hA, Ri_l18 hA, eq_true k1, eq_false k2, hc]
  · rw [if_neg k1] at e
    have e := Option.some.inj e; subst e
    dsimp only [Sum.elim_inr, ex1762_6] at hc
    simp -implicitDefEqProofs (disch := first | assumption | exact Nat.le_of_ble_eq_true rfl | decide) only [b1762_0, g1762_1, b1762_1, g1762_3, b1762_3, g1762_5, b1762_5, g1762_8, b1762_8, g1762_9, b1762_9, g1762_10, b1762_10, g1762_11, b1762_11, g1762_12, b1762_12, g1762_17, b1762_17, g1762_18, b1762_18, pe_aload0, pe_iload1, pe_i2l, pe_bipush, pe_call3, pm_af_ret, pm_af_void, pm_af_thr, pe_if_eq, pe_sipush, pe_goto, pe_goto_w, pe_putfield, pe_getfield, pe_if_le, pe_istore2, pe_iload2, pe_icmp_ge, pe_lastore, pe_iinc2, pe_istore3, pe_lstore4, pe_istore6, pe_iload6, pe_iload3, pe_if_ne, pe_iinc6, pe_call1, pe_lstore7, pe_istore9, pe_iload9, pe_lload7, pe_iaload, pe_if_ge, pe_laload, pe_lmul, pe_ladd, pe_iinc9, pe_icmp_eq, pe_lcmp, pe_call2, pe_lload4, pm_prog_1, pm_ob_some, Nat.reduceDiv, Nat.reduceMod, Nat.reduceMul, Nat.reduceAdd, Int.reduceToNat, pm_kill_i, pm_kill_r, pm_kill_n, pm_kill_j, pm_kill_l, pm_kill_d, pm_cats_nil, pm_cats_i, pm_cats_r, pm_cats_n, pm_cats_l, pm_cats_d, sz_1, sz_2, sl_1, sl_2, lc_0, lc_lt, lc_le, li_ne, Int32.reduceOfInt, Int64.reduceOfInt, Int32.reduceOfNat, Int32.reduceLT, Int32.reduceLE, Prod.mk.injEq, Nat.reduceEqDiff, reduceCtorEq, and_true, true_and, and_false, false_and, and_self, ite_true, ite_false, ↓reduceIte, not_true_eq_false, not_false_eq_true, pe_ri, pe_rz, Ri_p0 hA, Ri_g0 hA, Ri_g18 hA, Ri_g11 hA, Ri_g17 hA, Ri_g44 hA, Ri_p44 hA, Ri_p33 hA, Ri_r17 hA, Ri_w17 hA, Ri_l17 hA, Ri_r18 hA, Ri_w18 hA, Ri_l18 hA, eq_false k1, hc]
theorem z1762_6 {A : wK → Nat} {h : pm_H} {m D : Nat} {R : Outcome × pm_H} (hA : wok A Ri_d m) (hD : 7 ≤ D) {n : Nat} {a : Int32 × Int32 × Int32 × Int64 × Int32 × wS} {b : (Int32 × Int32 × wS)} (e : lp (f1762_b6) n a = some b) (hx : ex1762_6 A h D R b) : go1762_6 A h D R a := lp_run (fun a r => y1762_b6 hA hD a r) n a b e hx
theorem y1762_16 {A : wK → Nat} {h : pm_H} {m D : Nat} {S : wS} {x2 : Int32} {x6 : Int32} {r : Int32 × wS} (hA : wok A Ri_d m) (hD : 7 ≤ D) (e : f1762_16 S x2 x6 = some r) : ∀ q1 q3 q4 q5 q7 q8 q9 : Value, pm_go pm_prog (pm_call pm_prog D) 1762 16 [.ref (A (0, 0, 0)), q1, .int x2, q3, q4, q5, .int x6, q7, q8, q9] [] (wput A Ri_d S h) = some (.returned (some (.int r.1)), (wput A Ri_d r.2 h)) := by
  intro q1 q3 q4 q5 q7 q8 q9
  simp only [f1762_16] at e
  rw [g1762_16, b1762_16]
  by_cases k1 : x2 = 0
  · rw [if_pos k1] at e
    obtain ⟨S20, k2, e⟩ := Option.bind_eq_some_iff.mp e
    try dsimp only at e
    have z2 := x1769 (D := D) (h := h) hA (by omega) k2
    have e := Option.some.inj e; subst e
    simp -implicitDefEqProofs (disch := first | assumption | exact Nat.le_of_ble_eq_true rfl | decide) only [b1762_0, g1762_1, b1762_1, g1762_3, b1762_3, g1762_5, b1762_5, g1762_8, b1762_8, g1762_9, b1762_9, g1762_10, b1762_10, g1762_11, b1762_11, g1762_12, b1762_12, g1762_17, b1762_17, g1762_18, b1762_18, pe_aload0, pe_iload1, pe_i2l, pe_bipush, pe_call3, pm_af_ret, pm_af_void, pm_af_thr, pe_if_eq, pe_sipush, pe_goto, pe_goto_w, pe_putfield, pe_getfield, pe_if_le, pe_istore2, pe_iload2, pe_icmp_ge, pe_lastore, pe_iinc2, pe_istore3, pe_lstore4, pe_istore6, pe_iload6, pe_iload3, pe_if_ne, pe_iinc6, pe_call1, pe_lstore7, pe_istore9, pe_iload9, pe_lload7, pe_iaload, pe_if_ge, pe_laload, pe_lmul, pe_ladd, pe_iinc9, pe_icmp_eq, pe_lcmp, pe_call2, pe_lload4, pm_prog_1, pm_ob_some, Nat.reduceDiv, Nat.reduceMod, Nat.reduceMul, Nat.reduceAdd, Int.reduceToNat, pm_kill_i, pm_kill_r, pm_kill_n, pm_kill_j, pm_kill_l, pm_kill_d, pm_cats_nil, pm_cats_i, pm_cats_r, pm_cats_n, pm_cats_l, pm_cats_d, sz_1, sz_2, sl_1, sl_2, lc_0, lc_lt, lc_le, li_ne, Int32.reduceOfInt, Int64.reduceOfInt, Int32.reduceOfNat, Int32.reduceLT, Int32.reduceLE, Prod.mk.injEq, Nat.reduceEqDiff, reduceCtorEq, and_true, true_and, and_false, false_and, and_self, ite_true, ite_false, ↓reduceIte, not_true_eq_false, not_false_eq_true, pe_ri, pe_rz, Ri_p0 hA, Ri_g0 hA, Ri_g18 hA, Ri_g11 hA, Ri_g17 hA, Ri_g44 hA, Ri_p44 hA, Ri_p33 hA, Ri_r17 hA, Ri_w17 hA, Ri_l17 hA, Ri_r18 hA, Ri_w18 hA, Ri_l18 hA, eq_true k1, z2]
  · rw [if_neg k1] at e
    obtain ⟨S21, k3, e⟩ := Option.bind_eq_some_iff.mp e
    try dsimp only at e
    have z3 := x1768 (D := D) (h := h) hA (by omega) k3
    have e := Option.some.inj e; subst e
    simp -implicitDefEqProofs (disch := first | assumption | exact Nat.le_of_ble_eq_true rfl | decide) only [b1762_0, g1762_1, b1762_1, g1762_3, b1762_3, g1762_5, b1762_5, g1762_8, b1762_8, g1762_9, b1762_9, g1762_10, b1762_10, g1762_11, b1762_11, g1762_12, b1762_12, g1762_17, b1762_17, g1762_18, b1762_18, pe_aload0, pe_iload1, pe_i2l, pe_bipush, pe_call3, pm_af_ret, pm_af_void, pm_af_thr, pe_if_eq, pe_sipush, pe_goto, pe_goto_w, pe_putfield, pe_getfield, pe_if_le, pe_istore2, pe_iload2, pe_icmp_ge, pe_lastore, pe_iinc2, pe_istore3, pe_lstore4, pe_istore6, pe_iload6, pe_iload3, pe_if_ne, pe_iinc6, pe_call1, pe_lstore7, pe_istore9, pe_iload9, pe_lload7, pe_iaload, pe_if_ge, pe_laload, pe_lmul, pe_ladd, pe_iinc9, pe_icmp_eq, pe_lcmp, pe_call2, pe_lload4, pm_prog_1, pm_ob_some, Nat.reduceDiv, Nat.reduceMod, Nat.reduceMul, Nat.reduceAdd, Int.reduceToNat, pm_kill_i, pm_kill_r, pm_kill_n, pm_kill_j, pm_kill_l, pm_kill_d, pm_cats_nil, pm_cats_i, pm_cats_r, pm_cats_n, pm_cats_l, pm_cats_d, sz_1, sz_2, sl_1, sl_2, lc_0, lc_lt, lc_le, li_ne, Int32.reduceOfInt, Int64.reduceOfInt, Int32.reduceOfNat, Int32.reduceLT, Int32.reduceLE, Prod.mk.injEq, Nat.reduceEqDiff, reduceCtorEq, and_true, true_and, and_false, false_and, and_self, ite_true, ite_false, ↓reduceIte, not_true_eq_false, not_false_eq_true, pe_ri, pe_rz, Ri_p0 hA, Ri_g0 hA, Ri_g18 hA, Ri_g11 hA, Ri_g17 hA, Ri_g44 hA, Ri_p44 hA, Ri_p33 hA, Ri_r17 hA, Ri_w17 hA, Ri_l17 hA, Ri_r18 hA, Ri_w18 hA, Ri_l18 hA, eq_false k1, z3]
theorem y1762_2 {A : wK → Nat} {h : pm_H} {m D : Nat} {S : wS} {x1 : Int32} {y1 : Int32} {r : Int32 × wS} (hA : wok A Ri_d m) (hD : 7 ≤ D) (e : f1762_2 S x1 y1 = some r) : ∀ q2 q3 q4 q5 q6 q7 q8 q9 : Value, pm_go pm_prog (pm_call pm_prog D) 1762 2 [.ref (A (0, 0, 0)), .int x1, q2, q3, q4, q5, q6, q7, q8, q9] [.int y1, .ref (A (0, 0, 0))] (wput A Ri_d S h) = some (.returned (some (.int r.1)), (wput A Ri_d r.2 h)) := by
  intro q2 q3 q4 q5 q6 q7 q8 q9
  simp only [f1762_2] at e
  rw [g1762_2, b1762_2]
  by_cases k1 : y1 ≤ 0
  · rw [if_pos k1] at e
    obtain ⟨⟨v2, S3⟩, k2, e⟩ := Option.bind_eq_some_iff.mp e
    try dsimp only at e
    try simp -implicitDefEqProofs (disch := first | assumption | exact Nat.le_of_ble_eq_true rfl | decide) only [b1762_0, g1762_1, b1762_1, g1762_3, b1762_3, g1762_5, b1762_5, g1762_8, b1762_8, g1762_9, b1762_9, g1762_10, b1762_10, g1762_11, b1762_11, g1762_12, b1762_12, g1762_17, b1762_17, g1762_18, b1762_18, pe_aload0, pe_iload1, pe_i2l, pe_bipush, pe_call3, pm_af_ret, pm_af_void, pm_af_thr, pe_if_eq, pe_sipush, pe_goto, pe_goto_w, pe_putfield, pe_getfield, pe_if_le, pe_istore2, pe_iload2, pe_icmp_ge, pe_lastore, pe_iinc2, pe_istore3, pe_lstore4, pe_istore6, pe_iload6, pe_iload3, pe_if_ne, pe_iinc6, pe_call1, pe_lstore7, pe_istore9, pe_iload9, pe_lload7, pe_iaload, pe_if_ge, pe_laload, pe_lmul, pe_ladd, pe_iinc9, pe_icmp_eq, pe_lcmp, pe_call2, pe_lload4, pm_prog_1, pm_ob_some, Nat.reduceDiv, Nat.reduceMod, Nat.reduceMul, Nat.reduceAdd, Int.reduceToNat, pm_kill_i, pm_kill_r, pm_kill_n, pm_kill_j, pm_kill_l, pm_kill_d, pm_cats_nil, pm_cats_i, pm_cats_r, pm_cats_n, pm_cats_l, pm_cats_d, sz_1, sz_2, sl_1, sl_2, lc_0, lc_lt, lc_le, li_ne, Int32.reduceOfInt, Int64.reduceOfInt, Int32.reduceOfNat, Int32.reduceLT, Int32.reduceLE, Prod.mk.injEq, Nat.reduceEqDiff, reduceCtorEq, and_true, true_and, and_false, false_and, and_self, ite_true, ite_false, ↓reduceIte, not_true_eq_false, not_false_eq_true, pe_ri, pe_rz, Ri_p0 hA, Ri_g0 hA, Ri_g18 hA, Ri_g11 hA, Ri_g17 hA, Ri_g44 hA, Ri_p44 hA, Ri_p33 hA, Ri_r17 hA, Ri_w17 hA, Ri_l17 hA, Ri_r18 hA, Ri_w18 hA, Ri_l18 hA, eq_true k1]
    refine z1762_4 hA hD k2 ?_ _ _ _ _ _ _ _
    dsimp only [ex1762_4]
    intro q2 q3 q4 q5 q6 q7 q8 q9
    obtain ⟨⟨v17, v18, S19⟩, k3, e⟩ := Option.bind_eq_some_iff.mp e
    try dsimp only at e
    try simp -implicitDefEqProofs (disch := first | assumption | exact Nat.le_of_ble_eq_true rfl | decide) only [b1762_0, g1762_1, b1762_1, g1762_3, b1762_3, g1762_5, b1762_5, g1762_8, b1762_8, g1762_9, b1762_9, g1762_10, b1762_10, g1762_11, b1762_11, g1762_12, b1762_12, g1762_17, b1762_17, g1762_18, b1762_18, pe_aload0, pe_iload1, pe_i2l, pe_bipush, pe_call3, pm_af_ret, pm_af_void, pm_af_thr, pe_if_eq, pe_sipush, pe_goto, pe_goto_w, pe_putfield, pe_getfield, pe_if_le, pe_istore2, pe_iload2, pe_icmp_ge, pe_lastore, pe_iinc2, pe_istore3, pe_lstore4, pe_istore6, pe_iload6, pe_iload3, pe_if_ne, pe_iinc6, pe_call1, pe_lstore7, pe_istore9, pe_iload9, pe_lload7, pe_iaload, pe_if_ge, pe_laload, pe_lmul, pe_ladd, pe_iinc9, pe_icmp_eq, pe_lcmp, pe_call2, pe_lload4, pm_prog_1, pm_ob_some, Nat.reduceDiv, Nat.reduceMod, Nat.reduceMul, Nat.reduceAdd, Int.reduceToNat, pm_kill_i, pm_kill_r, pm_kill_n, pm_kill_j, pm_kill_l, pm_kill_d, pm_cats_nil, pm_cats_i, pm_cats_r, pm_cats_n, pm_cats_l, pm_cats_d, sz_1, sz_2, sl_1, sl_2, lc_0, lc_lt, lc_le, li_ne, Int32.reduceOfInt, Int64.reduceOfInt, Int32.reduceOfNat, Int32.reduceLT, Int32.reduceLE, Prod.mk.injEq, Nat.reduceEqDiff, reduceCtorEq, and_true, true_and, and_false, false_and, and_self, ite_true, ite_false, ↓reduceIte, not_true_eq_false, not_false_eq_true, pe_ri, pe_rz, Ri_p0 hA, Ri_g0 hA, Ri_g18 hA, Ri_g11 hA, Ri_g17 hA, Ri_g44 hA, Ri_p44 hA, Ri_p33 hA, Ri_r17 hA, Ri_w17 hA, Ri_l17 hA, Ri_r18 hA, Ri_w18 hA, Ri_l18 hA, eq_true k1]
    refine z1762_6 hA hD k3 ?_ _ _ _
    dsimp only [ex1762_6]
    intro q1 q3 q4 q5 q7 q8 q9
    have k4 := y1762_16 (h := h) hA hD e
    simp -implicitDefEqProofs (disch := first | assumption | exact Nat.le_of_ble_eq_true rfl | decide) only [b1762_0, g1762_1, b1762_1, g1762_3, b1762_3, g1762_5, b1762_5, g1762_8, b1762_8, g1762_9, b1762_9, g1762_10, b1762_10, g1762_11, b1762_11, g1762_12, b1762_12, g1762_17, b1762_17, g1762_18, b1762_18, pe_aload0, pe_iload1, pe_i2l, pe_bipush, pe_call3, pm_af_ret, pm_af_void, pm_af_thr, pe_if_eq, pe_sipush, pe_goto, pe_goto_w, pe_putfield, pe_getfield, pe_if_le, pe_istore2, pe_iload2, pe_icmp_ge, pe_lastore, pe_iinc2, pe_istore3, pe_lstore4, pe_istore6, pe_iload6, pe_iload3, pe_if_ne, pe_iinc6, pe_call1, pe_lstore7, pe_istore9, pe_iload9, pe_lload7, pe_iaload, pe_if_ge, pe_laload, pe_lmul, pe_ladd, pe_iinc9, pe_icmp_eq, pe_lcmp, pe_call2, pe_lload4, pm_prog_1, pm_ob_some, Nat.reduceDiv, Nat.reduceMod, Nat.reduceMul, Nat.reduceAdd, Int.reduceToNat, pm_kill_i, pm_kill_r, pm_kill_n, pm_kill_j, pm_kill_l, pm_kill_d, pm_cats_nil, pm_cats_i, pm_cats_r, pm_cats_n, pm_cats_l, pm_cats_d, sz_1, sz_2, sl_1, sl_2, lc_0, lc_lt, lc_le, li_ne, Int32.reduceOfInt, Int64.reduceOfInt, Int32.reduceOfNat, Int32.reduceLT, Int32.reduceLE, Prod.mk.injEq, Nat.reduceEqDiff, reduceCtorEq, and_true, true_and, and_false, false_and, and_self, ite_true, ite_false, ↓reduceIte, not_true_eq_false, not_false_eq_true, pe_ri, pe_rz, Ri_p0 hA, Ri_g0 hA, Ri_g18 hA, Ri_g11 hA, Ri_g17 hA, Ri_g44 hA, Ri_p44 hA, Ri_p33 hA, Ri_r17 hA, Ri_w17 hA, Ri_l17 hA, Ri_r18 hA, Ri_w18 hA, Ri_l18 hA, eq_true k1, k4]
  · rw [if_neg k1] at e
    have e := Option.some.inj e; subst e
    simp -implicitDefEqProofs (disch := first | assumption | exact Nat.le_of_ble_eq_true rfl | decide) only [b1762_0, g1762_1, b1762_1, g1762_3, b1762_3, g1762_5, b1762_5, g1762_8, b1762_8, g1762_9, b1762_9, g1762_10, b1762_10, g1762_11, b1762_11, g1762_12, b1762_12, g1762_17, b1762_17, g1762_18, b1762_18, pe_aload0, pe_iload1, pe_i2l, pe_bipush, pe_call3, pm_af_ret, pm_af_void, pm_af_thr, pe_if_eq, pe_sipush, pe_goto, pe_goto_w, pe_putfield, pe_getfield, pe_if_le, pe_istore2, pe_iload2, pe_icmp_ge, pe_lastore, pe_iinc2, pe_istore3, pe_lstore4, pe_istore6, pe_iload6, pe_iload3, pe_if_ne, pe_iinc6, pe_call1, pe_lstore7, pe_istore9, pe_iload9, pe_lload7, pe_iaload, pe_if_ge, pe_laload, pe_lmul, pe_ladd, pe_iinc9, pe_icmp_eq, pe_lcmp, pe_call2, pe_lload4, pm_prog_1, pm_ob_some, Nat.reduceDiv, Nat.reduceMod, Nat.reduceMul, Nat.reduceAdd, Int.reduceToNat, pm_kill_i, pm_kill_r, pm_kill_n, pm_kill_j, pm_kill_l, pm_kill_d, pm_cats_nil, pm_cats_i, pm_cats_r, pm_cats_n, pm_cats_l, pm_cats_d, sz_1, sz_2, sl_1, sl_2, lc_0, lc_lt, lc_le, li_ne, Int32.reduceOfInt, Int64.reduceOfInt, Int32.reduceOfNat, Int32.reduceLT, Int32.reduceLE, Prod.mk.injEq, Nat.reduceEqDiff, reduceCtorEq, and_true, true_and, and_false, false_and, and_self, ite_true, ite_false, ↓reduceIte, not_true_eq_false, not_false_eq_true, pe_ri, pe_rz, Ri_p0 hA, Ri_g0 hA, Ri_g18 hA, Ri_g11 hA, Ri_g17 hA, Ri_g44 hA, Ri_p44 hA, Ri_p33 hA, Ri_r17 hA, Ri_w17 hA, Ri_l17 hA, Ri_r18 hA, Ri_w18 hA, Ri_l18 hA, eq_false k1]
theorem x1762 {A : wK → Nat} {h : pm_H} {m D : Nat} {S : wS} {x1 : Int32} {r : Int32 × wS} (hA : wok A Ri_d m) (hD : 8 ≤ D) (e : f1762 S x1 = some r) : pm_call pm_prog D 1762 [.ref (A (0, 0, 0)), .int x1] (wput A Ri_d S h) = some (.returned (some (.int r.1)), (wput A Ri_d r.2 h)) := by
  obtain ⟨D, rfl⟩ : ∃ D', D = D' + 1 := ⟨D - 1, by omega⟩
  have hD : 7 ≤ D := by omega
  rw [c1762 (Ri_c hA), b1762_0]
  simp only [f1762] at e
  obtain ⟨v1, k1, e⟩ := Option.bind_eq_some_iff.mp e
  try dsimp only at e
  have z1 := fun h => x1731 (D := D) (h := h) (by omega) k1
  by_cases k2 : v1 = 0
  · rw [if_pos k2] at e
    have k3 := y1762_2 (h := h) hA hD e
    simp -implicitDefEqProofs (disch := first | assumption | exact Nat.le_of_ble_eq_true rfl | decide) only [b1762_0, g1762_1, b1762_1, g1762_3, b1762_3, g1762_5, b1762_5, g1762_8, b1762_8, g1762_9, b1762_9, g1762_10, b1762_10, g1762_11, b1762_11, g1762_12, b1762_12, g1762_17, b1762_17, g1762_18, b1762_18, pe_aload0, pe_iload1, pe_i2l, pe_bipush, pe_call3, pm_af_ret, pm_af_void, pm_af_thr, pe_if_eq, pe_sipush, pe_goto, pe_goto_w, pe_putfield, pe_getfield, pe_if_le, pe_istore2, pe_iload2, pe_icmp_ge, pe_lastore, pe_iinc2, pe_istore3, pe_lstore4, pe_istore6, pe_iload6, pe_iload3, pe_if_ne, pe_iinc6, pe_call1, pe_lstore7, pe_istore9, pe_iload9, pe_lload7, pe_iaload, pe_if_ge, pe_laload, pe_lmul, pe_ladd, pe_iinc9, pe_icmp_eq, pe_lcmp, pe_call2, pe_lload4, pm_prog_1, pm_ob_some, Nat.reduceDiv, Nat.reduceMod, Nat.reduceMul, Nat.reduceAdd, Int.reduceToNat, pm_kill_i, pm_kill_r, pm_kill_n, pm_kill_j, pm_kill_l, pm_kill_d, pm_cats_nil, pm_cats_i, pm_cats_r, pm_cats_n, pm_cats_l, pm_cats_d, sz_1, sz_2, sl_1, sl_2, lc_0, lc_lt, lc_le, li_ne, Int32.reduceOfInt, Int64.reduceOfInt, Int32.reduceOfNat, Int32.reduceLT, Int32.reduceLE, Prod.mk.injEq, Nat.reduceEqDiff, reduceCtorEq, and_true, true_and, and_false, false_and, and_self, ite_true, ite_false, ↓reduceIte, not_true_eq_false, not_false_eq_true, pe_ri, pe_rz, Ri_p0 hA, Ri_g0 hA, Ri_g18 hA, Ri_g11 hA, Ri_g17 hA, Ri_g44 hA, Ri_p44 hA, Ri_p33 hA, Ri_r17 hA, Ri_w17 hA, Ri_l17 hA, Ri_r18 hA, Ri_w18 hA, Ri_l18 hA, z1, eq_true k2, k3]
  · rw [if_neg k2] at e
    have k4 := y1762_2 (h := h) hA hD e
    simp -implicitDefEqProofs (disch := first | assumption | exact Nat.le_of_ble_eq_true rfl | decide) only [b1762_0, g1762_1, b1762_1, g1762_3, b1762_3, g1762_5, b1762_5, g1762_8, b1762_8, g1762_9, b1762_9, g1762_10, b1762_10, g1762_11, b1762_11, g1762_12, b1762_12, g1762_17, b1762_17, g1762_18, b1762_18, pe_aload0, pe_iload1, pe_i2l, pe_bipush, pe_call3, pm_af_ret, pm_af_void, pm_af_thr, pe_if_eq, pe_sipush, pe_goto, pe_goto_w, pe_putfield, pe_getfield, pe_if_le, pe_istore2, pe_iload2, pe_icmp_ge, pe_lastore, pe_iinc2, pe_istore3, pe_lstore4, pe_istore6, pe_iload6, pe_iload3, pe_if_ne, pe_iinc6, pe_call1, pe_lstore7, pe_istore9, pe_iload9, pe_lload7, pe_iaload, pe_if_ge, pe_laload, pe_lmul, pe_ladd, pe_iinc9, pe_icmp_eq, pe_lcmp, pe_call2, pe_lload4, pm_prog_1, pm_ob_some, Nat.reduceDiv, Nat.reduceMod, Nat.reduceMul, Nat.reduceAdd, Int.reduceToNat, pm_kill_i, pm_kill_r, pm_kill_n, pm_kill_j, pm_kill_l, pm_kill_d, pm_cats_nil, pm_cats_i, pm_cats_r, pm_cats_n, pm_cats_l, pm_cats_d, sz_1, sz_2, sl_1, sl_2, lc_0, lc_lt, lc_le, li_ne, Int32.reduceOfInt, Int64.reduceOfInt, Int32.reduceOfNat, Int32.reduceLT, Int32.reduceLE, Prod.mk.injEq, Nat.reduceEqDiff, reduceCtorEq, and_true, true_and, and_false, false_and, and_self, ite_true, ite_false, ↓reduceIte, not_true_eq_false, not_false_eq_true, pe_ri, pe_rz, Ri_p0 hA, Ri_g0 hA, Ri_g18 hA, Ri_g11 hA, Ri_g17 hA, Ri_g44 hA, Ri_p44 hA, Ri_p33 hA, Ri_r17 hA, Ri_w17 hA, Ri_l17 hA, Ri_r18 hA, Ri_w18 hA, Ri_l18 hA, z1, eq_false k2, k4]
/-- TimberHouseModel$Rips.run(II)I -/
theorem c1742 {d : Nat} {h : pm_H} {a : Nat} {x0 : Int32} {x1 : Int32} (hc : pm_cls h a = some 27) : pm_call pm_prog (d + 1) 1742 [.ref a, .int x0, .int x1] h = pm_ev pm_prog (pm_call pm_prog d) 1742 0 b1742_0 [.ref a, .int x0, .int x1, pm_junk] [] h := pm_cal (pm_rc1 hc rfl) rfl rfl rfl
theorem g1742_1 {cl : pm_C} {ls st : List Value} {h : pm_H} : pm_go pm_prog cl 1742 1 ls st h = pm_ev pm_prog cl 1742 1 b1742_1 ls st h := pm_go_eq pm_prog cl 1742 1 ls st h
theorem g1742_2 {cl : pm_C} {ls st : List Value} {h : pm_H} : pm_go pm_prog cl 1742 2 ls st h = pm_ev pm_prog cl 1742 2 b1742_2 ls st h := pm_go_eq pm_prog cl 1742 2 ls st h
theorem g1742_3 {cl : pm_C} {ls st : List Value} {h : pm_H} : pm_go pm_prog cl 1742 3 ls st h = pm_ev pm_prog cl 1742 3 b1742_3 ls st h := pm_go_eq pm_prog cl 1742 3 ls st h
theorem g1742_4 {cl : pm_C} {ls st : List Value} {h : pm_H} : pm_go pm_prog cl 1742 4 ls st h = pm_ev pm_prog cl 1742 4 b1742_4 ls st h := pm_go_eq pm_prog cl 1742 4 ls st h
theorem g1742_5 {cl : pm_C} {ls st : List Value} {h : pm_H} : pm_go pm_prog cl 1742 5 ls st h = pm_ev pm_prog cl 1742 5 b1742_5 ls st h := pm_go_eq pm_prog cl 1742 5 ls st h
noncomputable def f1742_b4 : Int32 × wS → Option ((Int32 × wS) ⊕ ((wS))) := fun (x3, S) =>
  if x3 < 8 then
    if 0 ≤ x3 ∧ x3 < 8 then
      some (.inl ((x3 + 1), (sl (sl S (19, 0, 0) x3 0) (20, 0, 0) x3 0)))
    else none
  else
    some (.inr S)
noncomputable def f1742_2 (S : wS) (x1 : Int32) (x2 : Int32) (y1 : Int32) : Option (Int32 × wS) :=
  if y1 ≤ 0 then
    (lp (f1742_b4) FU (0, (sz (sz (sz S (0, 0, 0) 0 y1) (0, 0, 0) 34 x1) (0, 0, 0) 35 x2))).bind fun S2 =>
    (f1743 S2).bind fun (v3, S4) =>
    some ((S4.1 (0, 0, 0) 36), (sz (sl S4 (0, 0, 0) 44 v3) (0, 0, 0) 33 1))
  else
    some (0, (sz S (0, 0, 0) 0 y1))
/-- TimberHouseModel$Rips.run(II)I -/
noncomputable def f1742 (S : wS) (x1 : Int32) (x2 : Int32) : Option (Int32 × wS) :=
  (f1731 (Int32.toInt64 x1) 0 1).bind fun v1 =>
  if v1 = 0 then
    f1742_2 S x1 x2 1
  else
    (f1731 (Int32.toInt64 x2) 1 3).bind fun v5 =>
    if v5 = 0 then
      f1742_2 S x1 x2 1
    else
      f1742_2 S x1 x2 0
def go1742_4 (A : wK → Nat) (h : pm_H) (D : Nat) (R : Outcome × pm_H) : Int32 × wS → Prop := fun (x3, S) => ∀ q1 q2 : Value, pm_go pm_prog (pm_call pm_prog D) 1742 4 [.ref (A (0, 0, 0)), q1, q2, .int x3] [] (wput A Ri_d S h) = some R
def ex1742_4 (A : wK → Nat) (h : pm_H) (D : Nat) (R : Outcome × pm_H) : (wS) → Prop := fun S => ∀ q1 q2 q3 : Value, pm_go pm_prog (pm_call pm_prog D) 1742 5 [.ref (A (0, 0, 0)), q1, q2, q3] [] (wput A Ri_d S h) = some R
theorem y1742_b4 {A : wK → Nat} {h : pm_H} {m D : Nat} {R : Outcome × pm_H} (hA : wok A Ri_d m) (hD : 7 ≤ D) (a : Int32 × wS) (r : (Int32 × wS) ⊕ ((wS))) (e : f1742_b4 a = some r) (hc : Sum.elim (go1742_4 A h D R) (ex1742_4 A h D R) r) : go1742_4 A h D R a := by
  obtain ⟨x3, S⟩ := a
  dsimp only [go1742_4]
  intro q1 q2
  simp only [f1742_b4] at e
  rw [g1742_4, b1742_4]
  by_cases k1 : x3 < 8
  · rw [if_pos k1] at e
    by_cases k2 : 0 ≤ x3 ∧ x3 < 8
    · rw [if_pos k2] at e
      have e := Option.some.inj e; subst e
      dsimp only [Sum.elim_inl, go1742_4] at hc
      simp -implicitDefEqProofs (disch := first | assumption | exact Nat.le_of_ble_eq_true rfl | decide) only [b1742_0, g1742_1, b1742_1, g1742_3, b1742_3, g1742_5, b1742_5, pe_aload0, pe_iload1, pe_i2l, pe_bipush, pe_call3, pm_af_ret, pm_af_void, pm_af_thr, pe_if_eq, pe_iload2, pe_sipush, pe_goto, pe_goto_w, pe_putfield, pe_getfield, pe_if_le, pe_istore3, pe_iload3, pe_icmp_ge, pe_lastore, pe_iinc3, pe_call1, pm_prog_1, pm_ob_some, Nat.reduceDiv, Nat.reduceMod, Nat.reduceMul, Nat.reduceAdd, Int.reduceToNat, pm_kill_i, pm_kill_r, pm_kill_n, pm_kill_j, pm_kill_l, pm_kill_d, pm_cats_nil, pm_cats_i, pm_cats_r, pm_cats_n, pm_cats_l, pm_cats_d, sz_1, sz_2, sl_1, sl_2, lc_0, lc_lt, lc_le, li_ne, Int32.reduceOfInt, Int64.reduceOfInt, Int32.reduceOfNat, Int32.reduceLT, Int32.reduceLE, Prod.mk.injEq, Nat.reduceEqDiff, reduceCtorEq, and_true, true_and, and_false, false_and, and_self, ite_true, ite_false, ↓reduceIte, not_true_eq_false, not_false_eq_true, pe_ri, pe_rz, Ri_p0 hA, Ri_g0 hA, Ri_p34 hA, Ri_p35 hA, Ri_g18 hA, Ri_g19 hA, Ri_p44 hA, Ri_p33 hA, Ri_g36 hA, Ri_r18 hA, Ri_w18 hA, Ri_l18 hA, Ri_r19 hA, Ri_w19 hA, Ri_l19 hA, eq_true k1, hc]
    · rw [if_neg k2] at e; cases e
  · rw [if_neg k1] at e
    have e := Option.some.inj e; subst e
    dsimp only [Sum.elim_inr, ex1742_4] at hc
    simp -implicitDefEqProofs (disch := first | assumption | exact Nat.le_of_ble_eq_true rfl | decide) only [b1742_0, g1742_1, b1742_1, g1742_3, b1742_3, g1742_5, b1742_5, pe_aload0, pe_iload1, pe_i2l, pe_bipush, pe_call3, pm_af_ret, pm_af_void, pm_af_thr, pe_if_eq, pe_iload2, pe_sipush, pe_goto, pe_goto_w, pe_putfield, pe_getfield, pe_if_le, pe_istore3, pe_iload3, pe_icmp_ge, pe_lastore, pe_iinc3, pe_call1, pm_prog_1, pm_ob_some, Nat.reduceDiv, Nat.reduceMod, Nat.reduceMul, Nat.reduceAdd, Int.reduceToNat, pm_kill_i, pm_kill_r, pm_kill_n, pm_kill_j, pm_kill_l, pm_kill_d, pm_cats_nil, pm_cats_i, pm_cats_r, pm_cats_n, pm_cats_l, pm_cats_d, sz_1, sz_2, sl_1, sl_2, lc_0, lc_lt, lc_le, li_ne, Int32.reduceOfInt, Int64.reduceOfInt, Int32.reduceOfNat, Int32.reduceLT, Int32.reduceLE, Prod.mk.injEq, Nat.reduceEqDiff, reduceCtorEq, and_true, true_and, and_false, false_and, and_self, ite_true, ite_false, ↓reduceIte, not_true_eq_false, not_false_eq_true, pe_ri, pe_rz, Ri_p0 hA, Ri_g0 hA, Ri_p34 hA, Ri_p35 hA, Ri_g18 hA, Ri_g19 hA, Ri_p44 hA, Ri_p33 hA, Ri_g36 hA, Ri_r18 hA, Ri_w18 hA, Ri_l18 hA, Ri_r19 hA, Ri_w19 hA, Ri_l19 hA, eq_false k1, hc]
theorem z1742_4 {A : wK → Nat} {h : pm_H} {m D : Nat} {R : Outcome × pm_H} (hA : wok A Ri_d m) (hD : 7 ≤ D) {n : Nat} {a : Int32 × wS} {b : (wS)} (e : lp (f1742_b4) n a = some b) (hx : ex1742_4 A h D R b) : go1742_4 A h D R a := lp_run (fun a r => y1742_b4 hA hD a r) n a b e hx
theorem y1742_2 {A : wK → Nat} {h : pm_H} {m D : Nat} {S : wS} {x1 : Int32} {x2 : Int32} {y1 : Int32} {r : Int32 × wS} (hA : wok A Ri_d m) (hD : 7 ≤ D) (e : f1742_2 S x1 x2 y1 = some r) : ∀ q3 : Value, pm_go pm_prog (pm_call pm_prog D) 1742 2 [.ref (A (0, 0, 0)), .int x1, .int x2, q3] [.int y1, .ref (A (0, 0, 0))] (wput A Ri_d S h) = some (.returned (some (.int r.1)), (wput A Ri_d r.2 h)) := by
  intro q3
  simp only [f1742_2] at e
  rw [g1742_2, b1742_2]
  by_cases k1 : y1 ≤ 0
  · rw [if_pos k1] at e
    obtain ⟨S2, k2, e⟩ := Option.bind_eq_some_iff.mp e
    try dsimp only at e
    try simp -implicitDefEqProofs (disch := first | assumption | exact Nat.le_of_ble_eq_true rfl | decide) only [b1742_0, g1742_1, b1742_1, g1742_3, b1742_3, g1742_5, b1742_5, pe_aload0, pe_iload1, pe_i2l, pe_bipush, pe_call3, pm_af_ret, pm_af_void, pm_af_thr, pe_if_eq, pe_iload2, pe_sipush, pe_goto, pe_goto_w, pe_putfield, pe_getfield, pe_if_le, pe_istore3, pe_iload3, pe_icmp_ge, pe_lastore, pe_iinc3, pe_call1, pm_prog_1, pm_ob_some, Nat.reduceDiv, Nat.reduceMod, Nat.reduceMul, Nat.reduceAdd, Int.reduceToNat, pm_kill_i, pm_kill_r, pm_kill_n, pm_kill_j, pm_kill_l, pm_kill_d, pm_cats_nil, pm_cats_i, pm_cats_r, pm_cats_n, pm_cats_l, pm_cats_d, sz_1, sz_2, sl_1, sl_2, lc_0, lc_lt, lc_le, li_ne, Int32.reduceOfInt, Int64.reduceOfInt, Int32.reduceOfNat, Int32.reduceLT, Int32.reduceLE, Prod.mk.injEq, Nat.reduceEqDiff, reduceCtorEq, and_true, true_and, and_false, false_and, and_self, ite_true, ite_false, ↓reduceIte, not_true_eq_false, not_false_eq_true, pe_ri, pe_rz, Ri_p0 hA, Ri_g0 hA, Ri_p34 hA, Ri_p35 hA, Ri_g18 hA, Ri_g19 hA, Ri_p44 hA, Ri_p33 hA, Ri_g36 hA, Ri_r18 hA, Ri_w18 hA, Ri_l18 hA, Ri_r19 hA, Ri_w19 hA, Ri_l19 hA, eq_true k1]
    refine z1742_4 hA hD k2 ?_ _ _
    dsimp only [ex1742_4]
    intro q1 q2 q3
    obtain ⟨⟨v3, S4⟩, k3, e⟩ := Option.bind_eq_some_iff.mp e
    try dsimp only at e
    have z3 := x1743 (D := D) (h := h) hA (by omega) k3
    dsimp only at z3
    have e := Option.some.inj e; subst e
    simp -implicitDefEqProofs (disch := first | assumption | exact Nat.le_of_ble_eq_true rfl | decide) only [b1742_0, g1742_1, b1742_1, g1742_3, b1742_3, g1742_5, b1742_5, pe_aload0, pe_iload1, pe_i2l, pe_bipush, pe_call3, pm_af_ret, pm_af_void, pm_af_thr, pe_if_eq, pe_iload2, pe_sipush, pe_goto, pe_goto_w, pe_putfield, pe_getfield, pe_if_le, pe_istore3, pe_iload3, pe_icmp_ge, pe_lastore, pe_iinc3, pe_call1, pm_prog_1, pm_ob_some, Nat.reduceDiv, Nat.reduceMod, Nat.reduceMul, Nat.reduceAdd, Int.reduceToNat, pm_kill_i, pm_kill_r, pm_kill_n, pm_kill_j, pm_kill_l, pm_kill_d, pm_cats_nil, pm_cats_i, pm_cats_r, pm_cats_n, pm_cats_l, pm_cats_d, sz_1, sz_2, sl_1, sl_2, lc_0, lc_lt, lc_le, li_ne, Int32.reduceOfInt, Int64.reduceOfInt, Int32.reduceOfNat, Int32.reduceLT, Int32.reduceLE, Prod.mk.injEq, Nat.reduceEqDiff, reduceCtorEq, and_true, true_and, and_false, false_and, and_self, ite_true, ite_false, ↓reduceIte, not_true_eq_false, not_false_eq_true, pe_ri, pe_rz, Ri_p0 hA, Ri_g0 hA, Ri_p34 hA, Ri_p35 hA, Ri_g18 hA, Ri_g19 hA, Ri_p44 hA, Ri_p33 hA, Ri_g36 hA, Ri_r18 hA, Ri_w18 hA, Ri_l18 hA, Ri_r19 hA, Ri_w19 hA, Ri_l19 hA, eq_true k1, z3]
  · rw [if_neg k1] at e
    have e := Option.some.inj e; subst e
    simp -implicitDefEqProofs (disch := first | assumption | exact Nat.le_of_ble_eq_true rfl | decide) only [b1742_0, g1742_1, b1742_1, g1742_3, b1742_3, g1742_5, b1742_5, pe_aload0, pe_iload1, pe_i2l, pe_bipush, pe_call3, pm_af_ret, pm_af_void, pm_af_thr, pe_if_eq, pe_iload2, pe_sipush, pe_goto, pe_goto_w, pe_putfield, pe_getfield, pe_if_le, pe_istore3, pe_iload3, pe_icmp_ge, pe_lastore, pe_iinc3, pe_call1, pm_prog_1, pm_ob_some, Nat.reduceDiv, Nat.reduceMod, Nat.reduceMul, Nat.reduceAdd, Int.reduceToNat, pm_kill_i, pm_kill_r, pm_kill_n, pm_kill_j, pm_kill_l, pm_kill_d, pm_cats_nil, pm_cats_i, pm_cats_r, pm_cats_n, pm_cats_l, pm_cats_d, sz_1, sz_2, sl_1, sl_2, lc_0, lc_lt, lc_le, li_ne, Int32.reduceOfInt, Int64.reduceOfInt, Int32.reduceOfNat, Int32.reduceLT, Int32.reduceLE, Prod.mk.injEq, Nat.reduceEqDiff, reduceCtorEq, and_true, true_and, and_false, false_and, and_self, ite_true, ite_false, ↓reduceIte, not_true_eq_false, not_false_eq_true, pe_ri, pe_rz, Ri_p0 hA, Ri_g0 hA, Ri_p34 hA, Ri_p35 hA, Ri_g18 hA, Ri_g19 hA, Ri_p44 hA, Ri_p33 hA, Ri_g36 hA, Ri_r18 hA, Ri_w18 hA, Ri_l18 hA, Ri_r19 hA, Ri_w19 hA, Ri_l19 hA, eq_false k1]
theorem x1742 {A : wK → Nat} {h : pm_H} {m D : Nat} {S : wS} {x1 : Int32} {x2 : Int32} {r : Int32 × wS} (hA : wok A Ri_d m) (hD : 8 ≤ D) (e : f1742 S x1 x2 = some r) : pm_call pm_prog D 1742 [.ref (A (0, 0, 0)), .int x1, .int x2] (wput A Ri_d S h) = some (.returned (some (.int r.1)), (wput A Ri_d r.2 h)) := by
  obtain ⟨D, rfl⟩ : ∃ D', D = D' + 1 := ⟨D - 1, by omega⟩
  have hD : 7 ≤ D := by omega
  rw [c1742 (Ri_c hA), b1742_0]
  simp only [f1742] at e
  obtain ⟨v1, k1, e⟩ := Option.bind_eq_some_iff.mp e
  try dsimp only at e
  have z1 := fun h => x1731 (D := D) (h := h) (by omega) k1
  by_cases k2 : v1 = 0
  · rw [if_pos k2] at e
    have k3 := y1742_2 (h := h) hA hD e
    simp -implicitDefEqProofs (disch := first | assumption | exact Nat.le_of_ble_eq_true rfl | decide) only [b1742_0, g1742_1, b1742_1, g1742_3, b1742_3, g1742_5, b1742_5, pe_aload0, pe_iload1, pe_i2l, pe_bipush, pe_call3, pm_af_ret, pm_af_void, pm_af_thr, pe_if_eq, pe_iload2, pe_sipush, pe_goto, pe_goto_w, pe_putfield, pe_getfield, pe_if_le, pe_istore3, pe_iload3, pe_icmp_ge, pe_lastore, pe_iinc3, pe_call1, pm_prog_1, pm_ob_some, Nat.reduceDiv, Nat.reduceMod, Nat.reduceMul, Nat.reduceAdd, Int.reduceToNat, pm_kill_i, pm_kill_r, pm_kill_n, pm_kill_j, pm_kill_l, pm_kill_d, pm_cats_nil, pm_cats_i, pm_cats_r, pm_cats_n, pm_cats_l, pm_cats_d, sz_1, sz_2, sl_1, sl_2, lc_0, lc_lt, lc_le, li_ne, Int32.reduceOfInt, Int64.reduceOfInt, Int32.reduceOfNat, Int32.reduceLT, Int32.reduceLE, Prod.mk.injEq, Nat.reduceEqDiff, reduceCtorEq, and_true, true_and, and_false, false_and, and_self, ite_true, ite_false, ↓reduceIte, not_true_eq_false, not_false_eq_true, pe_ri, pe_rz, Ri_p0 hA, Ri_g0 hA, Ri_p34 hA, Ri_p35 hA, Ri_g18 hA, Ri_g19 hA, Ri_p44 hA, Ri_p33 hA, Ri_g36 hA, Ri_r18 hA, Ri_w18 hA, Ri_l18 hA, Ri_r19 hA, Ri_w19 hA, Ri_l19 hA, z1, eq_true k2, k3]
  · rw [if_neg k2] at e
    obtain ⟨v5, k4, e⟩ := Option.bind_eq_some_iff.mp e
    try dsimp only at e
    have z4 := fun h => x1731 (D := D) (h := h) (by omega) k4
    by_cases k5 : v5 = 0
    · rw [if_pos k5] at e
      have k6 := y1742_2 (h := h) hA hD e
      simp -implicitDefEqProofs (disch := first | assumption | exact Nat.le_of_ble_eq_true rfl | decide) only [b1742_0, g1742_1, b1742_1, g1742_3, b1742_3, g1742_5, b1742_5, pe_aload0, pe_iload1, pe_i2l, pe_bipush, pe_call3, pm_af_ret, pm_af_void, pm_af_thr, pe_if_eq, pe_iload2, pe_sipush, pe_goto, pe_goto_w, pe_putfield, pe_getfield, pe_if_le, pe_istore3, pe_iload3, pe_icmp_ge, pe_lastore, pe_iinc3, pe_call1, pm_prog_1, pm_ob_some, Nat.reduceDiv, Nat.reduceMod, Nat.reduceMul, Nat.reduceAdd, Int.reduceToNat, pm_kill_i, pm_kill_r, pm_kill_n, pm_kill_j, pm_kill_l, pm_kill_d, pm_cats_nil, pm_cats_i, pm_cats_r, pm_cats_n, pm_cats_l, pm_cats_d, sz_1, sz_2, sl_1, sl_2, lc_0, lc_lt, lc_le, li_ne, Int32.reduceOfInt, Int64.reduceOfInt, Int32.reduceOfNat, Int32.reduceLT, Int32.reduceLE, Prod.mk.injEq, Nat.reduceEqDiff, reduceCtorEq, and_true, true_and, and_false, false_and, and_self, ite_true, ite_false, ↓reduceIte, not_true_eq_false, not_false_eq_true, pe_ri, pe_rz, Ri_p0 hA, Ri_g0 hA, Ri_p34 hA, Ri_p35 hA, Ri_g18 hA, Ri_g19 hA, Ri_p44 hA, Ri_p33 hA, Ri_g36 hA, Ri_r18 hA, Ri_w18 hA, Ri_l18 hA, Ri_r19 hA, Ri_w19 hA, Ri_l19 hA, z1, eq_false k2, z4, eq_true k5, k6]
    · rw [if_neg k5] at e
      have k7 := y1742_2 (h := h) hA hD e
      simp -implicitDefEqProofs (disch := first | assumption | exact Nat.le_of_ble_eq_true rfl | decide) only [b1742_0, g1742_1, b1742_1, g1742_3, b1742_3, g1742_5, b1742_5, pe_aload0, pe_iload1, pe_i2l, pe_bipush, pe_call3, pm_af_ret, pm_af_void, pm_af_thr, pe_if_eq, pe_iload2, pe_sipush, pe_goto, pe_goto_w, pe_putfield, pe_getfield, pe_if_le, pe_istore3, pe_iload3, pe_icmp_ge, pe_lastore, pe_iinc3, pe_call1, pm_prog_1, pm_ob_some, Nat.reduceDiv, Nat.reduceMod, Nat.reduceMul, Nat.reduceAdd, Int.reduceToNat, pm_kill_i, pm_kill_r, pm_kill_n, pm_kill_j, pm_kill_l, pm_kill_d, pm_cats_nil, pm_cats_i, pm_cats_r, pm_cats_n, pm_cats_l, pm_cats_d, sz_1, sz_2, sl_1, sl_2, lc_0, lc_lt, lc_le, li_ne, Int32.reduceOfInt, Int64.reduceOfInt, Int32.reduceOfNat, Int32.reduceLT, Int32.reduceLE, Prod.mk.injEq, Nat.reduceEqDiff, reduceCtorEq, and_true, true_and, and_false, false_and, and_self, ite_true, ite_false, ↓reduceIte, not_true_eq_false, not_false_eq_true, pe_ri, pe_rz, Ri_p0 hA, Ri_g0 hA, Ri_p34 hA, Ri_p35 hA, Ri_g18 hA, Ri_g19 hA, Ri_p44 hA, Ri_p33 hA, Ri_g36 hA, Ri_r18 hA, Ri_w18 hA, Ri_l18 hA, Ri_r19 hA, Ri_w19 hA, Ri_l19 hA, z1, eq_false k2, z4, eq_false k5, k7]
/-- TimberHouseModel$Rips.told(Z)Z -/
theorem c1732 {d : Nat} {h : pm_H} {a : Nat} {x0 : Int32} (hc : pm_cls h a = some 27) : pm_call pm_prog (d + 1) 1732 [.ref a, .int x0] h = pm_ev pm_prog (pm_call pm_prog d) 1732 0 b1732_0 [.ref a, .int x0] [] h := pm_cal (pm_rc1 hc rfl) rfl rfl rfl
theorem g1732_1 {cl : pm_C} {ls st : List Value} {h : pm_H} : pm_go pm_prog cl 1732 1 ls st h = pm_ev pm_prog cl 1732 1 b1732_1 ls st h := pm_go_eq pm_prog cl 1732 1 ls st h
theorem g1732_2 {cl : pm_C} {ls st : List Value} {h : pm_H} : pm_go pm_prog cl 1732 2 ls st h = pm_ev pm_prog cl 1732 2 b1732_2 ls st h := pm_go_eq pm_prog cl 1732 2 ls st h
/-- TimberHouseModel$Rips.told(Z)Z -/
noncomputable def f1732 (S : wS) (x1 : Int32) : Option (Int32 × wS) :=
  if (S.1 (0, 0, 0) 33) = 0 then
    if x1 = 0 ∨ x1 = 1 then
      some (x1, (sz S (0, 0, 0) 33 0))
    else none
  else
    if x1 = 0 then
      if x1 = 0 ∨ x1 = 1 then
        some (x1, (sz S (0, 0, 0) 33 1))
      else none
    else
      if x1 = 0 ∨ x1 = 1 then
        some (x1, (sz S (0, 0, 0) 33 0))
      else none
theorem x1732 {A : wK → Nat} {h : pm_H} {m D : Nat} {S : wS} {x1 : Int32} {r : Int32 × wS} (hA : wok A Ri_d m) (hD : 1 ≤ D) (e : f1732 S x1 = some r) : pm_call pm_prog D 1732 [.ref (A (0, 0, 0)), .int x1] (wput A Ri_d S h) = some (.returned (some (.int r.1)), (wput A Ri_d r.2 h)) := by
  obtain ⟨D, rfl⟩ : ∃ D', D = D' + 1 := ⟨D - 1, by omega⟩
  have hD : 0 ≤ D := by omega
  rw [c1732 (Ri_c hA), b1732_0]
  simp only [f1732] at e
  by_cases k1 : (S.1 (0, 0, 0) 33) = 0
  · rw [if_pos k1] at e
    by_cases k2 : x1 = 0 ∨ x1 = 1
    · rw [if_pos k2] at e
      have e := Option.some.inj e; subst e
      simp -implicitDefEqProofs (disch := first | assumption | exact Nat.le_of_ble_eq_true rfl | decide) only [b1732_0, g1732_1, b1732_1, g1732_2, b1732_2, pe_aload0, pe_getfield, pe_if_eq, pe_iload1, pe_if_ne, pe_sipush, pe_goto, pe_goto_w, pe_putfield, pm_prog_1, pm_ob_some, Nat.reduceDiv, Nat.reduceMod, Nat.reduceMul, Nat.reduceAdd, Int.reduceToNat, pm_kill_i, pm_kill_r, pm_kill_n, pm_kill_j, pm_kill_l, pm_kill_d, pm_cats_nil, pm_cats_i, pm_cats_r, pm_cats_n, pm_cats_l, pm_cats_d, sz_1, sz_2, sl_1, sl_2, lc_0, lc_lt, lc_le, li_ne, Int32.reduceOfInt, Int64.reduceOfInt, Int32.reduceOfNat, Int32.reduceLT, Int32.reduceLE, Prod.mk.injEq, Nat.reduceEqDiff, reduceCtorEq, and_true, true_and, and_false, false_and, and_self, ite_true, ite_false, ↓reduceIte, not_true_eq_false, not_false_eq_true, pe_ri, pe_rz, Ri_g33 hA, Ri_p33 hA, eq_true k1]
    · rw [if_neg k2] at e; cases e
  · rw [if_neg k1] at e
    by_cases k3 : x1 = 0
    · rw [if_pos k3] at e
      by_cases k4 : x1 = 0 ∨ x1 = 1
      · rw [if_pos k4] at e
        have e := Option.some.inj e; subst e
        simp -implicitDefEqProofs (disch := first | assumption | exact Nat.le_of_ble_eq_true rfl | decide) only [b1732_0, g1732_1, b1732_1, g1732_2, b1732_2, pe_aload0, pe_getfield, pe_if_eq, pe_iload1, pe_if_ne, pe_sipush, pe_goto, pe_goto_w, pe_putfield, pm_prog_1, pm_ob_some, Nat.reduceDiv, Nat.reduceMod, Nat.reduceMul, Nat.reduceAdd, Int.reduceToNat, pm_kill_i, pm_kill_r, pm_kill_n, pm_kill_j, pm_kill_l, pm_kill_d, pm_cats_nil, pm_cats_i, pm_cats_r, pm_cats_n, pm_cats_l, pm_cats_d, sz_1, sz_2, sl_1, sl_2, lc_0, lc_lt, lc_le, li_ne, Int32.reduceOfInt, Int64.reduceOfInt, Int32.reduceOfNat, Int32.reduceLT, Int32.reduceLE, Prod.mk.injEq, Nat.reduceEqDiff, reduceCtorEq, and_true, true_and, and_false, false_and, and_self, ite_true, ite_false, ↓reduceIte, not_true_eq_false, not_false_eq_true, pe_ri, pe_rz, Ri_g33 hA, Ri_p33 hA, eq_false k1, eq_true k3]
      · rw [if_neg k4] at e; cases e
    · rw [if_neg k3] at e
      by_cases k5 : x1 = 0 ∨ x1 = 1
      · rw [if_pos k5] at e
        have e := Option.some.inj e; subst e
        simp -implicitDefEqProofs (disch := first | assumption | exact Nat.le_of_ble_eq_true rfl | decide) only [b1732_0, g1732_1, b1732_1, g1732_2, b1732_2, pe_aload0, pe_getfield, pe_if_eq, pe_iload1, pe_if_ne, pe_sipush, pe_goto, pe_goto_w, pe_putfield, pm_prog_1, pm_ob_some, Nat.reduceDiv, Nat.reduceMod, Nat.reduceMul, Nat.reduceAdd, Int.reduceToNat, pm_kill_i, pm_kill_r, pm_kill_n, pm_kill_j, pm_kill_l, pm_kill_d, pm_cats_nil, pm_cats_i, pm_cats_r, pm_cats_n, pm_cats_l, pm_cats_d, sz_1, sz_2, sl_1, sl_2, lc_0, lc_lt, lc_le, li_ne, Int32.reduceOfInt, Int64.reduceOfInt, Int32.reduceOfNat, Int32.reduceLT, Int32.reduceLE, Prod.mk.injEq, Nat.reduceEqDiff, reduceCtorEq, and_true, true_and, and_false, false_and, and_self, ite_true, ite_false, ↓reduceIte, not_true_eq_false, not_false_eq_true, pe_ri, pe_rz, Ri_g33 hA, Ri_p33 hA, eq_false k1, eq_false k3]
      · rw [if_neg k5] at e; cases e
/-- TimberHouseModel$Rips.bow(I)Z -/
theorem c1741 {d : Nat} {h : pm_H} {a : Nat} {x0 : Int32} (hc : pm_cls h a = some 27) : pm_call pm_prog (d + 1) 1741 [.ref a, .int x0] h = pm_ev pm_prog (pm_call pm_prog d) 1741 0 b1741_0 [.ref a, .int x0] [] h := pm_cal (pm_rc1 hc rfl) rfl rfl rfl
theorem g1741_1 {cl : pm_C} {ls st : List Value} {h : pm_H} : pm_go pm_prog cl 1741 1 ls st h = pm_ev pm_prog cl 1741 1 b1741_1 ls st h := pm_go_eq pm_prog cl 1741 1 ls st h
theorem g1741_2 {cl : pm_C} {ls st : List Value} {h : pm_H} : pm_go pm_prog cl 1741 2 ls st h = pm_ev pm_prog cl 1741 2 b1741_2 ls st h := pm_go_eq pm_prog cl 1741 2 ls st h
theorem g1741_3 {cl : pm_C} {ls st : List Value} {h : pm_H} : pm_go pm_prog cl 1741 3 ls st h = pm_ev pm_prog cl 1741 3 b1741_3 ls st h := pm_go_eq pm_prog cl 1741 3 ls st h
theorem g1741_4 {cl : pm_C} {ls st : List Value} {h : pm_H} : pm_go pm_prog cl 1741 4 ls st h = pm_ev pm_prog cl 1741 4 b1741_4 ls st h := pm_go_eq pm_prog cl 1741 4 ls st h
noncomputable def f1741_2 (S : wS) (x1 : Int32) (y1 : Int32) : Option (Int32 × wS) :=
  if y1 ≤ 0 then
    if x1 = (S.1 (0, 0, 0) 23) then
      some (0, (sz S (0, 0, 0) 0 y1))
    else
      (f1732 (sz (sz S (0, 0, 0) 0 y1) (0, 0, 0) 23 x1) 1).bind fun (v2, S3) =>
      if v2 = 0 ∨ v2 = 1 then
        some (v2, S3)
      else none
  else
    some (0, (sz S (0, 0, 0) 0 y1))
/-- TimberHouseModel$Rips.bow(I)Z -/
noncomputable def f1741 (S : wS) (x1 : Int32) : Option (Int32 × wS) :=
  (f1731 (Int32.toInt64 x1) 1 16777216).bind fun v1 =>
  if v1 = 0 then
    f1741_2 S x1 1
  else
    f1741_2 S x1 0
theorem y1741_2 {A : wK → Nat} {h : pm_H} {m D : Nat} {S : wS} {x1 : Int32} {y1 : Int32} {r : Int32 × wS} (hA : wok A Ri_d m) (hD : 1 ≤ D) (e : f1741_2 S x1 y1 = some r) : pm_go pm_prog (pm_call pm_prog D) 1741 2 [.ref (A (0, 0, 0)), .int x1] [.int y1, .ref (A (0, 0, 0))] (wput A Ri_d S h) = some (.returned (some (.int r.1)), (wput A Ri_d r.2 h)) := by
  simp only [f1741_2] at e
  rw [g1741_2, b1741_2]
  by_cases k1 : y1 ≤ 0
  · rw [if_pos k1] at e
    by_cases k2 : x1 = (S.1 (0, 0, 0) 23)
    · rw [if_pos k2] at e
      have e := Option.some.inj e; subst e
      simp -implicitDefEqProofs (disch := first | assumption | exact Nat.le_of_ble_eq_true rfl | decide) only [b1741_0, g1741_1, b1741_1, g1741_3, b1741_3, g1741_4, b1741_4, pe_aload0, pe_iload1, pe_i2l, pe_bipush, pe_call3, pm_af_ret, pm_af_void, pm_af_thr, pe_if_eq, pe_sipush, pe_goto, pe_goto_w, pe_putfield, pe_getfield, pe_if_gt, pe_icmp_ne, pe_call2, pm_prog_1, pm_ob_some, Nat.reduceDiv, Nat.reduceMod, Nat.reduceMul, Nat.reduceAdd, Int.reduceToNat, pm_kill_i, pm_kill_r, pm_kill_n, pm_kill_j, pm_kill_l, pm_kill_d, pm_cats_nil, pm_cats_i, pm_cats_r, pm_cats_n, pm_cats_l, pm_cats_d, sz_1, sz_2, sl_1, sl_2, lc_0, lc_lt, lc_le, li_ne, Int32.reduceOfInt, Int64.reduceOfInt, Int32.reduceOfNat, Int32.reduceLT, Int32.reduceLE, Prod.mk.injEq, Nat.reduceEqDiff, reduceCtorEq, and_true, true_and, and_false, false_and, and_self, ite_true, ite_false, ↓reduceIte, not_true_eq_false, not_false_eq_true, pe_ri, pe_rz, Ri_p0 hA, Ri_g0 hA, Ri_g23 hA, Ri_p23 hA, eq_true k1, eq_true k2]
    · rw [if_neg k2] at e
      obtain ⟨⟨v2, S3⟩, k3, e⟩ := Option.bind_eq_some_iff.mp e
      try dsimp only at e
      have z3 := x1732 (D := D) (h := h) hA (by omega) k3
      dsimp only at z3
      by_cases k4 : v2 = 0 ∨ v2 = 1
      · rw [if_pos k4] at e
        have e := Option.some.inj e; subst e
        simp -implicitDefEqProofs (disch := first | assumption | exact Nat.le_of_ble_eq_true rfl | decide) only [b1741_0, g1741_1, b1741_1, g1741_3, b1741_3, g1741_4, b1741_4, pe_aload0, pe_iload1, pe_i2l, pe_bipush, pe_call3, pm_af_ret, pm_af_void, pm_af_thr, pe_if_eq, pe_sipush, pe_goto, pe_goto_w, pe_putfield, pe_getfield, pe_if_gt, pe_icmp_ne, pe_call2, pm_prog_1, pm_ob_some, Nat.reduceDiv, Nat.reduceMod, Nat.reduceMul, Nat.reduceAdd, Int.reduceToNat, pm_kill_i, pm_kill_r, pm_kill_n, pm_kill_j, pm_kill_l, pm_kill_d, pm_cats_nil, pm_cats_i, pm_cats_r, pm_cats_n, pm_cats_l, pm_cats_d, sz_1, sz_2, sl_1, sl_2, lc_0, lc_lt, lc_le, li_ne, Int32.reduceOfInt, Int64.reduceOfInt, Int32.reduceOfNat, Int32.reduceLT, Int32.reduceLE, Prod.mk.injEq, Nat.reduceEqDiff, reduceCtorEq, and_true, true_and, and_false, false_and, and_self, ite_true, ite_false, ↓reduceIte, not_true_eq_false, not_false_eq_true, pe_ri, pe_rz, Ri_p0 hA, Ri_g0 hA, Ri_g23 hA, Ri_p23 hA, eq_true k1, eq_false k2, z3]
      · rw [if_neg k4] at e; cases e
  · rw [if_neg k1] at e
    have e := Option.some.inj e; subst e
    simp -implicitDefEqProofs (disch := first | assumption | exact Nat.le_of_ble_eq_true rfl | decide) only [b1741_0, g1741_1, b1741_1, g1741_3, b1741_3, g1741_4, b1741_4, pe_aload0, pe_iload1, pe_i2l, pe_bipush, pe_call3, pm_af_ret, pm_af_void, pm_af_thr, pe_if_eq, pe_sipush, pe_goto, pe_goto_w, pe_putfield, pe_getfield, pe_if_gt, pe_icmp_ne, pe_call2, pm_prog_1, pm_ob_some, Nat.reduceDiv, Nat.reduceMod, Nat.reduceMul, Nat.reduceAdd, Int.reduceToNat, pm_kill_i, pm_kill_r, pm_kill_n, pm_kill_j, pm_kill_l, pm_kill_d, pm_cats_nil, pm_cats_i, pm_cats_r, pm_cats_n, pm_cats_l, pm_cats_d, sz_1, sz_2, sl_1, sl_2, lc_0, lc_lt, lc_le, li_ne, Int32.reduceOfInt, Int64.reduceOfInt, Int32.reduceOfNat, Int32.reduceLT, Int32.reduceLE, Prod.mk.injEq, Nat.reduceEqDiff, reduceCtorEq, and_true, true_and, and_false, false_and, and_self, ite_true, ite_false, ↓reduceIte, not_true_eq_false, not_false_eq_true, pe_ri, pe_rz, Ri_p0 hA, Ri_g0 hA, Ri_g23 hA, Ri_p23 hA, eq_false k1]
theorem x1741 {A : wK → Nat} {h : pm_H} {m D : Nat} {S : wS} {x1 : Int32} {r : Int32 × wS} (hA : wok A Ri_d m) (hD : 2 ≤ D) (e : f1741 S x1 = some r) : pm_call pm_prog D 1741 [.ref (A (0, 0, 0)), .int x1] (wput A Ri_d S h) = some (.returned (some (.int r.1)), (wput A Ri_d r.2 h)) := by
  obtain ⟨D, rfl⟩ : ∃ D', D = D' + 1 := ⟨D - 1, by omega⟩
  have hD : 1 ≤ D := by omega
  rw [c1741 (Ri_c hA), b1741_0]
  simp only [f1741] at e
  obtain ⟨v1, k1, e⟩ := Option.bind_eq_some_iff.mp e
  try dsimp only at e
  have z1 := fun h => x1731 (D := D) (h := h) (by omega) k1
  by_cases k2 : v1 = 0
  · rw [if_pos k2] at e
    have k3 := y1741_2 (h := h) hA hD e
    simp -implicitDefEqProofs (disch := first | assumption | exact Nat.le_of_ble_eq_true rfl | decide) only [b1741_0, g1741_1, b1741_1, g1741_3, b1741_3, g1741_4, b1741_4, pe_aload0, pe_iload1, pe_i2l, pe_bipush, pe_call3, pm_af_ret, pm_af_void, pm_af_thr, pe_if_eq, pe_sipush, pe_goto, pe_goto_w, pe_putfield, pe_getfield, pe_if_gt, pe_icmp_ne, pe_call2, pm_prog_1, pm_ob_some, Nat.reduceDiv, Nat.reduceMod, Nat.reduceMul, Nat.reduceAdd, Int.reduceToNat, pm_kill_i, pm_kill_r, pm_kill_n, pm_kill_j, pm_kill_l, pm_kill_d, pm_cats_nil, pm_cats_i, pm_cats_r, pm_cats_n, pm_cats_l, pm_cats_d, sz_1, sz_2, sl_1, sl_2, lc_0, lc_lt, lc_le, li_ne, Int32.reduceOfInt, Int64.reduceOfInt, Int32.reduceOfNat, Int32.reduceLT, Int32.reduceLE, Prod.mk.injEq, Nat.reduceEqDiff, reduceCtorEq, and_true, true_and, and_false, false_and, and_self, ite_true, ite_false, ↓reduceIte, not_true_eq_false, not_false_eq_true, pe_ri, pe_rz, Ri_p0 hA, Ri_g0 hA, Ri_g23 hA, Ri_p23 hA, z1, eq_true k2, k3]
  · rw [if_neg k2] at e
    have k4 := y1741_2 (h := h) hA hD e
    simp -implicitDefEqProofs (disch := first | assumption | exact Nat.le_of_ble_eq_true rfl | decide) only [b1741_0, g1741_1, b1741_1, g1741_3, b1741_3, g1741_4, b1741_4, pe_aload0, pe_iload1, pe_i2l, pe_bipush, pe_call3, pm_af_ret, pm_af_void, pm_af_thr, pe_if_eq, pe_sipush, pe_goto, pe_goto_w, pe_putfield, pe_getfield, pe_if_gt, pe_icmp_ne, pe_call2, pm_prog_1, pm_ob_some, Nat.reduceDiv, Nat.reduceMod, Nat.reduceMul, Nat.reduceAdd, Int.reduceToNat, pm_kill_i, pm_kill_r, pm_kill_n, pm_kill_j, pm_kill_l, pm_kill_d, pm_cats_nil, pm_cats_i, pm_cats_r, pm_cats_n, pm_cats_l, pm_cats_d, sz_1, sz_2, sl_1, sl_2, lc_0, lc_lt, lc_le, li_ne, Int32.reduceOfInt, Int64.reduceOfInt, Int32.reduceOfNat, Int32.reduceLT, Int32.reduceLE, Prod.mk.injEq, Nat.reduceEqDiff, reduceCtorEq, and_true, true_and, and_false, false_and, and_self, ite_true, ite_false, ↓reduceIte, not_true_eq_false, not_false_eq_true, pe_ri, pe_rz, Ri_p0 hA, Ri_g0 hA, Ri_g23 hA, Ri_p23 hA, z1, eq_false k2, k4]
/-- TimberHouseModel$Rips.margin(I)Z -/
theorem c1740 {d : Nat} {h : pm_H} {a : Nat} {x0 : Int32} (hc : pm_cls h a = some 27) : pm_call pm_prog (d + 1) 1740 [.ref a, .int x0] h = pm_ev pm_prog (pm_call pm_prog d) 1740 0 b1740_0 [.ref a, .int x0] [] h := pm_cal (pm_rc1 hc rfl) rfl rfl rfl
theorem g1740_1 {cl : pm_C} {ls st : List Value} {h : pm_H} : pm_go pm_prog cl 1740 1 ls st h = pm_ev pm_prog cl 1740 1 b1740_1 ls st h := pm_go_eq pm_prog cl 1740 1 ls st h
theorem g1740_2 {cl : pm_C} {ls st : List Value} {h : pm_H} : pm_go pm_prog cl 1740 2 ls st h = pm_ev pm_prog cl 1740 2 b1740_2 ls st h := pm_go_eq pm_prog cl 1740 2 ls st h
theorem g1740_3 {cl : pm_C} {ls st : List Value} {h : pm_H} : pm_go pm_prog cl 1740 3 ls st h = pm_ev pm_prog cl 1740 3 b1740_3 ls st h := pm_go_eq pm_prog cl 1740 3 ls st h
theorem g1740_4 {cl : pm_C} {ls st : List Value} {h : pm_H} : pm_go pm_prog cl 1740 4 ls st h = pm_ev pm_prog cl 1740 4 b1740_4 ls st h := pm_go_eq pm_prog cl 1740 4 ls st h
noncomputable def f1740_2 (S : wS) (x1 : Int32) (y1 : Int32) : Option (Int32 × wS) :=
  if y1 ≤ 0 then
    if x1 = (S.1 (0, 0, 0) 22) then
      some (0, (sz S (0, 0, 0) 0 y1))
    else
      (f1732 (sz (sz S (0, 0, 0) 0 y1) (0, 0, 0) 22 x1) 1).bind fun (v2, S3) =>
      if v2 = 0 ∨ v2 = 1 then
        some (v2, S3)
      else none
  else
    some (0, (sz S (0, 0, 0) 0 y1))
/-- TimberHouseModel$Rips.margin(I)Z -/
noncomputable def f1740 (S : wS) (x1 : Int32) : Option (Int32 × wS) :=
  (f1731 (Int32.toInt64 x1) 0 65536).bind fun v1 =>
  if v1 = 0 then
    f1740_2 S x1 1
  else
    f1740_2 S x1 0
theorem y1740_2 {A : wK → Nat} {h : pm_H} {m D : Nat} {S : wS} {x1 : Int32} {y1 : Int32} {r : Int32 × wS} (hA : wok A Ri_d m) (hD : 1 ≤ D) (e : f1740_2 S x1 y1 = some r) : pm_go pm_prog (pm_call pm_prog D) 1740 2 [.ref (A (0, 0, 0)), .int x1] [.int y1, .ref (A (0, 0, 0))] (wput A Ri_d S h) = some (.returned (some (.int r.1)), (wput A Ri_d r.2 h)) := by
  simp only [f1740_2] at e
  rw [g1740_2, b1740_2]
  by_cases k1 : y1 ≤ 0
  · rw [if_pos k1] at e
    by_cases k2 : x1 = (S.1 (0, 0, 0) 22)
    · rw [if_pos k2] at e
      have e := Option.some.inj e; subst e
      simp -implicitDefEqProofs (disch := first | assumption | exact Nat.le_of_ble_eq_true rfl | decide) only [b1740_0, g1740_1, b1740_1, g1740_3, b1740_3, g1740_4, b1740_4, pe_aload0, pe_iload1, pe_i2l, pe_bipush, pe_call3, pm_af_ret, pm_af_void, pm_af_thr, pe_if_eq, pe_sipush, pe_goto, pe_goto_w, pe_putfield, pe_getfield, pe_if_gt, pe_icmp_ne, pe_call2, pm_prog_1, pm_ob_some, Nat.reduceDiv, Nat.reduceMod, Nat.reduceMul, Nat.reduceAdd, Int.reduceToNat, pm_kill_i, pm_kill_r, pm_kill_n, pm_kill_j, pm_kill_l, pm_kill_d, pm_cats_nil, pm_cats_i, pm_cats_r, pm_cats_n, pm_cats_l, pm_cats_d, sz_1, sz_2, sl_1, sl_2, lc_0, lc_lt, lc_le, li_ne, Int32.reduceOfInt, Int64.reduceOfInt, Int32.reduceOfNat, Int32.reduceLT, Int32.reduceLE, Prod.mk.injEq, Nat.reduceEqDiff, reduceCtorEq, and_true, true_and, and_false, false_and, and_self, ite_true, ite_false, ↓reduceIte, not_true_eq_false, not_false_eq_true, pe_ri, pe_rz, Ri_p0 hA, Ri_g0 hA, Ri_g22 hA, Ri_p22 hA, eq_true k1, eq_true k2]
    · rw [if_neg k2] at e
      obtain ⟨⟨v2, S3⟩, k3, e⟩ := Option.bind_eq_some_iff.mp e
      try dsimp only at e
      have z3 := x1732 (D := D) (h := h) hA (by omega) k3
      dsimp only at z3
      by_cases k4 : v2 = 0 ∨ v2 = 1
      · rw [if_pos k4] at e
        have e := Option.some.inj e; subst e
        simp -implicitDefEqProofs (disch := first | assumption | exact Nat.le_of_ble_eq_true rfl | decide) only [b1740_0, g1740_1, b1740_1, g1740_3, b1740_3, g1740_4, b1740_4, pe_aload0, pe_iload1, pe_i2l, pe_bipush, pe_call3, pm_af_ret, pm_af_void, pm_af_thr, pe_if_eq, pe_sipush, pe_goto, pe_goto_w, pe_putfield, pe_getfield, pe_if_gt, pe_icmp_ne, pe_call2, pm_prog_1, pm_ob_some, Nat.reduceDiv, Nat.reduceMod, Nat.reduceMul, Nat.reduceAdd, Int.reduceToNat, pm_kill_i, pm_kill_r, pm_kill_n, pm_kill_j, pm_kill_l, pm_kill_d, pm_cats_nil, pm_cats_i, pm_cats_r, pm_cats_n, pm_cats_l, pm_cats_d, sz_1, sz_2, sl_1, sl_2, lc_0, lc_lt, lc_le, li_ne, Int32.reduceOfInt, Int64.reduceOfInt, Int32.reduceOfNat, Int32.reduceLT, Int32.reduceLE, Prod.mk.injEq, Nat.reduceEqDiff, reduceCtorEq, and_true, true_and, and_false, false_and, and_self, ite_true, ite_false, ↓reduceIte, not_true_eq_false, not_false_eq_true, pe_ri, pe_rz, Ri_p0 hA, Ri_g0 hA, Ri_g22 hA, Ri_p22 hA, eq_true k1, eq_false k2, z3]
      · rw [if_neg k4] at e; cases e
  · rw [if_neg k1] at e
    have e := Option.some.inj e; subst e
    simp -implicitDefEqProofs (disch := first | assumption | exact Nat.le_of_ble_eq_true rfl | decide) only [b1740_0, g1740_1, b1740_1, g1740_3, b1740_3, g1740_4, b1740_4, pe_aload0, pe_iload1, pe_i2l, pe_bipush, pe_call3, pm_af_ret, pm_af_void, pm_af_thr, pe_if_eq, pe_sipush, pe_goto, pe_goto_w, pe_putfield, pe_getfield, pe_if_gt, pe_icmp_ne, pe_call2, pm_prog_1, pm_ob_some, Nat.reduceDiv, Nat.reduceMod, Nat.reduceMul, Nat.reduceAdd, Int.reduceToNat, pm_kill_i, pm_kill_r, pm_kill_n, pm_kill_j, pm_kill_l, pm_kill_d, pm_cats_nil, pm_cats_i, pm_cats_r, pm_cats_n, pm_cats_l, pm_cats_d, sz_1, sz_2, sl_1, sl_2, lc_0, lc_lt, lc_le, li_ne, Int32.reduceOfInt, Int64.reduceOfInt, Int32.reduceOfNat, Int32.reduceLT, Int32.reduceLE, Prod.mk.injEq, Nat.reduceEqDiff, reduceCtorEq, and_true, true_and, and_false, false_and, and_self, ite_true, ite_false, ↓reduceIte, not_true_eq_false, not_false_eq_true, pe_ri, pe_rz, Ri_p0 hA, Ri_g0 hA, Ri_g22 hA, Ri_p22 hA, eq_false k1]
theorem x1740 {A : wK → Nat} {h : pm_H} {m D : Nat} {S : wS} {x1 : Int32} {r : Int32 × wS} (hA : wok A Ri_d m) (hD : 2 ≤ D) (e : f1740 S x1 = some r) : pm_call pm_prog D 1740 [.ref (A (0, 0, 0)), .int x1] (wput A Ri_d S h) = some (.returned (some (.int r.1)), (wput A Ri_d r.2 h)) := by
  obtain ⟨D, rfl⟩ : ∃ D', D = D' + 1 := ⟨D - 1, by omega⟩
  have hD : 1 ≤ D := by omega
  rw [c1740 (Ri_c hA), b1740_0]
  simp only [f1740] at e
  obtain ⟨v1, k1, e⟩ := Option.bind_eq_some_iff.mp e
  try dsimp only at e
  have z1 := fun h => x1731 (D := D) (h := h) (by omega) k1
  by_cases k2 : v1 = 0
  · rw [if_pos k2] at e
    have k3 := y1740_2 (h := h) hA hD e
    simp -implicitDefEqProofs (disch := first | assumption | exact Nat.le_of_ble_eq_true rfl | decide) only [b1740_0, g1740_1, b1740_1, g1740_3, b1740_3, g1740_4, b1740_4, pe_aload0, pe_iload1, pe_i2l, pe_bipush, pe_call3, pm_af_ret, pm_af_void, pm_af_thr, pe_if_eq, pe_sipush, pe_goto, pe_goto_w, pe_putfield, pe_getfield, pe_if_gt, pe_icmp_ne, pe_call2, pm_prog_1, pm_ob_some, Nat.reduceDiv, Nat.reduceMod, Nat.reduceMul, Nat.reduceAdd, Int.reduceToNat, pm_kill_i, pm_kill_r, pm_kill_n, pm_kill_j, pm_kill_l, pm_kill_d, pm_cats_nil, pm_cats_i, pm_cats_r, pm_cats_n, pm_cats_l, pm_cats_d, sz_1, sz_2, sl_1, sl_2, lc_0, lc_lt, lc_le, li_ne, Int32.reduceOfInt, Int64.reduceOfInt, Int32.reduceOfNat, Int32.reduceLT, Int32.reduceLE, Prod.mk.injEq, Nat.reduceEqDiff, reduceCtorEq, and_true, true_and, and_false, false_and, and_self, ite_true, ite_false, ↓reduceIte, not_true_eq_false, not_false_eq_true, pe_ri, pe_rz, Ri_p0 hA, Ri_g0 hA, Ri_g22 hA, Ri_p22 hA, z1, eq_true k2, k3]
  · rw [if_neg k2] at e
    have k4 := y1740_2 (h := h) hA hD e
    simp -implicitDefEqProofs (disch := first | assumption | exact Nat.le_of_ble_eq_true rfl | decide) only [b1740_0, g1740_1, b1740_1, g1740_3, b1740_3, g1740_4, b1740_4, pe_aload0, pe_iload1, pe_i2l, pe_bipush, pe_call3, pm_af_ret, pm_af_void, pm_af_thr, pe_if_eq, pe_sipush, pe_goto, pe_goto_w, pe_putfield, pe_getfield, pe_if_gt, pe_icmp_ne, pe_call2, pm_prog_1, pm_ob_some, Nat.reduceDiv, Nat.reduceMod, Nat.reduceMul, Nat.reduceAdd, Int.reduceToNat, pm_kill_i, pm_kill_r, pm_kill_n, pm_kill_j, pm_kill_l, pm_kill_d, pm_cats_nil, pm_cats_i, pm_cats_r, pm_cats_n, pm_cats_l, pm_cats_d, sz_1, sz_2, sl_1, sl_2, lc_0, lc_lt, lc_le, li_ne, Int32.reduceOfInt, Int64.reduceOfInt, Int32.reduceOfNat, Int32.reduceLT, Int32.reduceLE, Prod.mk.injEq, Nat.reduceEqDiff, reduceCtorEq, and_true, true_and, and_false, false_and, and_self, ite_true, ite_false, ↓reduceIte, not_true_eq_false, not_false_eq_true, pe_ri, pe_rz, Ri_p0 hA, Ri_g0 hA, Ri_g22 hA, Ri_p22 hA, z1, eq_false k2, k4]
/-- TimberHouseModel$Rips.noPiece(I)Z -/
theorem c1737 {d : Nat} {h : pm_H} {a : Nat} {x0 : Int32} (hc : pm_cls h a = some 27) : pm_call pm_prog (d + 1) 1737 [.ref a, .int x0] h = pm_ev pm_prog (pm_call pm_prog d) 1737 0 b1737_0 [.ref a, .int x0] [] h := pm_cal (pm_rc1 hc rfl) rfl rfl rfl
theorem g1737_1 {cl : pm_C} {ls st : List Value} {h : pm_H} : pm_go pm_prog cl 1737 1 ls st h = pm_ev pm_prog cl 1737 1 b1737_1 ls st h := pm_go_eq pm_prog cl 1737 1 ls st h
theorem g1737_2 {cl : pm_C} {ls st : List Value} {h : pm_H} : pm_go pm_prog cl 1737 2 ls st h = pm_ev pm_prog cl 1737 2 b1737_2 ls st h := pm_go_eq pm_prog cl 1737 2 ls st h
theorem g1737_3 {cl : pm_C} {ls st : List Value} {h : pm_H} : pm_go pm_prog cl 1737 3 ls st h = pm_ev pm_prog cl 1737 3 b1737_3 ls st h := pm_go_eq pm_prog cl 1737 3 ls st h
theorem g1737_4 {cl : pm_C} {ls st : List Value} {h : pm_H} : pm_go pm_prog cl 1737 4 ls st h = pm_ev pm_prog cl 1737 4 b1737_4 ls st h := pm_go_eq pm_prog cl 1737 4 ls st h
theorem g1737_5 {cl : pm_C} {ls st : List Value} {h : pm_H} : pm_go pm_prog cl 1737 5 ls st h = pm_ev pm_prog cl 1737 5 b1737_5 ls st h := pm_go_eq pm_prog cl 1737 5 ls st h
noncomputable def f1737_3 (S : wS) (y1 : Int32) : Option (Int32 × wS) :=
  if y1 ≤ 0 then
    some (0, (sz S (0, 0, 0) 0 y1))
  else
    some (1, (sz S (0, 0, 0) 0 y1))
/-- TimberHouseModel$Rips.noPiece(I)Z -/
noncomputable def f1737 (S : wS) (x1 : Int32) : Option (Int32 × wS) :=
  if x1 < 0 then
    f1737_3 S 1
  else
    if x1 < (S.1 (0, 0, 0) 11) then
      f1737_3 S 0
    else
      f1737_3 S 1
theorem y1737_3 {A : wK → Nat} {h : pm_H} {m D : Nat} {S : wS} {y1 : Int32} {r : Int32 × wS} (hA : wok A Ri_d m) (hD : 0 ≤ D) (e : f1737_3 S y1 = some r) : ∀ q1 : Value, pm_go pm_prog (pm_call pm_prog D) 1737 3 [.ref (A (0, 0, 0)), q1] [.int y1, .ref (A (0, 0, 0))] (wput A Ri_d S h) = some (.returned (some (.int r.1)), (wput A Ri_d r.2 h)) := by
  intro q1
  simp only [f1737_3] at e
  rw [g1737_3, b1737_3]
  by_cases k1 : y1 ≤ 0
  · rw [if_pos k1] at e
    have e := Option.some.inj e; subst e
    simp -implicitDefEqProofs (disch := first | assumption | exact Nat.le_of_ble_eq_true rfl | decide) only [b1737_0, g1737_1, b1737_1, g1737_2, b1737_2, g1737_4, b1737_4, g1737_5, b1737_5, pe_aload0, pe_iload1, pe_if_lt, pe_getfield, pe_icmp_lt, pe_goto_w, pe_sipush, pe_goto, pe_putfield, pe_if_le, pm_prog_1, pm_ob_some, Nat.reduceDiv, Nat.reduceMod, Nat.reduceMul, Nat.reduceAdd, Int.reduceToNat, pm_kill_i, pm_kill_r, pm_kill_n, pm_kill_j, pm_kill_l, pm_kill_d, pm_cats_nil, pm_cats_i, pm_cats_r, pm_cats_n, pm_cats_l, pm_cats_d, sz_1, sz_2, sl_1, sl_2, lc_0, lc_lt, lc_le, li_ne, Int32.reduceOfInt, Int64.reduceOfInt, Int32.reduceOfNat, Int32.reduceLT, Int32.reduceLE, Prod.mk.injEq, Nat.reduceEqDiff, reduceCtorEq, and_true, true_and, and_false, false_and, and_self, ite_true, ite_false, ↓reduceIte, not_true_eq_false, not_false_eq_true, pe_ri, pe_rz, Ri_g11 hA, Ri_p0 hA, Ri_g0 hA, eq_true k1]
  · rw [if_neg k1] at e
    have e := Option.some.inj e; subst e
    simp -implicitDefEqProofs (disch := first | assumption | exact Nat.le_of_ble_eq_true rfl | decide) only [b1737_0, g1737_1, b1737_1, g1737_2, b1737_2, g1737_4, b1737_4, g1737_5, b1737_5, pe_aload0, pe_iload1, pe_if_lt, pe_getfield, pe_icmp_lt, pe_goto_w, pe_sipush, pe_goto, pe_putfield, pe_if_le, pm_prog_1, pm_ob_some, Nat.reduceDiv, Nat.reduceMod, Nat.reduceMul, Nat.reduceAdd, Int.reduceToNat, pm_kill_i, pm_kill_r, pm_kill_n, pm_kill_j, pm_kill_l, pm_kill_d, pm_cats_nil, pm_cats_i, pm_cats_r, pm_cats_n, pm_cats_l, pm_cats_d, sz_1, sz_2, sl_1, sl_2, lc_0, lc_lt, lc_le, li_ne, Int32.reduceOfInt, Int64.reduceOfInt, Int32.reduceOfNat, Int32.reduceLT, Int32.reduceLE, Prod.mk.injEq, Nat.reduceEqDiff, reduceCtorEq, and_true, true_and, and_false, false_and, and_self, ite_true, ite_false, ↓reduceIte, not_true_eq_false, not_false_eq_true, pe_ri, pe_rz, Ri_g11 hA, Ri_p0 hA, Ri_g0 hA, eq_false k1]
theorem x1737 {A : wK → Nat} {h : pm_H} {m D : Nat} {S : wS} {x1 : Int32} {r : Int32 × wS} (hA : wok A Ri_d m) (hD : 1 ≤ D) (e : f1737 S x1 = some r) : pm_call pm_prog D 1737 [.ref (A (0, 0, 0)), .int x1] (wput A Ri_d S h) = some (.returned (some (.int r.1)), (wput A Ri_d r.2 h)) := by
  obtain ⟨D, rfl⟩ : ∃ D', D = D' + 1 := ⟨D - 1, by omega⟩
  have hD : 0 ≤ D := by omega
  rw [c1737 (Ri_c hA), b1737_0]
  simp only [f1737] at e
  by_cases k1 : x1 < 0
  · rw [if_pos k1] at e
    have k2 := y1737_3 (h := h) hA hD e
    simp -implicitDefEqProofs (disch := first | assumption | exact Nat.le_of_ble_eq_true rfl | decide) only [b1737_0, g1737_1, b1737_1, g1737_2, b1737_2, g1737_4, b1737_4, g1737_5, b1737_5, pe_aload0, pe_iload1, pe_if_lt, pe_getfield, pe_icmp_lt, pe_goto_w, pe_sipush, pe_goto, pe_putfield, pe_if_le, pm_prog_1, pm_ob_some, Nat.reduceDiv, Nat.reduceMod, Nat.reduceMul, Nat.reduceAdd, Int.reduceToNat, pm_kill_i, pm_kill_r, pm_kill_n, pm_kill_j, pm_kill_l, pm_kill_d, pm_cats_nil, pm_cats_i, pm_cats_r, pm_cats_n, pm_cats_l, pm_cats_d, sz_1, sz_2, sl_1, sl_2, lc_0, lc_lt, lc_le, li_ne, Int32.reduceOfInt, Int64.reduceOfInt, Int32.reduceOfNat, Int32.reduceLT, Int32.reduceLE, Prod.mk.injEq, Nat.reduceEqDiff, reduceCtorEq, and_true, true_and, and_false, false_and, and_self, ite_true, ite_false, ↓reduceIte, not_true_eq_false, not_false_eq_true, pe_ri, pe_rz, Ri_g11 hA, Ri_p0 hA, Ri_g0 hA, eq_true k1, k2]
  · rw [if_neg k1] at e
    by_cases k3 : x1 < (S.1 (0, 0, 0) 11)
    · rw [if_pos k3] at e
      have k4 := y1737_3 (h := h) hA hD e
      simp -implicitDefEqProofs (disch := first | assumption | exact Nat.le_of_ble_eq_true rfl | decide) only [b1737_0, g1737_1, b1737_1, g1737_2, b1737_2, g1737_4, b1737_4, g1737_5, b1737_5, pe_aload0, pe_iload1, pe_if_lt, pe_getfield, pe_icmp_lt, pe_goto_w, pe_sipush, pe_goto, pe_putfield, pe_if_le, pm_prog_1, pm_ob_some, Nat.reduceDiv, Nat.reduceMod, Nat.reduceMul, Nat.reduceAdd, Int.reduceToNat, pm_kill_i, pm_kill_r, pm_kill_n, pm_kill_j, pm_kill_l, pm_kill_d, pm_cats_nil, pm_cats_i, pm_cats_r, pm_cats_n, pm_cats_l, pm_cats_d, sz_1, sz_2, sl_1, sl_2, lc_0, lc_lt, lc_le, li_ne, Int32.reduceOfInt, Int64.reduceOfInt, Int32.reduceOfNat, Int32.reduceLT, Int32.reduceLE, Prod.mk.injEq, Nat.reduceEqDiff, reduceCtorEq, and_true, true_and, and_false, false_and, and_self, ite_true, ite_false, ↓reduceIte, not_true_eq_false, not_false_eq_true, pe_ri, pe_rz, Ri_g11 hA, Ri_p0 hA, Ri_g0 hA, eq_false k1, eq_true k3, k4]
    · rw [if_neg k3] at e
      have k5 := y1737_3 (h := h) hA hD e
      simp -implicitDefEqProofs (disch := first | assumption | exact Nat.le_of_ble_eq_true rfl | decide) only [b1737_0, g1737_1, b1737_1, g1737_2, b1737_2, g1737_4, b1737_4, g1737_5, b1737_5, pe_aload0, pe_iload1, pe_if_lt, pe_getfield, pe_icmp_lt, pe_goto_w, pe_sipush, pe_goto, pe_putfield, pe_if_le, pm_prog_1, pm_ob_some, Nat.reduceDiv, Nat.reduceMod, Nat.reduceMul, Nat.reduceAdd, Int.reduceToNat, pm_kill_i, pm_kill_r, pm_kill_n, pm_kill_j, pm_kill_l, pm_kill_d, pm_cats_nil, pm_cats_i, pm_cats_r, pm_cats_n, pm_cats_l, pm_cats_d, sz_1, sz_2, sl_1, sl_2, lc_0, lc_lt, lc_le, li_ne, Int32.reduceOfInt, Int64.reduceOfInt, Int32.reduceOfNat, Int32.reduceLT, Int32.reduceLE, Prod.mk.injEq, Nat.reduceEqDiff, reduceCtorEq, and_true, true_and, and_false, false_and, and_self, ite_true, ite_false, ↓reduceIte, not_true_eq_false, not_false_eq_true, pe_ri, pe_rz, Ri_g11 hA, Ri_p0 hA, Ri_g0 hA, eq_false k1, eq_false k3, k5]
/-- TimberHouseModel$Rips.need(II)Z -/
theorem c1739 {d : Nat} {h : pm_H} {a : Nat} {x0 : Int32} {x1 : Int32} (hc : pm_cls h a = some 27) : pm_call pm_prog (d + 1) 1739 [.ref a, .int x0, .int x1] h = pm_ev pm_prog (pm_call pm_prog d) 1739 0 b1739_0 [.ref a, .int x0, .int x1] [] h := pm_cal (pm_rc1 hc rfl) rfl rfl rfl
theorem g1739_1 {cl : pm_C} {ls st : List Value} {h : pm_H} : pm_go pm_prog cl 1739 1 ls st h = pm_ev pm_prog cl 1739 1 b1739_1 ls st h := pm_go_eq pm_prog cl 1739 1 ls st h
theorem g1739_2 {cl : pm_C} {ls st : List Value} {h : pm_H} : pm_go pm_prog cl 1739 2 ls st h = pm_ev pm_prog cl 1739 2 b1739_2 ls st h := pm_go_eq pm_prog cl 1739 2 ls st h
theorem g1739_3 {cl : pm_C} {ls st : List Value} {h : pm_H} : pm_go pm_prog cl 1739 3 ls st h = pm_ev pm_prog cl 1739 3 b1739_3 ls st h := pm_go_eq pm_prog cl 1739 3 ls st h
theorem g1739_4 {cl : pm_C} {ls st : List Value} {h : pm_H} : pm_go pm_prog cl 1739 4 ls st h = pm_ev pm_prog cl 1739 4 b1739_4 ls st h := pm_go_eq pm_prog cl 1739 4 ls st h
theorem g1739_5 {cl : pm_C} {ls st : List Value} {h : pm_H} : pm_go pm_prog cl 1739 5 ls st h = pm_ev pm_prog cl 1739 5 b1739_5 ls st h := pm_go_eq pm_prog cl 1739 5 ls st h
noncomputable def f1739_3 (S : wS) (x1 : Int32) (x2 : Int32) (y1 : Int32) : Option (Int32 × wS) :=
  if y1 ≤ 0 then
    if 0 ≤ x1 ∧ x1 < 8 then
      if (S.1 (18, 0, 0) x1) = x2 then
        some (0, (sz S (0, 0, 0) 0 y1))
      else
        (f1732 (sz (sz S (0, 0, 0) 0 y1) (18, 0, 0) x1 x2) 1).bind fun (v4, S5) =>
        if v4 = 0 ∨ v4 = 1 then
          some (v4, S5)
        else none
    else none
  else
    some (0, (sz S (0, 0, 0) 0 y1))
/-- TimberHouseModel$Rips.need(II)Z -/
noncomputable def f1739 (S : wS) (x1 : Int32) (x2 : Int32) : Option (Int32 × wS) :=
  (f1737 S x1).bind fun (v1, S2) =>
  if v1 = 0 then
    (f1731 (Int32.toInt64 x2) 0 1000).bind fun v3 =>
    if v3 = 0 then
      f1739_3 S2 x1 x2 2
    else
      f1739_3 S2 x1 x2 0
  else
    some (0, S2)
theorem y1739_3 {A : wK → Nat} {h : pm_H} {m D : Nat} {S : wS} {x1 : Int32} {x2 : Int32} {y1 : Int32} {r : Int32 × wS} (hA : wok A Ri_d m) (hD : 1 ≤ D) (e : f1739_3 S x1 x2 y1 = some r) : pm_go pm_prog (pm_call pm_prog D) 1739 3 [.ref (A (0, 0, 0)), .int x1, .int x2] [.int y1, .ref (A (0, 0, 0))] (wput A Ri_d S h) = some (.returned (some (.int r.1)), (wput A Ri_d r.2 h)) := by
  simp only [f1739_3] at e
  rw [g1739_3, b1739_3]
  by_cases k1 : y1 ≤ 0
  · rw [if_pos k1] at e
    by_cases k2 : 0 ≤ x1 ∧ x1 < 8
    · rw [if_pos k2] at e
      by_cases k3 : (S.1 (18, 0, 0) x1) = x2
      · rw [if_pos k3] at e
        have e := Option.some.inj e; subst e
        simp -implicitDefEqProofs (disch := first | assumption | exact Nat.le_of_ble_eq_true rfl | decide) only [b1739_0, g1739_1, b1739_1, g1739_2, b1739_2, g1739_4, b1739_4, g1739_5, b1739_5, pe_aload0, pe_iload1, pe_call2, pm_af_ret, pm_af_void, pm_af_thr, pe_if_eq, pe_sipush, pe_iload2, pe_i2l, pe_bipush, pe_call3, pe_goto, pe_goto_w, pe_putfield, pe_getfield, pe_if_gt, pe_iaload, pe_icmp_ne, pe_iastore, pm_prog_1, pm_ob_some, Nat.reduceDiv, Nat.reduceMod, Nat.reduceMul, Nat.reduceAdd, Int.reduceToNat, pm_kill_i, pm_kill_r, pm_kill_n, pm_kill_j, pm_kill_l, pm_kill_d, pm_cats_nil, pm_cats_i, pm_cats_r, pm_cats_n, pm_cats_l, pm_cats_d, sz_1, sz_2, sl_1, sl_2, lc_0, lc_lt, lc_le, li_ne, Int32.reduceOfInt, Int64.reduceOfInt, Int32.reduceOfNat, Int32.reduceLT, Int32.reduceLE, Prod.mk.injEq, Nat.reduceEqDiff, reduceCtorEq, and_true, true_and, and_false, false_and, and_self, ite_true, ite_false, ↓reduceIte, not_true_eq_false, not_false_eq_true, pe_ri, pe_rz, Ri_p0 hA, Ri_g0 hA, Ri_g17 hA, Ri_r17 hA, Ri_w17 hA, Ri_l17 hA, eq_true k1, eq_true k3]
      · rw [if_neg k3] at e
        obtain ⟨⟨v4, S5⟩, k4, e⟩ := Option.bind_eq_some_iff.mp e
        try dsimp only at e
        have z4 := x1732 (D := D) (h := h) hA (by omega) k4
        dsimp only at z4
        by_cases k5 : v4 = 0 ∨ v4 = 1
        · rw [if_pos k5] at e
          have e := Option.some.inj e; subst e
          simp -implicitDefEqProofs (disch := first | assumption | exact Nat.le_of_ble_eq_true rfl | decide) only [b1739_0, g1739_1, b1739_1, g1739_2, b1739_2, g1739_4, b1739_4, g1739_5, b1739_5, pe_aload0, pe_iload1, pe_call2, pm_af_ret, pm_af_void, pm_af_thr, pe_if_eq, pe_sipush, pe_iload2, pe_i2l, pe_bipush, pe_call3, pe_goto, pe_goto_w, pe_putfield, pe_getfield, pe_if_gt, pe_iaload, pe_icmp_ne, pe_iastore, pm_prog_1, pm_ob_some, Nat.reduceDiv, Nat.reduceMod, Nat.reduceMul, Nat.reduceAdd, Int.reduceToNat, pm_kill_i, pm_kill_r, pm_kill_n, pm_kill_j, pm_kill_l, pm_kill_d, pm_cats_nil, pm_cats_i, pm_cats_r, pm_cats_n, pm_cats_l, pm_cats_d, sz_1, sz_2, sl_1, sl_2, lc_0, lc_lt, lc_le, li_ne, Int32.reduceOfInt, Int64.reduceOfInt, Int32.reduceOfNat, Int32.reduceLT, Int32.reduceLE, Prod.mk.injEq, Nat.reduceEqDiff, reduceCtorEq, and_true, true_and, and_false, false_and, and_self, ite_true, ite_false, ↓reduceIte, not_true_eq_false, not_false_eq_true, pe_ri, pe_rz, Ri_p0 hA, Ri_g0 hA, Ri_g17 hA, Ri_r17 hA, Ri_w17 hA, Ri_l17 hA, eq_true k1, eq_false k3, z4]
        · rw [if_neg k5] at e; cases e
    · rw [if_neg k2] at e; cases e
  · rw [if_neg k1] at e
    have e := Option.some.inj e; subst e
    simp -implicitDefEqProofs (disch := first | assumption | exact Nat.le_of_ble_eq_true rfl | decide) only [b1739_0, g1739_1, b1739_1, g1739_2, b1739_2, g1739_4, b1739_4, g1739_5, b1739_5, pe_aload0, pe_iload1, pe_call2, pm_af_ret, pm_af_void, pm_af_thr, pe_if_eq, pe_sipush, pe_iload2, pe_i2l, pe_bipush, pe_call3, pe_goto, pe_goto_w, pe_putfield, pe_getfield, pe_if_gt, pe_iaload, pe_icmp_ne, pe_iastore, pm_prog_1, pm_ob_some, Nat.reduceDiv, Nat.reduceMod, Nat.reduceMul, Nat.reduceAdd, Int.reduceToNat, pm_kill_i, pm_kill_r, pm_kill_n, pm_kill_j, pm_kill_l, pm_kill_d, pm_cats_nil, pm_cats_i, pm_cats_r, pm_cats_n, pm_cats_l, pm_cats_d, sz_1, sz_2, sl_1, sl_2, lc_0, lc_lt, lc_le, li_ne, Int32.reduceOfInt, Int64.reduceOfInt, Int32.reduceOfNat, Int32.reduceLT, Int32.reduceLE, Prod.mk.injEq, Nat.reduceEqDiff, reduceCtorEq, and_true, true_and, and_false, false_and, and_self, ite_true, ite_false, ↓reduceIte, not_true_eq_false, not_false_eq_true, pe_ri, pe_rz, Ri_p0 hA, Ri_g0 hA, Ri_g17 hA, Ri_r17 hA, Ri_w17 hA, Ri_l17 hA, eq_false k1]
theorem x1739 {A : wK → Nat} {h : pm_H} {m D : Nat} {S : wS} {x1 : Int32} {x2 : Int32} {r : Int32 × wS} (hA : wok A Ri_d m) (hD : 2 ≤ D) (e : f1739 S x1 x2 = some r) : pm_call pm_prog D 1739 [.ref (A (0, 0, 0)), .int x1, .int x2] (wput A Ri_d S h) = some (.returned (some (.int r.1)), (wput A Ri_d r.2 h)) := by
  obtain ⟨D, rfl⟩ : ∃ D', D = D' + 1 := ⟨D - 1, by omega⟩
  have hD : 1 ≤ D := by omega
  rw [c1739 (Ri_c hA), b1739_0]
  simp only [f1739] at e
  obtain ⟨⟨v1, S2⟩, k1, e⟩ := Option.bind_eq_some_iff.mp e
  try dsimp only at e
  have z1 := x1737 (D := D) (h := h) hA (by omega) k1
  dsimp only at z1
  by_cases k2 : v1 = 0
  · rw [if_pos k2] at e
    obtain ⟨v3, k3, e⟩ := Option.bind_eq_some_iff.mp e
    try dsimp only at e
    have z3 := fun h => x1731 (D := D) (h := h) (by omega) k3
    by_cases k4 : v3 = 0
    · rw [if_pos k4] at e
      have k5 := y1739_3 (h := h) hA hD e
      simp -implicitDefEqProofs (disch := first | assumption | exact Nat.le_of_ble_eq_true rfl | decide) only [b1739_0, g1739_1, b1739_1, g1739_2, b1739_2, g1739_4, b1739_4, g1739_5, b1739_5, pe_aload0, pe_iload1, pe_call2, pm_af_ret, pm_af_void, pm_af_thr, pe_if_eq, pe_sipush, pe_iload2, pe_i2l, pe_bipush, pe_call3, pe_goto, pe_goto_w, pe_putfield, pe_getfield, pe_if_gt, pe_iaload, pe_icmp_ne, pe_iastore, pm_prog_1, pm_ob_some, Nat.reduceDiv, Nat.reduceMod, Nat.reduceMul, Nat.reduceAdd, Int.reduceToNat, pm_kill_i, pm_kill_r, pm_kill_n, pm_kill_j, pm_kill_l, pm_kill_d, pm_cats_nil, pm_cats_i, pm_cats_r, pm_cats_n, pm_cats_l, pm_cats_d, sz_1, sz_2, sl_1, sl_2, lc_0, lc_lt, lc_le, li_ne, Int32.reduceOfInt, Int64.reduceOfInt, Int32.reduceOfNat, Int32.reduceLT, Int32.reduceLE, Prod.mk.injEq, Nat.reduceEqDiff, reduceCtorEq, and_true, true_and, and_false, false_and, and_self, ite_true, ite_false, ↓reduceIte, not_true_eq_false, not_false_eq_true, pe_ri, pe_rz, Ri_p0 hA, Ri_g0 hA, Ri_g17 hA, Ri_r17 hA, Ri_w17 hA, Ri_l17 hA, z1, eq_true k2, z3, eq_true k4, k5]
    · rw [if_neg k4] at e
      have k6 := y1739_3 (h := h) hA hD e
      simp -implicitDefEqProofs (disch := first | assumption | exact Nat.le_of_ble_eq_true rfl | decide) only [b1739_0, g1739_1, b1739_1, g1739_2, b1739_2, g1739_4, b1739_4, g1739_5, b1739_5, pe_aload0, pe_iload1, pe_call2, pm_af_ret, pm_af_void, pm_af_thr, pe_if_eq, pe_sipush, pe_iload2, pe_i2l, pe_bipush, pe_call3, pe_goto, pe_goto_w, pe_putfield, pe_getfield, pe_if_gt, pe_iaload, pe_icmp_ne, pe_iastore, pm_prog_1, pm_ob_some, Nat.reduceDiv, Nat.reduceMod, Nat.reduceMul, Nat.reduceAdd, Int.reduceToNat, pm_kill_i, pm_kill_r, pm_kill_n, pm_kill_j, pm_kill_l, pm_kill_d, pm_cats_nil, pm_cats_i, pm_cats_r, pm_cats_n, pm_cats_l, pm_cats_d, sz_1, sz_2, sl_1, sl_2, lc_0, lc_lt, lc_le, li_ne, Int32.reduceOfInt, Int64.reduceOfInt, Int32.reduceOfNat, Int32.reduceLT, Int32.reduceLE, Prod.mk.injEq, Nat.reduceEqDiff, reduceCtorEq, and_true, true_and, and_false, false_and, and_self, ite_true, ite_false, ↓reduceIte, not_true_eq_false, not_false_eq_true, pe_ri, pe_rz, Ri_p0 hA, Ri_g0 hA, Ri_g17 hA, Ri_r17 hA, Ri_w17 hA, Ri_l17 hA, z1, eq_true k2, z3, eq_false k4, k6]
  · rw [if_neg k2] at e
    have e := Option.some.inj e; subst e
    simp -implicitDefEqProofs (disch := first | assumption | exact Nat.le_of_ble_eq_true rfl | decide) only [b1739_0, g1739_1, b1739_1, g1739_2, b1739_2, g1739_4, b1739_4, g1739_5, b1739_5, pe_aload0, pe_iload1, pe_call2, pm_af_ret, pm_af_void, pm_af_thr, pe_if_eq, pe_sipush, pe_iload2, pe_i2l, pe_bipush, pe_call3, pe_goto, pe_goto_w, pe_putfield, pe_getfield, pe_if_gt, pe_iaload, pe_icmp_ne, pe_iastore, pm_prog_1, pm_ob_some, Nat.reduceDiv, Nat.reduceMod, Nat.reduceMul, Nat.reduceAdd, Int.reduceToNat, pm_kill_i, pm_kill_r, pm_kill_n, pm_kill_j, pm_kill_l, pm_kill_d, pm_cats_nil, pm_cats_i, pm_cats_r, pm_cats_n, pm_cats_l, pm_cats_d, sz_1, sz_2, sl_1, sl_2, lc_0, lc_lt, lc_le, li_ne, Int32.reduceOfInt, Int64.reduceOfInt, Int32.reduceOfNat, Int32.reduceLT, Int32.reduceLE, Prod.mk.injEq, Nat.reduceEqDiff, reduceCtorEq, and_true, true_and, and_false, false_and, and_self, ite_true, ite_false, ↓reduceIte, not_true_eq_false, not_false_eq_true, pe_ri, pe_rz, Ri_p0 hA, Ri_g0 hA, Ri_g17 hA, Ri_r17 hA, Ri_w17 hA, Ri_l17 hA, z1, eq_false k2]
/-- TimberHouseModel$Rips.stepsOf(I)I -/
theorem c1735 {d : Nat} {h : pm_H} {a : Nat} {x0 : Int32} (hc : pm_cls h a = some 27) : pm_call pm_prog (d + 1) 1735 [.ref a, .int x0] h = pm_ev pm_prog (pm_call pm_prog d) 1735 0 b1735_0 [.ref a, .int x0] [] h := pm_cal (pm_rc1 hc rfl) rfl rfl rfl
/-- TimberHouseModel$Rips.stepsOf(I)I -/
noncomputable def f1735 (S : wS) (x1 : Int32) : Option (Int32) :=
  if ¬ (S.1 (0, 0, 0) 1) = 0 then
    some (((x1 + (S.1 (0, 0, 0) 1)) - 1) / (S.1 (0, 0, 0) 1))
  else none
theorem x1735 {A : wK → Nat} {h : pm_H} {m D : Nat} {S : wS} {x1 : Int32} {r : Int32} (hA : wok A Ri_d m) (hD : 1 ≤ D) (e : f1735 S x1 = some r) : pm_call pm_prog D 1735 [.ref (A (0, 0, 0)), .int x1] (wput A Ri_d S h) = some (.returned (some (.int r)), (wput A Ri_d S h)) := by
  obtain ⟨D, rfl⟩ : ∃ D', D = D' + 1 := ⟨D - 1, by omega⟩
  have hD : 0 ≤ D := by omega
  rw [c1735 (Ri_c hA), b1735_0]
  simp only [f1735] at e
  by_cases k1 : ¬ (S.1 (0, 0, 0) 1) = 0
  · rw [if_pos k1] at e
    have e := Option.some.inj e; subst e
    simp -implicitDefEqProofs (disch := first | assumption | exact Nat.le_of_ble_eq_true rfl | decide) only [b1735_0, pe_iload1, pe_aload0, pe_getfield, pe_iadd, pe_sipush, pe_isub, pe_idiv, pm_prog_1, pm_ob_some, Nat.reduceDiv, Nat.reduceMod, Nat.reduceMul, Nat.reduceAdd, Int.reduceToNat, pm_kill_i, pm_kill_r, pm_kill_n, pm_kill_j, pm_kill_l, pm_kill_d, pm_cats_nil, pm_cats_i, pm_cats_r, pm_cats_n, pm_cats_l, pm_cats_d, sz_1, sz_2, sl_1, sl_2, lc_0, lc_lt, lc_le, li_ne, Int32.reduceOfInt, Int64.reduceOfInt, Int32.reduceOfNat, Int32.reduceLT, Int32.reduceLE, Prod.mk.injEq, Nat.reduceEqDiff, reduceCtorEq, and_true, true_and, and_false, false_and, and_self, ite_true, ite_false, ↓reduceIte, not_true_eq_false, not_false_eq_true, pe_ri, pe_rz, Ri_g1 hA]
  · rw [if_neg k1] at e; cases e
/-- TimberHouseModel$Rips.gang(I)Z -/
theorem c1738 {d : Nat} {h : pm_H} {a : Nat} {x0 : Int32} (hc : pm_cls h a = some 27) : pm_call pm_prog (d + 1) 1738 [.ref a, .int x0] h = pm_ev pm_prog (pm_call pm_prog d) 1738 0 b1738_0 [.ref a, .int x0] [] h := pm_cal (pm_rc1 hc rfl) rfl rfl rfl
theorem g1738_1 {cl : pm_C} {ls st : List Value} {h : pm_H} : pm_go pm_prog cl 1738 1 ls st h = pm_ev pm_prog cl 1738 1 b1738_1 ls st h := pm_go_eq pm_prog cl 1738 1 ls st h
theorem g1738_2 {cl : pm_C} {ls st : List Value} {h : pm_H} : pm_go pm_prog cl 1738 2 ls st h = pm_ev pm_prog cl 1738 2 b1738_2 ls st h := pm_go_eq pm_prog cl 1738 2 ls st h
theorem g1738_3 {cl : pm_C} {ls st : List Value} {h : pm_H} : pm_go pm_prog cl 1738 3 ls st h = pm_ev pm_prog cl 1738 3 b1738_3 ls st h := pm_go_eq pm_prog cl 1738 3 ls st h
theorem g1738_4 {cl : pm_C} {ls st : List Value} {h : pm_H} : pm_go pm_prog cl 1738 4 ls st h = pm_ev pm_prog cl 1738 4 b1738_4 ls st h := pm_go_eq pm_prog cl 1738 4 ls st h
noncomputable def f1738_2 (S : wS) (x1 : Int32) (y1 : Int32) : Option (Int32 × wS) :=
  if y1 ≤ 0 then
    (f1735 (sz S (0, 0, 0) 0 y1) x1).bind fun v2 =>
    if 0 ≤ v2 ∧ v2 < 65537 then
      if (S.1 (21, 0, 0) v2) = 0 then
        (f1732 (sz (sz (sz S (0, 0, 0) 0 y1) (21, 0, 0) v2 (vp_nar .boolean 1)) (0, 0, 0) 21 1) 1).bind fun (v3, S4) =>
        if v3 = 0 ∨ v3 = 1 then
          some (v3, S4)
        else none
      else
        some (0, (sz S (0, 0, 0) 0 y1))
    else none
  else
    some (0, (sz S (0, 0, 0) 0 y1))
/-- TimberHouseModel$Rips.gang(I)Z -/
noncomputable def f1738 (S : wS) (x1 : Int32) : Option (Int32 × wS) :=
  (f1731 (Int32.toInt64 x1) 1 65536).bind fun v1 =>
  if v1 = 0 then
    f1738_2 S x1 1
  else
    f1738_2 S x1 0
theorem y1738_2 {A : wK → Nat} {h : pm_H} {m D : Nat} {S : wS} {x1 : Int32} {y1 : Int32} {r : Int32 × wS} (hA : wok A Ri_d m) (hD : 1 ≤ D) (e : f1738_2 S x1 y1 = some r) : pm_go pm_prog (pm_call pm_prog D) 1738 2 [.ref (A (0, 0, 0)), .int x1] [.int y1, .ref (A (0, 0, 0))] (wput A Ri_d S h) = some (.returned (some (.int r.1)), (wput A Ri_d r.2 h)) := by
  simp only [f1738_2] at e
  rw [g1738_2, b1738_2]
  by_cases k1 : y1 ≤ 0
  · rw [if_pos k1] at e
    obtain ⟨v2, k2, e⟩ := Option.bind_eq_some_iff.mp e
    try dsimp only at e
    have z2 := x1735 (D := D) (h := h) hA (by omega) k2
    by_cases k3 : 0 ≤ v2 ∧ v2 < 65537
    · rw [if_pos k3] at e
      by_cases k4 : (S.1 (21, 0, 0) v2) = 0
      · rw [if_pos k4] at e
        obtain ⟨⟨v3, S4⟩, k5, e⟩ := Option.bind_eq_some_iff.mp e
        try dsimp only at e
        have z5 := x1732 (D := D) (h := h) hA (by omega) k5
        dsimp only at z5
        by_cases k6 : v3 = 0 ∨ v3 = 1
        · rw [if_pos k6] at e
          have e := Option.some.inj e; subst e
          simp -implicitDefEqProofs (disch := first | assumption | exact Nat.le_of_ble_eq_true rfl | decide) only [b1738_0, g1738_1, b1738_1, g1738_3, b1738_3, g1738_4, b1738_4, pe_aload0, pe_iload1, pe_i2l, pe_bipush, pe_call3, pm_af_ret, pm_af_void, pm_af_thr, pe_if_eq, pe_sipush, pe_goto, pe_goto_w, pe_putfield, pe_getfield, pe_if_gt, pe_call2, pe_baload, pe_bastore, pm_prog_1, pm_ob_some, Nat.reduceDiv, Nat.reduceMod, Nat.reduceMul, Nat.reduceAdd, Int.reduceToNat, pm_kill_i, pm_kill_r, pm_kill_n, pm_kill_j, pm_kill_l, pm_kill_d, pm_cats_nil, pm_cats_i, pm_cats_r, pm_cats_n, pm_cats_l, pm_cats_d, sz_1, sz_2, sl_1, sl_2, lc_0, lc_lt, lc_le, li_ne, Int32.reduceOfInt, Int64.reduceOfInt, Int32.reduceOfNat, Int32.reduceLT, Int32.reduceLE, Prod.mk.injEq, Nat.reduceEqDiff, reduceCtorEq, and_true, true_and, and_false, false_and, and_self, ite_true, ite_false, ↓reduceIte, not_true_eq_false, not_false_eq_true, pe_ri, pe_rz, Ri_p0 hA, Ri_g0 hA, Ri_g20 hA, Ri_p21 hA, Ri_r20 hA, Ri_w20 hA, Ri_l20 hA, eq_true k1, z2, eq_true k4, z5]
        · rw [if_neg k6] at e; cases e
      · rw [if_neg k4] at e
        have e := Option.some.inj e; subst e
        simp -implicitDefEqProofs (disch := first | assumption | exact Nat.le_of_ble_eq_true rfl | decide) only [b1738_0, g1738_1, b1738_1, g1738_3, b1738_3, g1738_4, b1738_4, pe_aload0, pe_iload1, pe_i2l, pe_bipush, pe_call3, pm_af_ret, pm_af_void, pm_af_thr, pe_if_eq, pe_sipush, pe_goto, pe_goto_w, pe_putfield, pe_getfield, pe_if_gt, pe_call2, pe_baload, pe_bastore, pm_prog_1, pm_ob_some, Nat.reduceDiv, Nat.reduceMod, Nat.reduceMul, Nat.reduceAdd, Int.reduceToNat, pm_kill_i, pm_kill_r, pm_kill_n, pm_kill_j, pm_kill_l, pm_kill_d, pm_cats_nil, pm_cats_i, pm_cats_r, pm_cats_n, pm_cats_l, pm_cats_d, sz_1, sz_2, sl_1, sl_2, lc_0, lc_lt, lc_le, li_ne, Int32.reduceOfInt, Int64.reduceOfInt, Int32.reduceOfNat, Int32.reduceLT, Int32.reduceLE, Prod.mk.injEq, Nat.reduceEqDiff, reduceCtorEq, and_true, true_and, and_false, false_and, and_self, ite_true, ite_false, ↓reduceIte, not_true_eq_false, not_false_eq_true, pe_ri, pe_rz, Ri_p0 hA, Ri_g0 hA, Ri_g20 hA, Ri_p21 hA, Ri_r20 hA, Ri_w20 hA, Ri_l20 hA, eq_true k1, z2, eq_false k4]
    · rw [if_neg k3] at e; cases e
  · rw [if_neg k1] at e
    have e := Option.some.inj e; subst e
    simp -implicitDefEqProofs (disch := first | assumption | exact Nat.le_of_ble_eq_true rfl | decide) only [b1738_0, g1738_1, b1738_1, g1738_3, b1738_3, g1738_4, b1738_4, pe_aload0, pe_iload1, pe_i2l, pe_bipush, pe_call3, pm_af_ret, pm_af_void, pm_af_thr, pe_if_eq, pe_sipush, pe_goto, pe_goto_w, pe_putfield, pe_getfield, pe_if_gt, pe_call2, pe_baload, pe_bastore, pm_prog_1, pm_ob_some, Nat.reduceDiv, Nat.reduceMod, Nat.reduceMul, Nat.reduceAdd, Int.reduceToNat, pm_kill_i, pm_kill_r, pm_kill_n, pm_kill_j, pm_kill_l, pm_kill_d, pm_cats_nil, pm_cats_i, pm_cats_r, pm_cats_n, pm_cats_l, pm_cats_d, sz_1, sz_2, sl_1, sl_2, lc_0, lc_lt, lc_le, li_ne, Int32.reduceOfInt, Int64.reduceOfInt, Int32.reduceOfNat, Int32.reduceLT, Int32.reduceLE, Prod.mk.injEq, Nat.reduceEqDiff, reduceCtorEq, and_true, true_and, and_false, false_and, and_self, ite_true, ite_false, ↓reduceIte, not_true_eq_false, not_false_eq_true, pe_ri, pe_rz, Ri_p0 hA, Ri_g0 hA, Ri_g20 hA, Ri_p21 hA, Ri_r20 hA, Ri_w20 hA, Ri_l20 hA, eq_false k1]
theorem x1738 {A : wK → Nat} {h : pm_H} {m D : Nat} {S : wS} {x1 : Int32} {r : Int32 × wS} (hA : wok A Ri_d m) (hD : 2 ≤ D) (e : f1738 S x1 = some r) : pm_call pm_prog D 1738 [.ref (A (0, 0, 0)), .int x1] (wput A Ri_d S h) = some (.returned (some (.int r.1)), (wput A Ri_d r.2 h)) := by
  obtain ⟨D, rfl⟩ : ∃ D', D = D' + 1 := ⟨D - 1, by omega⟩
  have hD : 1 ≤ D := by omega
  rw [c1738 (Ri_c hA), b1738_0]
  simp only [f1738] at e
  obtain ⟨v1, k1, e⟩ := Option.bind_eq_some_iff.mp e
  try dsimp only at e
  have z1 := fun h => x1731 (D := D) (h := h) (by omega) k1
  by_cases k2 : v1 = 0
  · rw [if_pos k2] at e
    have k3 := y1738_2 (h := h) hA hD e
    simp -implicitDefEqProofs (disch := first | assumption | exact Nat.le_of_ble_eq_true rfl | decide) only [b1738_0, g1738_1, b1738_1, g1738_3, b1738_3, g1738_4, b1738_4, pe_aload0, pe_iload1, pe_i2l, pe_bipush, pe_call3, pm_af_ret, pm_af_void, pm_af_thr, pe_if_eq, pe_sipush, pe_goto, pe_goto_w, pe_putfield, pe_getfield, pe_if_gt, pe_call2, pe_baload, pe_bastore, pm_prog_1, pm_ob_some, Nat.reduceDiv, Nat.reduceMod, Nat.reduceMul, Nat.reduceAdd, Int.reduceToNat, pm_kill_i, pm_kill_r, pm_kill_n, pm_kill_j, pm_kill_l, pm_kill_d, pm_cats_nil, pm_cats_i, pm_cats_r, pm_cats_n, pm_cats_l, pm_cats_d, sz_1, sz_2, sl_1, sl_2, lc_0, lc_lt, lc_le, li_ne, Int32.reduceOfInt, Int64.reduceOfInt, Int32.reduceOfNat, Int32.reduceLT, Int32.reduceLE, Prod.mk.injEq, Nat.reduceEqDiff, reduceCtorEq, and_true, true_and, and_false, false_and, and_self, ite_true, ite_false, ↓reduceIte, not_true_eq_false, not_false_eq_true, pe_ri, pe_rz, Ri_p0 hA, Ri_g0 hA, Ri_g20 hA, Ri_p21 hA, Ri_r20 hA, Ri_w20 hA, Ri_l20 hA, z1, eq_true k2, k3]
  · rw [if_neg k2] at e
    have k4 := y1738_2 (h := h) hA hD e
    simp -implicitDefEqProofs (disch := first | assumption | exact Nat.le_of_ble_eq_true rfl | decide) only [b1738_0, g1738_1, b1738_1, g1738_3, b1738_3, g1738_4, b1738_4, pe_aload0, pe_iload1, pe_i2l, pe_bipush, pe_call3, pm_af_ret, pm_af_void, pm_af_thr, pe_if_eq, pe_sipush, pe_goto, pe_goto_w, pe_putfield, pe_getfield, pe_if_gt, pe_call2, pe_baload, pe_bastore, pm_prog_1, pm_ob_some, Nat.reduceDiv, Nat.reduceMod, Nat.reduceMul, Nat.reduceAdd, Int.reduceToNat, pm_kill_i, pm_kill_r, pm_kill_n, pm_kill_j, pm_kill_l, pm_kill_d, pm_cats_nil, pm_cats_i, pm_cats_r, pm_cats_n, pm_cats_l, pm_cats_d, sz_1, sz_2, sl_1, sl_2, lc_0, lc_lt, lc_le, li_ne, Int32.reduceOfInt, Int64.reduceOfInt, Int32.reduceOfNat, Int32.reduceLT, Int32.reduceLE, Prod.mk.injEq, Nat.reduceEqDiff, reduceCtorEq, and_true, true_and, and_false, false_and, and_self, ite_true, ite_false, ↓reduceIte, not_true_eq_false, not_false_eq_true, pe_ri, pe_rz, Ri_p0 hA, Ri_g0 hA, Ri_g20 hA, Ri_p21 hA, Ri_r20 hA, Ri_w20 hA, Ri_l20 hA, z1, eq_false k2, k4]
/-- TimberHouseModel$Rips.allows(III)Z -/
theorem c1736 {d : Nat} {h : pm_H} {a : Nat} {x0 : Int32} {x1 : Int32} {x2 : Int32} (hc : pm_cls h a = some 27) : pm_call pm_prog (d + 1) 1736 [.ref a, .int x0, .int x1, .int x2] h = pm_ev pm_prog (pm_call pm_prog d) 1736 0 b1736_0 [.ref a, .int x0, .int x1, .int x2] [] h := pm_cal (pm_rc1 hc rfl) rfl rfl rfl
theorem g1736_1 {cl : pm_C} {ls st : List Value} {h : pm_H} : pm_go pm_prog cl 1736 1 ls st h = pm_ev pm_prog cl 1736 1 b1736_1 ls st h := pm_go_eq pm_prog cl 1736 1 ls st h
theorem g1736_2 {cl : pm_C} {ls st : List Value} {h : pm_H} : pm_go pm_prog cl 1736 2 ls st h = pm_ev pm_prog cl 1736 2 b1736_2 ls st h := pm_go_eq pm_prog cl 1736 2 ls st h
theorem g1736_3 {cl : pm_C} {ls st : List Value} {h : pm_H} : pm_go pm_prog cl 1736 3 ls st h = pm_ev pm_prog cl 1736 3 b1736_3 ls st h := pm_go_eq pm_prog cl 1736 3 ls st h
theorem g1736_4 {cl : pm_C} {ls st : List Value} {h : pm_H} : pm_go pm_prog cl 1736 4 ls st h = pm_ev pm_prog cl 1736 4 b1736_4 ls st h := pm_go_eq pm_prog cl 1736 4 ls st h
theorem g1736_5 {cl : pm_C} {ls st : List Value} {h : pm_H} : pm_go pm_prog cl 1736 5 ls st h = pm_ev pm_prog cl 1736 5 b1736_5 ls st h := pm_go_eq pm_prog cl 1736 5 ls st h
theorem g1736_6 {cl : pm_C} {ls st : List Value} {h : pm_H} : pm_go pm_prog cl 1736 6 ls st h = pm_ev pm_prog cl 1736 6 b1736_6 ls st h := pm_go_eq pm_prog cl 1736 6 ls st h
theorem g1736_7 {cl : pm_C} {ls st : List Value} {h : pm_H} : pm_go pm_prog cl 1736 7 ls st h = pm_ev pm_prog cl 1736 7 b1736_7 ls st h := pm_go_eq pm_prog cl 1736 7 ls st h
noncomputable def f1736_5 (S : wS) (x1 : Int32) (x2 : Int32) (x3 : Int32) (y1 : Int32) : Option (Int32 × wS) :=
  if y1 ≤ 0 then
    if 0 ≤ (((16 * x1) + (8 * x2)) + x3) ∧ (((16 * x1) + (8 * x2)) + x3) < 128 then
      if (S.1 (17, 0, 0) (((16 * x1) + (8 * x2)) + x3)) = 0 then
        (f1732 (sz (sz S (0, 0, 0) 0 y1) (17, 0, 0) (((16 * x1) + (8 * x2)) + x3) (vp_nar .boolean 1)) 1).bind fun (v3, S4) =>
        if v3 = 0 ∨ v3 = 1 then
          some (v3, S4)
        else none
      else
        some (0, (sz S (0, 0, 0) 0 y1))
    else none
  else
    some (0, (sz S (0, 0, 0) 0 y1))
/-- TimberHouseModel$Rips.allows(III)Z -/
noncomputable def f1736 (S : wS) (x1 : Int32) (x2 : Int32) (x3 : Int32) : Option (Int32 × wS) :=
  (f1737 S x1).bind fun (v1, S2) =>
  if v1 = 0 then
    if x2 < 0 then
      f1736_5 S2 x1 x2 x3 1
    else
      if x2 ≤ 1 then
        (f1731 (Int32.toInt64 x3) 0 7).bind fun v5 =>
        if v5 = 0 then
          f1736_5 S2 x1 x2 x3 2
        else
          f1736_5 S2 x1 x2 x3 0
      else
        f1736_5 S2 x1 x2 x3 1
  else
    some (0, S2)
theorem y1736_5 {A : wK → Nat} {h : pm_H} {m D : Nat} {S : wS} {x1 : Int32} {x2 : Int32} {x3 : Int32} {y1 : Int32} {r : Int32 × wS} (hA : wok A Ri_d m) (hD : 1 ≤ D) (e : f1736_5 S x1 x2 x3 y1 = some r) : pm_go pm_prog (pm_call pm_prog D) 1736 5 [.ref (A (0, 0, 0)), .int x1, .int x2, .int x3] [.int y1, .ref (A (0, 0, 0))] (wput A Ri_d S h) = some (.returned (some (.int r.1)), (wput A Ri_d r.2 h)) := by
  simp only [f1736_5] at e
  rw [g1736_5, b1736_5]
  by_cases k1 : y1 ≤ 0
  · rw [if_pos k1] at e
    by_cases k2 : 0 ≤ (((16 * x1) + (8 * x2)) + x3) ∧ (((16 * x1) + (8 * x2)) + x3) < 128
    · rw [if_pos k2] at e
      by_cases k3 : (S.1 (17, 0, 0) (((16 * x1) + (8 * x2)) + x3)) = 0
      · rw [if_pos k3] at e
        obtain ⟨⟨v3, S4⟩, k4, e⟩ := Option.bind_eq_some_iff.mp e
        try dsimp only at e
        have z4 := x1732 (D := D) (h := h) hA (by omega) k4
        dsimp only at z4
        by_cases k5 : v3 = 0 ∨ v3 = 1
        · rw [if_pos k5] at e
          have e := Option.some.inj e; subst e
          simp -implicitDefEqProofs (disch := first | assumption | exact Nat.le_of_ble_eq_true rfl | decide) only [b1736_0, g1736_1, b1736_1, g1736_2, b1736_2, g1736_3, b1736_3, g1736_4, b1736_4, g1736_6, b1736_6, g1736_7, b1736_7, pe_aload0, pe_iload1, pe_call2, pm_af_ret, pm_af_void, pm_af_thr, pe_if_eq, pe_sipush, pe_iload2, pe_if_lt, pe_icmp_le, pe_goto_w, pe_goto, pe_iload3, pe_i2l, pe_bipush, pe_call3, pe_putfield, pe_getfield, pe_if_gt, pe_imul, pe_iadd, pe_baload, pe_bastore, pm_prog_1, pm_ob_some, Nat.reduceDiv, Nat.reduceMod, Nat.reduceMul, Nat.reduceAdd, Int.reduceToNat, pm_kill_i, pm_kill_r, pm_kill_n, pm_kill_j, pm_kill_l, pm_kill_d, pm_cats_nil, pm_cats_i, pm_cats_r, pm_cats_n, pm_cats_l, pm_cats_d, sz_1, sz_2, sl_1, sl_2, lc_0, lc_lt, lc_le, li_ne, Int32.reduceOfInt, Int64.reduceOfInt, Int32.reduceOfNat, Int32.reduceLT, Int32.reduceLE, Prod.mk.injEq, Nat.reduceEqDiff, reduceCtorEq, and_true, true_and, and_false, false_and, and_self, ite_true, ite_false, ↓reduceIte, not_true_eq_false, not_false_eq_true, pe_ri, pe_rz, Ri_p0 hA, Ri_g0 hA, Ri_g16 hA, Ri_r16 hA, Ri_w16 hA, Ri_l16 hA, eq_true k1, eq_true k3, z4]
        · rw [if_neg k5] at e; cases e
      · rw [if_neg k3] at e
        have e := Option.some.inj e; subst e
        simp -implicitDefEqProofs (disch := first | assumption | exact Nat.le_of_ble_eq_true rfl | decide) only [b1736_0, g1736_1, b1736_1, g1736_2, b1736_2, g1736_3, b1736_3, g1736_4, b1736_4, g1736_6, b1736_6, g1736_7, b1736_7, pe_aload0, pe_iload1, pe_call2, pm_af_ret, pm_af_void, pm_af_thr, pe_if_eq, pe_sipush, pe_iload2, pe_if_lt, pe_icmp_le, pe_goto_w, pe_goto, pe_iload3, pe_i2l, pe_bipush, pe_call3, pe_putfield, pe_getfield, pe_if_gt, pe_imul, pe_iadd, pe_baload, pe_bastore, pm_prog_1, pm_ob_some, Nat.reduceDiv, Nat.reduceMod, Nat.reduceMul, Nat.reduceAdd, Int.reduceToNat, pm_kill_i, pm_kill_r, pm_kill_n, pm_kill_j, pm_kill_l, pm_kill_d, pm_cats_nil, pm_cats_i, pm_cats_r, pm_cats_n, pm_cats_l, pm_cats_d, sz_1, sz_2, sl_1, sl_2, lc_0, lc_lt, lc_le, li_ne, Int32.reduceOfInt, Int64.reduceOfInt, Int32.reduceOfNat, Int32.reduceLT, Int32.reduceLE, Prod.mk.injEq, Nat.reduceEqDiff, reduceCtorEq, and_true, true_and, and_false, false_and, and_self, ite_true, ite_false, ↓reduceIte, not_true_eq_false, not_false_eq_true, pe_ri, pe_rz, Ri_p0 hA, Ri_g0 hA, Ri_g16 hA, Ri_r16 hA, Ri_w16 hA, Ri_l16 hA, eq_true k1, eq_false k3]
    · rw [if_neg k2] at e; cases e
  · rw [if_neg k1] at e
    have e := Option.some.inj e; subst e
    simp -implicitDefEqProofs (disch := first | assumption | exact Nat.le_of_ble_eq_true rfl | decide) only [b1736_0, g1736_1, b1736_1, g1736_2, b1736_2, g1736_3, b1736_3, g1736_4, b1736_4, g1736_6, b1736_6, g1736_7, b1736_7, pe_aload0, pe_iload1, pe_call2, pm_af_ret, pm_af_void, pm_af_thr, pe_if_eq, pe_sipush, pe_iload2, pe_if_lt, pe_icmp_le, pe_goto_w, pe_goto, pe_iload3, pe_i2l, pe_bipush, pe_call3, pe_putfield, pe_getfield, pe_if_gt, pe_imul, pe_iadd, pe_baload, pe_bastore, pm_prog_1, pm_ob_some, Nat.reduceDiv, Nat.reduceMod, Nat.reduceMul, Nat.reduceAdd, Int.reduceToNat, pm_kill_i, pm_kill_r, pm_kill_n, pm_kill_j, pm_kill_l, pm_kill_d, pm_cats_nil, pm_cats_i, pm_cats_r, pm_cats_n, pm_cats_l, pm_cats_d, sz_1, sz_2, sl_1, sl_2, lc_0, lc_lt, lc_le, li_ne, Int32.reduceOfInt, Int64.reduceOfInt, Int32.reduceOfNat, Int32.reduceLT, Int32.reduceLE, Prod.mk.injEq, Nat.reduceEqDiff, reduceCtorEq, and_true, true_and, and_false, false_and, and_self, ite_true, ite_false, ↓reduceIte, not_true_eq_false, not_false_eq_true, pe_ri, pe_rz, Ri_p0 hA, Ri_g0 hA, Ri_g16 hA, Ri_r16 hA, Ri_w16 hA, Ri_l16 hA, eq_false k1]
theorem x1736 {A : wK → Nat} {h : pm_H} {m D : Nat} {S : wS} {x1 : Int32} {x2 : Int32} {x3 : Int32} {r : Int32 × wS} (hA : wok A Ri_d m) (hD : 2 ≤ D) (e : f1736 S x1 x2 x3 = some r) : pm_call pm_prog D 1736 [.ref (A (0, 0, 0)), .int x1, .int x2, .int x3] (wput A Ri_d S h) = some (.returned (some (.int r.1)), (wput A Ri_d r.2 h)) := by
  obtain ⟨D, rfl⟩ : ∃ D', D = D' + 1 := ⟨D - 1, by omega⟩
  have hD : 1 ≤ D := by omega
  rw [c1736 (Ri_c hA), b1736_0]
  simp only [f1736] at e
  obtain ⟨⟨v1, S2⟩, k1, e⟩ := Option.bind_eq_some_iff.mp e
  try dsimp only at e
  have z1 := x1737 (D := D) (h := h) hA (by omega) k1
  dsimp only at z1
  by_cases k2 : v1 = 0
  · rw [if_pos k2] at e
    by_cases k3 : x2 < 0
    · rw [if_pos k3] at e
      have k4 := y1736_5 (h := h) hA hD e
      simp -implicitDefEqProofs (disch := first | assumption | exact Nat.le_of_ble_eq_true rfl | decide) only [b1736_0, g1736_1, b1736_1, g1736_2, b1736_2, g1736_3, b1736_3, g1736_4, b1736_4, g1736_6, b1736_6, g1736_7, b1736_7, pe_aload0, pe_iload1, pe_call2, pm_af_ret, pm_af_void, pm_af_thr, pe_if_eq, pe_sipush, pe_iload2, pe_if_lt, pe_icmp_le, pe_goto_w, pe_goto, pe_iload3, pe_i2l, pe_bipush, pe_call3, pe_putfield, pe_getfield, pe_if_gt, pe_imul, pe_iadd, pe_baload, pe_bastore, pm_prog_1, pm_ob_some, Nat.reduceDiv, Nat.reduceMod, Nat.reduceMul, Nat.reduceAdd, Int.reduceToNat, pm_kill_i, pm_kill_r, pm_kill_n, pm_kill_j, pm_kill_l, pm_kill_d, pm_cats_nil, pm_cats_i, pm_cats_r, pm_cats_n, pm_cats_l, pm_cats_d, sz_1, sz_2, sl_1, sl_2, lc_0, lc_lt, lc_le, li_ne, Int32.reduceOfInt, Int64.reduceOfInt, Int32.reduceOfNat, Int32.reduceLT, Int32.reduceLE, Prod.mk.injEq, Nat.reduceEqDiff, reduceCtorEq, and_true, true_and, and_false, false_and, and_self, ite_true, ite_false, ↓reduceIte, not_true_eq_false, not_false_eq_true, pe_ri, pe_rz, Ri_p0 hA, Ri_g0 hA, Ri_g16 hA, Ri_r16 hA, Ri_w16 hA, Ri_l16 hA, z1, eq_true k2, eq_true k3, k4]
    · rw [if_neg k3] at e
      by_cases k5 : x2 ≤ 1
      · rw [if_pos k5] at e
        obtain ⟨v5, k6, e⟩ := Option.bind_eq_some_iff.mp e
        try dsimp only at e
        have z6 := fun h => x1731 (D := D) (h := h) (by omega) k6
        by_cases k7 : v5 = 0
        · rw [if_pos k7] at e
          have k8 := y1736_5 (h := h) hA hD e
          simp -implicitDefEqProofs (disch := first | assumption | exact Nat.le_of_ble_eq_true rfl | decide) only [b1736_0, g1736_1, b1736_1, g1736_2, b1736_2, g1736_3, b1736_3, g1736_4, b1736_4, g1736_6, b1736_6, g1736_7, b1736_7, pe_aload0, pe_iload1, pe_call2, pm_af_ret, pm_af_void, pm_af_thr, pe_if_eq, pe_sipush, pe_iload2, pe_if_lt, pe_icmp_le, pe_goto_w, pe_goto, pe_iload3, pe_i2l, pe_bipush, pe_call3, pe_putfield, pe_getfield, pe_if_gt, pe_imul, pe_iadd, pe_baload, pe_bastore, pm_prog_1, pm_ob_some, Nat.reduceDiv, Nat.reduceMod, Nat.reduceMul, Nat.reduceAdd, Int.reduceToNat, pm_kill_i, pm_kill_r, pm_kill_n, pm_kill_j, pm_kill_l, pm_kill_d, pm_cats_nil, pm_cats_i, pm_cats_r, pm_cats_n, pm_cats_l, pm_cats_d, sz_1, sz_2, sl_1, sl_2, lc_0, lc_lt, lc_le, li_ne, Int32.reduceOfInt, Int64.reduceOfInt, Int32.reduceOfNat, Int32.reduceLT, Int32.reduceLE, Prod.mk.injEq, Nat.reduceEqDiff, reduceCtorEq, and_true, true_and, and_false, false_and, and_self, ite_true, ite_false, ↓reduceIte, not_true_eq_false, not_false_eq_true, pe_ri, pe_rz, Ri_p0 hA, Ri_g0 hA, Ri_g16 hA, Ri_r16 hA, Ri_w16 hA, Ri_l16 hA, z1, eq_true k2, eq_false k3, eq_true k5, z6, eq_true k7, k8]
        · rw [if_neg k7] at e
          have k9 := y1736_5 (h := h) hA hD e
          simp -implicitDefEqProofs (disch := first | assumption | exact Nat.le_of_ble_eq_true rfl | decide) only [b1736_0, g1736_1, b1736_1, g1736_2, b1736_2, g1736_3, b1736_3, g1736_4, b1736_4, g1736_6, b1736_6, g1736_7, b1736_7, pe_aload0, pe_iload1, pe_call2, pm_af_ret, pm_af_void, pm_af_thr, pe_if_eq, pe_sipush, pe_iload2, pe_if_lt, pe_icmp_le, pe_goto_w, pe_goto, pe_iload3, pe_i2l, pe_bipush, pe_call3, pe_putfield, pe_getfield, pe_if_gt, pe_imul, pe_iadd, pe_baload, pe_bastore, pm_prog_1, pm_ob_some, Nat.reduceDiv, Nat.reduceMod, Nat.reduceMul, Nat.reduceAdd, Int.reduceToNat, pm_kill_i, pm_kill_r, pm_kill_n, pm_kill_j, pm_kill_l, pm_kill_d, pm_cats_nil, pm_cats_i, pm_cats_r, pm_cats_n, pm_cats_l, pm_cats_d, sz_1, sz_2, sl_1, sl_2, lc_0, lc_lt, lc_le, li_ne, Int32.reduceOfInt, Int64.reduceOfInt, Int32.reduceOfNat, Int32.reduceLT, Int32.reduceLE, Prod.mk.injEq, Nat.reduceEqDiff, reduceCtorEq, and_true, true_and, and_false, false_and, and_self, ite_true, ite_false, ↓reduceIte, not_true_eq_false, not_false_eq_true, pe_ri, pe_rz, Ri_p0 hA, Ri_g0 hA, Ri_g16 hA, Ri_r16 hA, Ri_w16 hA, Ri_l16 hA, z1, eq_true k2, eq_false k3, eq_true k5, z6, eq_false k7, k9]
      · rw [if_neg k5] at e
        have k10 := y1736_5 (h := h) hA hD e
        simp -implicitDefEqProofs (disch := first | assumption | exact Nat.le_of_ble_eq_true rfl | decide) only [b1736_0, g1736_1, b1736_1, g1736_2, b1736_2, g1736_3, b1736_3, g1736_4, b1736_4, g1736_6, b1736_6, g1736_7, b1736_7, pe_aload0, pe_iload1, pe_call2, pm_af_ret, pm_af_void, pm_af_thr, pe_if_eq, pe_sipush, pe_iload2, pe_if_lt, pe_icmp_le, pe_goto_w, pe_goto, pe_iload3, pe_i2l, pe_bipush, pe_call3, pe_putfield, pe_getfield, pe_if_gt, pe_imul, pe_iadd, pe_baload, pe_bastore, pm_prog_1, pm_ob_some, Nat.reduceDiv, Nat.reduceMod, Nat.reduceMul, Nat.reduceAdd, Int.reduceToNat, pm_kill_i, pm_kill_r, pm_kill_n, pm_kill_j, pm_kill_l, pm_kill_d, pm_cats_nil, pm_cats_i, pm_cats_r, pm_cats_n, pm_cats_l, pm_cats_d, sz_1, sz_2, sl_1, sl_2, lc_0, lc_lt, lc_le, li_ne, Int32.reduceOfInt, Int64.reduceOfInt, Int32.reduceOfNat, Int32.reduceLT, Int32.reduceLE, Prod.mk.injEq, Nat.reduceEqDiff, reduceCtorEq, and_true, true_and, and_false, false_and, and_self, ite_true, ite_false, ↓reduceIte, not_true_eq_false, not_false_eq_true, pe_ri, pe_rz, Ri_p0 hA, Ri_g0 hA, Ri_g16 hA, Ri_r16 hA, Ri_w16 hA, Ri_l16 hA, z1, eq_true k2, eq_false k3, eq_false k5, k10]
  · rw [if_neg k2] at e
    have e := Option.some.inj e; subst e
    simp -implicitDefEqProofs (disch := first | assumption | exact Nat.le_of_ble_eq_true rfl | decide) only [b1736_0, g1736_1, b1736_1, g1736_2, b1736_2, g1736_3, b1736_3, g1736_4, b1736_4, g1736_6, b1736_6, g1736_7, b1736_7, pe_aload0, pe_iload1, pe_call2, pm_af_ret, pm_af_void, pm_af_thr, pe_if_eq, pe_sipush, pe_iload2, pe_if_lt, pe_icmp_le, pe_goto_w, pe_goto, pe_iload3, pe_i2l, pe_bipush, pe_call3, pe_putfield, pe_getfield, pe_if_gt, pe_imul, pe_iadd, pe_baload, pe_bastore, pm_prog_1, pm_ob_some, Nat.reduceDiv, Nat.reduceMod, Nat.reduceMul, Nat.reduceAdd, Int.reduceToNat, pm_kill_i, pm_kill_r, pm_kill_n, pm_kill_j, pm_kill_l, pm_kill_d, pm_cats_nil, pm_cats_i, pm_cats_r, pm_cats_n, pm_cats_l, pm_cats_d, sz_1, sz_2, sl_1, sl_2, lc_0, lc_lt, lc_le, li_ne, Int32.reduceOfInt, Int64.reduceOfInt, Int32.reduceOfNat, Int32.reduceLT, Int32.reduceLE, Prod.mk.injEq, Nat.reduceEqDiff, reduceCtorEq, and_true, true_and, and_false, false_and, and_self, ite_true, ite_false, ↓reduceIte, not_true_eq_false, not_false_eq_true, pe_ri, pe_rz, Ri_p0 hA, Ri_g0 hA, Ri_g16 hA, Ri_r16 hA, Ri_w16 hA, Ri_l16 hA, z1, eq_false k2]
/-- TimberHouseModel$Rips.piece(IIIJ)I -/
theorem c1734 {d : Nat} {h : pm_H} {a : Nat} {x0 : Int32} {x1 : Int32} {x2 : Int32} {x3 : Int64} (hc : pm_cls h a = some 27) : pm_call pm_prog (d + 1) 1734 [.ref a, .int x0, .int x1, .int x2, .long x3] h = pm_ev pm_prog (pm_call pm_prog d) 1734 0 b1734_0 [.ref a, .int x0, .int x1, .int x2, .long x3, pm_junk, pm_junk] [] h := pm_cal (pm_rc1 hc rfl) rfl rfl rfl
theorem g1734_1 {cl : pm_C} {ls st : List Value} {h : pm_H} : pm_go pm_prog cl 1734 1 ls st h = pm_ev pm_prog cl 1734 1 b1734_1 ls st h := pm_go_eq pm_prog cl 1734 1 ls st h
theorem g1734_2 {cl : pm_C} {ls st : List Value} {h : pm_H} : pm_go pm_prog cl 1734 2 ls st h = pm_ev pm_prog cl 1734 2 b1734_2 ls st h := pm_go_eq pm_prog cl 1734 2 ls st h
theorem g1734_3 {cl : pm_C} {ls st : List Value} {h : pm_H} : pm_go pm_prog cl 1734 3 ls st h = pm_ev pm_prog cl 1734 3 b1734_3 ls st h := pm_go_eq pm_prog cl 1734 3 ls st h
theorem g1734_4 {cl : pm_C} {ls st : List Value} {h : pm_H} : pm_go pm_prog cl 1734 4 ls st h = pm_ev pm_prog cl 1734 4 b1734_4 ls st h := pm_go_eq pm_prog cl 1734 4 ls st h
theorem g1734_5 {cl : pm_C} {ls st : List Value} {h : pm_H} : pm_go pm_prog cl 1734 5 ls st h = pm_ev pm_prog cl 1734 5 b1734_5 ls st h := pm_go_eq pm_prog cl 1734 5 ls st h
theorem g1734_6 {cl : pm_C} {ls st : List Value} {h : pm_H} : pm_go pm_prog cl 1734 6 ls st h = pm_ev pm_prog cl 1734 6 b1734_6 ls st h := pm_go_eq pm_prog cl 1734 6 ls st h
noncomputable def f1734_5 (S : wS) (x1 : Int32) (x2 : Int32) (x3 : Int32) (x4 : Int64) (y1 : Int32) : Option (Int32 × wS) :=
  if y1 ≤ 0 then
    (f1735 (sz S (0, 0, 0) 0 y1) x1).bind fun v2 =>
    if 0 ≤ (S.1 (0, 0, 0) 11) ∧ (S.1 (0, 0, 0) 11) < 8 then
      some ((((S.1 (0, 0, 0) 11) + 1) - 1), (sz (sz (sl (sz (sz (sz (sz S (0, 0, 0) 0 y1) (13, 0, 0) (S.1 (0, 0, 0) 11) v2) (14, 0, 0) (S.1 (0, 0, 0) 11) x2) (15, 0, 0) (S.1 (0, 0, 0) 11) x3) (16, 0, 0) (S.1 (0, 0, 0) 11) x4) (0, 0, 0) 11 ((S.1 (0, 0, 0) 11) + 1)) (0, 0, 0) 33 0))
    else none
  else
    some (0, (sz S (0, 0, 0) 0 y1))
noncomputable def f1734_2 (S : wS) (x1 : Int32) (x2 : Int32) (x3 : Int32) (x4 : Int64) (y0 : Int32) : Option (Int32 × wS) :=
  if (S.1 (0, 0, 0) 11) = 8 then
    f1734_5 S x1 x2 x3 x4 1
  else
    if y0 = 0 then
      f1734_5 S x1 x2 x3 x4 2
    else
      f1734_5 S x1 x2 x3 x4 0
/-- TimberHouseModel$Rips.piece(IIIJ)I -/
noncomputable def f1734 (S : wS) (x1 : Int32) (x2 : Int32) (x3 : Int32) (x4 : Int64) : Option (Int32 × wS) :=
  (f1731 (Int32.toInt64 x1) 1 65536).bind fun v1 =>
  if v1 = 0 then
    f1734_2 S x1 x2 x3 x4 0
  else
    (f1731 (Int32.toInt64 x2) 1 65536).bind fun v3 =>
    if v3 = 0 then
      f1734_2 S x1 x2 x3 x4 0
    else
      (f1731 (Int32.toInt64 x3) (Int32.toInt64 x2) 65536).bind fun v4 =>
      if v4 = 0 then
        f1734_2 S x1 x2 x3 x4 0
      else
        (f1731 x4 1 100000).bind fun v5 =>
        if v5 = 0 then
          f1734_2 S x1 x2 x3 x4 0
        else
          f1734_2 S x1 x2 x3 x4 1
theorem y1734_5 {A : wK → Nat} {h : pm_H} {m D : Nat} {S : wS} {x1 : Int32} {x2 : Int32} {x3 : Int32} {x4 : Int64} {y1 : Int32} {r : Int32 × wS} (hA : wok A Ri_d m) (hD : 1 ≤ D) (e : f1734_5 S x1 x2 x3 x4 y1 = some r) : ∀ q6 : Value, pm_go pm_prog (pm_call pm_prog D) 1734 5 [.ref (A (0, 0, 0)), .int x1, .int x2, .int x3, .long x4, pm_junk, q6] [.int y1, .ref (A (0, 0, 0))] (wput A Ri_d S h) = some (.returned (some (.int r.1)), (wput A Ri_d r.2 h)) := by
  intro q6
  simp only [f1734_5] at e
  rw [g1734_5, b1734_5]
  by_cases k1 : y1 ≤ 0
  · rw [if_pos k1] at e
    obtain ⟨v2, k2, e⟩ := Option.bind_eq_some_iff.mp e
    try dsimp only at e
    have z2 := x1735 (D := D) (h := h) hA (by omega) k2
    by_cases k3 : 0 ≤ (S.1 (0, 0, 0) 11) ∧ (S.1 (0, 0, 0) 11) < 8
    · rw [if_pos k3] at e
      have e := Option.some.inj e; subst e
      simp -implicitDefEqProofs (disch := first | assumption | exact Nat.le_of_ble_eq_true rfl | decide) only [b1734_0, g1734_1, b1734_1, g1734_3, b1734_3, g1734_4, b1734_4, g1734_6, b1734_6, pe_iload1, pe_i2l, pe_bipush, pe_call3, pm_af_ret, pm_af_void, pm_af_thr, pe_if_eq, pe_iload2, pe_iload3, pe_lload4, pe_sipush, pe_goto, pe_goto_w, pe_istore6, pe_aload0, pe_getfield, pe_icmp_ne, pe_iload6, pe_putfield, pe_if_le, pe_call2, pe_iastore, pe_lastore, pe_dup_i, pe_dup_r, pe_iadd, pe_isub, pm_prog_1, pm_ob_some, Nat.reduceDiv, Nat.reduceMod, Nat.reduceMul, Nat.reduceAdd, Int.reduceToNat, pm_kill_i, pm_kill_r, pm_kill_n, pm_kill_j, pm_kill_l, pm_kill_d, pm_cats_nil, pm_cats_i, pm_cats_r, pm_cats_n, pm_cats_l, pm_cats_d, sz_1, sz_2, sl_1, sl_2, lc_0, lc_lt, lc_le, li_ne, Int32.reduceOfInt, Int64.reduceOfInt, Int32.reduceOfNat, Int32.reduceLT, Int32.reduceLE, Prod.mk.injEq, Nat.reduceEqDiff, reduceCtorEq, and_true, true_and, and_false, false_and, and_self, ite_true, ite_false, ↓reduceIte, not_true_eq_false, not_false_eq_true, pe_ri, pe_rz, Ri_g11 hA, Ri_p0 hA, Ri_g0 hA, Ri_g12 hA, Ri_g13 hA, Ri_g14 hA, Ri_g15 hA, Ri_p11 hA, Ri_p33 hA, Ri_r12 hA, Ri_w12 hA, Ri_l12 hA, Ri_r13 hA, Ri_w13 hA, Ri_l13 hA, Ri_r14 hA, Ri_w14 hA, Ri_l14 hA, Ri_r15 hA, Ri_w15 hA, Ri_l15 hA, eq_true k1, z2]
    · rw [if_neg k3] at e; cases e
  · rw [if_neg k1] at e
    have e := Option.some.inj e; subst e
    simp -implicitDefEqProofs (disch := first | assumption | exact Nat.le_of_ble_eq_true rfl | decide) only [b1734_0, g1734_1, b1734_1, g1734_3, b1734_3, g1734_4, b1734_4, g1734_6, b1734_6, pe_iload1, pe_i2l, pe_bipush, pe_call3, pm_af_ret, pm_af_void, pm_af_thr, pe_if_eq, pe_iload2, pe_iload3, pe_lload4, pe_sipush, pe_goto, pe_goto_w, pe_istore6, pe_aload0, pe_getfield, pe_icmp_ne, pe_iload6, pe_putfield, pe_if_le, pe_call2, pe_iastore, pe_lastore, pe_dup_i, pe_dup_r, pe_iadd, pe_isub, pm_prog_1, pm_ob_some, Nat.reduceDiv, Nat.reduceMod, Nat.reduceMul, Nat.reduceAdd, Int.reduceToNat, pm_kill_i, pm_kill_r, pm_kill_n, pm_kill_j, pm_kill_l, pm_kill_d, pm_cats_nil, pm_cats_i, pm_cats_r, pm_cats_n, pm_cats_l, pm_cats_d, sz_1, sz_2, sl_1, sl_2, lc_0, lc_lt, lc_le, li_ne, Int32.reduceOfInt, Int64.reduceOfInt, Int32.reduceOfNat, Int32.reduceLT, Int32.reduceLE, Prod.mk.injEq, Nat.reduceEqDiff, reduceCtorEq, and_true, true_and, and_false, false_and, and_self, ite_true, ite_false, ↓reduceIte, not_true_eq_false, not_false_eq_true, pe_ri, pe_rz, Ri_g11 hA, Ri_p0 hA, Ri_g0 hA, Ri_g12 hA, Ri_g13 hA, Ri_g14 hA, Ri_g15 hA, Ri_p11 hA, Ri_p33 hA, Ri_r12 hA, Ri_w12 hA, Ri_l12 hA, Ri_r13 hA, Ri_w13 hA, Ri_l13 hA, Ri_r14 hA, Ri_w14 hA, Ri_l14 hA, Ri_r15 hA, Ri_w15 hA, Ri_l15 hA, eq_false k1]
theorem y1734_2 {A : wK → Nat} {h : pm_H} {m D : Nat} {S : wS} {x1 : Int32} {x2 : Int32} {x3 : Int32} {x4 : Int64} {y0 : Int32} {r : Int32 × wS} (hA : wok A Ri_d m) (hD : 1 ≤ D) (e : f1734_2 S x1 x2 x3 x4 y0 = some r) : ∀ q6 : Value, pm_go pm_prog (pm_call pm_prog D) 1734 2 [.ref (A (0, 0, 0)), .int x1, .int x2, .int x3, .long x4, pm_junk, q6] [.int y0] (wput A Ri_d S h) = some (.returned (some (.int r.1)), (wput A Ri_d r.2 h)) := by
  intro q6
  simp only [f1734_2] at e
  rw [g1734_2, b1734_2]
  by_cases k1 : (S.1 (0, 0, 0) 11) = 8
  · rw [if_pos k1] at e
    have k2 := y1734_5 (h := h) hA hD e
    simp -implicitDefEqProofs (disch := first | assumption | exact Nat.le_of_ble_eq_true rfl | decide) only [b1734_0, g1734_1, b1734_1, g1734_3, b1734_3, g1734_4, b1734_4, g1734_6, b1734_6, pe_iload1, pe_i2l, pe_bipush, pe_call3, pm_af_ret, pm_af_void, pm_af_thr, pe_if_eq, pe_iload2, pe_iload3, pe_lload4, pe_sipush, pe_goto, pe_goto_w, pe_istore6, pe_aload0, pe_getfield, pe_icmp_ne, pe_iload6, pe_putfield, pe_if_le, pe_call2, pe_iastore, pe_lastore, pe_dup_i, pe_dup_r, pe_iadd, pe_isub, pm_prog_1, pm_ob_some, Nat.reduceDiv, Nat.reduceMod, Nat.reduceMul, Nat.reduceAdd, Int.reduceToNat, pm_kill_i, pm_kill_r, pm_kill_n, pm_kill_j, pm_kill_l, pm_kill_d, pm_cats_nil, pm_cats_i, pm_cats_r, pm_cats_n, pm_cats_l, pm_cats_d, sz_1, sz_2, sl_1, sl_2, lc_0, lc_lt, lc_le, li_ne, Int32.reduceOfInt, Int64.reduceOfInt, Int32.reduceOfNat, Int32.reduceLT, Int32.reduceLE, Prod.mk.injEq, Nat.reduceEqDiff, reduceCtorEq, and_true, true_and, and_false, false_and, and_self, ite_true, ite_false, ↓reduceIte, not_true_eq_false, not_false_eq_true, pe_ri, pe_rz, Ri_g11 hA, Ri_p0 hA, Ri_g0 hA, Ri_g12 hA, Ri_g13 hA, Ri_g14 hA, Ri_g15 hA, Ri_p11 hA, Ri_p33 hA, Ri_r12 hA, Ri_w12 hA, Ri_l12 hA, Ri_r13 hA, Ri_w13 hA, Ri_l13 hA, Ri_r14 hA, Ri_w14 hA, Ri_l14 hA, Ri_r15 hA, Ri_w15 hA, Ri_l15 hA, eq_true k1, k2]
  · rw [if_neg k1] at e
    by_cases k3 : y0 = 0
    · rw [if_pos k3] at e
      have k4 := y1734_5 (h := h) hA hD e
      simp -implicitDefEqProofs (disch := first | assumption | exact Nat.le_of_ble_eq_true rfl | decide) only [b1734_0, g1734_1, b1734_1, g1734_3, b1734_3, g1734_4, b1734_4, g1734_6, b1734_6, pe_iload1, pe_i2l, pe_bipush, pe_call3, pm_af_ret, pm_af_void, pm_af_thr, pe_if_eq, pe_iload2, pe_iload3, pe_lload4, pe_sipush, pe_goto, pe_goto_w, pe_istore6, pe_aload0, pe_getfield, pe_icmp_ne, pe_iload6, pe_putfield, pe_if_le, pe_call2, pe_iastore, pe_lastore, pe_dup_i, pe_dup_r, pe_iadd, pe_isub, pm_prog_1, pm_ob_some, Nat.reduceDiv, Nat.reduceMod, Nat.reduceMul, Nat.reduceAdd, Int.reduceToNat, pm_kill_i, pm_kill_r, pm_kill_n, pm_kill_j, pm_kill_l, pm_kill_d, pm_cats_nil, pm_cats_i, pm_cats_r, pm_cats_n, pm_cats_l, pm_cats_d, sz_1, sz_2, sl_1, sl_2, lc_0, lc_lt, lc_le, li_ne, Int32.reduceOfInt, Int64.reduceOfInt, Int32.reduceOfNat, Int32.reduceLT, Int32.reduceLE, Prod.mk.injEq, Nat.reduceEqDiff, reduceCtorEq, and_true, true_and, and_false, false_and, and_self, ite_true, ite_false, ↓reduceIte, not_true_eq_false, not_false_eq_true, pe_ri, pe_rz, Ri_g11 hA, Ri_p0 hA, Ri_g0 hA, Ri_g12 hA, Ri_g13 hA, Ri_g14 hA, Ri_g15 hA, Ri_p11 hA, Ri_p33 hA, Ri_r12 hA, Ri_w12 hA, Ri_l12 hA, Ri_r13 hA, Ri_w13 hA, Ri_l13 hA, Ri_r14 hA, Ri_w14 hA, Ri_l14 hA, Ri_r15 hA, Ri_w15 hA, Ri_l15 hA, eq_false k1, eq_true k3, k4]
    · rw [if_neg k3] at e
      have k5 := y1734_5 (h := h) hA hD e
      simp -implicitDefEqProofs (disch := first | assumption | exact Nat.le_of_ble_eq_true rfl | decide) only [b1734_0, g1734_1, b1734_1, g1734_3, b1734_3, g1734_4, b1734_4, g1734_6, b1734_6, pe_iload1, pe_i2l, pe_bipush, pe_call3, pm_af_ret, pm_af_void, pm_af_thr, pe_if_eq, pe_iload2, pe_iload3, pe_lload4, pe_sipush, pe_goto, pe_goto_w, pe_istore6, pe_aload0, pe_getfield, pe_icmp_ne, pe_iload6, pe_putfield, pe_if_le, pe_call2, pe_iastore, pe_lastore, pe_dup_i, pe_dup_r, pe_iadd, pe_isub, pm_prog_1, pm_ob_some, Nat.reduceDiv, Nat.reduceMod, Nat.reduceMul, Nat.reduceAdd, Int.reduceToNat, pm_kill_i, pm_kill_r, pm_kill_n, pm_kill_j, pm_kill_l, pm_kill_d, pm_cats_nil, pm_cats_i, pm_cats_r, pm_cats_n, pm_cats_l, pm_cats_d, sz_1, sz_2, sl_1, sl_2, lc_0, lc_lt, lc_le, li_ne, Int32.reduceOfInt, Int64.reduceOfInt, Int32.reduceOfNat, Int32.reduceLT, Int32.reduceLE, Prod.mk.injEq, Nat.reduceEqDiff, reduceCtorEq, and_true, true_and, and_false, false_and, and_self, ite_true, ite_false, ↓reduceIte, not_true_eq_false, not_false_eq_true, pe_ri, pe_rz, Ri_g11 hA, Ri_p0 hA, Ri_g0 hA, Ri_g12 hA, Ri_g13 hA, Ri_g14 hA, Ri_g15 hA, Ri_p11 hA, Ri_p33 hA, Ri_r12 hA, Ri_w12 hA, Ri_l12 hA, Ri_r13 hA, Ri_w13 hA, Ri_l13 hA, Ri_r14 hA, Ri_w14 hA, Ri_l14 hA, Ri_r15 hA, Ri_w15 hA, Ri_l15 hA, eq_false k1, eq_false k3, k5]
theorem x1734 {A : wK → Nat} {h : pm_H} {m D : Nat} {S : wS} {x1 : Int32} {x2 : Int32} {x3 : Int32} {x4 : Int64} {r : Int32 × wS} (hA : wok A Ri_d m) (hD : 2 ≤ D) (e : f1734 S x1 x2 x3 x4 = some r) : pm_call pm_prog D 1734 [.ref (A (0, 0, 0)), .int x1, .int x2, .int x3, .long x4] (wput A Ri_d S h) = some (.returned (some (.int r.1)), (wput A Ri_d r.2 h)) := by
  obtain ⟨D, rfl⟩ : ∃ D', D = D' + 1 := ⟨D - 1, by omega⟩
  have hD : 1 ≤ D := by omega
  rw [c1734 (Ri_c hA), b1734_0]
  simp only [f1734] at e
  obtain ⟨v1, k1, e⟩ := Option.bind_eq_some_iff.mp e
  try dsimp only at e
  have z1 := fun h => x1731 (D := D) (h := h) (by omega) k1
  by_cases k2 : v1 = 0
  · rw [if_pos k2] at e
    have k3 := y1734_2 (h := h) hA hD e
    simp -implicitDefEqProofs (disch := first | assumption | exact Nat.le_of_ble_eq_true rfl | decide) only [b1734_0, g1734_1, b1734_1, g1734_3, b1734_3, g1734_4, b1734_4, g1734_6, b1734_6, pe_iload1, pe_i2l, pe_bipush, pe_call3, pm_af_ret, pm_af_void, pm_af_thr, pe_if_eq, pe_iload2, pe_iload3, pe_lload4, pe_sipush, pe_goto, pe_goto_w, pe_istore6, pe_aload0, pe_getfield, pe_icmp_ne, pe_iload6, pe_putfield, pe_if_le, pe_call2, pe_iastore, pe_lastore, pe_dup_i, pe_dup_r, pe_iadd, pe_isub, pm_prog_1, pm_ob_some, Nat.reduceDiv, Nat.reduceMod, Nat.reduceMul, Nat.reduceAdd, Int.reduceToNat, pm_kill_i, pm_kill_r, pm_kill_n, pm_kill_j, pm_kill_l, pm_kill_d, pm_cats_nil, pm_cats_i, pm_cats_r, pm_cats_n, pm_cats_l, pm_cats_d, sz_1, sz_2, sl_1, sl_2, lc_0, lc_lt, lc_le, li_ne, Int32.reduceOfInt, Int64.reduceOfInt, Int32.reduceOfNat, Int32.reduceLT, Int32.reduceLE, Prod.mk.injEq, Nat.reduceEqDiff, reduceCtorEq, and_true, true_and, and_false, false_and, and_self, ite_true, ite_false, ↓reduceIte, not_true_eq_false, not_false_eq_true, pe_ri, pe_rz, Ri_g11 hA, Ri_p0 hA, Ri_g0 hA, Ri_g12 hA, Ri_g13 hA, Ri_g14 hA, Ri_g15 hA, Ri_p11 hA, Ri_p33 hA, Ri_r12 hA, Ri_w12 hA, Ri_l12 hA, Ri_r13 hA, Ri_w13 hA, Ri_l13 hA, Ri_r14 hA, Ri_w14 hA, Ri_l14 hA, Ri_r15 hA, Ri_w15 hA, Ri_l15 hA, z1, eq_true k2, k3]
  · rw [if_neg k2] at e
    obtain ⟨v3, k4, e⟩ := Option.bind_eq_some_iff.mp e
    try dsimp only at e
    have z4 := fun h => x1731 (D := D) (h := h) (by omega) k4
    by_cases k5 : v3 = 0
    · rw [if_pos k5] at e
      have k6 := y1734_2 (h := h) hA hD e
      simp -implicitDefEqProofs (disch := first | assumption | exact Nat.le_of_ble_eq_true rfl | decide) only [b1734_0, g1734_1, b1734_1, g1734_3, b1734_3, g1734_4, b1734_4, g1734_6, b1734_6, pe_iload1, pe_i2l, pe_bipush, pe_call3, pm_af_ret, pm_af_void, pm_af_thr, pe_if_eq, pe_iload2, pe_iload3, pe_lload4, pe_sipush, pe_goto, pe_goto_w, pe_istore6, pe_aload0, pe_getfield, pe_icmp_ne, pe_iload6, pe_putfield, pe_if_le, pe_call2, pe_iastore, pe_lastore, pe_dup_i, pe_dup_r, pe_iadd, pe_isub, pm_prog_1, pm_ob_some, Nat.reduceDiv, Nat.reduceMod, Nat.reduceMul, Nat.reduceAdd, Int.reduceToNat, pm_kill_i, pm_kill_r, pm_kill_n, pm_kill_j, pm_kill_l, pm_kill_d, pm_cats_nil, pm_cats_i, pm_cats_r, pm_cats_n, pm_cats_l, pm_cats_d, sz_1, sz_2, sl_1, sl_2, lc_0, lc_lt, lc_le, li_ne, Int32.reduceOfInt, Int64.reduceOfInt, Int32.reduceOfNat, Int32.reduceLT, Int32.reduceLE, Prod.mk.injEq, Nat.reduceEqDiff, reduceCtorEq, and_true, true_and, and_false, false_and, and_self, ite_true, ite_false, ↓reduceIte, not_true_eq_false, not_false_eq_true, pe_ri, pe_rz, Ri_g11 hA, Ri_p0 hA, Ri_g0 hA, Ri_g12 hA, Ri_g13 hA, Ri_g14 hA, Ri_g15 hA, Ri_p11 hA, Ri_p33 hA, Ri_r12 hA, Ri_w12 hA, Ri_l12 hA, Ri_r13 hA, Ri_w13 hA, Ri_l13 hA, Ri_r14 hA, Ri_w14 hA, Ri_l14 hA, Ri_r15 hA, Ri_w15 hA, Ri_l15 hA, z1, eq_false k2, z4, eq_true k5, k6]
    · rw [if_neg k5] at e
      obtain ⟨v4, k7, e⟩ := Option.bind_eq_some_iff.mp e
      try dsimp only at e
      have z7 := fun h => x1731 (D := D) (h := h) (by omega) k7
      by_cases k8 : v4 = 0
      · rw [if_pos k8] at e
        have k9 := y1734_2 (h := h) hA hD e
        simp -implicitDefEqProofs (disch := first | assumption | exact Nat.le_of_ble_eq_true rfl | decide) only [b1734_0, g1734_1, b1734_1, g1734_3, b1734_3, g1734_4, b1734_4, g1734_6, b1734_6, pe_iload1, pe_i2l, pe_bipush, pe_call3, pm_af_ret, pm_af_void, pm_af_thr, pe_if_eq, pe_iload2, pe_iload3, pe_lload4, pe_sipush, pe_goto, pe_goto_w, pe_istore6, pe_aload0, pe_getfield, pe_icmp_ne, pe_iload6, pe_putfield, pe_if_le, pe_call2, pe_iastore, pe_lastore, pe_dup_i, pe_dup_r, pe_iadd, pe_isub, pm_prog_1, pm_ob_some, Nat.reduceDiv, Nat.reduceMod, Nat.reduceMul, Nat.reduceAdd, Int.reduceToNat, pm_kill_i, pm_kill_r, pm_kill_n, pm_kill_j, pm_kill_l, pm_kill_d, pm_cats_nil, pm_cats_i, pm_cats_r, pm_cats_n, pm_cats_l, pm_cats_d, sz_1, sz_2, sl_1, sl_2, lc_0, lc_lt, lc_le, li_ne, Int32.reduceOfInt, Int64.reduceOfInt, Int32.reduceOfNat, Int32.reduceLT, Int32.reduceLE, Prod.mk.injEq, Nat.reduceEqDiff, reduceCtorEq, and_true, true_and, and_false, false_and, and_self, ite_true, ite_false, ↓reduceIte, not_true_eq_false, not_false_eq_true, pe_ri, pe_rz, Ri_g11 hA, Ri_p0 hA, Ri_g0 hA, Ri_g12 hA, Ri_g13 hA, Ri_g14 hA, Ri_g15 hA, Ri_p11 hA, Ri_p33 hA, Ri_r12 hA, Ri_w12 hA, Ri_l12 hA, Ri_r13 hA, Ri_w13 hA, Ri_l13 hA, Ri_r14 hA, Ri_w14 hA, Ri_l14 hA, Ri_r15 hA, Ri_w15 hA, Ri_l15 hA, z1, eq_false k2, z4, eq_false k5, z7, eq_true k8, k9]
      · rw [if_neg k8] at e
        obtain ⟨v5, k10, e⟩ := Option.bind_eq_some_iff.mp e
        try dsimp only at e
        have z10 := fun h => x1731 (D := D) (h := h) (by omega) k10
        by_cases k11 : v5 = 0
        · rw [if_pos k11] at e
          have k12 := y1734_2 (h := h) hA hD e
          simp -implicitDefEqProofs (disch := first | assumption | exact Nat.le_of_ble_eq_true rfl | decide) only [b1734_0, g1734_1, b1734_1, g1734_3, b1734_3, g1734_4, b1734_4, g1734_6, b1734_6, pe_iload1, pe_i2l, pe_bipush, pe_call3, pm_af_ret, pm_af_void, pm_af_thr, pe_if_eq, pe_iload2, pe_iload3, pe_lload4, pe_sipush, pe_goto, pe_goto_w, pe_istore6, pe_aload0, pe_getfield, pe_icmp_ne, pe_iload6, pe_putfield, pe_if_le, pe_call2, pe_iastore, pe_lastore, pe_dup_i, pe_dup_r, pe_iadd, pe_isub, pm_prog_1, pm_ob_some, Nat.reduceDiv, Nat.reduceMod, Nat.reduceMul, Nat.reduceAdd, Int.reduceToNat, pm_kill_i, pm_kill_r, pm_kill_n, pm_kill_j, pm_kill_l, pm_kill_d, pm_cats_nil, pm_cats_i, pm_cats_r, pm_cats_n, pm_cats_l, pm_cats_d, sz_1, sz_2, sl_1, sl_2, lc_0, lc_lt, lc_le, li_ne, Int32.reduceOfInt, Int64.reduceOfInt, Int32.reduceOfNat, Int32.reduceLT, Int32.reduceLE, Prod.mk.injEq, Nat.reduceEqDiff, reduceCtorEq, and_true, true_and, and_false, false_and, and_self, ite_true, ite_false, ↓reduceIte, not_true_eq_false, not_false_eq_true, pe_ri, pe_rz, Ri_g11 hA, Ri_p0 hA, Ri_g0 hA, Ri_g12 hA, Ri_g13 hA, Ri_g14 hA, Ri_g15 hA, Ri_p11 hA, Ri_p33 hA, Ri_r12 hA, Ri_w12 hA, Ri_l12 hA, Ri_r13 hA, Ri_w13 hA, Ri_l13 hA, Ri_r14 hA, Ri_w14 hA, Ri_l14 hA, Ri_r15 hA, Ri_w15 hA, Ri_l15 hA, z1, eq_false k2, z4, eq_false k5, z7, eq_false k8, z10, eq_true k11, k12]
        · rw [if_neg k11] at e
          have k13 := y1734_2 (h := h) hA hD e
          simp -implicitDefEqProofs (disch := first | assumption | exact Nat.le_of_ble_eq_true rfl | decide) only [b1734_0, g1734_1, b1734_1, g1734_3, b1734_3, g1734_4, b1734_4, g1734_6, b1734_6, pe_iload1, pe_i2l, pe_bipush, pe_call3, pm_af_ret, pm_af_void, pm_af_thr, pe_if_eq, pe_iload2, pe_iload3, pe_lload4, pe_sipush, pe_goto, pe_goto_w, pe_istore6, pe_aload0, pe_getfield, pe_icmp_ne, pe_iload6, pe_putfield, pe_if_le, pe_call2, pe_iastore, pe_lastore, pe_dup_i, pe_dup_r, pe_iadd, pe_isub, pm_prog_1, pm_ob_some, Nat.reduceDiv, Nat.reduceMod, Nat.reduceMul, Nat.reduceAdd, Int.reduceToNat, pm_kill_i, pm_kill_r, pm_kill_n, pm_kill_j, pm_kill_l, pm_kill_d, pm_cats_nil, pm_cats_i, pm_cats_r, pm_cats_n, pm_cats_l, pm_cats_d, sz_1, sz_2, sl_1, sl_2, lc_0, lc_lt, lc_le, li_ne, Int32.reduceOfInt, Int64.reduceOfInt, Int32.reduceOfNat, Int32.reduceLT, Int32.reduceLE, Prod.mk.injEq, Nat.reduceEqDiff, reduceCtorEq, and_true, true_and, and_false, false_and, and_self, ite_true, ite_false, ↓reduceIte, not_true_eq_false, not_false_eq_true, pe_ri, pe_rz, Ri_g11 hA, Ri_p0 hA, Ri_g0 hA, Ri_g12 hA, Ri_g13 hA, Ri_g14 hA, Ri_g15 hA, Ri_p11 hA, Ri_p33 hA, Ri_r12 hA, Ri_w12 hA, Ri_l12 hA, Ri_r13 hA, Ri_w13 hA, Ri_l13 hA, Ri_r14 hA, Ri_w14 hA, Ri_l14 hA, Ri_r15 hA, Ri_w15 hA, Ri_l15 hA, z1, eq_false k2, z4, eq_false k5, z7, eq_false k8, z10, eq_false k11, k13]
/-- TimberHouseModel$Rips.fault(IIIIII)Z -/
theorem c1730 {d : Nat} {h : pm_H} {a : Nat} {x0 : Int32} {x1 : Int32} {x2 : Int32} {x3 : Int32} {x4 : Int32} {x5 : Int32} (hc : pm_cls h a = some 27) : pm_call pm_prog (d + 1) 1730 [.ref a, .int x0, .int x1, .int x2, .int x3, .int x4, .int x5] h = pm_ev pm_prog (pm_call pm_prog d) 1730 0 b1730_0 [.ref a, .int x0, .int x1, .int x2, .int x3, .int x4, .int x5, pm_junk] [] h := pm_cal (pm_rc1 hc rfl) rfl rfl rfl
theorem g1730_1 {cl : pm_C} {ls st : List Value} {h : pm_H} : pm_go pm_prog cl 1730 1 ls st h = pm_ev pm_prog cl 1730 1 b1730_1 ls st h := pm_go_eq pm_prog cl 1730 1 ls st h
theorem g1730_2 {cl : pm_C} {ls st : List Value} {h : pm_H} : pm_go pm_prog cl 1730 2 ls st h = pm_ev pm_prog cl 1730 2 b1730_2 ls st h := pm_go_eq pm_prog cl 1730 2 ls st h
theorem g1730_3 {cl : pm_C} {ls st : List Value} {h : pm_H} : pm_go pm_prog cl 1730 3 ls st h = pm_ev pm_prog cl 1730 3 b1730_3 ls st h := pm_go_eq pm_prog cl 1730 3 ls st h
theorem g1730_4 {cl : pm_C} {ls st : List Value} {h : pm_H} : pm_go pm_prog cl 1730 4 ls st h = pm_ev pm_prog cl 1730 4 b1730_4 ls st h := pm_go_eq pm_prog cl 1730 4 ls st h
theorem g1730_5 {cl : pm_C} {ls st : List Value} {h : pm_H} : pm_go pm_prog cl 1730 5 ls st h = pm_ev pm_prog cl 1730 5 b1730_5 ls st h := pm_go_eq pm_prog cl 1730 5 ls st h
theorem g1730_6 {cl : pm_C} {ls st : List Value} {h : pm_H} : pm_go pm_prog cl 1730 6 ls st h = pm_ev pm_prog cl 1730 6 b1730_6 ls st h := pm_go_eq pm_prog cl 1730 6 ls st h
theorem g1730_7 {cl : pm_C} {ls st : List Value} {h : pm_H} : pm_go pm_prog cl 1730 7 ls st h = pm_ev pm_prog cl 1730 7 b1730_7 ls st h := pm_go_eq pm_prog cl 1730 7 ls st h
theorem g1730_8 {cl : pm_C} {ls st : List Value} {h : pm_H} : pm_go pm_prog cl 1730 8 ls st h = pm_ev pm_prog cl 1730 8 b1730_8 ls st h := pm_go_eq pm_prog cl 1730 8 ls st h
theorem g1730_9 {cl : pm_C} {ls st : List Value} {h : pm_H} : pm_go pm_prog cl 1730 9 ls st h = pm_ev pm_prog cl 1730 9 b1730_9 ls st h := pm_go_eq pm_prog cl 1730 9 ls st h
noncomputable def f1730_7 (S : wS) (x1 : Int32) (x2 : Int32) (x3 : Int32) (x4 : Int32) (x5 : Int32) (x6 : Int32) (y1 : Int32) : Option (Int32 × wS) :=
  if y1 ≤ 0 then
    if x5 = 0 then
      some (0, (sz S (0, 0, 0) 0 y1))
    else
      if x6 = 0 then
        some (0, (sz S (0, 0, 0) 0 y1))
      else
        if 0 ≤ (S.1 (0, 0, 0) 4) ∧ (S.1 (0, 0, 0) 4) < 20 then
          (f1732 (sz (sz (sz (sz (sz (sz (sz (sz S (0, 0, 0) 0 y1) (6, 0, 0) (S.1 (0, 0, 0) 4) x1) (7, 0, 0) (S.1 (0, 0, 0) 4) x2) (8, 0, 0) (S.1 (0, 0, 0) 4) x3) (9, 0, 0) (S.1 (0, 0, 0) 4) x4) (10, 0, 0) (S.1 (0, 0, 0) 4) x5) (11, 0, 0) (S.1 (0, 0, 0) 4) x6) (0, 0, 0) 4 ((S.1 (0, 0, 0) 4) + 1)) 1).bind fun (v2, S3) =>
          if v2 = 0 ∨ v2 = 1 then
            some (v2, S3)
          else none
        else none
  else
    some (0, (sz S (0, 0, 0) 0 y1))
noncomputable def f1730_2 (S : wS) (x1 : Int32) (x2 : Int32) (x3 : Int32) (x4 : Int32) (x5 : Int32) (x6 : Int32) (y0 : Int32) : Option (Int32 × wS) :=
  if x1 < 0 then
    f1730_7 S x1 x2 x3 x4 x5 x6 1
  else
    if x1 ≤ 1 then
      if (S.1 (0, 0, 0) 4) = 20 then
        f1730_7 S x1 x2 x3 x4 x5 x6 2
      else
        if y0 = 0 then
          f1730_7 S x1 x2 x3 x4 x5 x6 3
        else
          f1730_7 S x1 x2 x3 x4 x5 x6 0
    else
      f1730_7 S x1 x2 x3 x4 x5 x6 1
/-- TimberHouseModel$Rips.fault(IIIIII)Z -/
noncomputable def f1730 (S : wS) (x1 : Int32) (x2 : Int32) (x3 : Int32) (x4 : Int32) (x5 : Int32) (x6 : Int32) : Option (Int32 × wS) :=
  (f1731 (Int32.toInt64 x2) 0 7).bind fun v1 =>
  if v1 = 0 then
    f1730_2 S x1 x2 x3 x4 x5 x6 0
  else
    (f1731 (Int32.toInt64 x3) (-65536) 65536).bind fun v4 =>
    if v4 = 0 then
      f1730_2 S x1 x2 x3 x4 x5 x6 0
    else
      (f1731 (Int32.toInt64 x4) (-65536) 65536).bind fun v5 =>
      if v5 = 0 then
        f1730_2 S x1 x2 x3 x4 x5 x6 0
      else
        (f1731 (Int32.toInt64 x5) 0 65536).bind fun v6 =>
        if v6 = 0 then
          f1730_2 S x1 x2 x3 x4 x5 x6 0
        else
          (f1731 (Int32.toInt64 x6) 0 65536).bind fun v7 =>
          if v7 = 0 then
            f1730_2 S x1 x2 x3 x4 x5 x6 0
          else
            f1730_2 S x1 x2 x3 x4 x5 x6 1
theorem y1730_7 {A : wK → Nat} {h : pm_H} {m D : Nat} {S : wS} {x1 : Int32} {x2 : Int32} {x3 : Int32} {x4 : Int32} {x5 : Int32} {x6 : Int32} {y1 : Int32} {r : Int32 × wS} (hA : wok A Ri_d m) (hD : 1 ≤ D) (e : f1730_7 S x1 x2 x3 x4 x5 x6 y1 = some r) : ∀ q7 : Value, pm_go pm_prog (pm_call pm_prog D) 1730 7 [.ref (A (0, 0, 0)), .int x1, .int x2, .int x3, .int x4, .int x5, .int x6, q7] [.int y1, .ref (A (0, 0, 0))] (wput A Ri_d S h) = some (.returned (some (.int r.1)), (wput A Ri_d r.2 h)) := by
  intro q7
  simp only [f1730_7] at e
  rw [g1730_7, b1730_7]
  by_cases k1 : y1 ≤ 0
  · rw [if_pos k1] at e
    by_cases k2 : x5 = 0
    · rw [if_pos k2] at e
      have e := Option.some.inj e; subst e
      simp -implicitDefEqProofs (disch := first | assumption | exact Nat.le_of_ble_eq_true rfl | decide) only [b1730_0, g1730_1, b1730_1, g1730_3, b1730_3, g1730_4, b1730_4, g1730_5, b1730_5, g1730_6, b1730_6, g1730_8, b1730_8, g1730_9, b1730_9, pe_iload2, pe_i2l, pe_bipush, pe_call3, pm_af_ret, pm_af_void, pm_af_thr, pe_if_eq, pe_iload3, pe_iload4, pe_iload5, pe_iload6, pe_sipush, pe_goto, pe_goto_w, pe_istore7, pe_aload0, pe_iload1, pe_if_lt, pe_icmp_le, pe_getfield, pe_icmp_ne, pe_iload7, pe_putfield, pe_if_gt, pe_if_ne, pe_iastore, pe_dup_i, pe_dup_r, pe_iadd, pe_call2, pm_prog_1, pm_ob_some, Nat.reduceDiv, Nat.reduceMod, Nat.reduceMul, Nat.reduceAdd, Int.reduceToNat, pm_kill_i, pm_kill_r, pm_kill_n, pm_kill_j, pm_kill_l, pm_kill_d, pm_cats_nil, pm_cats_i, pm_cats_r, pm_cats_n, pm_cats_l, pm_cats_d, sz_1, sz_2, sl_1, sl_2, lc_0, lc_lt, lc_le, li_ne, Int32.reduceOfInt, Int64.reduceOfInt, Int32.reduceOfNat, Int32.reduceLT, Int32.reduceLE, Prod.mk.injEq, Nat.reduceEqDiff, reduceCtorEq, and_true, true_and, and_false, false_and, and_self, ite_true, ite_false, ↓reduceIte, not_true_eq_false, not_false_eq_true, pe_ri, pe_rz, Ri_g4 hA, Ri_p0 hA, Ri_g0 hA, Ri_g5 hA, Ri_g6 hA, Ri_g7 hA, Ri_g8 hA, Ri_g9 hA, Ri_g10 hA, Ri_p4 hA, Ri_r5 hA, Ri_w5 hA, Ri_l5 hA, Ri_r6 hA, Ri_w6 hA, Ri_l6 hA, Ri_r7 hA, Ri_w7 hA, Ri_l7 hA, Ri_r8 hA, Ri_w8 hA, Ri_l8 hA, Ri_r9 hA, Ri_w9 hA, Ri_l9 hA, Ri_r10 hA, Ri_w10 hA, Ri_l10 hA, eq_true k1, eq_true k2]
    · rw [if_neg k2] at e
      by_cases k3 : x6 = 0
      · rw [if_pos k3] at e
        have e := Option.some.inj e; subst e
        simp -implicitDefEqProofs (disch := first | assumption | exact Nat.le_of_ble_eq_true rfl | decide) only [b1730_0, g1730_1, b1730_1, g1730_3, b1730_3, g1730_4, b1730_4, g1730_5, b1730_5, g1730_6, b1730_6, g1730_8, b1730_8, g1730_9, b1730_9, pe_iload2, pe_i2l, pe_bipush, pe_call3, pm_af_ret, pm_af_void, pm_af_thr, pe_if_eq, pe_iload3, pe_iload4, pe_iload5, pe_iload6, pe_sipush, pe_goto, pe_goto_w, pe_istore7, pe_aload0, pe_iload1, pe_if_lt, pe_icmp_le, pe_getfield, pe_icmp_ne, pe_iload7, pe_putfield, pe_if_gt, pe_if_ne, pe_iastore, pe_dup_i, pe_dup_r, pe_iadd, pe_call2, pm_prog_1, pm_ob_some, Nat.reduceDiv, Nat.reduceMod, Nat.reduceMul, Nat.reduceAdd, Int.reduceToNat, pm_kill_i, pm_kill_r, pm_kill_n, pm_kill_j, pm_kill_l, pm_kill_d, pm_cats_nil, pm_cats_i, pm_cats_r, pm_cats_n, pm_cats_l, pm_cats_d, sz_1, sz_2, sl_1, sl_2, lc_0, lc_lt, lc_le, li_ne, Int32.reduceOfInt, Int64.reduceOfInt, Int32.reduceOfNat, Int32.reduceLT, Int32.reduceLE, Prod.mk.injEq, Nat.reduceEqDiff, reduceCtorEq, and_true, true_and, and_false, false_and, and_self, ite_true, ite_false, ↓reduceIte, not_true_eq_false, not_false_eq_true, pe_ri, pe_rz, Ri_g4 hA, Ri_p0 hA, Ri_g0 hA, Ri_g5 hA, Ri_g6 hA, Ri_g7 hA, Ri_g8 hA, Ri_g9 hA, Ri_g10 hA, Ri_p4 hA, Ri_r5 hA, Ri_w5 hA, Ri_l5 hA, Ri_r6 hA, Ri_w6 hA, Ri_l6 hA, Ri_r7 hA, Ri_w7 hA, Ri_l7 hA, Ri_r8 hA, Ri_w8 hA, Ri_l8 hA, Ri_r9 hA, Ri_w9 hA, Ri_l9 hA, Ri_r10 hA, Ri_w10 hA, Ri_l10 hA, eq_true k1, eq_false k2, eq_true k3]
      · rw [if_neg k3] at e
        by_cases k4 : 0 ≤ (S.1 (0, 0, 0) 4) ∧ (S.1 (0, 0, 0) 4) < 20
        · rw [if_pos k4] at e
          obtain ⟨⟨v2, S3⟩, k5, e⟩ := Option.bind_eq_some_iff.mp e
          try dsimp only at e
          have z5 := x1732 (D := D) (h := h) hA (by omega) k5
          dsimp only at z5
          by_cases k6 : v2 = 0 ∨ v2 = 1
          · rw [if_pos k6] at e
            have e := Option.some.inj e; subst e
            simp -implicitDefEqProofs (disch := first | assumption | exact Nat.le_of_ble_eq_true rfl | decide) only [b1730_0, g1730_1, b1730_1, g1730_3, b1730_3, g1730_4, b1730_4, g1730_5, b1730_5, g1730_6, b1730_6, g1730_8, b1730_8, g1730_9, b1730_9, pe_iload2, pe_i2l, pe_bipush, pe_call3, pm_af_ret, pm_af_void, pm_af_thr, pe_if_eq, pe_iload3, pe_iload4, pe_iload5, pe_iload6, pe_sipush, pe_goto, pe_goto_w, pe_istore7, pe_aload0, pe_iload1, pe_if_lt, pe_icmp_le, pe_getfield, pe_icmp_ne, pe_iload7, pe_putfield, pe_if_gt, pe_if_ne, pe_iastore, pe_dup_i, pe_dup_r, pe_iadd, pe_call2, pm_prog_1, pm_ob_some, Nat.reduceDiv, Nat.reduceMod, Nat.reduceMul, Nat.reduceAdd, Int.reduceToNat, pm_kill_i, pm_kill_r, pm_kill_n, pm_kill_j, pm_kill_l, pm_kill_d, pm_cats_nil, pm_cats_i, pm_cats_r, pm_cats_n, pm_cats_l, pm_cats_d, sz_1, sz_2, sl_1, sl_2, lc_0, lc_lt, lc_le, li_ne, Int32.reduceOfInt, Int64.reduceOfInt, Int32.reduceOfNat, Int32.reduceLT, Int32.reduceLE, Prod.mk.injEq, Nat.reduceEqDiff, reduceCtorEq, and_true, true_and, and_false, false_and, and_self, ite_true, ite_false, ↓reduceIte, not_true_eq_false, not_false_eq_true, pe_ri, pe_rz, Ri_g4 hA, Ri_p0 hA, Ri_g0 hA, Ri_g5 hA, Ri_g6 hA, Ri_g7 hA, Ri_g8 hA, Ri_g9 hA, Ri_g10 hA, Ri_p4 hA, Ri_r5 hA, Ri_w5 hA, Ri_l5 hA, Ri_r6 hA, Ri_w6 hA, Ri_l6 hA, Ri_r7 hA, Ri_w7 hA, Ri_l7 hA, Ri_r8 hA, Ri_w8 hA, Ri_l8 hA, Ri_r9 hA, Ri_w9 hA, Ri_l9 hA, Ri_r10 hA, Ri_w10 hA, Ri_l10 hA, eq_true k1, eq_false k2, eq_false k3, z5]
          · rw [if_neg k6] at e; cases e
        · rw [if_neg k4] at e; cases e
  · rw [if_neg k1] at e
    have e := Option.some.inj e; subst e
    simp -implicitDefEqProofs (disch := first | assumption | exact Nat.le_of_ble_eq_true rfl | decide) only [b1730_0, g1730_1, b1730_1, g1730_3, b1730_3, g1730_4, b1730_4, g1730_5, b1730_5, g1730_6, b1730_6, g1730_8, b1730_8, g1730_9, b1730_9, pe_iload2, pe_i2l, pe_bipush, pe_call3, pm_af_ret, pm_af_void, pm_af_thr, pe_if_eq, pe_iload3, pe_iload4, pe_iload5, pe_iload6, pe_sipush, pe_goto, pe_goto_w, pe_istore7, pe_aload0, pe_iload1, pe_if_lt, pe_icmp_le, pe_getfield, pe_icmp_ne, pe_iload7, pe_putfield, pe_if_gt, pe_if_ne, pe_iastore, pe_dup_i, pe_dup_r, pe_iadd, pe_call2, pm_prog_1, pm_ob_some, Nat.reduceDiv, Nat.reduceMod, Nat.reduceMul, Nat.reduceAdd, Int.reduceToNat, pm_kill_i, pm_kill_r, pm_kill_n, pm_kill_j, pm_kill_l, pm_kill_d, pm_cats_nil, pm_cats_i, pm_cats_r, pm_cats_n, pm_cats_l, pm_cats_d, sz_1, sz_2, sl_1, sl_2, lc_0, lc_lt, lc_le, li_ne, Int32.reduceOfInt, Int64.reduceOfInt, Int32.reduceOfNat, Int32.reduceLT, Int32.reduceLE, Prod.mk.injEq, Nat.reduceEqDiff, reduceCtorEq, and_true, true_and, and_false, false_and, and_self, ite_true, ite_false, ↓reduceIte, not_true_eq_false, not_false_eq_true, pe_ri, pe_rz, Ri_g4 hA, Ri_p0 hA, Ri_g0 hA, Ri_g5 hA, Ri_g6 hA, Ri_g7 hA, Ri_g8 hA, Ri_g9 hA, Ri_g10 hA, Ri_p4 hA, Ri_r5 hA, Ri_w5 hA, Ri_l5 hA, Ri_r6 hA, Ri_w6 hA, Ri_l6 hA, Ri_r7 hA, Ri_w7 hA, Ri_l7 hA, Ri_r8 hA, Ri_w8 hA, Ri_l8 hA, Ri_r9 hA, Ri_w9 hA, Ri_l9 hA, Ri_r10 hA, Ri_w10 hA, Ri_l10 hA, eq_false k1]
theorem y1730_2 {A : wK → Nat} {h : pm_H} {m D : Nat} {S : wS} {x1 : Int32} {x2 : Int32} {x3 : Int32} {x4 : Int32} {x5 : Int32} {x6 : Int32} {y0 : Int32} {r : Int32 × wS} (hA : wok A Ri_d m) (hD : 1 ≤ D) (e : f1730_2 S x1 x2 x3 x4 x5 x6 y0 = some r) : ∀ q7 : Value, pm_go pm_prog (pm_call pm_prog D) 1730 2 [.ref (A (0, 0, 0)), .int x1, .int x2, .int x3, .int x4, .int x5, .int x6, q7] [.int y0] (wput A Ri_d S h) = some (.returned (some (.int r.1)), (wput A Ri_d r.2 h)) := by
  intro q7
  simp only [f1730_2] at e
  rw [g1730_2, b1730_2]
  by_cases k1 : x1 < 0
  · rw [if_pos k1] at e
    have k2 := y1730_7 (h := h) hA hD e
    simp -implicitDefEqProofs (disch := first | assumption | exact Nat.le_of_ble_eq_true rfl | decide) only [b1730_0, g1730_1, b1730_1, g1730_3, b1730_3, g1730_4, b1730_4, g1730_5, b1730_5, g1730_6, b1730_6, g1730_8, b1730_8, g1730_9, b1730_9, pe_iload2, pe_i2l, pe_bipush, pe_call3, pm_af_ret, pm_af_void, pm_af_thr, pe_if_eq, pe_iload3, pe_iload4, pe_iload5, pe_iload6, pe_sipush, pe_goto, pe_goto_w, pe_istore7, pe_aload0, pe_iload1, pe_if_lt, pe_icmp_le, pe_getfield, pe_icmp_ne, pe_iload7, pe_putfield, pe_if_gt, pe_if_ne, pe_iastore, pe_dup_i, pe_dup_r, pe_iadd, pe_call2, pm_prog_1, pm_ob_some, Nat.reduceDiv, Nat.reduceMod, Nat.reduceMul, Nat.reduceAdd, Int.reduceToNat, pm_kill_i, pm_kill_r, pm_kill_n, pm_kill_j, pm_kill_l, pm_kill_d, pm_cats_nil, pm_cats_i, pm_cats_r, pm_cats_n, pm_cats_l, pm_cats_d, sz_1, sz_2, sl_1, sl_2, lc_0, lc_lt, lc_le, li_ne, Int32.reduceOfInt, Int64.reduceOfInt, Int32.reduceOfNat, Int32.reduceLT, Int32.reduceLE, Prod.mk.injEq, Nat.reduceEqDiff, reduceCtorEq, and_true, true_and, and_false, false_and, and_self, ite_true, ite_false, ↓reduceIte, not_true_eq_false, not_false_eq_true, pe_ri, pe_rz, Ri_g4 hA, Ri_p0 hA, Ri_g0 hA, Ri_g5 hA, Ri_g6 hA, Ri_g7 hA, Ri_g8 hA, Ri_g9 hA, Ri_g10 hA, Ri_p4 hA, Ri_r5 hA, Ri_w5 hA, Ri_l5 hA, Ri_r6 hA, Ri_w6 hA, Ri_l6 hA, Ri_r7 hA, Ri_w7 hA, Ri_l7 hA, Ri_r8 hA, Ri_w8 hA, Ri_l8 hA, Ri_r9 hA, Ri_w9 hA, Ri_l9 hA, Ri_r10 hA, Ri_w10 hA, Ri_l10 hA, eq_true k1, k2]
  · rw [if_neg k1] at e
    by_cases k3 : x1 ≤ 1
    · rw [if_pos k3] at e
      by_cases k4 : (S.1 (0, 0, 0) 4) = 20
      · rw [if_pos k4] at e
        have k5 := y1730_7 (h := h) hA hD e
        simp -implicitDefEqProofs (disch := first | assumption | exact Nat.le_of_ble_eq_true rfl | decide) only [b1730_0, g1730_1, b1730_1, g1730_3, b1730_3, g1730_4, b1730_4, g1730_5, b1730_5, g1730_6, b1730_6, g1730_8, b1730_8, g1730_9, b1730_9, pe_iload2, pe_i2l, pe_bipush, pe_call3, pm_af_ret, pm_af_void, pm_af_thr, pe_if_eq, pe_iload3, pe_iload4, pe_iload5, pe_iload6, pe_sipush, pe_goto, pe_goto_w, pe_istore7, pe_aload0, pe_iload1, pe_if_lt, pe_icmp_le, pe_getfield, pe_icmp_ne, pe_iload7, pe_putfield, pe_if_gt, pe_if_ne, pe_iastore, pe_dup_i, pe_dup_r, pe_iadd, pe_call2, pm_prog_1, pm_ob_some, Nat.reduceDiv, Nat.reduceMod, Nat.reduceMul, Nat.reduceAdd, Int.reduceToNat, pm_kill_i, pm_kill_r, pm_kill_n, pm_kill_j, pm_kill_l, pm_kill_d, pm_cats_nil, pm_cats_i, pm_cats_r, pm_cats_n, pm_cats_l, pm_cats_d, sz_1, sz_2, sl_1, sl_2, lc_0, lc_lt, lc_le, li_ne, Int32.reduceOfInt, Int64.reduceOfInt, Int32.reduceOfNat, Int32.reduceLT, Int32.reduceLE, Prod.mk.injEq, Nat.reduceEqDiff, reduceCtorEq, and_true, true_and, and_false, false_and, and_self, ite_true, ite_false, ↓reduceIte, not_true_eq_false, not_false_eq_true, pe_ri, pe_rz, Ri_g4 hA, Ri_p0 hA, Ri_g0 hA, Ri_g5 hA, Ri_g6 hA, Ri_g7 hA, Ri_g8 hA, Ri_g9 hA, Ri_g10 hA, Ri_p4 hA, Ri_r5 hA, Ri_w5 hA, Ri_l5 hA, Ri_r6 hA, Ri_w6 hA, Ri_l6 hA, Ri_r7 hA, Ri_w7 hA, Ri_l7 hA, Ri_r8 hA, Ri_w8 hA, Ri_l8 hA, Ri_r9 hA, Ri_w9 hA, Ri_l9 hA, Ri_r10 hA, Ri_w10 hA, Ri_l10 hA, eq_false k1, eq_true k3, eq_true k4, k5]
      · rw [if_neg k4] at e
        by_cases k6 : y0 = 0
        · rw [if_pos k6] at e
          have k7 := y1730_7 (h := h) hA hD e
          simp -implicitDefEqProofs (disch := first | assumption | exact Nat.le_of_ble_eq_true rfl | decide) only [b1730_0, g1730_1, b1730_1, g1730_3, b1730_3, g1730_4, b1730_4, g1730_5, b1730_5, g1730_6, b1730_6, g1730_8, b1730_8, g1730_9, b1730_9, pe_iload2, pe_i2l, pe_bipush, pe_call3, pm_af_ret, pm_af_void, pm_af_thr, pe_if_eq, pe_iload3, pe_iload4, pe_iload5, pe_iload6, pe_sipush, pe_goto, pe_goto_w, pe_istore7, pe_aload0, pe_iload1, pe_if_lt, pe_icmp_le, pe_getfield, pe_icmp_ne, pe_iload7, pe_putfield, pe_if_gt, pe_if_ne, pe_iastore, pe_dup_i, pe_dup_r, pe_iadd, pe_call2, pm_prog_1, pm_ob_some, Nat.reduceDiv, Nat.reduceMod, Nat.reduceMul, Nat.reduceAdd, Int.reduceToNat, pm_kill_i, pm_kill_r, pm_kill_n, pm_kill_j, pm_kill_l, pm_kill_d, pm_cats_nil, pm_cats_i, pm_cats_r, pm_cats_n, pm_cats_l, pm_cats_d, sz_1, sz_2, sl_1, sl_2, lc_0, lc_lt, lc_le, li_ne, Int32.reduceOfInt, Int64.reduceOfInt, Int32.reduceOfNat, Int32.reduceLT, Int32.reduceLE, Prod.mk.injEq, Nat.reduceEqDiff, reduceCtorEq, and_true, true_and, and_false, false_and, and_self, ite_true, ite_false, ↓reduceIte, not_true_eq_false, not_false_eq_true, pe_ri, pe_rz, Ri_g4 hA, Ri_p0 hA, Ri_g0 hA, Ri_g5 hA, Ri_g6 hA, Ri_g7 hA, Ri_g8 hA, Ri_g9 hA, Ri_g10 hA, Ri_p4 hA, Ri_r5 hA, Ri_w5 hA, Ri_l5 hA, Ri_r6 hA, Ri_w6 hA, Ri_l6 hA, Ri_r7 hA, Ri_w7 hA, Ri_l7 hA, Ri_r8 hA, Ri_w8 hA, Ri_l8 hA, Ri_r9 hA, Ri_w9 hA, Ri_l9 hA, Ri_r10 hA, Ri_w10 hA, Ri_l10 hA, eq_false k1, eq_true k3, eq_false k4, eq_true k6, k7]
        · rw [if_neg k6] at e
          have k8 := y1730_7 (h := h) hA hD e
          simp -implicitDefEqProofs (disch := first | assumption | exact Nat.le_of_ble_eq_true rfl | decide) only [b1730_0, g1730_1, b1730_1, g1730_3, b1730_3, g1730_4, b1730_4, g1730_5, b1730_5, g1730_6, b1730_6, g1730_8, b1730_8, g1730_9, b1730_9, pe_iload2, pe_i2l, pe_bipush, pe_call3, pm_af_ret, pm_af_void, pm_af_thr, pe_if_eq, pe_iload3, pe_iload4, pe_iload5, pe_iload6, pe_sipush, pe_goto, pe_goto_w, pe_istore7, pe_aload0, pe_iload1, pe_if_lt, pe_icmp_le, pe_getfield, pe_icmp_ne, pe_iload7, pe_putfield, pe_if_gt, pe_if_ne, pe_iastore, pe_dup_i, pe_dup_r, pe_iadd, pe_call2, pm_prog_1, pm_ob_some, Nat.reduceDiv, Nat.reduceMod, Nat.reduceMul, Nat.reduceAdd, Int.reduceToNat, pm_kill_i, pm_kill_r, pm_kill_n, pm_kill_j, pm_kill_l, pm_kill_d, pm_cats_nil, pm_cats_i, pm_cats_r, pm_cats_n, pm_cats_l, pm_cats_d, sz_1, sz_2, sl_1, sl_2, lc_0, lc_lt, lc_le, li_ne, Int32.reduceOfInt, Int64.reduceOfInt, Int32.reduceOfNat, Int32.reduceLT, Int32.reduceLE, Prod.mk.injEq, Nat.reduceEqDiff, reduceCtorEq, and_true, true_and, and_false, false_and, and_self, ite_true, ite_false, ↓reduceIte, not_true_eq_false, not_false_eq_true, pe_ri, pe_rz, Ri_g4 hA, Ri_p0 hA, Ri_g0 hA, Ri_g5 hA, Ri_g6 hA, Ri_g7 hA, Ri_g8 hA, Ri_g9 hA, Ri_g10 hA, Ri_p4 hA, Ri_r5 hA, Ri_w5 hA, Ri_l5 hA, Ri_r6 hA, Ri_w6 hA, Ri_l6 hA, Ri_r7 hA, Ri_w7 hA, Ri_l7 hA, Ri_r8 hA, Ri_w8 hA, Ri_l8 hA, Ri_r9 hA, Ri_w9 hA, Ri_l9 hA, Ri_r10 hA, Ri_w10 hA, Ri_l10 hA, eq_false k1, eq_true k3, eq_false k4, eq_false k6, k8]
    · rw [if_neg k3] at e
      have k9 := y1730_7 (h := h) hA hD e
      simp -implicitDefEqProofs (disch := first | assumption | exact Nat.le_of_ble_eq_true rfl | decide) only [b1730_0, g1730_1, b1730_1, g1730_3, b1730_3, g1730_4, b1730_4, g1730_5, b1730_5, g1730_6, b1730_6, g1730_8, b1730_8, g1730_9, b1730_9, pe_iload2, pe_i2l, pe_bipush, pe_call3, pm_af_ret, pm_af_void, pm_af_thr, pe_if_eq, pe_iload3, pe_iload4, pe_iload5, pe_iload6, pe_sipush, pe_goto, pe_goto_w, pe_istore7, pe_aload0, pe_iload1, pe_if_lt, pe_icmp_le, pe_getfield, pe_icmp_ne, pe_iload7, pe_putfield, pe_if_gt, pe_if_ne, pe_iastore, pe_dup_i, pe_dup_r, pe_iadd, pe_call2, pm_prog_1, pm_ob_some, Nat.reduceDiv, Nat.reduceMod, Nat.reduceMul, Nat.reduceAdd, Int.reduceToNat, pm_kill_i, pm_kill_r, pm_kill_n, pm_kill_j, pm_kill_l, pm_kill_d, pm_cats_nil, pm_cats_i, pm_cats_r, pm_cats_n, pm_cats_l, pm_cats_d, sz_1, sz_2, sl_1, sl_2, lc_0, lc_lt, lc_le, li_ne, Int32.reduceOfInt, Int64.reduceOfInt, Int32.reduceOfNat, Int32.reduceLT, Int32.reduceLE, Prod.mk.injEq, Nat.reduceEqDiff, reduceCtorEq, and_true, true_and, and_false, false_and, and_self, ite_true, ite_false, ↓reduceIte, not_true_eq_false, not_false_eq_true, pe_ri, pe_rz, Ri_g4 hA, Ri_p0 hA, Ri_g0 hA, Ri_g5 hA, Ri_g6 hA, Ri_g7 hA, Ri_g8 hA, Ri_g9 hA, Ri_g10 hA, Ri_p4 hA, Ri_r5 hA, Ri_w5 hA, Ri_l5 hA, Ri_r6 hA, Ri_w6 hA, Ri_l6 hA, Ri_r7 hA, Ri_w7 hA, Ri_l7 hA, Ri_r8 hA, Ri_w8 hA, Ri_l8 hA, Ri_r9 hA, Ri_w9 hA, Ri_l9 hA, Ri_r10 hA, Ri_w10 hA, Ri_l10 hA, eq_false k1, eq_false k3, k9]
theorem x1730 {A : wK → Nat} {h : pm_H} {m D : Nat} {S : wS} {x1 : Int32} {x2 : Int32} {x3 : Int32} {x4 : Int32} {x5 : Int32} {x6 : Int32} {r : Int32 × wS} (hA : wok A Ri_d m) (hD : 2 ≤ D) (e : f1730 S x1 x2 x3 x4 x5 x6 = some r) : pm_call pm_prog D 1730 [.ref (A (0, 0, 0)), .int x1, .int x2, .int x3, .int x4, .int x5, .int x6] (wput A Ri_d S h) = some (.returned (some (.int r.1)), (wput A Ri_d r.2 h)) := by
  obtain ⟨D, rfl⟩ : ∃ D', D = D' + 1 := ⟨D - 1, by omega⟩
  have hD : 1 ≤ D := by omega
  rw [c1730 (Ri_c hA), b1730_0]
  simp only [f1730] at e
  obtain ⟨v1, k1, e⟩ := Option.bind_eq_some_iff.mp e
  try dsimp only at e
  have z1 := fun h => x1731 (D := D) (h := h) (by omega) k1
  by_cases k2 : v1 = 0
  · rw [if_pos k2] at e
    have k3 := y1730_2 (h := h) hA hD e
    simp -implicitDefEqProofs (disch := first | assumption | exact Nat.le_of_ble_eq_true rfl | decide) only [b1730_0, g1730_1, b1730_1, g1730_3, b1730_3, g1730_4, b1730_4, g1730_5, b1730_5, g1730_6, b1730_6, g1730_8, b1730_8, g1730_9, b1730_9, pe_iload2, pe_i2l, pe_bipush, pe_call3, pm_af_ret, pm_af_void, pm_af_thr, pe_if_eq, pe_iload3, pe_iload4, pe_iload5, pe_iload6, pe_sipush, pe_goto, pe_goto_w, pe_istore7, pe_aload0, pe_iload1, pe_if_lt, pe_icmp_le, pe_getfield, pe_icmp_ne, pe_iload7, pe_putfield, pe_if_gt, pe_if_ne, pe_iastore, pe_dup_i, pe_dup_r, pe_iadd, pe_call2, pm_prog_1, pm_ob_some, Nat.reduceDiv, Nat.reduceMod, Nat.reduceMul, Nat.reduceAdd, Int.reduceToNat, pm_kill_i, pm_kill_r, pm_kill_n, pm_kill_j, pm_kill_l, pm_kill_d, pm_cats_nil, pm_cats_i, pm_cats_r, pm_cats_n, pm_cats_l, pm_cats_d, sz_1, sz_2, sl_1, sl_2, lc_0, lc_lt, lc_le, li_ne, Int32.reduceOfInt, Int64.reduceOfInt, Int32.reduceOfNat, Int32.reduceLT, Int32.reduceLE, Prod.mk.injEq, Nat.reduceEqDiff, reduceCtorEq, and_true, true_and, and_false, false_and, and_self, ite_true, ite_false, ↓reduceIte, not_true_eq_false, not_false_eq_true, pe_ri, pe_rz, Ri_g4 hA, Ri_p0 hA, Ri_g0 hA, Ri_g5 hA, Ri_g6 hA, Ri_g7 hA, Ri_g8 hA, Ri_g9 hA, Ri_g10 hA, Ri_p4 hA, Ri_r5 hA, Ri_w5 hA, Ri_l5 hA, Ri_r6 hA, Ri_w6 hA, Ri_l6 hA, Ri_r7 hA, Ri_w7 hA, Ri_l7 hA, Ri_r8 hA, Ri_w8 hA, Ri_l8 hA, Ri_r9 hA, Ri_w9 hA, Ri_l9 hA, Ri_r10 hA, Ri_w10 hA, Ri_l10 hA, z1, eq_true k2, k3]
  · rw [if_neg k2] at e
    obtain ⟨v4, k4, e⟩ := Option.bind_eq_some_iff.mp e
    try dsimp only at e
    have z4 := fun h => x1731 (D := D) (h := h) (by omega) k4
    by_cases k5 : v4 = 0
    · rw [if_pos k5] at e
      have k6 := y1730_2 (h := h) hA hD e
      simp -implicitDefEqProofs (disch := first | assumption | exact Nat.le_of_ble_eq_true rfl | decide) only [b1730_0, g1730_1, b1730_1, g1730_3, b1730_3, g1730_4, b1730_4, g1730_5, b1730_5, g1730_6, b1730_6, g1730_8, b1730_8, g1730_9, b1730_9, pe_iload2, pe_i2l, pe_bipush, pe_call3, pm_af_ret, pm_af_void, pm_af_thr, pe_if_eq, pe_iload3, pe_iload4, pe_iload5, pe_iload6, pe_sipush, pe_goto, pe_goto_w, pe_istore7, pe_aload0, pe_iload1, pe_if_lt, pe_icmp_le, pe_getfield, pe_icmp_ne, pe_iload7, pe_putfield, pe_if_gt, pe_if_ne, pe_iastore, pe_dup_i, pe_dup_r, pe_iadd, pe_call2, pm_prog_1, pm_ob_some, Nat.reduceDiv, Nat.reduceMod, Nat.reduceMul, Nat.reduceAdd, Int.reduceToNat, pm_kill_i, pm_kill_r, pm_kill_n, pm_kill_j, pm_kill_l, pm_kill_d, pm_cats_nil, pm_cats_i, pm_cats_r, pm_cats_n, pm_cats_l, pm_cats_d, sz_1, sz_2, sl_1, sl_2, lc_0, lc_lt, lc_le, li_ne, Int32.reduceOfInt, Int64.reduceOfInt, Int32.reduceOfNat, Int32.reduceLT, Int32.reduceLE, Prod.mk.injEq, Nat.reduceEqDiff, reduceCtorEq, and_true, true_and, and_false, false_and, and_self, ite_true, ite_false, ↓reduceIte, not_true_eq_false, not_false_eq_true, pe_ri, pe_rz, Ri_g4 hA, Ri_p0 hA, Ri_g0 hA, Ri_g5 hA, Ri_g6 hA, Ri_g7 hA, Ri_g8 hA, Ri_g9 hA, Ri_g10 hA, Ri_p4 hA, Ri_r5 hA, Ri_w5 hA, Ri_l5 hA, Ri_r6 hA, Ri_w6 hA, Ri_l6 hA, Ri_r7 hA, Ri_w7 hA, Ri_l7 hA, Ri_r8 hA, Ri_w8 hA, Ri_l8 hA, Ri_r9 hA, Ri_w9 hA, Ri_l9 hA, Ri_r10 hA, Ri_w10 hA, Ri_l10 hA, z1, eq_false k2, z4, eq_true k5, k6]
    · rw [if_neg k5] at e
      obtain ⟨v5, k7, e⟩ := Option.bind_eq_some_iff.mp e
      try dsimp only at e
      have z7 := fun h => x1731 (D := D) (h := h) (by omega) k7
      by_cases k8 : v5 = 0
      · rw [if_pos k8] at e
        have k9 := y1730_2 (h := h) hA hD e
        simp -implicitDefEqProofs (disch := first | assumption | exact Nat.le_of_ble_eq_true rfl | decide) only [b1730_0, g1730_1, b1730_1, g1730_3, b1730_3, g1730_4, b1730_4, g1730_5, b1730_5, g1730_6, b1730_6, g1730_8, b1730_8, g1730_9, b1730_9, pe_iload2, pe_i2l, pe_bipush, pe_call3, pm_af_ret, pm_af_void, pm_af_thr, pe_if_eq, pe_iload3, pe_iload4, pe_iload5, pe_iload6, pe_sipush, pe_goto, pe_goto_w, pe_istore7, pe_aload0, pe_iload1, pe_if_lt, pe_icmp_le, pe_getfield, pe_icmp_ne, pe_iload7, pe_putfield, pe_if_gt, pe_if_ne, pe_iastore, pe_dup_i, pe_dup_r, pe_iadd, pe_call2, pm_prog_1, pm_ob_some, Nat.reduceDiv, Nat.reduceMod, Nat.reduceMul, Nat.reduceAdd, Int.reduceToNat, pm_kill_i, pm_kill_r, pm_kill_n, pm_kill_j, pm_kill_l, pm_kill_d, pm_cats_nil, pm_cats_i, pm_cats_r, pm_cats_n, pm_cats_l, pm_cats_d, sz_1, sz_2, sl_1, sl_2, lc_0, lc_lt, lc_le, li_ne, Int32.reduceOfInt, Int64.reduceOfInt, Int32.reduceOfNat, Int32.reduceLT, Int32.reduceLE, Prod.mk.injEq, Nat.reduceEqDiff, reduceCtorEq, and_true, true_and, and_false, false_and, and_self, ite_true, ite_false, ↓reduceIte, not_true_eq_false, not_false_eq_true, pe_ri, pe_rz, Ri_g4 hA, Ri_p0 hA, Ri_g0 hA, Ri_g5 hA, Ri_g6 hA, Ri_g7 hA, Ri_g8 hA, Ri_g9 hA, Ri_g10 hA, Ri_p4 hA, Ri_r5 hA, Ri_w5 hA, Ri_l5 hA, Ri_r6 hA, Ri_w6 hA, Ri_l6 hA, Ri_r7 hA, Ri_w7 hA, Ri_l7 hA, Ri_r8 hA, Ri_w8 hA, Ri_l8 hA, Ri_r9 hA, Ri_w9 hA, Ri_l9 hA, Ri_r10 hA, Ri_w10 hA, Ri_l10 hA, z1, eq_false k2, z4, eq_false k5, z7, eq_true k8, k9]
      · rw [if_neg k8] at e
        obtain ⟨v6, k10, e⟩ := Option.bind_eq_some_iff.mp e
        try dsimp only at e
        have z10 := fun h => x1731 (D := D) (h := h) (by omega) k10
        by_cases k11 : v6 = 0
        · rw [if_pos k11] at e
          have k12 := y1730_2 (h := h) hA hD e
          simp -implicitDefEqProofs (disch := first | assumption | exact Nat.le_of_ble_eq_true rfl | decide) only [b1730_0, g1730_1, b1730_1, g1730_3, b1730_3, g1730_4, b1730_4, g1730_5, b1730_5, g1730_6, b1730_6, g1730_8, b1730_8, g1730_9, b1730_9, pe_iload2, pe_i2l, pe_bipush, pe_call3, pm_af_ret, pm_af_void, pm_af_thr, pe_if_eq, pe_iload3, pe_iload4, pe_iload5, pe_iload6, pe_sipush, pe_goto, pe_goto_w, pe_istore7, pe_aload0, pe_iload1, pe_if_lt, pe_icmp_le, pe_getfield, pe_icmp_ne, pe_iload7, pe_putfield, pe_if_gt, pe_if_ne, pe_iastore, pe_dup_i, pe_dup_r, pe_iadd, pe_call2, pm_prog_1, pm_ob_some, Nat.reduceDiv, Nat.reduceMod, Nat.reduceMul, Nat.reduceAdd, Int.reduceToNat, pm_kill_i, pm_kill_r, pm_kill_n, pm_kill_j, pm_kill_l, pm_kill_d, pm_cats_nil, pm_cats_i, pm_cats_r, pm_cats_n, pm_cats_l, pm_cats_d, sz_1, sz_2, sl_1, sl_2, lc_0, lc_lt, lc_le, li_ne, Int32.reduceOfInt, Int64.reduceOfInt, Int32.reduceOfNat, Int32.reduceLT, Int32.reduceLE, Prod.mk.injEq, Nat.reduceEqDiff, reduceCtorEq, and_true, true_and, and_false, false_and, and_self, ite_true, ite_false, ↓reduceIte, not_true_eq_false, not_false_eq_true, pe_ri, pe_rz, Ri_g4 hA, Ri_p0 hA, Ri_g0 hA, Ri_g5 hA, Ri_g6 hA, Ri_g7 hA, Ri_g8 hA, Ri_g9 hA, Ri_g10 hA, Ri_p4 hA, Ri_r5 hA, Ri_w5 hA, Ri_l5 hA, Ri_r6 hA, Ri_w6 hA, Ri_l6 hA, Ri_r7 hA, Ri_w7 hA, Ri_l7 hA, Ri_r8 hA, Ri_w8 hA, Ri_l8 hA, Ri_r9 hA, Ri_w9 hA, Ri_l9 hA, Ri_r10 hA, Ri_w10 hA, Ri_l10 hA, z1, eq_false k2, z4, eq_false k5, z7, eq_false k8, z10, eq_true k11, k12]
        · rw [if_neg k11] at e
          obtain ⟨v7, k13, e⟩ := Option.bind_eq_some_iff.mp e
          try dsimp only at e
          have z13 := fun h => x1731 (D := D) (h := h) (by omega) k13
          by_cases k14 : v7 = 0
          · rw [if_pos k14] at e
            have k15 := y1730_2 (h := h) hA hD e
            simp -implicitDefEqProofs (disch := first | assumption | exact Nat.le_of_ble_eq_true rfl | decide) only [b1730_0, g1730_1, b1730_1, g1730_3, b1730_3, g1730_4, b1730_4, g1730_5, b1730_5, g1730_6, b1730_6, g1730_8, b1730_8, g1730_9, b1730_9, pe_iload2, pe_i2l, pe_bipush, pe_call3, pm_af_ret, pm_af_void, pm_af_thr, pe_if_eq, pe_iload3, pe_iload4, pe_iload5, pe_iload6, pe_sipush, pe_goto, pe_goto_w, pe_istore7, pe_aload0, pe_iload1, pe_if_lt, pe_icmp_le, pe_getfield, pe_icmp_ne, pe_iload7, pe_putfield, pe_if_gt, pe_if_ne, pe_iastore, pe_dup_i, pe_dup_r, pe_iadd, pe_call2, pm_prog_1, pm_ob_some, Nat.reduceDiv, Nat.reduceMod, Nat.reduceMul, Nat.reduceAdd, Int.reduceToNat, pm_kill_i, pm_kill_r, pm_kill_n, pm_kill_j, pm_kill_l, pm_kill_d, pm_cats_nil, pm_cats_i, pm_cats_r, pm_cats_n, pm_cats_l, pm_cats_d, sz_1, sz_2, sl_1, sl_2, lc_0, lc_lt, lc_le, li_ne, Int32.reduceOfInt, Int64.reduceOfInt, Int32.reduceOfNat, Int32.reduceLT, Int32.reduceLE, Prod.mk.injEq, Nat.reduceEqDiff, reduceCtorEq, and_true, true_and, and_false, false_and, and_self, ite_true, ite_false, ↓reduceIte, not_true_eq_false, not_false_eq_true, pe_ri, pe_rz, Ri_g4 hA, Ri_p0 hA, Ri_g0 hA, Ri_g5 hA, Ri_g6 hA, Ri_g7 hA, Ri_g8 hA, Ri_g9 hA, Ri_g10 hA, Ri_p4 hA, Ri_r5 hA, Ri_w5 hA, Ri_l5 hA, Ri_r6 hA, Ri_w6 hA, Ri_l6 hA, Ri_r7 hA, Ri_w7 hA, Ri_l7 hA, Ri_r8 hA, Ri_w8 hA, Ri_l8 hA, Ri_r9 hA, Ri_w9 hA, Ri_l9 hA, Ri_r10 hA, Ri_w10 hA, Ri_l10 hA, z1, eq_false k2, z4, eq_false k5, z7, eq_false k8, z10, eq_false k11, z13, eq_true k14, k15]
          · rw [if_neg k14] at e
            have k16 := y1730_2 (h := h) hA hD e
            simp -implicitDefEqProofs (disch := first | assumption | exact Nat.le_of_ble_eq_true rfl | decide) only [b1730_0, g1730_1, b1730_1, g1730_3, b1730_3, g1730_4, b1730_4, g1730_5, b1730_5, g1730_6, b1730_6, g1730_8, b1730_8, g1730_9, b1730_9, pe_iload2, pe_i2l, pe_bipush, pe_call3, pm_af_ret, pm_af_void, pm_af_thr, pe_if_eq, pe_iload3, pe_iload4, pe_iload5, pe_iload6, pe_sipush, pe_goto, pe_goto_w, pe_istore7, pe_aload0, pe_iload1, pe_if_lt, pe_icmp_le, pe_getfield, pe_icmp_ne, pe_iload7, pe_putfield, pe_if_gt, pe_if_ne, pe_iastore, pe_dup_i, pe_dup_r, pe_iadd, pe_call2, pm_prog_1, pm_ob_some, Nat.reduceDiv, Nat.reduceMod, Nat.reduceMul, Nat.reduceAdd, Int.reduceToNat, pm_kill_i, pm_kill_r, pm_kill_n, pm_kill_j, pm_kill_l, pm_kill_d, pm_cats_nil, pm_cats_i, pm_cats_r, pm_cats_n, pm_cats_l, pm_cats_d, sz_1, sz_2, sl_1, sl_2, lc_0, lc_lt, lc_le, li_ne, Int32.reduceOfInt, Int64.reduceOfInt, Int32.reduceOfNat, Int32.reduceLT, Int32.reduceLE, Prod.mk.injEq, Nat.reduceEqDiff, reduceCtorEq, and_true, true_and, and_false, false_and, and_self, ite_true, ite_false, ↓reduceIte, not_true_eq_false, not_false_eq_true, pe_ri, pe_rz, Ri_g4 hA, Ri_p0 hA, Ri_g0 hA, Ri_g5 hA, Ri_g6 hA, Ri_g7 hA, Ri_g8 hA, Ri_g9 hA, Ri_g10 hA, Ri_p4 hA, Ri_r5 hA, Ri_w5 hA, Ri_l5 hA, Ri_r6 hA, Ri_w6 hA, Ri_l6 hA, Ri_r7 hA, Ri_w7 hA, Ri_l7 hA, Ri_r8 hA, Ri_w8 hA, Ri_l8 hA, Ri_r9 hA, Ri_w9 hA, Ri_l9 hA, Ri_r10 hA, Ri_w10 hA, Ri_l10 hA, z1, eq_false k2, z4, eq_false k5, z7, eq_false k8, z10, eq_false k11, z13, eq_false k14, k16]
