set_option maxRecDepth 100000
/-! TimberHouse$SawGrids -/
def Cs_P (side : Int32) (cnt : Int32) : Prop := 1 ≤ side ∧ side ≤ 20 ∧ 0 ≤ cnt ∧ cnt ≤ 8
def Cs_d (side : Int32) (cnt : Int32) : wK → Option wD := fun k => match k.1 with
  | 0 => if k.2.1 = 0 ∧ k.2.2 = 0 then some (.inl (2, [(0, (0, 0, 0)), (0, (0, 0, 0)), (2, (1, 0, 0)), (2, (4, 0, 0)), (2, (6, 0, 0)), (2, (8, 0, 0)), (0, (0, 0, 0)), (2, (10, 0, 0)), (2, (10, 1, 0)), (0, (0, 0, 0)), (0, (0, 0, 0)), (0, (0, 0, 0)), (0, (0, 0, 0)), (0, (0, 0, 0)), (2, (21, 0, 0))])) else none
  | 1 => if k.2.1 = 0 ∧ k.2.2 = 0 then some (.inr (.inr ((.array (.array .boolean)), 2, .inr (fun x => some (2, x, 0))))) else none
  | 2 => if (0 ≤ k.2.1 ∧ k.2.1 < 2) ∧ k.2.2 = 0 then some (.inr (.inr ((.array .boolean), wn side, .inr (fun x => some (3, k.2.1, x))))) else none
  | 3 => if (0 ≤ k.2.1 ∧ k.2.1 < 2) ∧ (0 ≤ k.2.2 ∧ k.2.2 < side) then some (.inr (.inl (.boolean, wn side))) else none
  | 4 => if k.2.1 = 0 ∧ k.2.2 = 0 then some (.inr (.inr ((.array .boolean), wn side, .inr (fun x => some (5, x, 0))))) else none
  | 5 => if (0 ≤ k.2.1 ∧ k.2.1 < side) ∧ k.2.2 = 0 then some (.inr (.inl (.boolean, wn side))) else none
  | 6 => if k.2.1 = 0 ∧ k.2.2 = 0 then some (.inr (.inr ((.array .int), wn side, .inr (fun x => some (7, x, 0))))) else none
  | 7 => if (0 ≤ k.2.1 ∧ k.2.1 < side) ∧ k.2.2 = 0 then some (.inr (.inl (.int, wn side))) else none
  | 8 => if k.2.1 = 0 ∧ k.2.2 = 0 then some (.inr (.inr ((.object "TimberHouse$SawGrids$Size"), 8, .inr (fun x => if x < cnt then some (9, x, 0) else none)))) else none
  | 9 => if (0 ≤ k.2.1 ∧ k.2.1 < cnt) ∧ k.2.2 = 0 then some (.inl (36, [(0, (0, 0, 0)), (0, (0, 0, 0)), (0, (0, 0, 0)), (0, (0, 0, 0))])) else none
  | 10 => if (0 ≤ k.2.1 ∧ k.2.1 < 2) ∧ k.2.2 = 0 then some (.inl (3, [(0, (0, 0, 0)), (0, (0, 0, 0)), (2, (11, k.2.1, 0)), (2, (13, k.2.1, 0)), (2, (15, k.2.1, 0)), (2, (16, k.2.1, 0)), (2, (17, k.2.1, 0)), (2, (18, k.2.1, 0)), (2, (19, k.2.1, 0)), (2, (20, k.2.1, 0))])) else none
  | 11 => if (0 ≤ k.2.1 ∧ k.2.1 < 2) ∧ k.2.2 = 0 then some (.inr (.inr ((.array .int), wn (side + 1), .inr (fun x => some (12, k.2.1, x))))) else none
  | 12 => if (0 ≤ k.2.1 ∧ k.2.1 < 2) ∧ (0 ≤ k.2.2 ∧ k.2.2 < (side + 1)) then some (.inr (.inl (.int, wn (side + 1)))) else none
  | 13 => if (0 ≤ k.2.1 ∧ k.2.1 < 2) ∧ k.2.2 = 0 then some (.inr (.inr ((.array .int), wn (side + 1), .inr (fun x => some (14, k.2.1, x))))) else none
  | 14 => if (0 ≤ k.2.1 ∧ k.2.1 < 2) ∧ (0 ≤ k.2.2 ∧ k.2.2 < (side + 1)) then some (.inr (.inl (.int, wn (side + 1)))) else none
  | 15 => if (0 ≤ k.2.1 ∧ k.2.1 < 2) ∧ k.2.2 = 0 then some (.inr (.inl (.int, wn (side + 1)))) else none
  | 16 => if (0 ≤ k.2.1 ∧ k.2.1 < 2) ∧ k.2.2 = 0 then some (.inr (.inl (.int, wn (side + 1)))) else none
  | 17 => if (0 ≤ k.2.1 ∧ k.2.1 < 2) ∧ k.2.2 = 0 then some (.inr (.inl (.byte, wn side))) else none
  | 18 => if (0 ≤ k.2.1 ∧ k.2.1 < 2) ∧ k.2.2 = 0 then some (.inr (.inl (.int, wn (side + 1)))) else none
  | 19 => if (0 ≤ k.2.1 ∧ k.2.1 < 2) ∧ k.2.2 = 0 then some (.inr (.inl (.int, wn (side + 1)))) else none
  | 20 => if (0 ≤ k.2.1 ∧ k.2.1 < 2) ∧ k.2.2 = 0 then some (.inr (.inl (.byte, wn side))) else none
  | 21 => if k.2.1 = 0 ∧ k.2.2 = 0 then some (.inr (.inr ((.array .int), wn (side * side), .inr (fun x => some (22, x, 0))))) else none
  | 22 => if (0 ≤ k.2.1 ∧ k.2.1 < (side * side)) ∧ k.2.2 = 0 then some (.inr (.inl (.int, 3))) else none
  | _ => none
section
variable {A : wK → Nat} {S : wS} {h : pm_H} {m : Nat} {i j x v : Int32} {u : Int64} {side : Int32} {cnt : Int32}
theorem Cs_n0 (hP : Cs_P side cnt) : Int32.ofNat (wn side) = side := wn_of (by have := hP.1; grind)
theorem Cs_n1 (hP : Cs_P side cnt) : Int32.ofNat (wn (side + 1)) = (side + 1) := wn_of (by have := hP.1; have := hP.2.1; grind)
theorem Cs_n2 (hP : Cs_P side cnt) : Int32.ofNat (wn (side * side)) = (side * side) := wn_of (by have := wsq hP.1 hP.2.1; grind)
theorem Cs_d0 {side : Int32} {cnt : Int32} : (Cs_d side cnt) (0, 0, 0) = some (.inl (2, [(0, (0, 0, 0)), (0, (0, 0, 0)), (2, (1, 0, 0)), (2, (4, 0, 0)), (2, (6, 0, 0)), (2, (8, 0, 0)), (0, (0, 0, 0)), (2, (10, 0, 0)), (2, (10, 1, 0)), (0, (0, 0, 0)), (0, (0, 0, 0)), (0, (0, 0, 0)), (0, (0, 0, 0)), (0, (0, 0, 0)), (2, (21, 0, 0))])) := rfl
theorem Cs_d1 {side : Int32} {cnt : Int32} : (Cs_d side cnt) (1, 0, 0) = some (.inr (.inr ((.array (.array .boolean)), 2, .inr (fun x => some (2, x, 0))))) := rfl
theorem Cs_d2 {side : Int32} {cnt : Int32} (h0 : 0 ≤ i ∧ i < 2) : (Cs_d side cnt) (2, i, 0) = some (.inr (.inr ((.array .boolean), wn side, .inr (fun x => some (3, i, x))))) := if_pos ⟨h0, rfl⟩
theorem Cs_d3 {side : Int32} {cnt : Int32} (h0 : 0 ≤ i ∧ i < 2) (h1 : 0 ≤ j ∧ j < side) : (Cs_d side cnt) (3, i, j) = some (.inr (.inl (.boolean, wn side))) := if_pos ⟨h0, h1⟩
theorem Cs_d4 {side : Int32} {cnt : Int32} : (Cs_d side cnt) (4, 0, 0) = some (.inr (.inr ((.array .boolean), wn side, .inr (fun x => some (5, x, 0))))) := rfl
theorem Cs_d5 {side : Int32} {cnt : Int32} (h0 : 0 ≤ i ∧ i < side) : (Cs_d side cnt) (5, i, 0) = some (.inr (.inl (.boolean, wn side))) := if_pos ⟨h0, rfl⟩
theorem Cs_d6 {side : Int32} {cnt : Int32} : (Cs_d side cnt) (6, 0, 0) = some (.inr (.inr ((.array .int), wn side, .inr (fun x => some (7, x, 0))))) := rfl
theorem Cs_d7 {side : Int32} {cnt : Int32} (h0 : 0 ≤ i ∧ i < side) : (Cs_d side cnt) (7, i, 0) = some (.inr (.inl (.int, wn side))) := if_pos ⟨h0, rfl⟩
theorem Cs_d8 {side : Int32} {cnt : Int32} : (Cs_d side cnt) (8, 0, 0) = some (.inr (.inr ((.object "TimberHouse$SawGrids$Size"), 8, .inr (fun x => if x < cnt then some (9, x, 0) else none)))) := rfl
theorem Cs_d9 {side : Int32} {cnt : Int32} (h0 : 0 ≤ i ∧ i < cnt) : (Cs_d side cnt) (9, i, 0) = some (.inl (36, [(0, (0, 0, 0)), (0, (0, 0, 0)), (0, (0, 0, 0)), (0, (0, 0, 0))])) := if_pos ⟨h0, rfl⟩
theorem Cs_d10 {side : Int32} {cnt : Int32} (h0 : 0 ≤ i ∧ i < 2) : (Cs_d side cnt) (10, i, 0) = some (.inl (3, [(0, (0, 0, 0)), (0, (0, 0, 0)), (2, (11, i, 0)), (2, (13, i, 0)), (2, (15, i, 0)), (2, (16, i, 0)), (2, (17, i, 0)), (2, (18, i, 0)), (2, (19, i, 0)), (2, (20, i, 0))])) := if_pos ⟨h0, rfl⟩
theorem Cs_d11 {side : Int32} {cnt : Int32} (h0 : 0 ≤ i ∧ i < 2) : (Cs_d side cnt) (11, i, 0) = some (.inr (.inr ((.array .int), wn (side + 1), .inr (fun x => some (12, i, x))))) := if_pos ⟨h0, rfl⟩
theorem Cs_d12 {side : Int32} {cnt : Int32} (h0 : 0 ≤ i ∧ i < 2) (h1 : 0 ≤ j ∧ j < (side + 1)) : (Cs_d side cnt) (12, i, j) = some (.inr (.inl (.int, wn (side + 1)))) := if_pos ⟨h0, h1⟩
theorem Cs_d13 {side : Int32} {cnt : Int32} (h0 : 0 ≤ i ∧ i < 2) : (Cs_d side cnt) (13, i, 0) = some (.inr (.inr ((.array .int), wn (side + 1), .inr (fun x => some (14, i, x))))) := if_pos ⟨h0, rfl⟩
theorem Cs_d14 {side : Int32} {cnt : Int32} (h0 : 0 ≤ i ∧ i < 2) (h1 : 0 ≤ j ∧ j < (side + 1)) : (Cs_d side cnt) (14, i, j) = some (.inr (.inl (.int, wn (side + 1)))) := if_pos ⟨h0, h1⟩
theorem Cs_d15 {side : Int32} {cnt : Int32} (h0 : 0 ≤ i ∧ i < 2) : (Cs_d side cnt) (15, i, 0) = some (.inr (.inl (.int, wn (side + 1)))) := if_pos ⟨h0, rfl⟩
theorem Cs_d16 {side : Int32} {cnt : Int32} (h0 : 0 ≤ i ∧ i < 2) : (Cs_d side cnt) (16, i, 0) = some (.inr (.inl (.int, wn (side + 1)))) := if_pos ⟨h0, rfl⟩
theorem Cs_d17 {side : Int32} {cnt : Int32} (h0 : 0 ≤ i ∧ i < 2) : (Cs_d side cnt) (17, i, 0) = some (.inr (.inl (.byte, wn side))) := if_pos ⟨h0, rfl⟩
theorem Cs_d18 {side : Int32} {cnt : Int32} (h0 : 0 ≤ i ∧ i < 2) : (Cs_d side cnt) (18, i, 0) = some (.inr (.inl (.int, wn (side + 1)))) := if_pos ⟨h0, rfl⟩
theorem Cs_d19 {side : Int32} {cnt : Int32} (h0 : 0 ≤ i ∧ i < 2) : (Cs_d side cnt) (19, i, 0) = some (.inr (.inl (.int, wn (side + 1)))) := if_pos ⟨h0, rfl⟩
theorem Cs_d20 {side : Int32} {cnt : Int32} (h0 : 0 ≤ i ∧ i < 2) : (Cs_d side cnt) (20, i, 0) = some (.inr (.inl (.byte, wn side))) := if_pos ⟨h0, rfl⟩
theorem Cs_d21 {side : Int32} {cnt : Int32} : (Cs_d side cnt) (21, 0, 0) = some (.inr (.inr ((.array .int), wn (side * side), .inr (fun x => some (22, x, 0))))) := rfl
theorem Cs_d22 {side : Int32} {cnt : Int32} (h0 : 0 ≤ i ∧ i < (side * side)) : (Cs_d side cnt) (22, i, 0) = some (.inr (.inl (.int, 3))) := if_pos ⟨h0, rfl⟩
theorem Cs_c0 (hP : Cs_P side cnt) (hA : wok A (Cs_d side cnt) m) : pm_cls (wput A (Cs_d side cnt) S h) (A (0, 0, 0)) = some 2 := w_cls hA (Cs_d0)
theorem Cs_k0 {cl : pm_C} {k b c : Nat} {r : List Instr} {ls s : List Value} (hP : Cs_P side cnt) (hA : wok A (Cs_d side cnt) m) (h2 : pm_sub 2 c = true) : pm_ev pm_prog cl k b (.checkcast c :: r) ls (.ref (A (0, 0, 0)) :: s) (wput A (Cs_d side cnt) S h) = pm_ev pm_prog cl k b r ls (.ref (A (0, 0, 0)) :: s) (wput A (Cs_d side cnt) S h) := pe_checkcast (w_cls hA (Cs_d0)) h2
theorem Cs_g0_0 (hP : Cs_P side cnt) (hA : wok A (Cs_d side cnt) m) : pm_gf pm_tab (wput A (Cs_d side cnt) S h) (A (0, 0, 0)) 2 0 = some (.int (S.1 (0, 0, 0) 0)) := w_g (f := (0, (0, 0, 0))) hA (Cs_d0) rfl rfl
theorem Cs_p0_0 (hP : Cs_P side cnt) (hA : wok A (Cs_d side cnt) m) : pm_pf pm_tab (wput A (Cs_d side cnt) S h) (A (0, 0, 0)) 2 0 0 (.int v) = some (wput A (Cs_d side cnt) (sz S (0, 0, 0) 0 v) h) := w_p0 (q := (0, 0, 0)) (t := 0) hA (Cs_d0) rfl rfl (Nat.le_of_ble_eq_true rfl)
theorem Cs_g0_1 (hP : Cs_P side cnt) (hA : wok A (Cs_d side cnt) m) : pm_gf pm_tab (wput A (Cs_d side cnt) S h) (A (0, 0, 0)) 2 1 = some (.int (S.1 (0, 0, 0) 1)) := w_g (f := (0, (0, 0, 0))) hA (Cs_d0) rfl rfl
theorem Cs_p0_1 (hP : Cs_P side cnt) (hA : wok A (Cs_d side cnt) m) : pm_pf pm_tab (wput A (Cs_d side cnt) S h) (A (0, 0, 0)) 2 1 0 (.int v) = some (wput A (Cs_d side cnt) (sz S (0, 0, 0) 1 v) h) := w_p0 (q := (0, 0, 0)) (t := 0) hA (Cs_d0) rfl rfl (Nat.le_of_ble_eq_true rfl)
theorem Cs_g0_2 (hP : Cs_P side cnt) (hA : wok A (Cs_d side cnt) m) : pm_gf pm_tab (wput A (Cs_d side cnt) S h) (A (0, 0, 0)) 2 2 = some (.ref (A (1, 0, 0))) := w_g (f := (2, (1, 0, 0))) hA (Cs_d0) rfl rfl
theorem Cs_g0_3 (hP : Cs_P side cnt) (hA : wok A (Cs_d side cnt) m) : pm_gf pm_tab (wput A (Cs_d side cnt) S h) (A (0, 0, 0)) 2 3 = some (.ref (A (4, 0, 0))) := w_g (f := (2, (4, 0, 0))) hA (Cs_d0) rfl rfl
theorem Cs_g0_4 (hP : Cs_P side cnt) (hA : wok A (Cs_d side cnt) m) : pm_gf pm_tab (wput A (Cs_d side cnt) S h) (A (0, 0, 0)) 2 4 = some (.ref (A (6, 0, 0))) := w_g (f := (2, (6, 0, 0))) hA (Cs_d0) rfl rfl
theorem Cs_g0_5 (hP : Cs_P side cnt) (hA : wok A (Cs_d side cnt) m) : pm_gf pm_tab (wput A (Cs_d side cnt) S h) (A (0, 0, 0)) 2 5 = some (.ref (A (8, 0, 0))) := w_g (f := (2, (8, 0, 0))) hA (Cs_d0) rfl rfl
theorem Cs_g0_6 (hP : Cs_P side cnt) (hA : wok A (Cs_d side cnt) m) : pm_gf pm_tab (wput A (Cs_d side cnt) S h) (A (0, 0, 0)) 2 6 = some (.int (S.1 (0, 0, 0) 6)) := w_g (f := (0, (0, 0, 0))) hA (Cs_d0) rfl rfl
theorem Cs_p0_6 (hP : Cs_P side cnt) (hA : wok A (Cs_d side cnt) m) : pm_pf pm_tab (wput A (Cs_d side cnt) S h) (A (0, 0, 0)) 2 6 0 (.int v) = some (wput A (Cs_d side cnt) (sz S (0, 0, 0) 6 v) h) := w_p0 (q := (0, 0, 0)) (t := 0) hA (Cs_d0) rfl rfl (Nat.le_of_ble_eq_true rfl)
theorem Cs_g0_7 (hP : Cs_P side cnt) (hA : wok A (Cs_d side cnt) m) : pm_gf pm_tab (wput A (Cs_d side cnt) S h) (A (0, 0, 0)) 2 7 = some (.ref (A (10, 0, 0))) := w_g (f := (2, (10, 0, 0))) hA (Cs_d0) rfl rfl
theorem Cs_g0_8 (hP : Cs_P side cnt) (hA : wok A (Cs_d side cnt) m) : pm_gf pm_tab (wput A (Cs_d side cnt) S h) (A (0, 0, 0)) 2 8 = some (.ref (A (10, 1, 0))) := w_g (f := (2, (10, 1, 0))) hA (Cs_d0) rfl rfl
theorem Cs_g0_9 (hP : Cs_P side cnt) (hA : wok A (Cs_d side cnt) m) : pm_gf pm_tab (wput A (Cs_d side cnt) S h) (A (0, 0, 0)) 2 9 = some (.int (S.1 (0, 0, 0) 9)) := w_g (f := (0, (0, 0, 0))) hA (Cs_d0) rfl rfl
theorem Cs_p0_9 (hP : Cs_P side cnt) (hA : wok A (Cs_d side cnt) m) (hv : v = 0 ∨ v = 1) : pm_pf pm_tab (wput A (Cs_d side cnt) S h) (A (0, 0, 0)) 2 9 2 (.int v) = some (wput A (Cs_d side cnt) (sz S (0, 0, 0) 9 v) h) := (w_p0 (q := (0, 0, 0)) (t := 2) hA (Cs_d0) rfl rfl (Nat.le_of_ble_eq_true rfl)).trans (if_pos (by rw [pm_ok2]; exact hv))
theorem Cs_g0_10 (hP : Cs_P side cnt) (hA : wok A (Cs_d side cnt) m) : pm_gf pm_tab (wput A (Cs_d side cnt) S h) (A (0, 0, 0)) 2 10 = some (.int (S.1 (0, 0, 0) 10)) := w_g (f := (0, (0, 0, 0))) hA (Cs_d0) rfl rfl
theorem Cs_p0_10 (hP : Cs_P side cnt) (hA : wok A (Cs_d side cnt) m) (hv : v = 0 ∨ v = 1) : pm_pf pm_tab (wput A (Cs_d side cnt) S h) (A (0, 0, 0)) 2 10 2 (.int v) = some (wput A (Cs_d side cnt) (sz S (0, 0, 0) 10 v) h) := (w_p0 (q := (0, 0, 0)) (t := 2) hA (Cs_d0) rfl rfl (Nat.le_of_ble_eq_true rfl)).trans (if_pos (by rw [pm_ok2]; exact hv))
theorem Cs_g0_11 (hP : Cs_P side cnt) (hA : wok A (Cs_d side cnt) m) : pm_gf pm_tab (wput A (Cs_d side cnt) S h) (A (0, 0, 0)) 2 11 = some (.int (S.1 (0, 0, 0) 11)) := w_g (f := (0, (0, 0, 0))) hA (Cs_d0) rfl rfl
theorem Cs_p0_11 (hP : Cs_P side cnt) (hA : wok A (Cs_d side cnt) m) : pm_pf pm_tab (wput A (Cs_d side cnt) S h) (A (0, 0, 0)) 2 11 0 (.int v) = some (wput A (Cs_d side cnt) (sz S (0, 0, 0) 11 v) h) := w_p0 (q := (0, 0, 0)) (t := 0) hA (Cs_d0) rfl rfl (Nat.le_of_ble_eq_true rfl)
theorem Cs_g0_12 (hP : Cs_P side cnt) (hA : wok A (Cs_d side cnt) m) : pm_gf pm_tab (wput A (Cs_d side cnt) S h) (A (0, 0, 0)) 2 12 = some (.int (S.1 (0, 0, 0) 12)) := w_g (f := (0, (0, 0, 0))) hA (Cs_d0) rfl rfl
theorem Cs_p0_12 (hP : Cs_P side cnt) (hA : wok A (Cs_d side cnt) m) : pm_pf pm_tab (wput A (Cs_d side cnt) S h) (A (0, 0, 0)) 2 12 0 (.int v) = some (wput A (Cs_d side cnt) (sz S (0, 0, 0) 12 v) h) := w_p0 (q := (0, 0, 0)) (t := 0) hA (Cs_d0) rfl rfl (Nat.le_of_ble_eq_true rfl)
theorem Cs_g0_13 (hP : Cs_P side cnt) (hA : wok A (Cs_d side cnt) m) : pm_gf pm_tab (wput A (Cs_d side cnt) S h) (A (0, 0, 0)) 2 13 = some (.int (S.1 (0, 0, 0) 13)) := w_g (f := (0, (0, 0, 0))) hA (Cs_d0) rfl rfl
theorem Cs_p0_13 (hP : Cs_P side cnt) (hA : wok A (Cs_d side cnt) m) : pm_pf pm_tab (wput A (Cs_d side cnt) S h) (A (0, 0, 0)) 2 13 0 (.int v) = some (wput A (Cs_d side cnt) (sz S (0, 0, 0) 13 v) h) := w_p0 (q := (0, 0, 0)) (t := 0) hA (Cs_d0) rfl rfl (Nat.le_of_ble_eq_true rfl)
theorem Cs_g0_14 (hP : Cs_P side cnt) (hA : wok A (Cs_d side cnt) m) : pm_gf pm_tab (wput A (Cs_d side cnt) S h) (A (0, 0, 0)) 2 14 = some (.ref (A (21, 0, 0))) := w_g (f := (2, (21, 0, 0))) hA (Cs_d0) rfl rfl
theorem Cs_l1 (hP : Cs_P side cnt) (hA : wok A (Cs_d side cnt) m) : pm_len (wput A (Cs_d side cnt) S h) (A (1, 0, 0)) = some 2 := w_lenR hA (Cs_d1) (by decide)
theorem Cs_r1 (hP : Cs_P side cnt) (hA : wok A (Cs_d side cnt) m) (hx : 0 ≤ x ∧ x < 2) : pm_rdR (wput A (Cs_d side cnt) S h) (A (1, 0, 0)) x = some (some (A (2, x, 0))) := ((w_rdR hA (Cs_d1) rfl (by decide)).trans (if_pos hx)).trans rfl
theorem Cs_l2 (hP : Cs_P side cnt) (hA : wok A (Cs_d side cnt) m) (h0 : 0 ≤ i ∧ i < 2) : pm_len (wput A (Cs_d side cnt) S h) (A (2, i, 0)) = some (wn side) := w_lenR hA (Cs_d2 h0) (by decide)
theorem Cs_r2 (hP : Cs_P side cnt) (hA : wok A (Cs_d side cnt) m) (h0 : 0 ≤ i ∧ i < 2) (hx : 0 ≤ x ∧ x < side) : pm_rdR (wput A (Cs_d side cnt) S h) (A (2, i, 0)) x = some (some (A (3, i, x))) := ((w_rdR hA (Cs_d2 h0) rfl (wn_le _)).trans (if_pos (wn_in (by have := hP.1; grind) hx))).trans rfl
theorem Cs_l3 (hP : Cs_P side cnt) (hA : wok A (Cs_d side cnt) m) (h0 : 0 ≤ i ∧ i < 2) (h1 : 0 ≤ j ∧ j < side) : pm_len (wput A (Cs_d side cnt) S h) (A (3, i, j)) = some (wn side) := w_len hA (Cs_d3 h0 h1) (by decide)
theorem Cs_r3 (hP : Cs_P side cnt) (hA : wok A (Cs_d side cnt) m) (h0 : 0 ≤ i ∧ i < 2) (h1 : 0 ≤ j ∧ j < side) (hx : 0 ≤ x ∧ x < side) : pm_rd pm_isB (wput A (Cs_d side cnt) S h) (A (3, i, j)) x = some (S.1 (3, i, j) x) := (w_rd (t := .boolean) hA (Cs_d3 h0 h1) rfl (by decide) (wn_le _)).trans (if_pos (wn_in (by have := hP.1; grind) hx))
theorem Cs_w3 (hP : Cs_P side cnt) (hA : wok A (Cs_d side cnt) m) (h0 : 0 ≤ i ∧ i < 2) (h1 : 0 ≤ j ∧ j < side) (hx : 0 ≤ x ∧ x < side) : pm_wr pm_wB (wput A (Cs_d side cnt) S h) (A (3, i, j)) x v = some (wput A (Cs_d side cnt) (sz S (3, i, j) x (vp_nar .boolean v)) h) := (w_wr (t := .boolean) hA (Cs_d3 h0 h1) rfl (by decide) (wn_le _)).trans (if_pos (wn_in (by have := hP.1; grind) hx))
theorem Cs_l4 (hP : Cs_P side cnt) (hA : wok A (Cs_d side cnt) m) : pm_len (wput A (Cs_d side cnt) S h) (A (4, 0, 0)) = some (wn side) := w_lenR hA (Cs_d4) (by decide)
theorem Cs_r4 (hP : Cs_P side cnt) (hA : wok A (Cs_d side cnt) m) (hx : 0 ≤ x ∧ x < side) : pm_rdR (wput A (Cs_d side cnt) S h) (A (4, 0, 0)) x = some (some (A (5, x, 0))) := ((w_rdR hA (Cs_d4) rfl (wn_le _)).trans (if_pos (wn_in (by have := hP.1; grind) hx))).trans rfl
theorem Cs_l5 (hP : Cs_P side cnt) (hA : wok A (Cs_d side cnt) m) (h0 : 0 ≤ i ∧ i < side) : pm_len (wput A (Cs_d side cnt) S h) (A (5, i, 0)) = some (wn side) := w_len hA (Cs_d5 h0) (by decide)
theorem Cs_r5 (hP : Cs_P side cnt) (hA : wok A (Cs_d side cnt) m) (h0 : 0 ≤ i ∧ i < side) (hx : 0 ≤ x ∧ x < side) : pm_rd pm_isB (wput A (Cs_d side cnt) S h) (A (5, i, 0)) x = some (S.1 (5, i, 0) x) := (w_rd (t := .boolean) hA (Cs_d5 h0) rfl (by decide) (wn_le _)).trans (if_pos (wn_in (by have := hP.1; grind) hx))
theorem Cs_w5 (hP : Cs_P side cnt) (hA : wok A (Cs_d side cnt) m) (h0 : 0 ≤ i ∧ i < side) (hx : 0 ≤ x ∧ x < side) : pm_wr pm_wB (wput A (Cs_d side cnt) S h) (A (5, i, 0)) x v = some (wput A (Cs_d side cnt) (sz S (5, i, 0) x (vp_nar .boolean v)) h) := (w_wr (t := .boolean) hA (Cs_d5 h0) rfl (by decide) (wn_le _)).trans (if_pos (wn_in (by have := hP.1; grind) hx))
theorem Cs_l6 (hP : Cs_P side cnt) (hA : wok A (Cs_d side cnt) m) : pm_len (wput A (Cs_d side cnt) S h) (A (6, 0, 0)) = some (wn side) := w_lenR hA (Cs_d6) (by decide)
theorem Cs_r6 (hP : Cs_P side cnt) (hA : wok A (Cs_d side cnt) m) (hx : 0 ≤ x ∧ x < side) : pm_rdR (wput A (Cs_d side cnt) S h) (A (6, 0, 0)) x = some (some (A (7, x, 0))) := ((w_rdR hA (Cs_d6) rfl (wn_le _)).trans (if_pos (wn_in (by have := hP.1; grind) hx))).trans rfl
theorem Cs_l7 (hP : Cs_P side cnt) (hA : wok A (Cs_d side cnt) m) (h0 : 0 ≤ i ∧ i < side) : pm_len (wput A (Cs_d side cnt) S h) (A (7, i, 0)) = some (wn side) := w_len hA (Cs_d7 h0) (by decide)
theorem Cs_r7 (hP : Cs_P side cnt) (hA : wok A (Cs_d side cnt) m) (h0 : 0 ≤ i ∧ i < side) (hx : 0 ≤ x ∧ x < side) : pm_rd pm_isI (wput A (Cs_d side cnt) S h) (A (7, i, 0)) x = some (S.1 (7, i, 0) x) := (w_rd (t := .int) hA (Cs_d7 h0) rfl (by decide) (wn_le _)).trans (if_pos (wn_in (by have := hP.1; grind) hx))
theorem Cs_w7 (hP : Cs_P side cnt) (hA : wok A (Cs_d side cnt) m) (h0 : 0 ≤ i ∧ i < side) (hx : 0 ≤ x ∧ x < side) : pm_wr pm_wI (wput A (Cs_d side cnt) S h) (A (7, i, 0)) x v = some (wput A (Cs_d side cnt) (sz S (7, i, 0) x v) h) := (w_wr (t := .int) hA (Cs_d7 h0) rfl (by decide) (wn_le _)).trans (if_pos (wn_in (by have := hP.1; grind) hx))
theorem Cs_l8 (hP : Cs_P side cnt) (hA : wok A (Cs_d side cnt) m) : pm_len (wput A (Cs_d side cnt) S h) (A (8, 0, 0)) = some 8 := w_lenR hA (Cs_d8) (by decide)
theorem Cs_r8 (hP : Cs_P side cnt) (hA : wok A (Cs_d side cnt) m) (hx : 0 ≤ x ∧ x < 8) (hn : x < cnt) : pm_rdR (wput A (Cs_d side cnt) S h) (A (8, 0, 0)) x = some (some (A (9, x, 0))) := ((w_rdR hA (Cs_d8) rfl (by decide)).trans (if_pos hx)).trans (congrArg some (congrArg (Option.map A) (if_pos hn)))
theorem Cs_c9 (hP : Cs_P side cnt) (hA : wok A (Cs_d side cnt) m) (h0 : 0 ≤ i ∧ i < cnt) : pm_cls (wput A (Cs_d side cnt) S h) (A (9, i, 0)) = some 36 := w_cls hA (Cs_d9 h0)
theorem Cs_k9 {cl : pm_C} {k b c : Nat} {r : List Instr} {ls s : List Value} (hP : Cs_P side cnt) (hA : wok A (Cs_d side cnt) m) (h0 : 0 ≤ i ∧ i < cnt) (h2 : pm_sub 36 c = true) : pm_ev pm_prog cl k b (.checkcast c :: r) ls (.ref (A (9, i, 0)) :: s) (wput A (Cs_d side cnt) S h) = pm_ev pm_prog cl k b r ls (.ref (A (9, i, 0)) :: s) (wput A (Cs_d side cnt) S h) := pe_checkcast (w_cls hA (Cs_d9 h0)) h2
theorem Cs_g9_0 (hP : Cs_P side cnt) (hA : wok A (Cs_d side cnt) m) (h0 : 0 ≤ i ∧ i < cnt) : pm_gf pm_tab (wput A (Cs_d side cnt) S h) (A (9, i, 0)) 36 0 = some (.int (S.1 (9, i, 0) 0)) := w_g (f := (0, (0, 0, 0))) hA (Cs_d9 h0) rfl rfl
theorem Cs_p9_0 (hP : Cs_P side cnt) (hA : wok A (Cs_d side cnt) m) (h0 : 0 ≤ i ∧ i < cnt) : pm_pf pm_tab (wput A (Cs_d side cnt) S h) (A (9, i, 0)) 36 0 0 (.int v) = some (wput A (Cs_d side cnt) (sz S (9, i, 0) 0 v) h) := w_p0 (q := (0, 0, 0)) (t := 0) hA (Cs_d9 h0) rfl rfl (Nat.le_of_ble_eq_true rfl)
theorem Cs_g9_1 (hP : Cs_P side cnt) (hA : wok A (Cs_d side cnt) m) (h0 : 0 ≤ i ∧ i < cnt) : pm_gf pm_tab (wput A (Cs_d side cnt) S h) (A (9, i, 0)) 36 1 = some (.int (S.1 (9, i, 0) 1)) := w_g (f := (0, (0, 0, 0))) hA (Cs_d9 h0) rfl rfl
theorem Cs_p9_1 (hP : Cs_P side cnt) (hA : wok A (Cs_d side cnt) m) (h0 : 0 ≤ i ∧ i < cnt) : pm_pf pm_tab (wput A (Cs_d side cnt) S h) (A (9, i, 0)) 36 1 0 (.int v) = some (wput A (Cs_d side cnt) (sz S (9, i, 0) 1 v) h) := w_p0 (q := (0, 0, 0)) (t := 0) hA (Cs_d9 h0) rfl rfl (Nat.le_of_ble_eq_true rfl)
theorem Cs_g9_2 (hP : Cs_P side cnt) (hA : wok A (Cs_d side cnt) m) (h0 : 0 ≤ i ∧ i < cnt) : pm_gf pm_tab (wput A (Cs_d side cnt) S h) (A (9, i, 0)) 36 2 = some (.int (S.1 (9, i, 0) 2)) := w_g (f := (0, (0, 0, 0))) hA (Cs_d9 h0) rfl rfl
theorem Cs_p9_2 (hP : Cs_P side cnt) (hA : wok A (Cs_d side cnt) m) (h0 : 0 ≤ i ∧ i < cnt) : pm_pf pm_tab (wput A (Cs_d side cnt) S h) (A (9, i, 0)) 36 2 0 (.int v) = some (wput A (Cs_d side cnt) (sz S (9, i, 0) 2 v) h) := w_p0 (q := (0, 0, 0)) (t := 0) hA (Cs_d9 h0) rfl rfl (Nat.le_of_ble_eq_true rfl)
theorem Cs_g9_3 (hP : Cs_P side cnt) (hA : wok A (Cs_d side cnt) m) (h0 : 0 ≤ i ∧ i < cnt) : pm_gf pm_tab (wput A (Cs_d side cnt) S h) (A (9, i, 0)) 36 3 = some (.int (S.1 (9, i, 0) 3)) := w_g (f := (0, (0, 0, 0))) hA (Cs_d9 h0) rfl rfl
theorem Cs_p9_3 (hP : Cs_P side cnt) (hA : wok A (Cs_d side cnt) m) (h0 : 0 ≤ i ∧ i < cnt) : pm_pf pm_tab (wput A (Cs_d side cnt) S h) (A (9, i, 0)) 36 3 0 (.int v) = some (wput A (Cs_d side cnt) (sz S (9, i, 0) 3 v) h) := w_p0 (q := (0, 0, 0)) (t := 0) hA (Cs_d9 h0) rfl rfl (Nat.le_of_ble_eq_true rfl)
theorem Cs_c10 (hP : Cs_P side cnt) (hA : wok A (Cs_d side cnt) m) (h0 : 0 ≤ i ∧ i < 2) : pm_cls (wput A (Cs_d side cnt) S h) (A (10, i, 0)) = some 3 := w_cls hA (Cs_d10 h0)
theorem Cs_k10 {cl : pm_C} {k b c : Nat} {r : List Instr} {ls s : List Value} (hP : Cs_P side cnt) (hA : wok A (Cs_d side cnt) m) (h0 : 0 ≤ i ∧ i < 2) (h2 : pm_sub 3 c = true) : pm_ev pm_prog cl k b (.checkcast c :: r) ls (.ref (A (10, i, 0)) :: s) (wput A (Cs_d side cnt) S h) = pm_ev pm_prog cl k b r ls (.ref (A (10, i, 0)) :: s) (wput A (Cs_d side cnt) S h) := pe_checkcast (w_cls hA (Cs_d10 h0)) h2
theorem Cs_g10_0 (hP : Cs_P side cnt) (hA : wok A (Cs_d side cnt) m) (h0 : 0 ≤ i ∧ i < 2) : pm_gf pm_tab (wput A (Cs_d side cnt) S h) (A (10, i, 0)) 3 0 = some (.int (S.1 (10, i, 0) 0)) := w_g (f := (0, (0, 0, 0))) hA (Cs_d10 h0) rfl rfl
theorem Cs_p10_0 (hP : Cs_P side cnt) (hA : wok A (Cs_d side cnt) m) (h0 : 0 ≤ i ∧ i < 2) : pm_pf pm_tab (wput A (Cs_d side cnt) S h) (A (10, i, 0)) 3 0 0 (.int v) = some (wput A (Cs_d side cnt) (sz S (10, i, 0) 0 v) h) := w_p0 (q := (0, 0, 0)) (t := 0) hA (Cs_d10 h0) rfl rfl (Nat.le_of_ble_eq_true rfl)
theorem Cs_g10_1 (hP : Cs_P side cnt) (hA : wok A (Cs_d side cnt) m) (h0 : 0 ≤ i ∧ i < 2) : pm_gf pm_tab (wput A (Cs_d side cnt) S h) (A (10, i, 0)) 3 1 = some (.int (S.1 (10, i, 0) 1)) := w_g (f := (0, (0, 0, 0))) hA (Cs_d10 h0) rfl rfl
theorem Cs_p10_1 (hP : Cs_P side cnt) (hA : wok A (Cs_d side cnt) m) (h0 : 0 ≤ i ∧ i < 2) : pm_pf pm_tab (wput A (Cs_d side cnt) S h) (A (10, i, 0)) 3 1 0 (.int v) = some (wput A (Cs_d side cnt) (sz S (10, i, 0) 1 v) h) := w_p0 (q := (0, 0, 0)) (t := 0) hA (Cs_d10 h0) rfl rfl (Nat.le_of_ble_eq_true rfl)
theorem Cs_g10_2 (hP : Cs_P side cnt) (hA : wok A (Cs_d side cnt) m) (h0 : 0 ≤ i ∧ i < 2) : pm_gf pm_tab (wput A (Cs_d side cnt) S h) (A (10, i, 0)) 3 2 = some (.ref (A (11, i, 0))) := w_g (f := (2, (11, i, 0))) hA (Cs_d10 h0) rfl rfl
theorem Cs_g10_3 (hP : Cs_P side cnt) (hA : wok A (Cs_d side cnt) m) (h0 : 0 ≤ i ∧ i < 2) : pm_gf pm_tab (wput A (Cs_d side cnt) S h) (A (10, i, 0)) 3 3 = some (.ref (A (13, i, 0))) := w_g (f := (2, (13, i, 0))) hA (Cs_d10 h0) rfl rfl
theorem Cs_g10_4 (hP : Cs_P side cnt) (hA : wok A (Cs_d side cnt) m) (h0 : 0 ≤ i ∧ i < 2) : pm_gf pm_tab (wput A (Cs_d side cnt) S h) (A (10, i, 0)) 3 4 = some (.ref (A (15, i, 0))) := w_g (f := (2, (15, i, 0))) hA (Cs_d10 h0) rfl rfl
theorem Cs_g10_5 (hP : Cs_P side cnt) (hA : wok A (Cs_d side cnt) m) (h0 : 0 ≤ i ∧ i < 2) : pm_gf pm_tab (wput A (Cs_d side cnt) S h) (A (10, i, 0)) 3 5 = some (.ref (A (16, i, 0))) := w_g (f := (2, (16, i, 0))) hA (Cs_d10 h0) rfl rfl
theorem Cs_g10_6 (hP : Cs_P side cnt) (hA : wok A (Cs_d side cnt) m) (h0 : 0 ≤ i ∧ i < 2) : pm_gf pm_tab (wput A (Cs_d side cnt) S h) (A (10, i, 0)) 3 6 = some (.ref (A (17, i, 0))) := w_g (f := (2, (17, i, 0))) hA (Cs_d10 h0) rfl rfl
theorem Cs_g10_7 (hP : Cs_P side cnt) (hA : wok A (Cs_d side cnt) m) (h0 : 0 ≤ i ∧ i < 2) : pm_gf pm_tab (wput A (Cs_d side cnt) S h) (A (10, i, 0)) 3 7 = some (.ref (A (18, i, 0))) := w_g (f := (2, (18, i, 0))) hA (Cs_d10 h0) rfl rfl
theorem Cs_g10_8 (hP : Cs_P side cnt) (hA : wok A (Cs_d side cnt) m) (h0 : 0 ≤ i ∧ i < 2) : pm_gf pm_tab (wput A (Cs_d side cnt) S h) (A (10, i, 0)) 3 8 = some (.ref (A (19, i, 0))) := w_g (f := (2, (19, i, 0))) hA (Cs_d10 h0) rfl rfl
theorem Cs_g10_9 (hP : Cs_P side cnt) (hA : wok A (Cs_d side cnt) m) (h0 : 0 ≤ i ∧ i < 2) : pm_gf pm_tab (wput A (Cs_d side cnt) S h) (A (10, i, 0)) 3 9 = some (.ref (A (20, i, 0))) := w_g (f := (2, (20, i, 0))) hA (Cs_d10 h0) rfl rfl
theorem Cs_l11 (hP : Cs_P side cnt) (hA : wok A (Cs_d side cnt) m) (h0 : 0 ≤ i ∧ i < 2) : pm_len (wput A (Cs_d side cnt) S h) (A (11, i, 0)) = some (wn (side + 1)) := w_lenR hA (Cs_d11 h0) (by decide)
theorem Cs_r11 (hP : Cs_P side cnt) (hA : wok A (Cs_d side cnt) m) (h0 : 0 ≤ i ∧ i < 2) (hx : 0 ≤ x ∧ x < (side + 1)) : pm_rdR (wput A (Cs_d side cnt) S h) (A (11, i, 0)) x = some (some (A (12, i, x))) := ((w_rdR hA (Cs_d11 h0) rfl (wn_le _)).trans (if_pos (wn_in (by have := hP.1; have := hP.2.1; grind) hx))).trans rfl
theorem Cs_l12 (hP : Cs_P side cnt) (hA : wok A (Cs_d side cnt) m) (h0 : 0 ≤ i ∧ i < 2) (h1 : 0 ≤ j ∧ j < (side + 1)) : pm_len (wput A (Cs_d side cnt) S h) (A (12, i, j)) = some (wn (side + 1)) := w_len hA (Cs_d12 h0 h1) (by decide)
theorem Cs_r12 (hP : Cs_P side cnt) (hA : wok A (Cs_d side cnt) m) (h0 : 0 ≤ i ∧ i < 2) (h1 : 0 ≤ j ∧ j < (side + 1)) (hx : 0 ≤ x ∧ x < (side + 1)) : pm_rd pm_isI (wput A (Cs_d side cnt) S h) (A (12, i, j)) x = some (S.1 (12, i, j) x) := (w_rd (t := .int) hA (Cs_d12 h0 h1) rfl (by decide) (wn_le _)).trans (if_pos (wn_in (by have := hP.1; have := hP.2.1; grind) hx))
theorem Cs_w12 (hP : Cs_P side cnt) (hA : wok A (Cs_d side cnt) m) (h0 : 0 ≤ i ∧ i < 2) (h1 : 0 ≤ j ∧ j < (side + 1)) (hx : 0 ≤ x ∧ x < (side + 1)) : pm_wr pm_wI (wput A (Cs_d side cnt) S h) (A (12, i, j)) x v = some (wput A (Cs_d side cnt) (sz S (12, i, j) x v) h) := (w_wr (t := .int) hA (Cs_d12 h0 h1) rfl (by decide) (wn_le _)).trans (if_pos (wn_in (by have := hP.1; have := hP.2.1; grind) hx))
theorem Cs_l13 (hP : Cs_P side cnt) (hA : wok A (Cs_d side cnt) m) (h0 : 0 ≤ i ∧ i < 2) : pm_len (wput A (Cs_d side cnt) S h) (A (13, i, 0)) = some (wn (side + 1)) := w_lenR hA (Cs_d13 h0) (by decide)
theorem Cs_r13 (hP : Cs_P side cnt) (hA : wok A (Cs_d side cnt) m) (h0 : 0 ≤ i ∧ i < 2) (hx : 0 ≤ x ∧ x < (side + 1)) : pm_rdR (wput A (Cs_d side cnt) S h) (A (13, i, 0)) x = some (some (A (14, i, x))) := ((w_rdR hA (Cs_d13 h0) rfl (wn_le _)).trans (if_pos (wn_in (by have := hP.1; have := hP.2.1; grind) hx))).trans rfl
theorem Cs_l14 (hP : Cs_P side cnt) (hA : wok A (Cs_d side cnt) m) (h0 : 0 ≤ i ∧ i < 2) (h1 : 0 ≤ j ∧ j < (side + 1)) : pm_len (wput A (Cs_d side cnt) S h) (A (14, i, j)) = some (wn (side + 1)) := w_len hA (Cs_d14 h0 h1) (by decide)
theorem Cs_r14 (hP : Cs_P side cnt) (hA : wok A (Cs_d side cnt) m) (h0 : 0 ≤ i ∧ i < 2) (h1 : 0 ≤ j ∧ j < (side + 1)) (hx : 0 ≤ x ∧ x < (side + 1)) : pm_rd pm_isI (wput A (Cs_d side cnt) S h) (A (14, i, j)) x = some (S.1 (14, i, j) x) := (w_rd (t := .int) hA (Cs_d14 h0 h1) rfl (by decide) (wn_le _)).trans (if_pos (wn_in (by have := hP.1; have := hP.2.1; grind) hx))
theorem Cs_w14 (hP : Cs_P side cnt) (hA : wok A (Cs_d side cnt) m) (h0 : 0 ≤ i ∧ i < 2) (h1 : 0 ≤ j ∧ j < (side + 1)) (hx : 0 ≤ x ∧ x < (side + 1)) : pm_wr pm_wI (wput A (Cs_d side cnt) S h) (A (14, i, j)) x v = some (wput A (Cs_d side cnt) (sz S (14, i, j) x v) h) := (w_wr (t := .int) hA (Cs_d14 h0 h1) rfl (by decide) (wn_le _)).trans (if_pos (wn_in (by have := hP.1; have := hP.2.1; grind) hx))
theorem Cs_l15 (hP : Cs_P side cnt) (hA : wok A (Cs_d side cnt) m) (h0 : 0 ≤ i ∧ i < 2) : pm_len (wput A (Cs_d side cnt) S h) (A (15, i, 0)) = some (wn (side + 1)) := w_len hA (Cs_d15 h0) (by decide)
theorem Cs_r15 (hP : Cs_P side cnt) (hA : wok A (Cs_d side cnt) m) (h0 : 0 ≤ i ∧ i < 2) (hx : 0 ≤ x ∧ x < (side + 1)) : pm_rd pm_isI (wput A (Cs_d side cnt) S h) (A (15, i, 0)) x = some (S.1 (15, i, 0) x) := (w_rd (t := .int) hA (Cs_d15 h0) rfl (by decide) (wn_le _)).trans (if_pos (wn_in (by have := hP.1; have := hP.2.1; grind) hx))
theorem Cs_w15 (hP : Cs_P side cnt) (hA : wok A (Cs_d side cnt) m) (h0 : 0 ≤ i ∧ i < 2) (hx : 0 ≤ x ∧ x < (side + 1)) : pm_wr pm_wI (wput A (Cs_d side cnt) S h) (A (15, i, 0)) x v = some (wput A (Cs_d side cnt) (sz S (15, i, 0) x v) h) := (w_wr (t := .int) hA (Cs_d15 h0) rfl (by decide) (wn_le _)).trans (if_pos (wn_in (by have := hP.1; have := hP.2.1; grind) hx))
theorem Cs_l16 (hP : Cs_P side cnt) (hA : wok A (Cs_d side cnt) m) (h0 : 0 ≤ i ∧ i < 2) : pm_len (wput A (Cs_d side cnt) S h) (A (16, i, 0)) = some (wn (side + 1)) := w_len hA (Cs_d16 h0) (by decide)
theorem Cs_r16 (hP : Cs_P side cnt) (hA : wok A (Cs_d side cnt) m) (h0 : 0 ≤ i ∧ i < 2) (hx : 0 ≤ x ∧ x < (side + 1)) : pm_rd pm_isI (wput A (Cs_d side cnt) S h) (A (16, i, 0)) x = some (S.1 (16, i, 0) x) := (w_rd (t := .int) hA (Cs_d16 h0) rfl (by decide) (wn_le _)).trans (if_pos (wn_in (by have := hP.1; have := hP.2.1; grind) hx))
theorem Cs_w16 (hP : Cs_P side cnt) (hA : wok A (Cs_d side cnt) m) (h0 : 0 ≤ i ∧ i < 2) (hx : 0 ≤ x ∧ x < (side + 1)) : pm_wr pm_wI (wput A (Cs_d side cnt) S h) (A (16, i, 0)) x v = some (wput A (Cs_d side cnt) (sz S (16, i, 0) x v) h) := (w_wr (t := .int) hA (Cs_d16 h0) rfl (by decide) (wn_le _)).trans (if_pos (wn_in (by have := hP.1; have := hP.2.1; grind) hx))
theorem Cs_l17 (hP : Cs_P side cnt) (hA : wok A (Cs_d side cnt) m) (h0 : 0 ≤ i ∧ i < 2) : pm_len (wput A (Cs_d side cnt) S h) (A (17, i, 0)) = some (wn side) := w_len hA (Cs_d17 h0) (by decide)
theorem Cs_r17 (hP : Cs_P side cnt) (hA : wok A (Cs_d side cnt) m) (h0 : 0 ≤ i ∧ i < 2) (hx : 0 ≤ x ∧ x < side) : pm_rd pm_isB (wput A (Cs_d side cnt) S h) (A (17, i, 0)) x = some (S.1 (17, i, 0) x) := (w_rd (t := .byte) hA (Cs_d17 h0) rfl (by decide) (wn_le _)).trans (if_pos (wn_in (by have := hP.1; grind) hx))
theorem Cs_w17 (hP : Cs_P side cnt) (hA : wok A (Cs_d side cnt) m) (h0 : 0 ≤ i ∧ i < 2) (hx : 0 ≤ x ∧ x < side) : pm_wr pm_wB (wput A (Cs_d side cnt) S h) (A (17, i, 0)) x v = some (wput A (Cs_d side cnt) (sz S (17, i, 0) x (vp_nar .byte v)) h) := (w_wr (t := .byte) hA (Cs_d17 h0) rfl (by decide) (wn_le _)).trans (if_pos (wn_in (by have := hP.1; grind) hx))
theorem Cs_l18 (hP : Cs_P side cnt) (hA : wok A (Cs_d side cnt) m) (h0 : 0 ≤ i ∧ i < 2) : pm_len (wput A (Cs_d side cnt) S h) (A (18, i, 0)) = some (wn (side + 1)) := w_len hA (Cs_d18 h0) (by decide)
theorem Cs_r18 (hP : Cs_P side cnt) (hA : wok A (Cs_d side cnt) m) (h0 : 0 ≤ i ∧ i < 2) (hx : 0 ≤ x ∧ x < (side + 1)) : pm_rd pm_isI (wput A (Cs_d side cnt) S h) (A (18, i, 0)) x = some (S.1 (18, i, 0) x) := (w_rd (t := .int) hA (Cs_d18 h0) rfl (by decide) (wn_le _)).trans (if_pos (wn_in (by have := hP.1; have := hP.2.1; grind) hx))
theorem Cs_w18 (hP : Cs_P side cnt) (hA : wok A (Cs_d side cnt) m) (h0 : 0 ≤ i ∧ i < 2) (hx : 0 ≤ x ∧ x < (side + 1)) : pm_wr pm_wI (wput A (Cs_d side cnt) S h) (A (18, i, 0)) x v = some (wput A (Cs_d side cnt) (sz S (18, i, 0) x v) h) := (w_wr (t := .int) hA (Cs_d18 h0) rfl (by decide) (wn_le _)).trans (if_pos (wn_in (by have := hP.1; have := hP.2.1; grind) hx))
theorem Cs_l19 (hP : Cs_P side cnt) (hA : wok A (Cs_d side cnt) m) (h0 : 0 ≤ i ∧ i < 2) : pm_len (wput A (Cs_d side cnt) S h) (A (19, i, 0)) = some (wn (side + 1)) := w_len hA (Cs_d19 h0) (by decide)
theorem Cs_r19 (hP : Cs_P side cnt) (hA : wok A (Cs_d side cnt) m) (h0 : 0 ≤ i ∧ i < 2) (hx : 0 ≤ x ∧ x < (side + 1)) : pm_rd pm_isI (wput A (Cs_d side cnt) S h) (A (19, i, 0)) x = some (S.1 (19, i, 0) x) := (w_rd (t := .int) hA (Cs_d19 h0) rfl (by decide) (wn_le _)).trans (if_pos (wn_in (by have := hP.1; have := hP.2.1; grind) hx))
theorem Cs_w19 (hP : Cs_P side cnt) (hA : wok A (Cs_d side cnt) m) (h0 : 0 ≤ i ∧ i < 2) (hx : 0 ≤ x ∧ x < (side + 1)) : pm_wr pm_wI (wput A (Cs_d side cnt) S h) (A (19, i, 0)) x v = some (wput A (Cs_d side cnt) (sz S (19, i, 0) x v) h) := (w_wr (t := .int) hA (Cs_d19 h0) rfl (by decide) (wn_le _)).trans (if_pos (wn_in (by have := hP.1; have := hP.2.1; grind) hx))
theorem Cs_l20 (hP : Cs_P side cnt) (hA : wok A (Cs_d side cnt) m) (h0 : 0 ≤ i ∧ i < 2) : pm_len (wput A (Cs_d side cnt) S h) (A (20, i, 0)) = some (wn side) := w_len hA (Cs_d20 h0) (by decide)
theorem Cs_r20 (hP : Cs_P side cnt) (hA : wok A (Cs_d side cnt) m) (h0 : 0 ≤ i ∧ i < 2) (hx : 0 ≤ x ∧ x < side) : pm_rd pm_isB (wput A (Cs_d side cnt) S h) (A (20, i, 0)) x = some (S.1 (20, i, 0) x) := (w_rd (t := .byte) hA (Cs_d20 h0) rfl (by decide) (wn_le _)).trans (if_pos (wn_in (by have := hP.1; grind) hx))
theorem Cs_w20 (hP : Cs_P side cnt) (hA : wok A (Cs_d side cnt) m) (h0 : 0 ≤ i ∧ i < 2) (hx : 0 ≤ x ∧ x < side) : pm_wr pm_wB (wput A (Cs_d side cnt) S h) (A (20, i, 0)) x v = some (wput A (Cs_d side cnt) (sz S (20, i, 0) x (vp_nar .byte v)) h) := (w_wr (t := .byte) hA (Cs_d20 h0) rfl (by decide) (wn_le _)).trans (if_pos (wn_in (by have := hP.1; grind) hx))
theorem Cs_l21 (hP : Cs_P side cnt) (hA : wok A (Cs_d side cnt) m) : pm_len (wput A (Cs_d side cnt) S h) (A (21, 0, 0)) = some (wn (side * side)) := w_lenR hA (Cs_d21) (by decide)
theorem Cs_r21 (hP : Cs_P side cnt) (hA : wok A (Cs_d side cnt) m) (hx : 0 ≤ x ∧ x < (side * side)) : pm_rdR (wput A (Cs_d side cnt) S h) (A (21, 0, 0)) x = some (some (A (22, x, 0))) := ((w_rdR hA (Cs_d21) rfl (wn_le _)).trans (if_pos (wn_in (by have := wsq hP.1 hP.2.1; grind) hx))).trans rfl
theorem Cs_l22 (hP : Cs_P side cnt) (hA : wok A (Cs_d side cnt) m) (h0 : 0 ≤ i ∧ i < (side * side)) : pm_len (wput A (Cs_d side cnt) S h) (A (22, i, 0)) = some 3 := w_len hA (Cs_d22 h0) (by decide)
theorem Cs_r22 (hP : Cs_P side cnt) (hA : wok A (Cs_d side cnt) m) (h0 : 0 ≤ i ∧ i < (side * side)) (hx : 0 ≤ x ∧ x < 3) : pm_rd pm_isI (wput A (Cs_d side cnt) S h) (A (22, i, 0)) x = some (S.1 (22, i, 0) x) := (w_rd (t := .int) hA (Cs_d22 h0) rfl (by decide) (by decide)).trans (if_pos hx)
theorem Cs_w22 (hP : Cs_P side cnt) (hA : wok A (Cs_d side cnt) m) (h0 : 0 ≤ i ∧ i < (side * side)) (hx : 0 ≤ x ∧ x < 3) : pm_wr pm_wI (wput A (Cs_d side cnt) S h) (A (22, i, 0)) x v = some (wput A (Cs_d side cnt) (sz S (22, i, 0) x v) h) := (w_wr (t := .int) hA (Cs_d22 h0) rfl (by decide) (by decide)).trans (if_pos hx)
end
/-- TimberHouse$SawGrids.can(Z)V -/
theorem c130 {d : Nat} {h : pm_H} {x0 : Int32} : pm_call pm_prog (d + 1) 130 [.int x0] h = pm_ev pm_prog (pm_call pm_prog d) 130 0 b130_0 [.int x0] [] h := pm_cal (pm_rc0 rfl) rfl rfl rfl
theorem g130_1 {cl : pm_C} {ls st : List Value} {h : pm_H} : pm_go pm_prog cl 130 1 ls st h = pm_ev pm_prog cl 130 1 b130_1 ls st h := pm_go_eq pm_prog cl 130 1 ls st h
theorem t130 {cl : pm_C} {j : Nat} {ls : List Value} {c : Nat} {h : pm_H} : pm_thr pm_prog cl 130 j ls c h = some (.threw c, h) := rfl
/-- TimberHouse$SawGrids.can(Z)V -/
noncomputable def f130 (x0 : Int32) : Option (Nat ⊕ (Unit)) :=
  if x0 = 0 then
    some (.inl 71)
  else
    some (.inr ())
theorem x130 {h : pm_H} {D : Nat} {x0 : Int32} {r : Nat ⊕ (Unit)} (hD : 1 ≤ D) (e : f130 x0 = some r) : pm_call pm_prog D 130 [.int x0] h = some (match (generalizing := false) r with | .inl c => (Outcome.threw c, (pm_new h 6 (.inr (c, [])))) | .inr _ => (Outcome.returned none, h)) := by
  obtain ⟨D, rfl⟩ : ∃ D', D = D' + 1 := ⟨D - 1, by omega⟩
  have hD : 0 ≤ D := by omega
  simp only [f130] at e
  rw [c130, b130_0]
  by_cases k1 : x0 = 0
  · rw [if_pos k1] at e
    have e := Option.some.inj e; subst e
    simp -implicitDefEqProofs (disch := first | assumption | exact Nat.le_of_ble_eq_true rfl | decide) only [b130_0, g130_1, b130_1, pe_iload0, pe_if_ne, pe_return, pm_prog_1, pm_ob_some, Nat.reduceDiv, Nat.reduceMod, Nat.reduceMul, Nat.reduceAdd, Int.reduceToNat, pm_kill_i, pm_kill_r, pm_kill_n, pm_kill_j, pm_kill_l, pm_kill_d, pm_cats_nil, pm_cats_i, pm_cats_r, pm_cats_n, pm_cats_l, pm_cats_d, sz_1, sz_2, sl_1, sl_2, lc_0, lc_lt, lc_le, li_ne, va_rf, wr_m1, we_m1, pm_kill_w, Int32.reduceOfInt, Int64.reduceOfInt, Int32.reduceOfNat, Int32.reduceLT, Int32.reduceLE, Prod.mk.injEq, Nat.reduceEqDiff, reduceCtorEq, and_true, true_and, and_false, false_and, and_self, ite_true, ite_false, ↓reduceIte, not_true_eq_false, not_false_eq_true, pe_ri, pe_rz, pe_rc, p_throw, t130, eq_true k1]
  · rw [if_neg k1] at e
    have e := Option.some.inj e; subst e
    simp -implicitDefEqProofs (disch := first | assumption | exact Nat.le_of_ble_eq_true rfl | decide) only [b130_0, g130_1, b130_1, pe_iload0, pe_if_ne, pe_return, pm_prog_1, pm_ob_some, Nat.reduceDiv, Nat.reduceMod, Nat.reduceMul, Nat.reduceAdd, Int.reduceToNat, pm_kill_i, pm_kill_r, pm_kill_n, pm_kill_j, pm_kill_l, pm_kill_d, pm_cats_nil, pm_cats_i, pm_cats_r, pm_cats_n, pm_cats_l, pm_cats_d, sz_1, sz_2, sl_1, sl_2, lc_0, lc_lt, lc_le, li_ne, va_rf, wr_m1, we_m1, pm_kill_w, Int32.reduceOfInt, Int64.reduceOfInt, Int32.reduceOfNat, Int32.reduceLT, Int32.reduceLE, Prod.mk.injEq, Nat.reduceEqDiff, reduceCtorEq, and_true, true_and, and_false, false_and, and_self, ite_true, ite_false, ↓reduceIte, not_true_eq_false, not_false_eq_true, pe_ri, pe_rz, pe_rc, p_throw, t130, eq_false k1]
/-- TimberHouse$SawGrids.isIn(III)Z -/
theorem c131 {d : Nat} {h : pm_H} {x0 : Int32} {x1 : Int32} {x2 : Int32} : pm_call pm_prog (d + 1) 131 [.int x0, .int x1, .int x2] h = pm_ev pm_prog (pm_call pm_prog d) 131 0 b131_0 [.int x0, .int x1, .int x2] [] h := pm_cal (pm_rc0 rfl) rfl rfl rfl
theorem g131_1 {cl : pm_C} {ls st : List Value} {h : pm_H} : pm_go pm_prog cl 131 1 ls st h = pm_ev pm_prog cl 131 1 b131_1 ls st h := pm_go_eq pm_prog cl 131 1 ls st h
theorem g131_2 {cl : pm_C} {ls st : List Value} {h : pm_H} : pm_go pm_prog cl 131 2 ls st h = pm_ev pm_prog cl 131 2 b131_2 ls st h := pm_go_eq pm_prog cl 131 2 ls st h
/-- TimberHouse$SawGrids.isIn(III)Z -/
noncomputable def f131 (x0 : Int32) (x1 : Int32) (x2 : Int32) : Option (Int32) :=
  if x0 < x1 then
    some 0
  else
    if x0 ≤ x2 then
      some 1
    else
      some 0
theorem x131 {h : pm_H} {D : Nat} {x0 : Int32} {x1 : Int32} {x2 : Int32} {r : Int32} (hD : 1 ≤ D) (e : f131 x0 x1 x2 = some r) : pm_call pm_prog D 131 [.int x0, .int x1, .int x2] h = some (Outcome.returned (some (.int r)), h) := by
  obtain ⟨D, rfl⟩ : ∃ D', D = D' + 1 := ⟨D - 1, by omega⟩
  have hD : 0 ≤ D := by omega
  simp only [f131] at e
  rw [c131, b131_0]
  by_cases k1 : x0 < x1
  · rw [if_pos k1] at e
    have e := Option.some.inj e; subst e
    simp -implicitDefEqProofs (disch := first | assumption | exact Nat.le_of_ble_eq_true rfl | decide) only [b131_0, g131_1, b131_1, g131_2, b131_2, pe_iload0, pe_iload1, pe_icmp_lt, pe_iload2, pe_icmp_gt, pe_sipush, pe_goto, pe_goto_w, pm_prog_1, pm_ob_some, Nat.reduceDiv, Nat.reduceMod, Nat.reduceMul, Nat.reduceAdd, Int.reduceToNat, pm_kill_i, pm_kill_r, pm_kill_n, pm_kill_j, pm_kill_l, pm_kill_d, pm_cats_nil, pm_cats_i, pm_cats_r, pm_cats_n, pm_cats_l, pm_cats_d, sz_1, sz_2, sl_1, sl_2, lc_0, lc_lt, lc_le, li_ne, va_rf, wr_m1, we_m1, pm_kill_w, Int32.reduceOfInt, Int64.reduceOfInt, Int32.reduceOfNat, Int32.reduceLT, Int32.reduceLE, Prod.mk.injEq, Nat.reduceEqDiff, reduceCtorEq, and_true, true_and, and_false, false_and, and_self, ite_true, ite_false, ↓reduceIte, not_true_eq_false, not_false_eq_true, pe_ri, pe_rz, pe_rc, eq_true k1]
  · rw [if_neg k1] at e
    by_cases k2 : x0 ≤ x2
    · rw [if_pos k2] at e
      have e := Option.some.inj e; subst e
      simp -implicitDefEqProofs (disch := first | assumption | exact Nat.le_of_ble_eq_true rfl | decide) only [b131_0, g131_1, b131_1, g131_2, b131_2, pe_iload0, pe_iload1, pe_icmp_lt, pe_iload2, pe_icmp_gt, pe_sipush, pe_goto, pe_goto_w, pm_prog_1, pm_ob_some, Nat.reduceDiv, Nat.reduceMod, Nat.reduceMul, Nat.reduceAdd, Int.reduceToNat, pm_kill_i, pm_kill_r, pm_kill_n, pm_kill_j, pm_kill_l, pm_kill_d, pm_cats_nil, pm_cats_i, pm_cats_r, pm_cats_n, pm_cats_l, pm_cats_d, sz_1, sz_2, sl_1, sl_2, lc_0, lc_lt, lc_le, li_ne, va_rf, wr_m1, we_m1, pm_kill_w, Int32.reduceOfInt, Int64.reduceOfInt, Int32.reduceOfNat, Int32.reduceLT, Int32.reduceLE, Prod.mk.injEq, Nat.reduceEqDiff, reduceCtorEq, and_true, true_and, and_false, false_and, and_self, ite_true, ite_false, ↓reduceIte, not_true_eq_false, not_false_eq_true, pe_ri, pe_rz, pe_rc, eq_false k1, eq_true k2]
    · rw [if_neg k2] at e
      have e := Option.some.inj e; subst e
      simp -implicitDefEqProofs (disch := first | assumption | exact Nat.le_of_ble_eq_true rfl | decide) only [b131_0, g131_1, b131_1, g131_2, b131_2, pe_iload0, pe_iload1, pe_icmp_lt, pe_iload2, pe_icmp_gt, pe_sipush, pe_goto, pe_goto_w, pm_prog_1, pm_ob_some, Nat.reduceDiv, Nat.reduceMod, Nat.reduceMul, Nat.reduceAdd, Int.reduceToNat, pm_kill_i, pm_kill_r, pm_kill_n, pm_kill_j, pm_kill_l, pm_kill_d, pm_cats_nil, pm_cats_i, pm_cats_r, pm_cats_n, pm_cats_l, pm_cats_d, sz_1, sz_2, sl_1, sl_2, lc_0, lc_lt, lc_le, li_ne, va_rf, wr_m1, we_m1, pm_kill_w, Int32.reduceOfInt, Int64.reduceOfInt, Int32.reduceOfNat, Int32.reduceLT, Int32.reduceLE, Prod.mk.injEq, Nat.reduceEqDiff, reduceCtorEq, and_true, true_and, and_false, false_and, and_self, ite_true, ite_false, ↓reduceIte, not_true_eq_false, not_false_eq_true, pe_ri, pe_rz, pe_rc, eq_false k1, eq_false k2]
/-- TimberHouse$SawGrids.there(Z)V -/
theorem c132 {d : Nat} {h : pm_H} {x0 : Int32} : pm_call pm_prog (d + 1) 132 [.int x0] h = pm_ev pm_prog (pm_call pm_prog d) 132 0 b132_0 [.int x0] [] h := pm_cal (pm_rc0 rfl) rfl rfl rfl
theorem g132_1 {cl : pm_C} {ls st : List Value} {h : pm_H} : pm_go pm_prog cl 132 1 ls st h = pm_ev pm_prog cl 132 1 b132_1 ls st h := pm_go_eq pm_prog cl 132 1 ls st h
theorem t132 {cl : pm_C} {j : Nat} {ls : List Value} {c : Nat} {h : pm_H} : pm_thr pm_prog cl 132 j ls c h = some (.threw c, h) := rfl
/-- TimberHouse$SawGrids.there(Z)V -/
noncomputable def f132 (x0 : Int32) : Option (Nat ⊕ (Unit)) :=
  if x0 = 0 then
    some (.inl 67)
  else
    some (.inr ())
theorem x132 {h : pm_H} {D : Nat} {x0 : Int32} {r : Nat ⊕ (Unit)} (hD : 1 ≤ D) (e : f132 x0 = some r) : pm_call pm_prog D 132 [.int x0] h = some (match (generalizing := false) r with | .inl c => (Outcome.threw c, (pm_new h 6 (.inr (c, [])))) | .inr _ => (Outcome.returned none, h)) := by
  obtain ⟨D, rfl⟩ : ∃ D', D = D' + 1 := ⟨D - 1, by omega⟩
  have hD : 0 ≤ D := by omega
  simp only [f132] at e
  rw [c132, b132_0]
  by_cases k1 : x0 = 0
  · rw [if_pos k1] at e
    have e := Option.some.inj e; subst e
    simp -implicitDefEqProofs (disch := first | assumption | exact Nat.le_of_ble_eq_true rfl | decide) only [b132_0, g132_1, b132_1, pe_iload0, pe_if_ne, pe_return, pm_prog_1, pm_ob_some, Nat.reduceDiv, Nat.reduceMod, Nat.reduceMul, Nat.reduceAdd, Int.reduceToNat, pm_kill_i, pm_kill_r, pm_kill_n, pm_kill_j, pm_kill_l, pm_kill_d, pm_cats_nil, pm_cats_i, pm_cats_r, pm_cats_n, pm_cats_l, pm_cats_d, sz_1, sz_2, sl_1, sl_2, lc_0, lc_lt, lc_le, li_ne, va_rf, wr_m1, we_m1, pm_kill_w, Int32.reduceOfInt, Int64.reduceOfInt, Int32.reduceOfNat, Int32.reduceLT, Int32.reduceLE, Prod.mk.injEq, Nat.reduceEqDiff, reduceCtorEq, and_true, true_and, and_false, false_and, and_self, ite_true, ite_false, ↓reduceIte, not_true_eq_false, not_false_eq_true, pe_ri, pe_rz, pe_rc, p_throw, t132, eq_true k1]
  · rw [if_neg k1] at e
    have e := Option.some.inj e; subst e
    simp -implicitDefEqProofs (disch := first | assumption | exact Nat.le_of_ble_eq_true rfl | decide) only [b132_0, g132_1, b132_1, pe_iload0, pe_if_ne, pe_return, pm_prog_1, pm_ob_some, Nat.reduceDiv, Nat.reduceMod, Nat.reduceMul, Nat.reduceAdd, Int.reduceToNat, pm_kill_i, pm_kill_r, pm_kill_n, pm_kill_j, pm_kill_l, pm_kill_d, pm_cats_nil, pm_cats_i, pm_cats_r, pm_cats_n, pm_cats_l, pm_cats_d, sz_1, sz_2, sl_1, sl_2, lc_0, lc_lt, lc_le, li_ne, va_rf, wr_m1, we_m1, pm_kill_w, Int32.reduceOfInt, Int64.reduceOfInt, Int32.reduceOfNat, Int32.reduceLT, Int32.reduceLE, Prod.mk.injEq, Nat.reduceEqDiff, reduceCtorEq, and_true, true_and, and_false, false_and, and_self, ite_true, ite_false, ↓reduceIte, not_true_eq_false, not_false_eq_true, pe_ri, pe_rz, pe_rc, p_throw, t132, eq_false k1]
/-- TimberHouse$SawGrids.view(I)LTimberHouse$SawGrids$View; -/
theorem c133 {d : Nat} {h : pm_H} {a : Nat} {x0 : Int32} (hc : pm_cls h a = some 2) : pm_call pm_prog (d + 1) 133 [.ref a, .int x0] h = pm_ev pm_prog (pm_call pm_prog d) 133 0 b133_0 [.ref a, .int x0] [] h := pm_cal (pm_rc1 hc rfl) rfl rfl rfl
theorem g133_1 {cl : pm_C} {ls st : List Value} {h : pm_H} : pm_go pm_prog cl 133 1 ls st h = pm_ev pm_prog cl 133 1 b133_1 ls st h := pm_go_eq pm_prog cl 133 1 ls st h
theorem g133_2 {cl : pm_C} {ls st : List Value} {h : pm_H} : pm_go pm_prog cl 133 2 ls st h = pm_ev pm_prog cl 133 2 b133_2 ls st h := pm_go_eq pm_prog cl 133 2 ls st h
/-- TimberHouse$SawGrids.view(I)LTimberHouse$SawGrids$View; -/
noncomputable def f133 (side : Int32) (cnt : Int32) (S : wS) (x1 : Int32) : Option (Int32) :=
  if x1 = 0 then
    some 0
  else
    some 1
theorem x133 {side : Int32} {cnt : Int32} {A : wK → Nat} {h : pm_H} {D : Nat} {S : wS} {x1 : Int32} {r : Int32} (hP : Cs_P side cnt) (hA : wok A (Cs_d side cnt) h.1) (hD : 1 ≤ D) (e : f133 side cnt S x1 = some r) : pm_call pm_prog D 133 [.ref (A (0, 0, 0)), .int x1] (wput A (Cs_d side cnt) S h) = some (Outcome.returned (some (.ref (A (10, r, 0)))), (wput A (Cs_d side cnt) S h)) := by
  obtain ⟨D, rfl⟩ : ∃ D', D = D' + 1 := ⟨D - 1, by omega⟩
  have hD : 0 ≤ D := by omega
  simp only [f133] at e
  rw [c133 (Cs_c0 hP hA), b133_0]
  by_cases k1 : x1 = 0
  · rw [if_pos k1] at e
    have e := Option.some.inj e; subst e
    simp -implicitDefEqProofs (disch := first | assumption | exact Nat.le_of_ble_eq_true rfl | decide) only [b133_0, g133_1, b133_1, g133_2, b133_2, pe_iload1, pe_if_ne, pe_aload0, pe_getfield, pe_goto, pe_goto_w, pe_areturn, pm_prog_1, pm_ob_some, Nat.reduceDiv, Nat.reduceMod, Nat.reduceMul, Nat.reduceAdd, Int.reduceToNat, pm_kill_i, pm_kill_r, pm_kill_n, pm_kill_j, pm_kill_l, pm_kill_d, pm_cats_nil, pm_cats_i, pm_cats_r, pm_cats_n, pm_cats_l, pm_cats_d, sz_1, sz_2, sl_1, sl_2, lc_0, lc_lt, lc_le, li_ne, va_rf, wr_m1, we_m1, pm_kill_w, Int32.reduceOfInt, Int64.reduceOfInt, Int32.reduceOfNat, Int32.reduceLT, Int32.reduceLE, Prod.mk.injEq, Nat.reduceEqDiff, reduceCtorEq, and_true, true_and, and_false, false_and, and_self, ite_true, ite_false, ↓reduceIte, not_true_eq_false, not_false_eq_true, pe_ri, pe_rz, pe_rc, Cs_g0_7 hP hA, Cs_g0_8 hP hA, eq_true k1]
  · rw [if_neg k1] at e
    have e := Option.some.inj e; subst e
    simp -implicitDefEqProofs (disch := first | assumption | exact Nat.le_of_ble_eq_true rfl | decide) only [b133_0, g133_1, b133_1, g133_2, b133_2, pe_iload1, pe_if_ne, pe_aload0, pe_getfield, pe_goto, pe_goto_w, pe_areturn, pm_prog_1, pm_ob_some, Nat.reduceDiv, Nat.reduceMod, Nat.reduceMul, Nat.reduceAdd, Int.reduceToNat, pm_kill_i, pm_kill_r, pm_kill_n, pm_kill_j, pm_kill_l, pm_kill_d, pm_cats_nil, pm_cats_i, pm_cats_r, pm_cats_n, pm_cats_l, pm_cats_d, sz_1, sz_2, sl_1, sl_2, lc_0, lc_lt, lc_le, li_ne, va_rf, wr_m1, we_m1, pm_kill_w, Int32.reduceOfInt, Int64.reduceOfInt, Int32.reduceOfNat, Int32.reduceLT, Int32.reduceLE, Prod.mk.injEq, Nat.reduceEqDiff, reduceCtorEq, and_true, true_and, and_false, false_and, and_self, ite_true, ite_false, ↓reduceIte, not_true_eq_false, not_false_eq_true, pe_ri, pe_rz, pe_rc, Cs_g0_7 hP hA, Cs_g0_8 hP hA, eq_false k1]
/-- TimberHouse$SawGrids$View.within([[IIIII)I -/
theorem c194 {d : Nat} {h : pm_H} {r0 : Nat} {x1 : Int32} {x2 : Int32} {x3 : Int32} {x4 : Int32} : pm_call pm_prog (d + 1) 194 [.ref r0, .int x1, .int x2, .int x3, .int x4] h = pm_ev pm_prog (pm_call pm_prog d) 194 0 b194_0 [.ref r0, .int x1, .int x2, .int x3, .int x4] [] h := pm_cal (pm_rc0 rfl) rfl rfl rfl
/-- TimberHouse$SawGrids$View.within([[IIIII)I -/
noncomputable def f194 (side : Int32) (cnt : Int32) (S : wS) (x0i : Int32) (x1 : Int32) (x2 : Int32) (x3 : Int32) (x4 : Int32) : Option (Int32) :=
  if 0 ≤ x0i ∧ x0i < 2 then
    if 0 ≤ (x2 + x4) ∧ (x2 + x4) < (side + 1) then
      if 0 ≤ (x1 + x3) ∧ (x1 + x3) < (side + 1) then
        if 0 ≤ x2 ∧ x2 < (side + 1) then
          if 0 ≤ x1 ∧ x1 < (side + 1) then
            some ((((S.1 (14, x0i, (x2 + x4)) (x1 + x3)) - (S.1 (14, x0i, x2) (x1 + x3))) - (S.1 (14, x0i, (x2 + x4)) x1)) + (S.1 (14, x0i, x2) x1))
          else none
        else none
      else none
    else none
  else none
theorem x194 {side : Int32} {cnt : Int32} {A : wK → Nat} {h : pm_H} {D : Nat} {S : wS} {x0i : Int32} {x1 : Int32} {x2 : Int32} {x3 : Int32} {x4 : Int32} {r : Int32} (hP : Cs_P side cnt) (hA : wok A (Cs_d side cnt) h.1) (hD : 1 ≤ D) (e : f194 side cnt S x0i x1 x2 x3 x4 = some r) : pm_call pm_prog D 194 [.ref (A (13, x0i, 0)), .int x1, .int x2, .int x3, .int x4] (wput A (Cs_d side cnt) S h) = some (Outcome.returned (some (.int r)), (wput A (Cs_d side cnt) S h)) := by
  obtain ⟨D, rfl⟩ : ∃ D', D = D' + 1 := ⟨D - 1, by omega⟩
  have hD : 0 ≤ D := by omega
  simp only [f194] at e
  have k1 : 0 ≤ x0i ∧ x0i < 2 := by
    by_cases q : 0 ≤ x0i ∧ x0i < 2
    · exact q
    · rw [if_neg q] at e; cases e
  rw [if_pos k1] at e
  rw [c194, b194_0]
  by_cases k2 : 0 ≤ (x2 + x4) ∧ (x2 + x4) < (side + 1)
  · rw [if_pos k2] at e
    by_cases k3 : 0 ≤ (x1 + x3) ∧ (x1 + x3) < (side + 1)
    · rw [if_pos k3] at e
      by_cases k4 : 0 ≤ x2 ∧ x2 < (side + 1)
      · rw [if_pos k4] at e
        by_cases k5 : 0 ≤ x1 ∧ x1 < (side + 1)
        · rw [if_pos k5] at e
          have e := Option.some.inj e; subst e
          simp -implicitDefEqProofs (disch := first | assumption | exact Nat.le_of_ble_eq_true rfl | decide) only [b194_0, pe_aload0, pe_iload2, pe_iload4, pe_iadd, pe_aaload, pe_iload1, pe_iload3, pe_iaload, pe_isub, pm_prog_1, pm_ob_some, Nat.reduceDiv, Nat.reduceMod, Nat.reduceMul, Nat.reduceAdd, Int.reduceToNat, pm_kill_i, pm_kill_r, pm_kill_n, pm_kill_j, pm_kill_l, pm_kill_d, pm_cats_nil, pm_cats_i, pm_cats_r, pm_cats_n, pm_cats_l, pm_cats_d, sz_1, sz_2, sl_1, sl_2, lc_0, lc_lt, lc_le, li_ne, va_rf, wr_m1, we_m1, pm_kill_w, Int32.reduceOfInt, Int64.reduceOfInt, Int32.reduceOfNat, Int32.reduceLT, Int32.reduceLE, Prod.mk.injEq, Nat.reduceEqDiff, reduceCtorEq, and_true, true_and, and_false, false_and, and_self, ite_true, ite_false, ↓reduceIte, not_true_eq_false, not_false_eq_true, pe_ri, pe_rz, pe_rc, Cs_r13 hP hA, Cs_r14 hP hA]
        · rw [if_neg k5] at e; cases e
      · rw [if_neg k4] at e; cases e
    · rw [if_neg k3] at e; cases e
  · rw [if_neg k2] at e; cases e
/-- TimberHouse$SawGrids$View.worth(LTimberHouse$SawGrids$Size;II)I -/
theorem c193 {d : Nat} {h : pm_H} {a : Nat} {r0 : Nat} {x1 : Int32} {x2 : Int32} (hc : pm_cls h a = some 3) : pm_call pm_prog (d + 1) 193 [.ref a, .ref r0, .int x1, .int x2] h = pm_ev pm_prog (pm_call pm_prog d) 193 0 b193_0 [.ref a, .ref r0, .int x1, .int x2] [] h := pm_cal (pm_rc1 hc rfl) rfl rfl rfl
/-- TimberHouse$SawGrids$View.worth(LTimberHouse$SawGrids$Size;II)I -/
noncomputable def f193 (side : Int32) (cnt : Int32) (S : wS) (x0i : Int32) (x1i : Int32) (x2 : Int32) (x3 : Int32) : Option (Int32) :=
  if 0 ≤ x0i ∧ x0i < 2 then
    if 0 ≤ x1i ∧ x1i < cnt then
      (f194 side cnt S x0i x2 x3 (S.1 (9, x1i, 0) 1) (S.1 (9, x1i, 0) 0)).bind fun v1 =>
      (f3841 0 ((S.1 (9, x1i, 0) 2) - v1)).bind fun v2 =>
      some v2
    else none
  else none
theorem x193 {side : Int32} {cnt : Int32} {A : wK → Nat} {h : pm_H} {D : Nat} {S : wS} {x0i : Int32} {x1i : Int32} {x2 : Int32} {x3 : Int32} {r : Int32} (hP : Cs_P side cnt) (hA : wok A (Cs_d side cnt) h.1) (hD : 2 ≤ D) (e : f193 side cnt S x0i x1i x2 x3 = some r) : pm_call pm_prog D 193 [.ref (A (10, x0i, 0)), .ref (A (9, x1i, 0)), .int x2, .int x3] (wput A (Cs_d side cnt) S h) = some (Outcome.returned (some (.int r)), (wput A (Cs_d side cnt) S h)) := by
  obtain ⟨D, rfl⟩ : ∃ D', D = D' + 1 := ⟨D - 1, by omega⟩
  have hD : 1 ≤ D := by omega
  simp only [f193] at e
  have k1 : 0 ≤ x0i ∧ x0i < 2 := by
    by_cases q : 0 ≤ x0i ∧ x0i < 2
    · exact q
    · rw [if_neg q] at e; cases e
  rw [if_pos k1] at e
  have k2 : 0 ≤ x1i ∧ x1i < cnt := by
    by_cases q : 0 ≤ x1i ∧ x1i < cnt
    · exact q
    · rw [if_neg q] at e; cases e
  rw [if_pos k2] at e
  rw [c193 (Cs_c10 hP hA k1), b193_0]
  obtain ⟨v1, k3, e⟩ := Option.bind_eq_some_iff.mp e
  try dsimp only at e
  have z3 := x194 (D := D) (h := h) hP hA (by omega) k3
  obtain ⟨v2, k4, e⟩ := Option.bind_eq_some_iff.mp e
  try dsimp only at e
  have z4 := fun h => x3841 (D := D) (h := h) (by omega) k4
  have e := Option.some.inj e; subst e
  simp -implicitDefEqProofs (disch := first | assumption | exact Nat.le_of_ble_eq_true rfl | decide) only [b193_0, pe_sipush, pe_aload1, pe_getfield, pe_aload0, pe_iload2, pe_iload3, pe_call5, pm_af_ret, pm_af_void, pm_af_thr, pe_isub, pe_call2, pm_prog_1, pm_ob_some, Nat.reduceDiv, Nat.reduceMod, Nat.reduceMul, Nat.reduceAdd, Int.reduceToNat, pm_kill_i, pm_kill_r, pm_kill_n, pm_kill_j, pm_kill_l, pm_kill_d, pm_cats_nil, pm_cats_i, pm_cats_r, pm_cats_n, pm_cats_l, pm_cats_d, sz_1, sz_2, sl_1, sl_2, lc_0, lc_lt, lc_le, li_ne, va_rf, wr_m1, we_m1, pm_kill_w, Int32.reduceOfInt, Int64.reduceOfInt, Int32.reduceOfNat, Int32.reduceLT, Int32.reduceLE, Prod.mk.injEq, Nat.reduceEqDiff, reduceCtorEq, and_true, true_and, and_false, false_and, and_self, ite_true, ite_false, ↓reduceIte, not_true_eq_false, not_false_eq_true, pe_ri, pe_rz, pe_rc, Cs_g10_3 hP hA, Cs_g9_0 hP hA, Cs_g9_1 hP hA, Cs_g9_2 hP hA, z3, z4]
/-- TimberHouse$SawGrids$View.within([[IIIII)I -/
noncomputable def f194v1 (side : Int32) (cnt : Int32) (S : wS) (x0i : Int32) (x1 : Int32) (x2 : Int32) (x3 : Int32) (x4 : Int32) : Option (Int32) :=
  if 0 ≤ x0i ∧ x0i < 2 then
    if 0 ≤ (x2 + x4) ∧ (x2 + x4) < (side + 1) then
      if 0 ≤ (x1 + x3) ∧ (x1 + x3) < (side + 1) then
        if 0 ≤ x2 ∧ x2 < (side + 1) then
          if 0 ≤ x1 ∧ x1 < (side + 1) then
            some ((((S.1 (12, x0i, (x2 + x4)) (x1 + x3)) - (S.1 (12, x0i, x2) (x1 + x3))) - (S.1 (12, x0i, (x2 + x4)) x1)) + (S.1 (12, x0i, x2) x1))
          else none
        else none
      else none
    else none
  else none
theorem x194v1 {side : Int32} {cnt : Int32} {A : wK → Nat} {h : pm_H} {D : Nat} {S : wS} {x0i : Int32} {x1 : Int32} {x2 : Int32} {x3 : Int32} {x4 : Int32} {r : Int32} (hP : Cs_P side cnt) (hA : wok A (Cs_d side cnt) h.1) (hD : 1 ≤ D) (e : f194v1 side cnt S x0i x1 x2 x3 x4 = some r) : pm_call pm_prog D 194 [.ref (A (11, x0i, 0)), .int x1, .int x2, .int x3, .int x4] (wput A (Cs_d side cnt) S h) = some (Outcome.returned (some (.int r)), (wput A (Cs_d side cnt) S h)) := by
  obtain ⟨D, rfl⟩ : ∃ D', D = D' + 1 := ⟨D - 1, by omega⟩
  have hD : 0 ≤ D := by omega
  simp only [f194v1] at e
  have k1 : 0 ≤ x0i ∧ x0i < 2 := by
    by_cases q : 0 ≤ x0i ∧ x0i < 2
    · exact q
    · rw [if_neg q] at e; cases e
  rw [if_pos k1] at e
  rw [c194, b194_0]
  by_cases k2 : 0 ≤ (x2 + x4) ∧ (x2 + x4) < (side + 1)
  · rw [if_pos k2] at e
    by_cases k3 : 0 ≤ (x1 + x3) ∧ (x1 + x3) < (side + 1)
    · rw [if_pos k3] at e
      by_cases k4 : 0 ≤ x2 ∧ x2 < (side + 1)
      · rw [if_pos k4] at e
        by_cases k5 : 0 ≤ x1 ∧ x1 < (side + 1)
        · rw [if_pos k5] at e
          have e := Option.some.inj e; subst e
          simp -implicitDefEqProofs (disch := first | assumption | exact Nat.le_of_ble_eq_true rfl | decide) only [b194_0, pe_aload0, pe_iload2, pe_iload4, pe_iadd, pe_aaload, pe_iload1, pe_iload3, pe_iaload, pe_isub, pm_prog_1, pm_ob_some, Nat.reduceDiv, Nat.reduceMod, Nat.reduceMul, Nat.reduceAdd, Int.reduceToNat, pm_kill_i, pm_kill_r, pm_kill_n, pm_kill_j, pm_kill_l, pm_kill_d, pm_cats_nil, pm_cats_i, pm_cats_r, pm_cats_n, pm_cats_l, pm_cats_d, sz_1, sz_2, sl_1, sl_2, lc_0, lc_lt, lc_le, li_ne, va_rf, wr_m1, we_m1, pm_kill_w, Int32.reduceOfInt, Int64.reduceOfInt, Int32.reduceOfNat, Int32.reduceLT, Int32.reduceLE, Prod.mk.injEq, Nat.reduceEqDiff, reduceCtorEq, and_true, true_and, and_false, false_and, and_self, ite_true, ite_false, ↓reduceIte, not_true_eq_false, not_false_eq_true, pe_ri, pe_rz, pe_rc, Cs_r11 hP hA, Cs_r12 hP hA]
        · rw [if_neg k5] at e; cases e
      · rw [if_neg k4] at e; cases e
    · rw [if_neg k3] at e; cases e
  · rw [if_neg k2] at e; cases e
/-- TimberHouse$SawGrids$View.missing(LTimberHouse$SawGrids$Size;II)I -/
theorem c195 {d : Nat} {h : pm_H} {a : Nat} {r0 : Nat} {x1 : Int32} {x2 : Int32} (hc : pm_cls h a = some 3) : pm_call pm_prog (d + 1) 195 [.ref a, .ref r0, .int x1, .int x2] h = pm_ev pm_prog (pm_call pm_prog d) 195 0 b195_0 [.ref a, .ref r0, .int x1, .int x2] [] h := pm_cal (pm_rc1 hc rfl) rfl rfl rfl
/-- TimberHouse$SawGrids$View.missing(LTimberHouse$SawGrids$Size;II)I -/
noncomputable def f195 (side : Int32) (cnt : Int32) (S : wS) (x0i : Int32) (x1i : Int32) (x2 : Int32) (x3 : Int32) : Option (Int32) :=
  if 0 ≤ x0i ∧ x0i < 2 then
    if 0 ≤ x1i ∧ x1i < cnt then
      (f194v1 side cnt S x0i x2 x3 (S.1 (9, x1i, 0) 1) (S.1 (9, x1i, 0) 0)).bind fun v1 =>
      some v1
    else none
  else none
theorem x195 {side : Int32} {cnt : Int32} {A : wK → Nat} {h : pm_H} {D : Nat} {S : wS} {x0i : Int32} {x1i : Int32} {x2 : Int32} {x3 : Int32} {r : Int32} (hP : Cs_P side cnt) (hA : wok A (Cs_d side cnt) h.1) (hD : 2 ≤ D) (e : f195 side cnt S x0i x1i x2 x3 = some r) : pm_call pm_prog D 195 [.ref (A (10, x0i, 0)), .ref (A (9, x1i, 0)), .int x2, .int x3] (wput A (Cs_d side cnt) S h) = some (Outcome.returned (some (.int r)), (wput A (Cs_d side cnt) S h)) := by
  obtain ⟨D, rfl⟩ : ∃ D', D = D' + 1 := ⟨D - 1, by omega⟩
  have hD : 1 ≤ D := by omega
  simp only [f195] at e
  have k1 : 0 ≤ x0i ∧ x0i < 2 := by
    by_cases q : 0 ≤ x0i ∧ x0i < 2
    · exact q
    · rw [if_neg q] at e; cases e
  rw [if_pos k1] at e
  have k2 : 0 ≤ x1i ∧ x1i < cnt := by
    by_cases q : 0 ≤ x1i ∧ x1i < cnt
    · exact q
    · rw [if_neg q] at e; cases e
  rw [if_pos k2] at e
  rw [c195 (Cs_c10 hP hA k1), b195_0]
  obtain ⟨v1, k3, e⟩ := Option.bind_eq_some_iff.mp e
  try dsimp only at e
  have z3 := x194v1 (D := D) (h := h) hP hA (by omega) k3
  have e := Option.some.inj e; subst e
  simp -implicitDefEqProofs (disch := first | assumption | exact Nat.le_of_ble_eq_true rfl | decide) only [b195_0, pe_aload0, pe_getfield, pe_iload2, pe_iload3, pe_aload1, pe_call5, pm_af_ret, pm_af_void, pm_af_thr, pm_prog_1, pm_ob_some, Nat.reduceDiv, Nat.reduceMod, Nat.reduceMul, Nat.reduceAdd, Int.reduceToNat, pm_kill_i, pm_kill_r, pm_kill_n, pm_kill_j, pm_kill_l, pm_kill_d, pm_cats_nil, pm_cats_i, pm_cats_r, pm_cats_n, pm_cats_l, pm_cats_d, sz_1, sz_2, sl_1, sl_2, lc_0, lc_lt, lc_le, li_ne, va_rf, wr_m1, we_m1, pm_kill_w, Int32.reduceOfInt, Int64.reduceOfInt, Int32.reduceOfNat, Int32.reduceLT, Int32.reduceLE, Prod.mk.injEq, Nat.reduceEqDiff, reduceCtorEq, and_true, true_and, and_false, false_and, and_self, ite_true, ite_false, ↓reduceIte, not_true_eq_false, not_false_eq_true, pe_ri, pe_rz, pe_rc, Cs_g10_2 hP hA, Cs_g9_0 hP hA, Cs_g9_1 hP hA, z3]
/-- TimberHouse$SawGrids.board(II)I -/
theorem c129 {d : Nat} {h : pm_H} {a : Nat} {x0 : Int32} {x1 : Int32} (hc : pm_cls h a = some 2) : pm_call pm_prog (d + 1) 129 [.ref a, .int x0, .int x1] h = pm_ev pm_prog (pm_call pm_prog d) 129 0 b129_0 [.ref a, .int x0, .int x1, pm_junk, pm_junk, pm_junk] [] h := pm_cal (pm_rc1 hc rfl) rfl rfl rfl
theorem g129_1 {cl : pm_C} {ls st : List Value} {h : pm_H} : pm_go pm_prog cl 129 1 ls st h = pm_ev pm_prog cl 129 1 b129_1 ls st h := pm_go_eq pm_prog cl 129 1 ls st h
theorem g129_2 {cl : pm_C} {ls st : List Value} {h : pm_H} : pm_go pm_prog cl 129 2 ls st h = pm_ev pm_prog cl 129 2 b129_2 ls st h := pm_go_eq pm_prog cl 129 2 ls st h
theorem g129_3 {cl : pm_C} {ls st : List Value} {h : pm_H} : pm_go pm_prog cl 129 3 ls st h = pm_ev pm_prog cl 129 3 b129_3 ls st h := pm_go_eq pm_prog cl 129 3 ls st h
theorem g129_4 {cl : pm_C} {ls st : List Value} {h : pm_H} : pm_go pm_prog cl 129 4 ls st h = pm_ev pm_prog cl 129 4 b129_4 ls st h := pm_go_eq pm_prog cl 129 4 ls st h
theorem g129_5 {cl : pm_C} {ls st : List Value} {h : pm_H} : pm_go pm_prog cl 129 5 ls st h = pm_ev pm_prog cl 129 5 b129_5 ls st h := pm_go_eq pm_prog cl 129 5 ls st h
theorem g129_6 {cl : pm_C} {ls st : List Value} {h : pm_H} : pm_go pm_prog cl 129 6 ls st h = pm_ev pm_prog cl 129 6 b129_6 ls st h := pm_go_eq pm_prog cl 129 6 ls st h
theorem g129_7 {cl : pm_C} {ls st : List Value} {h : pm_H} : pm_go pm_prog cl 129 7 ls st h = pm_ev pm_prog cl 129 7 b129_7 ls st h := pm_go_eq pm_prog cl 129 7 ls st h
theorem g129_8 {cl : pm_C} {ls st : List Value} {h : pm_H} : pm_go pm_prog cl 129 8 ls st h = pm_ev pm_prog cl 129 8 b129_8 ls st h := pm_go_eq pm_prog cl 129 8 ls st h
theorem g129_9 {cl : pm_C} {ls st : List Value} {h : pm_H} : pm_go pm_prog cl 129 9 ls st h = pm_ev pm_prog cl 129 9 b129_9 ls st h := pm_go_eq pm_prog cl 129 9 ls st h
theorem g129_10 {cl : pm_C} {ls st : List Value} {h : pm_H} : pm_go pm_prog cl 129 10 ls st h = pm_ev pm_prog cl 129 10 b129_10 ls st h := pm_go_eq pm_prog cl 129 10 ls st h
theorem g129_11 {cl : pm_C} {ls st : List Value} {h : pm_H} : pm_go pm_prog cl 129 11 ls st h = pm_ev pm_prog cl 129 11 b129_11 ls st h := pm_go_eq pm_prog cl 129 11 ls st h
theorem g129_12 {cl : pm_C} {ls st : List Value} {h : pm_H} : pm_go pm_prog cl 129 12 ls st h = pm_ev pm_prog cl 129 12 b129_12 ls st h := pm_go_eq pm_prog cl 129 12 ls st h
theorem t129 {cl : pm_C} {j : Nat} {ls : List Value} {c : Nat} {h : pm_H} : pm_thr pm_prog cl 129 j ls c h = some (.threw c, h) := rfl
noncomputable def f129_2 (side : Int32) (cnt : Int32) (S : wS) (x1 : Int32) (x2 : Int32) (y0 : Int32) : Option (Nat ⊕ (Int32)) :=
  (f132 y0).bind fun r => match r with
  | .inl c5 =>
    some (.inl c5)
  | .inr _ =>
  if 0 ≤ x1 ∧ x1 < (side * side) then
    if 0 ≤ (S.1 (22, x1, 0) 0) ∧ (S.1 (22, x1, 0) 0) < 8 then
      if (S.1 (22, x1, 0) 0) < cnt then
        if 0 ≤ (S.1 (22, x1, 0) 0) ∧ (S.1 (22, x1, 0) 0) < cnt then
          (f133 side cnt S (S.1 (0, 0, 0) 11)).bind fun v2i =>
          if 0 ≤ v2i ∧ v2i < 2 then
            if x2 = 0 then
              some (.inr (S.1 (22, x1, 0) 0))
            else
              if x2 = 1 then
                if 0 ≤ (1 + (S.1 (0, 0, 0) 11)) ∧ (1 + (S.1 (0, 0, 0) 11)) < 3 then
                  some (.inr (S.1 (22, x1, 0) (1 + (S.1 (0, 0, 0) 11))))
                else none
              else
                if x2 = 2 then
                  if 0 ≤ (2 - (S.1 (0, 0, 0) 11)) ∧ (2 - (S.1 (0, 0, 0) 11)) < 3 then
                    some (.inr (S.1 (22, x1, 0) (2 - (S.1 (0, 0, 0) 11))))
                  else none
                else
                  if x2 = 3 then
                    if (S.1 (0, 0, 0) 11) = 0 then
                      some (.inr (S.1 (9, (S.1 (22, x1, 0) 0), 0) 1))
                    else
                      some (.inr (S.1 (9, (S.1 (22, x1, 0) 0), 0) 0))
                  else
                    if x2 = 4 then
                      if (S.1 (0, 0, 0) 11) = 0 then
                        some (.inr (S.1 (9, (S.1 (22, x1, 0) 0), 0) 0))
                      else
                        some (.inr (S.1 (9, (S.1 (22, x1, 0) 0), 0) 1))
                    else
                      if x2 = 5 then
                        (f193 side cnt S v2i (S.1 (22, x1, 0) 0) (S.1 (22, x1, 0) 1) (S.1 (22, x1, 0) 2)).bind fun v3 =>
                        some (.inr v3)
                      else
                        (f195 side cnt S v2i (S.1 (22, x1, 0) 0) (S.1 (22, x1, 0) 1) (S.1 (22, x1, 0) 2)).bind fun v4 =>
                        some (.inr v4)
          else none
        else none
      else none
    else none
  else none
/-- TimberHouse$SawGrids.board(II)I -/
noncomputable def f129 (side : Int32) (cnt : Int32) (S : wS) (x1 : Int32) (x2 : Int32) : Option (Nat ⊕ (Int32)) :=
  (f130 (S.1 (0, 0, 0) 10)).bind fun r => match r with
  | .inl c7 =>
    some (.inl c7)
  | .inr _ =>
  (f131 x1 0 ((S.1 (0, 0, 0) 13) - 1)).bind fun v1 =>
  if v1 = 0 then
    f129_2 side cnt S x1 x2 0
  else
    (f131 x2 0 6).bind fun v6 =>
    if v6 = 0 then
      f129_2 side cnt S x1 x2 0
    else
      f129_2 side cnt S x1 x2 1
theorem sw129_2 {x : Int32} : pm_sw 11 0 5 [3, 4, 5, 6, 8, 10] x = if x = 0 then 3 else if x = 1 then 4 else if x = 2 then 5 else if x = 3 then 6 else if x = 4 then 8 else if x = 5 then 10 else 11 := by
  by_cases k0 : x = 0
  · subst k0; rfl
  rw [if_neg k0]
  by_cases k1 : x = 1
  · subst k1; rfl
  rw [if_neg k1]
  by_cases k2 : x = 2
  · subst k2; rfl
  rw [if_neg k2]
  by_cases k3 : x = 3
  · subst k3; rfl
  rw [if_neg k3]
  by_cases k4 : x = 4
  · subst k4; rfl
  rw [if_neg k4]
  by_cases k5 : x = 5
  · subst k5; rfl
  rw [if_neg k5]
  by_cases q : x.toInt < 0 ∨ 5 < x.toInt
  · exact if_pos q
  have q : x.toInt = 0 ∨ x.toInt = 1 ∨ x.toInt = 2 ∨ x.toInt = 3 ∨ x.toInt = 4 ∨ x.toInt = 5 := by omega
  rcases q with q | q | q | q | q | q
  · exact absurd (Int32.toInt_inj.mp (q.trans (by decide : (0 : Int) = (0 : Int32).toInt))) k0
  · exact absurd (Int32.toInt_inj.mp (q.trans (by decide : (1 : Int) = (1 : Int32).toInt))) k1
  · exact absurd (Int32.toInt_inj.mp (q.trans (by decide : (2 : Int) = (2 : Int32).toInt))) k2
  · exact absurd (Int32.toInt_inj.mp (q.trans (by decide : (3 : Int) = (3 : Int32).toInt))) k3
  · exact absurd (Int32.toInt_inj.mp (q.trans (by decide : (4 : Int) = (4 : Int32).toInt))) k4
  · exact absurd (Int32.toInt_inj.mp (q.trans (by decide : (5 : Int) = (5 : Int32).toInt))) k5
theorem y129_2 {side : Int32} {cnt : Int32} {A : wK → Nat} {h : pm_H} {D : Nat} {S : wS} {x1 : Int32} {x2 : Int32} {y0 : Int32} {r : Nat ⊕ (Int32)} (hP : Cs_P side cnt) (hA : wok A (Cs_d side cnt) h.1) (hD : 2 ≤ D) (e : f129_2 side cnt S x1 x2 y0 = some r) : ∀ q3 q4 q5 : Value, pm_go pm_prog (pm_call pm_prog D) 129 2 [.ref (A (0, 0, 0)), .int x1, .int x2, q3, q4, q5] [.int y0] (wput A (Cs_d side cnt) S h) = some (match (generalizing := false) r with | .inl c => (Outcome.threw c, (wput A (Cs_d side cnt) S (pm_new h 6 (.inr (c, []))))) | .inr w0 => (Outcome.returned (some (.int w0)), (wput A (Cs_d side cnt) S h))) := by
  intro q3 q4 q5
  simp only [f129_2] at e
  rw [g129_2, b129_2]
  obtain ⟨r, k1, e⟩ := Option.bind_eq_some_iff.mp e
  have z1 := fun h => x132 (D := D) (h := h) (by omega) k1
  rcases r with c5 | _
  · dsimp only at e z1
    have e := Option.some.inj e; subst e
    simp -implicitDefEqProofs (disch := first | assumption | exact Nat.le_of_ble_eq_true rfl | decide) only [b129_0, g129_1, b129_1, g129_3, b129_3, g129_4, b129_4, g129_5, b129_5, g129_6, b129_6, g129_7, b129_7, g129_8, b129_8, g129_9, b129_9, g129_10, b129_10, g129_11, b129_11, g129_12, b129_12, pe_aload0, pe_getfield, pe_call1, pm_af_ret, pm_af_void, pm_af_thr, pe_iload1, pe_sipush, pe_isub, pe_call3, pe_if_eq, pe_iload2, pe_goto, pe_goto_w, pe_aaload, pe_astore3, pe_aload3, pe_iaload, pe_astore4, pe_call2, pe_astore5, pe_tableswitch, pe_iadd, pe_if_ne, pe_aload4, pe_aload5, pe_call4, pm_prog_1, pm_ob_some, Nat.reduceDiv, Nat.reduceMod, Nat.reduceMul, Nat.reduceAdd, Int.reduceToNat, pm_kill_i, pm_kill_r, pm_kill_n, pm_kill_j, pm_kill_l, pm_kill_d, pm_cats_nil, pm_cats_i, pm_cats_r, pm_cats_n, pm_cats_l, pm_cats_d, sz_1, sz_2, sl_1, sl_2, lc_0, lc_lt, lc_le, li_ne, va_rf, wr_m1, we_m1, pm_kill_w, Int32.reduceOfInt, Int64.reduceOfInt, Int32.reduceOfNat, Int32.reduceLT, Int32.reduceLE, Prod.mk.injEq, Nat.reduceEqDiff, reduceCtorEq, and_true, true_and, and_false, false_and, and_self, ite_true, ite_false, ↓reduceIte, not_true_eq_false, not_false_eq_true, pe_ri, pe_rz, pe_rc, p_throw, t129, w_junk hA, sw129_2, Cs_g0_10 hP hA, Cs_g0_11 hP hA, Cs_g0_13 hP hA, Cs_g0_14 hP hA, Cs_g0_5 hP hA, Cs_g9_0 hP hA, Cs_g9_1 hP hA, Cs_r21 hP hA, Cs_r22 hP hA, Cs_r8 hP hA, z1]
  · dsimp only at e z1
    by_cases k2 : 0 ≤ x1 ∧ x1 < (side * side)
    · rw [if_pos k2] at e
      by_cases k3 : 0 ≤ (S.1 (22, x1, 0) 0) ∧ (S.1 (22, x1, 0) 0) < 8
      · rw [if_pos k3] at e
        by_cases k4 : (S.1 (22, x1, 0) 0) < cnt
        · rw [if_pos k4] at e
          by_cases k5 : 0 ≤ (S.1 (22, x1, 0) 0) ∧ (S.1 (22, x1, 0) 0) < cnt
          · rw [if_pos k5] at e
            obtain ⟨v2i, k6, e⟩ := Option.bind_eq_some_iff.mp e
            try dsimp only at e
            have z6 := x133 (D := D) (h := h) hP hA (by omega) k6
            by_cases k7 : 0 ≤ v2i ∧ v2i < 2
            · rw [if_pos k7] at e
              by_cases k8 : x2 = 0
              · rw [if_pos k8] at e
                have e := Option.some.inj e; subst e
                simp -implicitDefEqProofs (disch := first | assumption | exact Nat.le_of_ble_eq_true rfl | decide) only [b129_0, g129_1, b129_1, g129_3, b129_3, g129_4, b129_4, g129_5, b129_5, g129_6, b129_6, g129_7, b129_7, g129_8, b129_8, g129_9, b129_9, g129_10, b129_10, g129_11, b129_11, g129_12, b129_12, pe_aload0, pe_getfield, pe_call1, pm_af_ret, pm_af_void, pm_af_thr, pe_iload1, pe_sipush, pe_isub, pe_call3, pe_if_eq, pe_iload2, pe_goto, pe_goto_w, pe_aaload, pe_astore3, pe_aload3, pe_iaload, pe_astore4, pe_call2, pe_astore5, pe_tableswitch, pe_iadd, pe_if_ne, pe_aload4, pe_aload5, pe_call4, pm_prog_1, pm_ob_some, Nat.reduceDiv, Nat.reduceMod, Nat.reduceMul, Nat.reduceAdd, Int.reduceToNat, pm_kill_i, pm_kill_r, pm_kill_n, pm_kill_j, pm_kill_l, pm_kill_d, pm_cats_nil, pm_cats_i, pm_cats_r, pm_cats_n, pm_cats_l, pm_cats_d, sz_1, sz_2, sl_1, sl_2, lc_0, lc_lt, lc_le, li_ne, va_rf, wr_m1, we_m1, pm_kill_w, Int32.reduceOfInt, Int64.reduceOfInt, Int32.reduceOfNat, Int32.reduceLT, Int32.reduceLE, Prod.mk.injEq, Nat.reduceEqDiff, reduceCtorEq, and_true, true_and, and_false, false_and, and_self, ite_true, ite_false, ↓reduceIte, not_true_eq_false, not_false_eq_true, pe_ri, pe_rz, pe_rc, p_throw, t129, w_junk hA, sw129_2, Cs_g0_10 hP hA, Cs_g0_11 hP hA, Cs_g0_13 hP hA, Cs_g0_14 hP hA, Cs_g0_5 hP hA, Cs_g9_0 hP hA, Cs_g9_1 hP hA, Cs_r21 hP hA, Cs_r22 hP hA, Cs_r8 hP hA, z1, z6, eq_true k8]
              · rw [if_neg k8] at e
                by_cases k9 : x2 = 1
                · rw [if_pos k9] at e
                  by_cases k10 : 0 ≤ (1 + (S.1 (0, 0, 0) 11)) ∧ (1 + (S.1 (0, 0, 0) 11)) < 3
                  · rw [if_pos k10] at e
                    have e := Option.some.inj e; subst e
                    simp -implicitDefEqProofs (disch := first | assumption | exact Nat.le_of_ble_eq_true rfl | decide) only [b129_0, g129_1, b129_1, g129_3, b129_3, g129_4, b129_4, g129_5, b129_5, g129_6, b129_6, g129_7, b129_7, g129_8, b129_8, g129_9, b129_9, g129_10, b129_10, g129_11, b129_11, g129_12, b129_12, pe_aload0, pe_getfield, pe_call1, pm_af_ret, pm_af_void, pm_af_thr, pe_iload1, pe_sipush, pe_isub, pe_call3, pe_if_eq, pe_iload2, pe_goto, pe_goto_w, pe_aaload, pe_astore3, pe_aload3, pe_iaload, pe_astore4, pe_call2, pe_astore5, pe_tableswitch, pe_iadd, pe_if_ne, pe_aload4, pe_aload5, pe_call4, pm_prog_1, pm_ob_some, Nat.reduceDiv, Nat.reduceMod, Nat.reduceMul, Nat.reduceAdd, Int.reduceToNat, pm_kill_i, pm_kill_r, pm_kill_n, pm_kill_j, pm_kill_l, pm_kill_d, pm_cats_nil, pm_cats_i, pm_cats_r, pm_cats_n, pm_cats_l, pm_cats_d, sz_1, sz_2, sl_1, sl_2, lc_0, lc_lt, lc_le, li_ne, va_rf, wr_m1, we_m1, pm_kill_w, Int32.reduceOfInt, Int64.reduceOfInt, Int32.reduceOfNat, Int32.reduceLT, Int32.reduceLE, Prod.mk.injEq, Nat.reduceEqDiff, reduceCtorEq, and_true, true_and, and_false, false_and, and_self, ite_true, ite_false, ↓reduceIte, not_true_eq_false, not_false_eq_true, pe_ri, pe_rz, pe_rc, p_throw, t129, w_junk hA, sw129_2, Cs_g0_10 hP hA, Cs_g0_11 hP hA, Cs_g0_13 hP hA, Cs_g0_14 hP hA, Cs_g0_5 hP hA, Cs_g9_0 hP hA, Cs_g9_1 hP hA, Cs_r21 hP hA, Cs_r22 hP hA, Cs_r8 hP hA, z1, z6, eq_false k8, eq_true k9]
                  · rw [if_neg k10] at e; cases e
                · rw [if_neg k9] at e
                  by_cases k11 : x2 = 2
                  · rw [if_pos k11] at e
                    by_cases k12 : 0 ≤ (2 - (S.1 (0, 0, 0) 11)) ∧ (2 - (S.1 (0, 0, 0) 11)) < 3
                    · rw [if_pos k12] at e
                      have e := Option.some.inj e; subst e
                      simp -implicitDefEqProofs (disch := first | assumption | exact Nat.le_of_ble_eq_true rfl | decide) only [b129_0, g129_1, b129_1, g129_3, b129_3, g129_4, b129_4, g129_5, b129_5, g129_6, b129_6, g129_7, b129_7, g129_8, b129_8, g129_9, b129_9, g129_10, b129_10, g129_11, b129_11, g129_12, b129_12, pe_aload0, pe_getfield, pe_call1, pm_af_ret, pm_af_void, pm_af_thr, pe_iload1, pe_sipush, pe_isub, pe_call3, pe_if_eq, pe_iload2, pe_goto, pe_goto_w, pe_aaload, pe_astore3, pe_aload3, pe_iaload, pe_astore4, pe_call2, pe_astore5, pe_tableswitch, pe_iadd, pe_if_ne, pe_aload4, pe_aload5, pe_call4, pm_prog_1, pm_ob_some, Nat.reduceDiv, Nat.reduceMod, Nat.reduceMul, Nat.reduceAdd, Int.reduceToNat, pm_kill_i, pm_kill_r, pm_kill_n, pm_kill_j, pm_kill_l, pm_kill_d, pm_cats_nil, pm_cats_i, pm_cats_r, pm_cats_n, pm_cats_l, pm_cats_d, sz_1, sz_2, sl_1, sl_2, lc_0, lc_lt, lc_le, li_ne, va_rf, wr_m1, we_m1, pm_kill_w, Int32.reduceOfInt, Int64.reduceOfInt, Int32.reduceOfNat, Int32.reduceLT, Int32.reduceLE, Prod.mk.injEq, Nat.reduceEqDiff, reduceCtorEq, and_true, true_and, and_false, false_and, and_self, ite_true, ite_false, ↓reduceIte, not_true_eq_false, not_false_eq_true, pe_ri, pe_rz, pe_rc, p_throw, t129, w_junk hA, sw129_2, Cs_g0_10 hP hA, Cs_g0_11 hP hA, Cs_g0_13 hP hA, Cs_g0_14 hP hA, Cs_g0_5 hP hA, Cs_g9_0 hP hA, Cs_g9_1 hP hA, Cs_r21 hP hA, Cs_r22 hP hA, Cs_r8 hP hA, z1, z6, eq_false k8, eq_false k9, eq_true k11]
                    · rw [if_neg k12] at e; cases e
                  · rw [if_neg k11] at e
                    by_cases k13 : x2 = 3
                    · rw [if_pos k13] at e
                      by_cases k14 : (S.1 (0, 0, 0) 11) = 0
                      · rw [if_pos k14] at e
                        have e := Option.some.inj e; subst e
                        simp -implicitDefEqProofs (disch := first | assumption | exact Nat.le_of_ble_eq_true rfl | decide) only [b129_0, g129_1, b129_1, g129_3, b129_3, g129_4, b129_4, g129_5, b129_5, g129_6, b129_6, g129_7, b129_7, g129_8, b129_8, g129_9, b129_9, g129_10, b129_10, g129_11, b129_11, g129_12, b129_12, pe_aload0, pe_getfield, pe_call1, pm_af_ret, pm_af_void, pm_af_thr, pe_iload1, pe_sipush, pe_isub, pe_call3, pe_if_eq, pe_iload2, pe_goto, pe_goto_w, pe_aaload, pe_astore3, pe_aload3, pe_iaload, pe_astore4, pe_call2, pe_astore5, pe_tableswitch, pe_iadd, pe_if_ne, pe_aload4, pe_aload5, pe_call4, pm_prog_1, pm_ob_some, Nat.reduceDiv, Nat.reduceMod, Nat.reduceMul, Nat.reduceAdd, Int.reduceToNat, pm_kill_i, pm_kill_r, pm_kill_n, pm_kill_j, pm_kill_l, pm_kill_d, pm_cats_nil, pm_cats_i, pm_cats_r, pm_cats_n, pm_cats_l, pm_cats_d, sz_1, sz_2, sl_1, sl_2, lc_0, lc_lt, lc_le, li_ne, va_rf, wr_m1, we_m1, pm_kill_w, Int32.reduceOfInt, Int64.reduceOfInt, Int32.reduceOfNat, Int32.reduceLT, Int32.reduceLE, Prod.mk.injEq, Nat.reduceEqDiff, reduceCtorEq, and_true, true_and, and_false, false_and, and_self, ite_true, ite_false, ↓reduceIte, not_true_eq_false, not_false_eq_true, pe_ri, pe_rz, pe_rc, p_throw, t129, w_junk hA, sw129_2, Cs_g0_10 hP hA, Cs_g0_11 hP hA, Cs_g0_13 hP hA, Cs_g0_14 hP hA, Cs_g0_5 hP hA, Cs_g9_0 hP hA, Cs_g9_1 hP hA, Cs_r21 hP hA, Cs_r22 hP hA, Cs_r8 hP hA, z1, z6, eq_false k8, eq_false k9, eq_false k11, eq_true k13, eq_true k14]
                      · rw [if_neg k14] at e
                        have e := Option.some.inj e; subst e
                        simp -implicitDefEqProofs (disch := first | assumption | exact Nat.le_of_ble_eq_true rfl | decide) only [b129_0, g129_1, b129_1, g129_3, b129_3, g129_4, b129_4, g129_5, b129_5, g129_6, b129_6, g129_7, b129_7, g129_8, b129_8, g129_9, b129_9, g129_10, b129_10, g129_11, b129_11, g129_12, b129_12, pe_aload0, pe_getfield, pe_call1, pm_af_ret, pm_af_void, pm_af_thr, pe_iload1, pe_sipush, pe_isub, pe_call3, pe_if_eq, pe_iload2, pe_goto, pe_goto_w, pe_aaload, pe_astore3, pe_aload3, pe_iaload, pe_astore4, pe_call2, pe_astore5, pe_tableswitch, pe_iadd, pe_if_ne, pe_aload4, pe_aload5, pe_call4, pm_prog_1, pm_ob_some, Nat.reduceDiv, Nat.reduceMod, Nat.reduceMul, Nat.reduceAdd, Int.reduceToNat, pm_kill_i, pm_kill_r, pm_kill_n, pm_kill_j, pm_kill_l, pm_kill_d, pm_cats_nil, pm_cats_i, pm_cats_r, pm_cats_n, pm_cats_l, pm_cats_d, sz_1, sz_2, sl_1, sl_2, lc_0, lc_lt, lc_le, li_ne, va_rf, wr_m1, we_m1, pm_kill_w, Int32.reduceOfInt, Int64.reduceOfInt, Int32.reduceOfNat, Int32.reduceLT, Int32.reduceLE, Prod.mk.injEq, Nat.reduceEqDiff, reduceCtorEq, and_true, true_and, and_false, false_and, and_self, ite_true, ite_false, ↓reduceIte, not_true_eq_false, not_false_eq_true, pe_ri, pe_rz, pe_rc, p_throw, t129, w_junk hA, sw129_2, Cs_g0_10 hP hA, Cs_g0_11 hP hA, Cs_g0_13 hP hA, Cs_g0_14 hP hA, Cs_g0_5 hP hA, Cs_g9_0 hP hA, Cs_g9_1 hP hA, Cs_r21 hP hA, Cs_r22 hP hA, Cs_r8 hP hA, z1, z6, eq_false k8, eq_false k9, eq_false k11, eq_true k13, eq_false k14]
                    · rw [if_neg k13] at e
                      by_cases k15 : x2 = 4
                      · rw [if_pos k15] at e
                        by_cases k16 : (S.1 (0, 0, 0) 11) = 0
                        · rw [if_pos k16] at e
                          have e := Option.some.inj e; subst e
                          simp -implicitDefEqProofs (disch := first | assumption | exact Nat.le_of_ble_eq_true rfl | decide) only [b129_0, g129_1, b129_1, g129_3, b129_3, g129_4, b129_4, g129_5, b129_5, g129_6, b129_6, g129_7, b129_7, g129_8, b129_8, g129_9, b129_9, g129_10, b129_10, g129_11, b129_11, g129_12, b129_12, pe_aload0, pe_getfield, pe_call1, pm_af_ret, pm_af_void, pm_af_thr, pe_iload1, pe_sipush, pe_isub, pe_call3, pe_if_eq, pe_iload2, pe_goto, pe_goto_w, pe_aaload, pe_astore3, pe_aload3, pe_iaload, pe_astore4, pe_call2, pe_astore5, pe_tableswitch, pe_iadd, pe_if_ne, pe_aload4, pe_aload5, pe_call4, pm_prog_1, pm_ob_some, Nat.reduceDiv, Nat.reduceMod, Nat.reduceMul, Nat.reduceAdd, Int.reduceToNat, pm_kill_i, pm_kill_r, pm_kill_n, pm_kill_j, pm_kill_l, pm_kill_d, pm_cats_nil, pm_cats_i, pm_cats_r, pm_cats_n, pm_cats_l, pm_cats_d, sz_1, sz_2, sl_1, sl_2, lc_0, lc_lt, lc_le, li_ne, va_rf, wr_m1, we_m1, pm_kill_w, Int32.reduceOfInt, Int64.reduceOfInt, Int32.reduceOfNat, Int32.reduceLT, Int32.reduceLE, Prod.mk.injEq, Nat.reduceEqDiff, reduceCtorEq, and_true, true_and, and_false, false_and, and_self, ite_true, ite_false, ↓reduceIte, not_true_eq_false, not_false_eq_true, pe_ri, pe_rz, pe_rc, p_throw, t129, w_junk hA, sw129_2, Cs_g0_10 hP hA, Cs_g0_11 hP hA, Cs_g0_13 hP hA, Cs_g0_14 hP hA, Cs_g0_5 hP hA, Cs_g9_0 hP hA, Cs_g9_1 hP hA, Cs_r21 hP hA, Cs_r22 hP hA, Cs_r8 hP hA, z1, z6, eq_false k8, eq_false k9, eq_false k11, eq_false k13, eq_true k15, eq_true k16]
                        · rw [if_neg k16] at e
                          have e := Option.some.inj e; subst e
                          simp -implicitDefEqProofs (disch := first | assumption | exact Nat.le_of_ble_eq_true rfl | decide) only [b129_0, g129_1, b129_1, g129_3, b129_3, g129_4, b129_4, g129_5, b129_5, g129_6, b129_6, g129_7, b129_7, g129_8, b129_8, g129_9, b129_9, g129_10, b129_10, g129_11, b129_11, g129_12, b129_12, pe_aload0, pe_getfield, pe_call1, pm_af_ret, pm_af_void, pm_af_thr, pe_iload1, pe_sipush, pe_isub, pe_call3, pe_if_eq, pe_iload2, pe_goto, pe_goto_w, pe_aaload, pe_astore3, pe_aload3, pe_iaload, pe_astore4, pe_call2, pe_astore5, pe_tableswitch, pe_iadd, pe_if_ne, pe_aload4, pe_aload5, pe_call4, pm_prog_1, pm_ob_some, Nat.reduceDiv, Nat.reduceMod, Nat.reduceMul, Nat.reduceAdd, Int.reduceToNat, pm_kill_i, pm_kill_r, pm_kill_n, pm_kill_j, pm_kill_l, pm_kill_d, pm_cats_nil, pm_cats_i, pm_cats_r, pm_cats_n, pm_cats_l, pm_cats_d, sz_1, sz_2, sl_1, sl_2, lc_0, lc_lt, lc_le, li_ne, va_rf, wr_m1, we_m1, pm_kill_w, Int32.reduceOfInt, Int64.reduceOfInt, Int32.reduceOfNat, Int32.reduceLT, Int32.reduceLE, Prod.mk.injEq, Nat.reduceEqDiff, reduceCtorEq, and_true, true_and, and_false, false_and, and_self, ite_true, ite_false, ↓reduceIte, not_true_eq_false, not_false_eq_true, pe_ri, pe_rz, pe_rc, p_throw, t129, w_junk hA, sw129_2, Cs_g0_10 hP hA, Cs_g0_11 hP hA, Cs_g0_13 hP hA, Cs_g0_14 hP hA, Cs_g0_5 hP hA, Cs_g9_0 hP hA, Cs_g9_1 hP hA, Cs_r21 hP hA, Cs_r22 hP hA, Cs_r8 hP hA, z1, z6, eq_false k8, eq_false k9, eq_false k11, eq_false k13, eq_true k15, eq_false k16]
                      · rw [if_neg k15] at e
                        by_cases k17 : x2 = 5
                        · rw [if_pos k17] at e
                          obtain ⟨v3, k18, e⟩ := Option.bind_eq_some_iff.mp e
                          try dsimp only at e
                          have z18 := x193 (D := D) (h := h) hP hA (by omega) k18
                          have e := Option.some.inj e; subst e
                          simp -implicitDefEqProofs (disch := first | assumption | exact Nat.le_of_ble_eq_true rfl | decide) only [b129_0, g129_1, b129_1, g129_3, b129_3, g129_4, b129_4, g129_5, b129_5, g129_6, b129_6, g129_7, b129_7, g129_8, b129_8, g129_9, b129_9, g129_10, b129_10, g129_11, b129_11, g129_12, b129_12, pe_aload0, pe_getfield, pe_call1, pm_af_ret, pm_af_void, pm_af_thr, pe_iload1, pe_sipush, pe_isub, pe_call3, pe_if_eq, pe_iload2, pe_goto, pe_goto_w, pe_aaload, pe_astore3, pe_aload3, pe_iaload, pe_astore4, pe_call2, pe_astore5, pe_tableswitch, pe_iadd, pe_if_ne, pe_aload4, pe_aload5, pe_call4, pm_prog_1, pm_ob_some, Nat.reduceDiv, Nat.reduceMod, Nat.reduceMul, Nat.reduceAdd, Int.reduceToNat, pm_kill_i, pm_kill_r, pm_kill_n, pm_kill_j, pm_kill_l, pm_kill_d, pm_cats_nil, pm_cats_i, pm_cats_r, pm_cats_n, pm_cats_l, pm_cats_d, sz_1, sz_2, sl_1, sl_2, lc_0, lc_lt, lc_le, li_ne, va_rf, wr_m1, we_m1, pm_kill_w, Int32.reduceOfInt, Int64.reduceOfInt, Int32.reduceOfNat, Int32.reduceLT, Int32.reduceLE, Prod.mk.injEq, Nat.reduceEqDiff, reduceCtorEq, and_true, true_and, and_false, false_and, and_self, ite_true, ite_false, ↓reduceIte, not_true_eq_false, not_false_eq_true, pe_ri, pe_rz, pe_rc, p_throw, t129, w_junk hA, sw129_2, Cs_g0_10 hP hA, Cs_g0_11 hP hA, Cs_g0_13 hP hA, Cs_g0_14 hP hA, Cs_g0_5 hP hA, Cs_g9_0 hP hA, Cs_g9_1 hP hA, Cs_r21 hP hA, Cs_r22 hP hA, Cs_r8 hP hA, z1, z6, eq_false k8, eq_false k9, eq_false k11, eq_false k13, eq_false k15, eq_true k17, z18]
                        · rw [if_neg k17] at e
                          obtain ⟨v4, k19, e⟩ := Option.bind_eq_some_iff.mp e
                          try dsimp only at e
                          have z19 := x195 (D := D) (h := h) hP hA (by omega) k19
                          have e := Option.some.inj e; subst e
                          simp -implicitDefEqProofs (disch := first | assumption | exact Nat.le_of_ble_eq_true rfl | decide) only [b129_0, g129_1, b129_1, g129_3, b129_3, g129_4, b129_4, g129_5, b129_5, g129_6, b129_6, g129_7, b129_7, g129_8, b129_8, g129_9, b129_9, g129_10, b129_10, g129_11, b129_11, g129_12, b129_12, pe_aload0, pe_getfield, pe_call1, pm_af_ret, pm_af_void, pm_af_thr, pe_iload1, pe_sipush, pe_isub, pe_call3, pe_if_eq, pe_iload2, pe_goto, pe_goto_w, pe_aaload, pe_astore3, pe_aload3, pe_iaload, pe_astore4, pe_call2, pe_astore5, pe_tableswitch, pe_iadd, pe_if_ne, pe_aload4, pe_aload5, pe_call4, pm_prog_1, pm_ob_some, Nat.reduceDiv, Nat.reduceMod, Nat.reduceMul, Nat.reduceAdd, Int.reduceToNat, pm_kill_i, pm_kill_r, pm_kill_n, pm_kill_j, pm_kill_l, pm_kill_d, pm_cats_nil, pm_cats_i, pm_cats_r, pm_cats_n, pm_cats_l, pm_cats_d, sz_1, sz_2, sl_1, sl_2, lc_0, lc_lt, lc_le, li_ne, va_rf, wr_m1, we_m1, pm_kill_w, Int32.reduceOfInt, Int64.reduceOfInt, Int32.reduceOfNat, Int32.reduceLT, Int32.reduceLE, Prod.mk.injEq, Nat.reduceEqDiff, reduceCtorEq, and_true, true_and, and_false, false_and, and_self, ite_true, ite_false, ↓reduceIte, not_true_eq_false, not_false_eq_true, pe_ri, pe_rz, pe_rc, p_throw, t129, w_junk hA, sw129_2, Cs_g0_10 hP hA, Cs_g0_11 hP hA, Cs_g0_13 hP hA, Cs_g0_14 hP hA, Cs_g0_5 hP hA, Cs_g9_0 hP hA, Cs_g9_1 hP hA, Cs_r21 hP hA, Cs_r22 hP hA, Cs_r8 hP hA, z1, z6, eq_false k8, eq_false k9, eq_false k11, eq_false k13, eq_false k15, eq_false k17, z19]
            · rw [if_neg k7] at e; cases e
          · rw [if_neg k5] at e; cases e
        · rw [if_neg k4] at e; cases e
      · rw [if_neg k3] at e; cases e
    · rw [if_neg k2] at e; cases e
theorem x129 {side : Int32} {cnt : Int32} {A : wK → Nat} {h : pm_H} {D : Nat} {S : wS} {x1 : Int32} {x2 : Int32} {r : Nat ⊕ (Int32)} (hP : Cs_P side cnt) (hA : wok A (Cs_d side cnt) h.1) (hD : 3 ≤ D) (e : f129 side cnt S x1 x2 = some r) : pm_call pm_prog D 129 [.ref (A (0, 0, 0)), .int x1, .int x2] (wput A (Cs_d side cnt) S h) = some (match (generalizing := false) r with | .inl c => (Outcome.threw c, (wput A (Cs_d side cnt) S (pm_new h 6 (.inr (c, []))))) | .inr w0 => (Outcome.returned (some (.int w0)), (wput A (Cs_d side cnt) S h))) := by
  obtain ⟨D, rfl⟩ : ∃ D', D = D' + 1 := ⟨D - 1, by omega⟩
  have hD : 2 ≤ D := by omega
  simp only [f129] at e
  rw [c129 (Cs_c0 hP hA), b129_0]
  obtain ⟨r, k1, e⟩ := Option.bind_eq_some_iff.mp e
  have z1 := fun h => x130 (D := D) (h := h) (by omega) k1
  rcases r with c7 | _
  · dsimp only at e z1
    have e := Option.some.inj e; subst e
    simp -implicitDefEqProofs (disch := first | assumption | exact Nat.le_of_ble_eq_true rfl | decide) only [b129_0, g129_1, b129_1, g129_3, b129_3, g129_4, b129_4, g129_5, b129_5, g129_6, b129_6, g129_7, b129_7, g129_8, b129_8, g129_9, b129_9, g129_10, b129_10, g129_11, b129_11, g129_12, b129_12, pe_aload0, pe_getfield, pe_call1, pm_af_ret, pm_af_void, pm_af_thr, pe_iload1, pe_sipush, pe_isub, pe_call3, pe_if_eq, pe_iload2, pe_goto, pe_goto_w, pe_aaload, pe_astore3, pe_aload3, pe_iaload, pe_astore4, pe_call2, pe_astore5, pe_tableswitch, pe_iadd, pe_if_ne, pe_aload4, pe_aload5, pe_call4, pm_prog_1, pm_ob_some, Nat.reduceDiv, Nat.reduceMod, Nat.reduceMul, Nat.reduceAdd, Int.reduceToNat, pm_kill_i, pm_kill_r, pm_kill_n, pm_kill_j, pm_kill_l, pm_kill_d, pm_cats_nil, pm_cats_i, pm_cats_r, pm_cats_n, pm_cats_l, pm_cats_d, sz_1, sz_2, sl_1, sl_2, lc_0, lc_lt, lc_le, li_ne, va_rf, wr_m1, we_m1, pm_kill_w, Int32.reduceOfInt, Int64.reduceOfInt, Int32.reduceOfNat, Int32.reduceLT, Int32.reduceLE, Prod.mk.injEq, Nat.reduceEqDiff, reduceCtorEq, and_true, true_and, and_false, false_and, and_self, ite_true, ite_false, ↓reduceIte, not_true_eq_false, not_false_eq_true, pe_ri, pe_rz, pe_rc, p_throw, t129, w_junk hA, sw129_2, Cs_g0_10 hP hA, Cs_g0_11 hP hA, Cs_g0_13 hP hA, Cs_g0_14 hP hA, Cs_g0_5 hP hA, Cs_g9_0 hP hA, Cs_g9_1 hP hA, Cs_r21 hP hA, Cs_r22 hP hA, Cs_r8 hP hA, z1]
  · dsimp only at e z1
    obtain ⟨v1, k2, e⟩ := Option.bind_eq_some_iff.mp e
    try dsimp only at e
    have z2 := fun h => x131 (D := D) (h := h) (by omega) k2
    by_cases k3 : v1 = 0
    · rw [if_pos k3] at e
      have k4 := y129_2 (h := h) hP hA hD e
      simp -implicitDefEqProofs (disch := first | assumption | exact Nat.le_of_ble_eq_true rfl | decide) only [b129_0, g129_1, b129_1, g129_3, b129_3, g129_4, b129_4, g129_5, b129_5, g129_6, b129_6, g129_7, b129_7, g129_8, b129_8, g129_9, b129_9, g129_10, b129_10, g129_11, b129_11, g129_12, b129_12, pe_aload0, pe_getfield, pe_call1, pm_af_ret, pm_af_void, pm_af_thr, pe_iload1, pe_sipush, pe_isub, pe_call3, pe_if_eq, pe_iload2, pe_goto, pe_goto_w, pe_aaload, pe_astore3, pe_aload3, pe_iaload, pe_astore4, pe_call2, pe_astore5, pe_tableswitch, pe_iadd, pe_if_ne, pe_aload4, pe_aload5, pe_call4, pm_prog_1, pm_ob_some, Nat.reduceDiv, Nat.reduceMod, Nat.reduceMul, Nat.reduceAdd, Int.reduceToNat, pm_kill_i, pm_kill_r, pm_kill_n, pm_kill_j, pm_kill_l, pm_kill_d, pm_cats_nil, pm_cats_i, pm_cats_r, pm_cats_n, pm_cats_l, pm_cats_d, sz_1, sz_2, sl_1, sl_2, lc_0, lc_lt, lc_le, li_ne, va_rf, wr_m1, we_m1, pm_kill_w, Int32.reduceOfInt, Int64.reduceOfInt, Int32.reduceOfNat, Int32.reduceLT, Int32.reduceLE, Prod.mk.injEq, Nat.reduceEqDiff, reduceCtorEq, and_true, true_and, and_false, false_and, and_self, ite_true, ite_false, ↓reduceIte, not_true_eq_false, not_false_eq_true, pe_ri, pe_rz, pe_rc, p_throw, t129, w_junk hA, sw129_2, Cs_g0_10 hP hA, Cs_g0_11 hP hA, Cs_g0_13 hP hA, Cs_g0_14 hP hA, Cs_g0_5 hP hA, Cs_g9_0 hP hA, Cs_g9_1 hP hA, Cs_r21 hP hA, Cs_r22 hP hA, Cs_r8 hP hA, z1, z2, eq_true k3, k4]
    · rw [if_neg k3] at e
      obtain ⟨v6, k5, e⟩ := Option.bind_eq_some_iff.mp e
      try dsimp only at e
      have z5 := fun h => x131 (D := D) (h := h) (by omega) k5
      by_cases k6 : v6 = 0
      · rw [if_pos k6] at e
        have k7 := y129_2 (h := h) hP hA hD e
        simp -implicitDefEqProofs (disch := first | assumption | exact Nat.le_of_ble_eq_true rfl | decide) only [b129_0, g129_1, b129_1, g129_3, b129_3, g129_4, b129_4, g129_5, b129_5, g129_6, b129_6, g129_7, b129_7, g129_8, b129_8, g129_9, b129_9, g129_10, b129_10, g129_11, b129_11, g129_12, b129_12, pe_aload0, pe_getfield, pe_call1, pm_af_ret, pm_af_void, pm_af_thr, pe_iload1, pe_sipush, pe_isub, pe_call3, pe_if_eq, pe_iload2, pe_goto, pe_goto_w, pe_aaload, pe_astore3, pe_aload3, pe_iaload, pe_astore4, pe_call2, pe_astore5, pe_tableswitch, pe_iadd, pe_if_ne, pe_aload4, pe_aload5, pe_call4, pm_prog_1, pm_ob_some, Nat.reduceDiv, Nat.reduceMod, Nat.reduceMul, Nat.reduceAdd, Int.reduceToNat, pm_kill_i, pm_kill_r, pm_kill_n, pm_kill_j, pm_kill_l, pm_kill_d, pm_cats_nil, pm_cats_i, pm_cats_r, pm_cats_n, pm_cats_l, pm_cats_d, sz_1, sz_2, sl_1, sl_2, lc_0, lc_lt, lc_le, li_ne, va_rf, wr_m1, we_m1, pm_kill_w, Int32.reduceOfInt, Int64.reduceOfInt, Int32.reduceOfNat, Int32.reduceLT, Int32.reduceLE, Prod.mk.injEq, Nat.reduceEqDiff, reduceCtorEq, and_true, true_and, and_false, false_and, and_self, ite_true, ite_false, ↓reduceIte, not_true_eq_false, not_false_eq_true, pe_ri, pe_rz, pe_rc, p_throw, t129, w_junk hA, sw129_2, Cs_g0_10 hP hA, Cs_g0_11 hP hA, Cs_g0_13 hP hA, Cs_g0_14 hP hA, Cs_g0_5 hP hA, Cs_g9_0 hP hA, Cs_g9_1 hP hA, Cs_r21 hP hA, Cs_r22 hP hA, Cs_r8 hP hA, z1, z2, eq_false k3, z5, eq_true k6, k7]
      · rw [if_neg k6] at e
        have k8 := y129_2 (h := h) hP hA hD e
        simp -implicitDefEqProofs (disch := first | assumption | exact Nat.le_of_ble_eq_true rfl | decide) only [b129_0, g129_1, b129_1, g129_3, b129_3, g129_4, b129_4, g129_5, b129_5, g129_6, b129_6, g129_7, b129_7, g129_8, b129_8, g129_9, b129_9, g129_10, b129_10, g129_11, b129_11, g129_12, b129_12, pe_aload0, pe_getfield, pe_call1, pm_af_ret, pm_af_void, pm_af_thr, pe_iload1, pe_sipush, pe_isub, pe_call3, pe_if_eq, pe_iload2, pe_goto, pe_goto_w, pe_aaload, pe_astore3, pe_aload3, pe_iaload, pe_astore4, pe_call2, pe_astore5, pe_tableswitch, pe_iadd, pe_if_ne, pe_aload4, pe_aload5, pe_call4, pm_prog_1, pm_ob_some, Nat.reduceDiv, Nat.reduceMod, Nat.reduceMul, Nat.reduceAdd, Int.reduceToNat, pm_kill_i, pm_kill_r, pm_kill_n, pm_kill_j, pm_kill_l, pm_kill_d, pm_cats_nil, pm_cats_i, pm_cats_r, pm_cats_n, pm_cats_l, pm_cats_d, sz_1, sz_2, sl_1, sl_2, lc_0, lc_lt, lc_le, li_ne, va_rf, wr_m1, we_m1, pm_kill_w, Int32.reduceOfInt, Int64.reduceOfInt, Int32.reduceOfNat, Int32.reduceLT, Int32.reduceLE, Prod.mk.injEq, Nat.reduceEqDiff, reduceCtorEq, and_true, true_and, and_false, false_and, and_self, ite_true, ite_false, ↓reduceIte, not_true_eq_false, not_false_eq_true, pe_ri, pe_rz, pe_rc, p_throw, t129, w_junk hA, sw129_2, Cs_g0_10 hP hA, Cs_g0_11 hP hA, Cs_g0_13 hP hA, Cs_g0_14 hP hA, Cs_g0_5 hP hA, Cs_g9_0 hP hA, Cs_g9_1 hP hA, Cs_r21 hP hA, Cs_r22 hP hA, Cs_r8 hP hA, z1, z2, eq_false k3, z5, eq_false k6, k8]
/-- TimberHouse$SawGrids.all(I)I -/
theorem c134 {d : Nat} {h : pm_H} {a : Nat} {x0 : Int32} (hc : pm_cls h a = some 2) : pm_call pm_prog (d + 1) 134 [.ref a, .int x0] h = pm_ev pm_prog (pm_call pm_prog d) 134 0 b134_0 [.ref a, .int x0] [] h := pm_cal (pm_rc1 hc rfl) rfl rfl rfl
theorem g134_1 {cl : pm_C} {ls st : List Value} {h : pm_H} : pm_go pm_prog cl 134 1 ls st h = pm_ev pm_prog cl 134 1 b134_1 ls st h := pm_go_eq pm_prog cl 134 1 ls st h
theorem g134_2 {cl : pm_C} {ls st : List Value} {h : pm_H} : pm_go pm_prog cl 134 2 ls st h = pm_ev pm_prog cl 134 2 b134_2 ls st h := pm_go_eq pm_prog cl 134 2 ls st h
theorem g134_3 {cl : pm_C} {ls st : List Value} {h : pm_H} : pm_go pm_prog cl 134 3 ls st h = pm_ev pm_prog cl 134 3 b134_3 ls st h := pm_go_eq pm_prog cl 134 3 ls st h
theorem g134_4 {cl : pm_C} {ls st : List Value} {h : pm_H} : pm_go pm_prog cl 134 4 ls st h = pm_ev pm_prog cl 134 4 b134_4 ls st h := pm_go_eq pm_prog cl 134 4 ls st h
theorem t134 {cl : pm_C} {j : Nat} {ls : List Value} {c : Nat} {h : pm_H} : pm_thr pm_prog cl 134 j ls c h = some (.threw c, h) := rfl
/-- TimberHouse$SawGrids.all(I)I -/
noncomputable def f134 (side : Int32) (cnt : Int32) (S : wS) (x1 : Int32) : Option (Nat ⊕ (Int32)) :=
  (f130 (S.1 (0, 0, 0) 10)).bind fun r => match r with
  | .inl c4 =>
    some (.inl c4)
  | .inr _ =>
  (f131 x1 0 3).bind fun v1 =>
  (f132 v1).bind fun r => match r with
  | .inl c3 =>
    some (.inl c3)
  | .inr _ =>
  if x1 = 0 then
    (f133 side cnt S (S.1 (0, 0, 0) 11)).bind fun v2i =>
    if 0 ≤ v2i ∧ v2i < 2 then
      if (0 : Int32) ≤ 0 ∧ 0 < (side + 1) then
        some (.inr (S.1 (18, v2i, 0) 0))
      else none
    else none
  else
    if x1 = 1 then
      some (.inr (S.1 (0, 0, 0) 11))
    else
      if x1 = 2 then
        some (.inr (S.1 (0, 0, 0) 12))
      else
        some (.inr (S.1 (0, 0, 0) 13))
theorem x134 {side : Int32} {cnt : Int32} {A : wK → Nat} {h : pm_H} {D : Nat} {S : wS} {x1 : Int32} {r : Nat ⊕ (Int32)} (hP : Cs_P side cnt) (hA : wok A (Cs_d side cnt) h.1) (hD : 2 ≤ D) (e : f134 side cnt S x1 = some r) : pm_call pm_prog D 134 [.ref (A (0, 0, 0)), .int x1] (wput A (Cs_d side cnt) S h) = some (match (generalizing := false) r with | .inl c => (Outcome.threw c, (wput A (Cs_d side cnt) S (pm_new h 6 (.inr (c, []))))) | .inr w0 => (Outcome.returned (some (.int w0)), (wput A (Cs_d side cnt) S h))) := by
  obtain ⟨D, rfl⟩ : ∃ D', D = D' + 1 := ⟨D - 1, by omega⟩
  have hD : 1 ≤ D := by omega
  simp only [f134] at e
  rw [c134 (Cs_c0 hP hA), b134_0]
  obtain ⟨r, k1, e⟩ := Option.bind_eq_some_iff.mp e
  have z1 := fun h => x130 (D := D) (h := h) (by omega) k1
  rcases r with c4 | _
  · dsimp only at e z1
    have e := Option.some.inj e; subst e
    simp -implicitDefEqProofs (disch := first | assumption | exact Nat.le_of_ble_eq_true rfl | decide) only [b134_0, g134_1, b134_1, g134_2, b134_2, g134_3, b134_3, g134_4, b134_4, pe_aload0, pe_getfield, pe_call1, pm_af_ret, pm_af_void, pm_af_thr, pe_iload1, pe_sipush, pe_call3, pe_if_ne, pe_call2, pe_iaload, pe_goto, pe_icmp_ne, pe_goto_w, pm_prog_1, pm_ob_some, Nat.reduceDiv, Nat.reduceMod, Nat.reduceMul, Nat.reduceAdd, Int.reduceToNat, pm_kill_i, pm_kill_r, pm_kill_n, pm_kill_j, pm_kill_l, pm_kill_d, pm_cats_nil, pm_cats_i, pm_cats_r, pm_cats_n, pm_cats_l, pm_cats_d, sz_1, sz_2, sl_1, sl_2, lc_0, lc_lt, lc_le, li_ne, va_rf, wr_m1, we_m1, pm_kill_w, Int32.reduceOfInt, Int64.reduceOfInt, Int32.reduceOfNat, Int32.reduceLT, Int32.reduceLE, Prod.mk.injEq, Nat.reduceEqDiff, reduceCtorEq, and_true, true_and, and_false, false_and, and_self, ite_true, ite_false, ↓reduceIte, not_true_eq_false, not_false_eq_true, pe_ri, pe_rz, pe_rc, p_throw, t134, w_junk hA, Cs_g0_10 hP hA, Cs_g0_11 hP hA, Cs_g0_12 hP hA, Cs_g0_13 hP hA, Cs_g10_7 hP hA, Cs_r18 hP hA, z1]
  · dsimp only at e z1
    obtain ⟨v1, k2, e⟩ := Option.bind_eq_some_iff.mp e
    try dsimp only at e
    have z2 := fun h => x131 (D := D) (h := h) (by omega) k2
    obtain ⟨r, k3, e⟩ := Option.bind_eq_some_iff.mp e
    have z3 := fun h => x132 (D := D) (h := h) (by omega) k3
    rcases r with c3 | _
    · dsimp only at e z3
      have e := Option.some.inj e; subst e
      simp -implicitDefEqProofs (disch := first | assumption | exact Nat.le_of_ble_eq_true rfl | decide) only [b134_0, g134_1, b134_1, g134_2, b134_2, g134_3, b134_3, g134_4, b134_4, pe_aload0, pe_getfield, pe_call1, pm_af_ret, pm_af_void, pm_af_thr, pe_iload1, pe_sipush, pe_call3, pe_if_ne, pe_call2, pe_iaload, pe_goto, pe_icmp_ne, pe_goto_w, pm_prog_1, pm_ob_some, Nat.reduceDiv, Nat.reduceMod, Nat.reduceMul, Nat.reduceAdd, Int.reduceToNat, pm_kill_i, pm_kill_r, pm_kill_n, pm_kill_j, pm_kill_l, pm_kill_d, pm_cats_nil, pm_cats_i, pm_cats_r, pm_cats_n, pm_cats_l, pm_cats_d, sz_1, sz_2, sl_1, sl_2, lc_0, lc_lt, lc_le, li_ne, va_rf, wr_m1, we_m1, pm_kill_w, Int32.reduceOfInt, Int64.reduceOfInt, Int32.reduceOfNat, Int32.reduceLT, Int32.reduceLE, Prod.mk.injEq, Nat.reduceEqDiff, reduceCtorEq, and_true, true_and, and_false, false_and, and_self, ite_true, ite_false, ↓reduceIte, not_true_eq_false, not_false_eq_true, pe_ri, pe_rz, pe_rc, p_throw, t134, w_junk hA, Cs_g0_10 hP hA, Cs_g0_11 hP hA, Cs_g0_12 hP hA, Cs_g0_13 hP hA, Cs_g10_7 hP hA, Cs_r18 hP hA, z1, z2, z3]
    · dsimp only at e z3
      by_cases k4 : x1 = 0
      · rw [if_pos k4] at e
        obtain ⟨v2i, k5, e⟩ := Option.bind_eq_some_iff.mp e
        try dsimp only at e
        have z5 := x133 (D := D) (h := h) hP hA (by omega) k5
        by_cases k6 : 0 ≤ v2i ∧ v2i < 2
        · rw [if_pos k6] at e
          by_cases k7 : (0 : Int32) ≤ 0 ∧ 0 < (side + 1)
          · rw [if_pos k7] at e
            have e := Option.some.inj e; subst e
            simp -implicitDefEqProofs (disch := first | assumption | exact Nat.le_of_ble_eq_true rfl | decide) only [b134_0, g134_1, b134_1, g134_2, b134_2, g134_3, b134_3, g134_4, b134_4, pe_aload0, pe_getfield, pe_call1, pm_af_ret, pm_af_void, pm_af_thr, pe_iload1, pe_sipush, pe_call3, pe_if_ne, pe_call2, pe_iaload, pe_goto, pe_icmp_ne, pe_goto_w, pm_prog_1, pm_ob_some, Nat.reduceDiv, Nat.reduceMod, Nat.reduceMul, Nat.reduceAdd, Int.reduceToNat, pm_kill_i, pm_kill_r, pm_kill_n, pm_kill_j, pm_kill_l, pm_kill_d, pm_cats_nil, pm_cats_i, pm_cats_r, pm_cats_n, pm_cats_l, pm_cats_d, sz_1, sz_2, sl_1, sl_2, lc_0, lc_lt, lc_le, li_ne, va_rf, wr_m1, we_m1, pm_kill_w, Int32.reduceOfInt, Int64.reduceOfInt, Int32.reduceOfNat, Int32.reduceLT, Int32.reduceLE, Prod.mk.injEq, Nat.reduceEqDiff, reduceCtorEq, and_true, true_and, and_false, false_and, and_self, ite_true, ite_false, ↓reduceIte, not_true_eq_false, not_false_eq_true, pe_ri, pe_rz, pe_rc, p_throw, t134, w_junk hA, Cs_g0_10 hP hA, Cs_g0_11 hP hA, Cs_g0_12 hP hA, Cs_g0_13 hP hA, Cs_g10_7 hP hA, Cs_r18 hP hA, z1, z2, z3, eq_true k4, z5]
          · rw [if_neg k7] at e; cases e
        · rw [if_neg k6] at e; cases e
      · rw [if_neg k4] at e
        by_cases k8 : x1 = 1
        · rw [if_pos k8] at e
          have e := Option.some.inj e; subst e
          simp -implicitDefEqProofs (disch := first | assumption | exact Nat.le_of_ble_eq_true rfl | decide) only [b134_0, g134_1, b134_1, g134_2, b134_2, g134_3, b134_3, g134_4, b134_4, pe_aload0, pe_getfield, pe_call1, pm_af_ret, pm_af_void, pm_af_thr, pe_iload1, pe_sipush, pe_call3, pe_if_ne, pe_call2, pe_iaload, pe_goto, pe_icmp_ne, pe_goto_w, pm_prog_1, pm_ob_some, Nat.reduceDiv, Nat.reduceMod, Nat.reduceMul, Nat.reduceAdd, Int.reduceToNat, pm_kill_i, pm_kill_r, pm_kill_n, pm_kill_j, pm_kill_l, pm_kill_d, pm_cats_nil, pm_cats_i, pm_cats_r, pm_cats_n, pm_cats_l, pm_cats_d, sz_1, sz_2, sl_1, sl_2, lc_0, lc_lt, lc_le, li_ne, va_rf, wr_m1, we_m1, pm_kill_w, Int32.reduceOfInt, Int64.reduceOfInt, Int32.reduceOfNat, Int32.reduceLT, Int32.reduceLE, Prod.mk.injEq, Nat.reduceEqDiff, reduceCtorEq, and_true, true_and, and_false, false_and, and_self, ite_true, ite_false, ↓reduceIte, not_true_eq_false, not_false_eq_true, pe_ri, pe_rz, pe_rc, p_throw, t134, w_junk hA, Cs_g0_10 hP hA, Cs_g0_11 hP hA, Cs_g0_12 hP hA, Cs_g0_13 hP hA, Cs_g10_7 hP hA, Cs_r18 hP hA, z1, z2, z3, eq_false k4, eq_true k8]
        · rw [if_neg k8] at e
          by_cases k9 : x1 = 2
          · rw [if_pos k9] at e
            have e := Option.some.inj e; subst e
            simp -implicitDefEqProofs (disch := first | assumption | exact Nat.le_of_ble_eq_true rfl | decide) only [b134_0, g134_1, b134_1, g134_2, b134_2, g134_3, b134_3, g134_4, b134_4, pe_aload0, pe_getfield, pe_call1, pm_af_ret, pm_af_void, pm_af_thr, pe_iload1, pe_sipush, pe_call3, pe_if_ne, pe_call2, pe_iaload, pe_goto, pe_icmp_ne, pe_goto_w, pm_prog_1, pm_ob_some, Nat.reduceDiv, Nat.reduceMod, Nat.reduceMul, Nat.reduceAdd, Int.reduceToNat, pm_kill_i, pm_kill_r, pm_kill_n, pm_kill_j, pm_kill_l, pm_kill_d, pm_cats_nil, pm_cats_i, pm_cats_r, pm_cats_n, pm_cats_l, pm_cats_d, sz_1, sz_2, sl_1, sl_2, lc_0, lc_lt, lc_le, li_ne, va_rf, wr_m1, we_m1, pm_kill_w, Int32.reduceOfInt, Int64.reduceOfInt, Int32.reduceOfNat, Int32.reduceLT, Int32.reduceLE, Prod.mk.injEq, Nat.reduceEqDiff, reduceCtorEq, and_true, true_and, and_false, false_and, and_self, ite_true, ite_false, ↓reduceIte, not_true_eq_false, not_false_eq_true, pe_ri, pe_rz, pe_rc, p_throw, t134, w_junk hA, Cs_g0_10 hP hA, Cs_g0_11 hP hA, Cs_g0_12 hP hA, Cs_g0_13 hP hA, Cs_g10_7 hP hA, Cs_r18 hP hA, z1, z2, z3, eq_false k4, eq_false k8, eq_true k9]
          · rw [if_neg k9] at e
            have e := Option.some.inj e; subst e
            simp -implicitDefEqProofs (disch := first | assumption | exact Nat.le_of_ble_eq_true rfl | decide) only [b134_0, g134_1, b134_1, g134_2, b134_2, g134_3, b134_3, g134_4, b134_4, pe_aload0, pe_getfield, pe_call1, pm_af_ret, pm_af_void, pm_af_thr, pe_iload1, pe_sipush, pe_call3, pe_if_ne, pe_call2, pe_iaload, pe_goto, pe_icmp_ne, pe_goto_w, pm_prog_1, pm_ob_some, Nat.reduceDiv, Nat.reduceMod, Nat.reduceMul, Nat.reduceAdd, Int.reduceToNat, pm_kill_i, pm_kill_r, pm_kill_n, pm_kill_j, pm_kill_l, pm_kill_d, pm_cats_nil, pm_cats_i, pm_cats_r, pm_cats_n, pm_cats_l, pm_cats_d, sz_1, sz_2, sl_1, sl_2, lc_0, lc_lt, lc_le, li_ne, va_rf, wr_m1, we_m1, pm_kill_w, Int32.reduceOfInt, Int64.reduceOfInt, Int32.reduceOfNat, Int32.reduceLT, Int32.reduceLE, Prod.mk.injEq, Nat.reduceEqDiff, reduceCtorEq, and_true, true_and, and_false, false_and, and_self, ite_true, ite_false, ↓reduceIte, not_true_eq_false, not_false_eq_true, pe_ri, pe_rz, pe_rc, p_throw, t134, w_junk hA, Cs_g0_10 hP hA, Cs_g0_11 hP hA, Cs_g0_12 hP hA, Cs_g0_13 hP hA, Cs_g10_7 hP hA, Cs_r18 hP hA, z1, z2, z3, eq_false k4, eq_false k8, eq_false k9]
/-- TimberHouse$SawGrids.change()V -/
theorem c137 {d : Nat} {h : pm_H} {a : Nat} (hc : pm_cls h a = some 2) : pm_call pm_prog (d + 1) 137 [.ref a] h = pm_ev pm_prog (pm_call pm_prog d) 137 0 b137_0 [.ref a] [] h := pm_cal (pm_rc1 hc rfl) rfl rfl rfl
/-- TimberHouse$SawGrids.change()V -/
noncomputable def f137 (side : Int32) (cnt : Int32) (S : wS) : Option (wS) :=
  some (sz (sz S (0, 0, 0) 9 0) (0, 0, 0) 10 0)
theorem x137 {side : Int32} {cnt : Int32} {A : wK → Nat} {h : pm_H} {D : Nat} {S : wS} {r : wS} (hP : Cs_P side cnt) (hA : wok A (Cs_d side cnt) h.1) (hD : 1 ≤ D) (e : f137 side cnt S = some r) : pm_call pm_prog D 137 [.ref (A (0, 0, 0))] (wput A (Cs_d side cnt) S h) = some (Outcome.returned none, (wput A (Cs_d side cnt) r h)) := by
  obtain ⟨D, rfl⟩ : ∃ D', D = D' + 1 := ⟨D - 1, by omega⟩
  have hD : 0 ≤ D := by omega
  simp only [f137] at e
  rw [c137 (Cs_c0 hP hA), b137_0]
  have e := Option.some.inj e; subst e
  simp -implicitDefEqProofs (disch := first | assumption | exact Nat.le_of_ble_eq_true rfl | decide) only [b137_0, pe_aload0, pe_sipush, pe_putfield, pe_return, pm_prog_1, pm_ob_some, Nat.reduceDiv, Nat.reduceMod, Nat.reduceMul, Nat.reduceAdd, Int.reduceToNat, pm_kill_i, pm_kill_r, pm_kill_n, pm_kill_j, pm_kill_l, pm_kill_d, pm_cats_nil, pm_cats_i, pm_cats_r, pm_cats_n, pm_cats_l, pm_cats_d, sz_1, sz_2, sl_1, sl_2, lc_0, lc_lt, lc_le, li_ne, va_rf, wr_m1, we_m1, pm_kill_w, Int32.reduceOfInt, Int64.reduceOfInt, Int32.reduceOfNat, Int32.reduceLT, Int32.reduceLE, Prod.mk.injEq, Nat.reduceEqDiff, reduceCtorEq, and_true, true_and, and_false, false_and, and_self, ite_true, ite_false, ↓reduceIte, not_true_eq_false, not_false_eq_true, pe_ri, pe_rz, pe_rc, Cs_p0_10 hP hA, Cs_p0_9 hP hA]
/-- TimberHouse$SawGrids.put(IIIZ)V -/
theorem c136 {d : Nat} {h : pm_H} {a : Nat} {x0 : Int32} {x1 : Int32} {x2 : Int32} {x3 : Int32} (hc : pm_cls h a = some 2) : pm_call pm_prog (d + 1) 136 [.ref a, .int x0, .int x1, .int x2, .int x3] h = pm_ev pm_prog (pm_call pm_prog d) 136 0 b136_0 [.ref a, .int x0, .int x1, .int x2, .int x3] [] h := pm_cal (pm_rc1 hc rfl) rfl rfl rfl
theorem g136_1 {cl : pm_C} {ls st : List Value} {h : pm_H} : pm_go pm_prog cl 136 1 ls st h = pm_ev pm_prog cl 136 1 b136_1 ls st h := pm_go_eq pm_prog cl 136 1 ls st h
theorem g136_2 {cl : pm_C} {ls st : List Value} {h : pm_H} : pm_go pm_prog cl 136 2 ls st h = pm_ev pm_prog cl 136 2 b136_2 ls st h := pm_go_eq pm_prog cl 136 2 ls st h
noncomputable def f136_2 (side : Int32) (cnt : Int32) (S : wS) (y0i : Int32) (y1 : Int32) (y2 : Int32) : Option (wS) :=
  if 0 ≤ y0i ∧ y0i < side then
    if 0 ≤ y1 ∧ y1 < side then
      (f137 side cnt (sz S (5, y0i, 0) y1 (vp_nar .boolean y2))).bind fun S1 =>
      some S1
    else none
  else none
/-- TimberHouse$SawGrids.put(IIIZ)V -/
noncomputable def f136 (side : Int32) (cnt : Int32) (S : wS) (x1 : Int32) (x2 : Int32) (x3 : Int32) (x4 : Int32) : Option (wS) :=
  if 0 ≤ x1 ∧ x1 < 2 then
    if 0 ≤ x3 ∧ x3 < side then
      if 0 ≤ x2 ∧ x2 < side then
        if (if 0 = x1 then (vp_nar .boolean x4) else (S.1 (3, 0, x3) x2)) = 0 then
          f136_2 side cnt (sz S (3, x1, x3) x2 (vp_nar .boolean x4)) x3 x2 0
        else
          if (if 1 = x1 then (vp_nar .boolean x4) else (S.1 (3, 1, x3) x2)) = 0 then
            f136_2 side cnt (sz S (3, x1, x3) x2 (vp_nar .boolean x4)) x3 x2 0
          else
            f136_2 side cnt (sz S (3, x1, x3) x2 (vp_nar .boolean x4)) x3 x2 1
      else none
    else none
  else none
theorem y136_2 {side : Int32} {cnt : Int32} {A : wK → Nat} {h : pm_H} {D : Nat} {S : wS} {y0i : Int32} {y1 : Int32} {y2 : Int32} {r : wS} (hP : Cs_P side cnt) (hA : wok A (Cs_d side cnt) h.1) (hD : 1 ≤ D) (e : f136_2 side cnt S y0i y1 y2 = some r) : ∀ q1 q2 q3 q4 : Value, pm_go pm_prog (pm_call pm_prog D) 136 2 [.ref (A (0, 0, 0)), q1, q2, q3, q4] [.int y2, .int y1, .ref (A (5, y0i, 0))] (wput A (Cs_d side cnt) S h) = some (Outcome.returned none, (wput A (Cs_d side cnt) r h)) := by
  intro q1 q2 q3 q4
  simp only [f136_2] at e
  rw [g136_2, b136_2]
  by_cases k1 : 0 ≤ y0i ∧ y0i < side
  · rw [if_pos k1] at e
    by_cases k2 : 0 ≤ y1 ∧ y1 < side
    · rw [if_pos k2] at e
      obtain ⟨S1, k3, e⟩ := Option.bind_eq_some_iff.mp e
      try dsimp only at e
      have z3 := x137 (D := D) (h := h) hP hA (by omega) k3
      have e := Option.some.inj e; subst e
      simp -implicitDefEqProofs (disch := first | assumption | exact Nat.le_of_ble_eq_true rfl | decide) only [b136_0, g136_1, b136_1, pe_aload0, pe_getfield, pe_iload1, pe_aaload, pe_iload3, pe_iload2, pe_iload4, pe_bastore, pe_sipush, pe_baload, pe_if_eq, pe_goto, pe_goto_w, pe_call1, pm_af_ret, pm_af_void, pm_af_thr, pe_return, pm_prog_1, pm_ob_some, Nat.reduceDiv, Nat.reduceMod, Nat.reduceMul, Nat.reduceAdd, Int.reduceToNat, pm_kill_i, pm_kill_r, pm_kill_n, pm_kill_j, pm_kill_l, pm_kill_d, pm_cats_nil, pm_cats_i, pm_cats_r, pm_cats_n, pm_cats_l, pm_cats_d, sz_1, sz_2, sl_1, sl_2, lc_0, lc_lt, lc_le, li_ne, va_rf, wr_m1, we_m1, pm_kill_w, Int32.reduceOfInt, Int64.reduceOfInt, Int32.reduceOfNat, Int32.reduceLT, Int32.reduceLE, Prod.mk.injEq, Nat.reduceEqDiff, reduceCtorEq, and_true, true_and, and_false, false_and, and_self, ite_true, ite_false, ↓reduceIte, not_true_eq_false, not_false_eq_true, pe_ri, pe_rz, pe_rc, Cs_g0_2 hP hA, Cs_g0_3 hP hA, Cs_r1 hP hA, Cs_r2 hP hA, Cs_r3 hP hA, Cs_r4 hP hA, Cs_w3 hP hA, Cs_w5 hP hA, z3]
    · rw [if_neg k2] at e; cases e
  · rw [if_neg k1] at e; cases e
theorem x136 {side : Int32} {cnt : Int32} {A : wK → Nat} {h : pm_H} {D : Nat} {S : wS} {x1 : Int32} {x2 : Int32} {x3 : Int32} {x4 : Int32} {r : wS} (hP : Cs_P side cnt) (hA : wok A (Cs_d side cnt) h.1) (hD : 2 ≤ D) (e : f136 side cnt S x1 x2 x3 x4 = some r) : pm_call pm_prog D 136 [.ref (A (0, 0, 0)), .int x1, .int x2, .int x3, .int x4] (wput A (Cs_d side cnt) S h) = some (Outcome.returned none, (wput A (Cs_d side cnt) r h)) := by
  obtain ⟨D, rfl⟩ : ∃ D', D = D' + 1 := ⟨D - 1, by omega⟩
  have hD : 1 ≤ D := by omega
  simp only [f136] at e
  rw [c136 (Cs_c0 hP hA), b136_0]
  by_cases k1 : 0 ≤ x1 ∧ x1 < 2
  · rw [if_pos k1] at e
    by_cases k2 : 0 ≤ x3 ∧ x3 < side
    · rw [if_pos k2] at e
      by_cases k3 : 0 ≤ x2 ∧ x2 < side
      · rw [if_pos k3] at e
        by_cases k4 : (if 0 = x1 then (vp_nar .boolean x4) else (S.1 (3, 0, x3) x2)) = 0
        · rw [if_pos k4] at e
          have k5 := y136_2 (h := h) hP hA hD e
          simp -implicitDefEqProofs (disch := first | assumption | exact Nat.le_of_ble_eq_true rfl | decide) only [b136_0, g136_1, b136_1, pe_aload0, pe_getfield, pe_iload1, pe_aaload, pe_iload3, pe_iload2, pe_iload4, pe_bastore, pe_sipush, pe_baload, pe_if_eq, pe_goto, pe_goto_w, pe_call1, pm_af_ret, pm_af_void, pm_af_thr, pe_return, pm_prog_1, pm_ob_some, Nat.reduceDiv, Nat.reduceMod, Nat.reduceMul, Nat.reduceAdd, Int.reduceToNat, pm_kill_i, pm_kill_r, pm_kill_n, pm_kill_j, pm_kill_l, pm_kill_d, pm_cats_nil, pm_cats_i, pm_cats_r, pm_cats_n, pm_cats_l, pm_cats_d, sz_1, sz_2, sl_1, sl_2, lc_0, lc_lt, lc_le, li_ne, va_rf, wr_m1, we_m1, pm_kill_w, Int32.reduceOfInt, Int64.reduceOfInt, Int32.reduceOfNat, Int32.reduceLT, Int32.reduceLE, Prod.mk.injEq, Nat.reduceEqDiff, reduceCtorEq, and_true, true_and, and_false, false_and, and_self, ite_true, ite_false, ↓reduceIte, not_true_eq_false, not_false_eq_true, pe_ri, pe_rz, pe_rc, Cs_g0_2 hP hA, Cs_g0_3 hP hA, Cs_r1 hP hA, Cs_r2 hP hA, Cs_r3 hP hA, Cs_r4 hP hA, Cs_w3 hP hA, Cs_w5 hP hA, eq_true k4, k5]
        · rw [if_neg k4] at e
          by_cases k6 : (if 1 = x1 then (vp_nar .boolean x4) else (S.1 (3, 1, x3) x2)) = 0
          · rw [if_pos k6] at e
            have k7 := y136_2 (h := h) hP hA hD e
            simp -implicitDefEqProofs (disch := first | assumption | exact Nat.le_of_ble_eq_true rfl | decide) only [b136_0, g136_1, b136_1, pe_aload0, pe_getfield, pe_iload1, pe_aaload, pe_iload3, pe_iload2, pe_iload4, pe_bastore, pe_sipush, pe_baload, pe_if_eq, pe_goto, pe_goto_w, pe_call1, pm_af_ret, pm_af_void, pm_af_thr, pe_return, pm_prog_1, pm_ob_some, Nat.reduceDiv, Nat.reduceMod, Nat.reduceMul, Nat.reduceAdd, Int.reduceToNat, pm_kill_i, pm_kill_r, pm_kill_n, pm_kill_j, pm_kill_l, pm_kill_d, pm_cats_nil, pm_cats_i, pm_cats_r, pm_cats_n, pm_cats_l, pm_cats_d, sz_1, sz_2, sl_1, sl_2, lc_0, lc_lt, lc_le, li_ne, va_rf, wr_m1, we_m1, pm_kill_w, Int32.reduceOfInt, Int64.reduceOfInt, Int32.reduceOfNat, Int32.reduceLT, Int32.reduceLE, Prod.mk.injEq, Nat.reduceEqDiff, reduceCtorEq, and_true, true_and, and_false, false_and, and_self, ite_true, ite_false, ↓reduceIte, not_true_eq_false, not_false_eq_true, pe_ri, pe_rz, pe_rc, Cs_g0_2 hP hA, Cs_g0_3 hP hA, Cs_r1 hP hA, Cs_r2 hP hA, Cs_r3 hP hA, Cs_r4 hP hA, Cs_w3 hP hA, Cs_w5 hP hA, eq_false k4, eq_true k6, k7]
          · rw [if_neg k6] at e
            have k8 := y136_2 (h := h) hP hA hD e
            simp -implicitDefEqProofs (disch := first | assumption | exact Nat.le_of_ble_eq_true rfl | decide) only [b136_0, g136_1, b136_1, pe_aload0, pe_getfield, pe_iload1, pe_aaload, pe_iload3, pe_iload2, pe_iload4, pe_bastore, pe_sipush, pe_baload, pe_if_eq, pe_goto, pe_goto_w, pe_call1, pm_af_ret, pm_af_void, pm_af_thr, pe_return, pm_prog_1, pm_ob_some, Nat.reduceDiv, Nat.reduceMod, Nat.reduceMul, Nat.reduceAdd, Int.reduceToNat, pm_kill_i, pm_kill_r, pm_kill_n, pm_kill_j, pm_kill_l, pm_kill_d, pm_cats_nil, pm_cats_i, pm_cats_r, pm_cats_n, pm_cats_l, pm_cats_d, sz_1, sz_2, sl_1, sl_2, lc_0, lc_lt, lc_le, li_ne, va_rf, wr_m1, we_m1, pm_kill_w, Int32.reduceOfInt, Int64.reduceOfInt, Int32.reduceOfNat, Int32.reduceLT, Int32.reduceLE, Prod.mk.injEq, Nat.reduceEqDiff, reduceCtorEq, and_true, true_and, and_false, false_and, and_self, ite_true, ite_false, ↓reduceIte, not_true_eq_false, not_false_eq_true, pe_ri, pe_rz, pe_rc, Cs_g0_2 hP hA, Cs_g0_3 hP hA, Cs_r1 hP hA, Cs_r2 hP hA, Cs_r3 hP hA, Cs_r4 hP hA, Cs_w3 hP hA, Cs_w5 hP hA, eq_false k4, eq_false k6, k8]
      · rw [if_neg k3] at e; cases e
    · rw [if_neg k2] at e; cases e
  · rw [if_neg k1] at e; cases e
/-- TimberHouse$SawGrids.cell(IIIZ)Z -/
theorem c135 {d : Nat} {h : pm_H} {a : Nat} {x0 : Int32} {x1 : Int32} {x2 : Int32} {x3 : Int32} (hc : pm_cls h a = some 2) : pm_call pm_prog (d + 1) 135 [.ref a, .int x0, .int x1, .int x2, .int x3] h = pm_ev pm_prog (pm_call pm_prog d) 135 0 b135_0 [.ref a, .int x0, .int x1, .int x2, .int x3] [] h := pm_cal (pm_rc1 hc rfl) rfl rfl rfl
theorem g135_1 {cl : pm_C} {ls st : List Value} {h : pm_H} : pm_go pm_prog cl 135 1 ls st h = pm_ev pm_prog cl 135 1 b135_1 ls st h := pm_go_eq pm_prog cl 135 1 ls st h
theorem g135_2 {cl : pm_C} {ls st : List Value} {h : pm_H} : pm_go pm_prog cl 135 2 ls st h = pm_ev pm_prog cl 135 2 b135_2 ls st h := pm_go_eq pm_prog cl 135 2 ls st h
theorem g135_3 {cl : pm_C} {ls st : List Value} {h : pm_H} : pm_go pm_prog cl 135 3 ls st h = pm_ev pm_prog cl 135 3 b135_3 ls st h := pm_go_eq pm_prog cl 135 3 ls st h
theorem t135 {cl : pm_C} {j : Nat} {ls : List Value} {c : Nat} {h : pm_H} : pm_thr pm_prog cl 135 j ls c h = some (.threw c, h) := rfl
noncomputable def f135_2 (side : Int32) (cnt : Int32) (S : wS) (x1 : Int32) (x2 : Int32) (x3 : Int32) (x4 : Int32) (y0 : Int32) : Option ((Nat × wS) ⊕ (Int32 × wS)) :=
  (f132 y0).bind fun r => match r with
  | .inl c3 =>
    some (.inl (c3, S))
  | .inr _ =>
  if 0 ≤ x1 ∧ x1 < 2 then
    if 0 ≤ x3 ∧ x3 < side then
      if 0 ≤ x2 ∧ x2 < side then
        if (S.1 (3, x1, x3) x2) = x4 then
          some (.inr (0, S))
        else
          (f136 side cnt S x1 x2 x3 x4).bind fun S2 =>
          some (.inr (1, S2))
      else none
    else none
  else none
/-- TimberHouse$SawGrids.cell(IIIZ)Z -/
noncomputable def f135 (side : Int32) (cnt : Int32) (S : wS) (x1 : Int32) (x2 : Int32) (x3 : Int32) (x4 : Int32) : Option ((Nat × wS) ⊕ (Int32 × wS)) :=
  (f131 x1 0 1).bind fun v1 =>
  if v1 = 0 then
    f135_2 side cnt S x1 x2 x3 x4 0
  else
    (f131 x2 0 ((S.1 (0, 0, 0) 0) - 1)).bind fun v4 =>
    if v4 = 0 then
      f135_2 side cnt S x1 x2 x3 x4 0
    else
      (f131 x3 0 ((S.1 (0, 0, 0) 0) - 1)).bind fun v5 =>
      if v5 = 0 then
        f135_2 side cnt S x1 x2 x3 x4 0
      else
        f135_2 side cnt S x1 x2 x3 x4 1
theorem y135_2 {side : Int32} {cnt : Int32} {A : wK → Nat} {h : pm_H} {D : Nat} {S : wS} {x1 : Int32} {x2 : Int32} {x3 : Int32} {x4 : Int32} {y0 : Int32} {r : (Nat × wS) ⊕ (Int32 × wS)} (hP : Cs_P side cnt) (hA : wok A (Cs_d side cnt) h.1) (hD : 2 ≤ D) (e : f135_2 side cnt S x1 x2 x3 x4 y0 = some r) : pm_go pm_prog (pm_call pm_prog D) 135 2 [.ref (A (0, 0, 0)), .int x1, .int x2, .int x3, .int x4] [.int y0] (wput A (Cs_d side cnt) S h) = some (match (generalizing := false) r with | .inl (c, S1) => (Outcome.threw c, (wput A (Cs_d side cnt) S1 (pm_new h 6 (.inr (c, []))))) | .inr (w0, S1) => (Outcome.returned (some (.int w0)), (wput A (Cs_d side cnt) S1 h))) := by
  simp only [f135_2] at e
  rw [g135_2, b135_2]
  obtain ⟨r, k1, e⟩ := Option.bind_eq_some_iff.mp e
  have z1 := fun h => x132 (D := D) (h := h) (by omega) k1
  rcases r with c3 | _
  · dsimp only at e z1
    have e := Option.some.inj e; subst e
    simp -implicitDefEqProofs (disch := first | assumption | exact Nat.le_of_ble_eq_true rfl | decide) only [b135_0, g135_1, b135_1, g135_3, b135_3, pe_iload1, pe_sipush, pe_call3, pm_af_ret, pm_af_void, pm_af_thr, pe_if_eq, pe_iload2, pe_aload0, pe_getfield, pe_isub, pe_iload3, pe_goto, pe_goto_w, pe_call1, pe_aaload, pe_baload, pe_iload4, pe_icmp_ne, pe_call5, pm_prog_1, pm_ob_some, Nat.reduceDiv, Nat.reduceMod, Nat.reduceMul, Nat.reduceAdd, Int.reduceToNat, pm_kill_i, pm_kill_r, pm_kill_n, pm_kill_j, pm_kill_l, pm_kill_d, pm_cats_nil, pm_cats_i, pm_cats_r, pm_cats_n, pm_cats_l, pm_cats_d, sz_1, sz_2, sl_1, sl_2, lc_0, lc_lt, lc_le, li_ne, va_rf, wr_m1, we_m1, pm_kill_w, Int32.reduceOfInt, Int64.reduceOfInt, Int32.reduceOfNat, Int32.reduceLT, Int32.reduceLE, Prod.mk.injEq, Nat.reduceEqDiff, reduceCtorEq, and_true, true_and, and_false, false_and, and_self, ite_true, ite_false, ↓reduceIte, not_true_eq_false, not_false_eq_true, pe_ri, pe_rz, pe_rc, p_throw, t135, w_junk hA, Cs_g0_0 hP hA, Cs_g0_2 hP hA, Cs_r1 hP hA, Cs_r2 hP hA, Cs_r3 hP hA, z1]
  · dsimp only at e z1
    by_cases k2 : 0 ≤ x1 ∧ x1 < 2
    · rw [if_pos k2] at e
      by_cases k3 : 0 ≤ x3 ∧ x3 < side
      · rw [if_pos k3] at e
        by_cases k4 : 0 ≤ x2 ∧ x2 < side
        · rw [if_pos k4] at e
          by_cases k5 : (S.1 (3, x1, x3) x2) = x4
          · rw [if_pos k5] at e
            have e := Option.some.inj e; subst e
            simp -implicitDefEqProofs (disch := first | assumption | exact Nat.le_of_ble_eq_true rfl | decide) only [b135_0, g135_1, b135_1, g135_3, b135_3, pe_iload1, pe_sipush, pe_call3, pm_af_ret, pm_af_void, pm_af_thr, pe_if_eq, pe_iload2, pe_aload0, pe_getfield, pe_isub, pe_iload3, pe_goto, pe_goto_w, pe_call1, pe_aaload, pe_baload, pe_iload4, pe_icmp_ne, pe_call5, pm_prog_1, pm_ob_some, Nat.reduceDiv, Nat.reduceMod, Nat.reduceMul, Nat.reduceAdd, Int.reduceToNat, pm_kill_i, pm_kill_r, pm_kill_n, pm_kill_j, pm_kill_l, pm_kill_d, pm_cats_nil, pm_cats_i, pm_cats_r, pm_cats_n, pm_cats_l, pm_cats_d, sz_1, sz_2, sl_1, sl_2, lc_0, lc_lt, lc_le, li_ne, va_rf, wr_m1, we_m1, pm_kill_w, Int32.reduceOfInt, Int64.reduceOfInt, Int32.reduceOfNat, Int32.reduceLT, Int32.reduceLE, Prod.mk.injEq, Nat.reduceEqDiff, reduceCtorEq, and_true, true_and, and_false, false_and, and_self, ite_true, ite_false, ↓reduceIte, not_true_eq_false, not_false_eq_true, pe_ri, pe_rz, pe_rc, p_throw, t135, w_junk hA, Cs_g0_0 hP hA, Cs_g0_2 hP hA, Cs_r1 hP hA, Cs_r2 hP hA, Cs_r3 hP hA, z1, eq_true k5]
          · rw [if_neg k5] at e
            obtain ⟨S2, k6, e⟩ := Option.bind_eq_some_iff.mp e
            try dsimp only at e
            have z6 := x136 (D := D) (h := h) hP hA (by omega) k6
            have e := Option.some.inj e; subst e
            simp -implicitDefEqProofs (disch := first | assumption | exact Nat.le_of_ble_eq_true rfl | decide) only [b135_0, g135_1, b135_1, g135_3, b135_3, pe_iload1, pe_sipush, pe_call3, pm_af_ret, pm_af_void, pm_af_thr, pe_if_eq, pe_iload2, pe_aload0, pe_getfield, pe_isub, pe_iload3, pe_goto, pe_goto_w, pe_call1, pe_aaload, pe_baload, pe_iload4, pe_icmp_ne, pe_call5, pm_prog_1, pm_ob_some, Nat.reduceDiv, Nat.reduceMod, Nat.reduceMul, Nat.reduceAdd, Int.reduceToNat, pm_kill_i, pm_kill_r, pm_kill_n, pm_kill_j, pm_kill_l, pm_kill_d, pm_cats_nil, pm_cats_i, pm_cats_r, pm_cats_n, pm_cats_l, pm_cats_d, sz_1, sz_2, sl_1, sl_2, lc_0, lc_lt, lc_le, li_ne, va_rf, wr_m1, we_m1, pm_kill_w, Int32.reduceOfInt, Int64.reduceOfInt, Int32.reduceOfNat, Int32.reduceLT, Int32.reduceLE, Prod.mk.injEq, Nat.reduceEqDiff, reduceCtorEq, and_true, true_and, and_false, false_and, and_self, ite_true, ite_false, ↓reduceIte, not_true_eq_false, not_false_eq_true, pe_ri, pe_rz, pe_rc, p_throw, t135, w_junk hA, Cs_g0_0 hP hA, Cs_g0_2 hP hA, Cs_r1 hP hA, Cs_r2 hP hA, Cs_r3 hP hA, z1, eq_false k5, z6]
        · rw [if_neg k4] at e; cases e
      · rw [if_neg k3] at e; cases e
    · rw [if_neg k2] at e; cases e
theorem x135 {side : Int32} {cnt : Int32} {A : wK → Nat} {h : pm_H} {D : Nat} {S : wS} {x1 : Int32} {x2 : Int32} {x3 : Int32} {x4 : Int32} {r : (Nat × wS) ⊕ (Int32 × wS)} (hP : Cs_P side cnt) (hA : wok A (Cs_d side cnt) h.1) (hD : 3 ≤ D) (e : f135 side cnt S x1 x2 x3 x4 = some r) : pm_call pm_prog D 135 [.ref (A (0, 0, 0)), .int x1, .int x2, .int x3, .int x4] (wput A (Cs_d side cnt) S h) = some (match (generalizing := false) r with | .inl (c, S1) => (Outcome.threw c, (wput A (Cs_d side cnt) S1 (pm_new h 6 (.inr (c, []))))) | .inr (w0, S1) => (Outcome.returned (some (.int w0)), (wput A (Cs_d side cnt) S1 h))) := by
  obtain ⟨D, rfl⟩ : ∃ D', D = D' + 1 := ⟨D - 1, by omega⟩
  have hD : 2 ≤ D := by omega
  simp only [f135] at e
  rw [c135 (Cs_c0 hP hA), b135_0]
  obtain ⟨v1, k1, e⟩ := Option.bind_eq_some_iff.mp e
  try dsimp only at e
  have z1 := fun h => x131 (D := D) (h := h) (by omega) k1
  by_cases k2 : v1 = 0
  · rw [if_pos k2] at e
    have k3 := y135_2 (h := h) hP hA hD e
    simp -implicitDefEqProofs (disch := first | assumption | exact Nat.le_of_ble_eq_true rfl | decide) only [b135_0, g135_1, b135_1, g135_3, b135_3, pe_iload1, pe_sipush, pe_call3, pm_af_ret, pm_af_void, pm_af_thr, pe_if_eq, pe_iload2, pe_aload0, pe_getfield, pe_isub, pe_iload3, pe_goto, pe_goto_w, pe_call1, pe_aaload, pe_baload, pe_iload4, pe_icmp_ne, pe_call5, pm_prog_1, pm_ob_some, Nat.reduceDiv, Nat.reduceMod, Nat.reduceMul, Nat.reduceAdd, Int.reduceToNat, pm_kill_i, pm_kill_r, pm_kill_n, pm_kill_j, pm_kill_l, pm_kill_d, pm_cats_nil, pm_cats_i, pm_cats_r, pm_cats_n, pm_cats_l, pm_cats_d, sz_1, sz_2, sl_1, sl_2, lc_0, lc_lt, lc_le, li_ne, va_rf, wr_m1, we_m1, pm_kill_w, Int32.reduceOfInt, Int64.reduceOfInt, Int32.reduceOfNat, Int32.reduceLT, Int32.reduceLE, Prod.mk.injEq, Nat.reduceEqDiff, reduceCtorEq, and_true, true_and, and_false, false_and, and_self, ite_true, ite_false, ↓reduceIte, not_true_eq_false, not_false_eq_true, pe_ri, pe_rz, pe_rc, p_throw, t135, w_junk hA, Cs_g0_0 hP hA, Cs_g0_2 hP hA, Cs_r1 hP hA, Cs_r2 hP hA, Cs_r3 hP hA, z1, eq_true k2, k3]
  · rw [if_neg k2] at e
    obtain ⟨v4, k4, e⟩ := Option.bind_eq_some_iff.mp e
    try dsimp only at e
    have z4 := fun h => x131 (D := D) (h := h) (by omega) k4
    by_cases k5 : v4 = 0
    · rw [if_pos k5] at e
      have k6 := y135_2 (h := h) hP hA hD e
      simp -implicitDefEqProofs (disch := first | assumption | exact Nat.le_of_ble_eq_true rfl | decide) only [b135_0, g135_1, b135_1, g135_3, b135_3, pe_iload1, pe_sipush, pe_call3, pm_af_ret, pm_af_void, pm_af_thr, pe_if_eq, pe_iload2, pe_aload0, pe_getfield, pe_isub, pe_iload3, pe_goto, pe_goto_w, pe_call1, pe_aaload, pe_baload, pe_iload4, pe_icmp_ne, pe_call5, pm_prog_1, pm_ob_some, Nat.reduceDiv, Nat.reduceMod, Nat.reduceMul, Nat.reduceAdd, Int.reduceToNat, pm_kill_i, pm_kill_r, pm_kill_n, pm_kill_j, pm_kill_l, pm_kill_d, pm_cats_nil, pm_cats_i, pm_cats_r, pm_cats_n, pm_cats_l, pm_cats_d, sz_1, sz_2, sl_1, sl_2, lc_0, lc_lt, lc_le, li_ne, va_rf, wr_m1, we_m1, pm_kill_w, Int32.reduceOfInt, Int64.reduceOfInt, Int32.reduceOfNat, Int32.reduceLT, Int32.reduceLE, Prod.mk.injEq, Nat.reduceEqDiff, reduceCtorEq, and_true, true_and, and_false, false_and, and_self, ite_true, ite_false, ↓reduceIte, not_true_eq_false, not_false_eq_true, pe_ri, pe_rz, pe_rc, p_throw, t135, w_junk hA, Cs_g0_0 hP hA, Cs_g0_2 hP hA, Cs_r1 hP hA, Cs_r2 hP hA, Cs_r3 hP hA, z1, eq_false k2, z4, eq_true k5, k6]
    · rw [if_neg k5] at e
      obtain ⟨v5, k7, e⟩ := Option.bind_eq_some_iff.mp e
      try dsimp only at e
      have z7 := fun h => x131 (D := D) (h := h) (by omega) k7
      by_cases k8 : v5 = 0
      · rw [if_pos k8] at e
        have k9 := y135_2 (h := h) hP hA hD e
        simp -implicitDefEqProofs (disch := first | assumption | exact Nat.le_of_ble_eq_true rfl | decide) only [b135_0, g135_1, b135_1, g135_3, b135_3, pe_iload1, pe_sipush, pe_call3, pm_af_ret, pm_af_void, pm_af_thr, pe_if_eq, pe_iload2, pe_aload0, pe_getfield, pe_isub, pe_iload3, pe_goto, pe_goto_w, pe_call1, pe_aaload, pe_baload, pe_iload4, pe_icmp_ne, pe_call5, pm_prog_1, pm_ob_some, Nat.reduceDiv, Nat.reduceMod, Nat.reduceMul, Nat.reduceAdd, Int.reduceToNat, pm_kill_i, pm_kill_r, pm_kill_n, pm_kill_j, pm_kill_l, pm_kill_d, pm_cats_nil, pm_cats_i, pm_cats_r, pm_cats_n, pm_cats_l, pm_cats_d, sz_1, sz_2, sl_1, sl_2, lc_0, lc_lt, lc_le, li_ne, va_rf, wr_m1, we_m1, pm_kill_w, Int32.reduceOfInt, Int64.reduceOfInt, Int32.reduceOfNat, Int32.reduceLT, Int32.reduceLE, Prod.mk.injEq, Nat.reduceEqDiff, reduceCtorEq, and_true, true_and, and_false, false_and, and_self, ite_true, ite_false, ↓reduceIte, not_true_eq_false, not_false_eq_true, pe_ri, pe_rz, pe_rc, p_throw, t135, w_junk hA, Cs_g0_0 hP hA, Cs_g0_2 hP hA, Cs_r1 hP hA, Cs_r2 hP hA, Cs_r3 hP hA, z1, eq_false k2, z4, eq_false k5, z7, eq_true k8, k9]
      · rw [if_neg k8] at e
        have k10 := y135_2 (h := h) hP hA hD e
        simp -implicitDefEqProofs (disch := first | assumption | exact Nat.le_of_ble_eq_true rfl | decide) only [b135_0, g135_1, b135_1, g135_3, b135_3, pe_iload1, pe_sipush, pe_call3, pm_af_ret, pm_af_void, pm_af_thr, pe_if_eq, pe_iload2, pe_aload0, pe_getfield, pe_isub, pe_iload3, pe_goto, pe_goto_w, pe_call1, pe_aaload, pe_baload, pe_iload4, pe_icmp_ne, pe_call5, pm_prog_1, pm_ob_some, Nat.reduceDiv, Nat.reduceMod, Nat.reduceMul, Nat.reduceAdd, Int.reduceToNat, pm_kill_i, pm_kill_r, pm_kill_n, pm_kill_j, pm_kill_l, pm_kill_d, pm_cats_nil, pm_cats_i, pm_cats_r, pm_cats_n, pm_cats_l, pm_cats_d, sz_1, sz_2, sl_1, sl_2, lc_0, lc_lt, lc_le, li_ne, va_rf, wr_m1, we_m1, pm_kill_w, Int32.reduceOfInt, Int64.reduceOfInt, Int32.reduceOfNat, Int32.reduceLT, Int32.reduceLE, Prod.mk.injEq, Nat.reduceEqDiff, reduceCtorEq, and_true, true_and, and_false, false_and, and_self, ite_true, ite_false, ↓reduceIte, not_true_eq_false, not_false_eq_true, pe_ri, pe_rz, pe_rc, p_throw, t135, w_junk hA, Cs_g0_0 hP hA, Cs_g0_2 hP hA, Cs_r1 hP hA, Cs_r2 hP hA, Cs_r3 hP hA, z1, eq_false k2, z4, eq_false k5, z7, eq_false k8, k10]
/-- TimberHouse$SawGrids.proper(Z)V -/
theorem c139 {d : Nat} {h : pm_H} {x0 : Int32} : pm_call pm_prog (d + 1) 139 [.int x0] h = pm_ev pm_prog (pm_call pm_prog d) 139 0 b139_0 [.int x0] [] h := pm_cal (pm_rc0 rfl) rfl rfl rfl
theorem g139_1 {cl : pm_C} {ls st : List Value} {h : pm_H} : pm_go pm_prog cl 139 1 ls st h = pm_ev pm_prog cl 139 1 b139_1 ls st h := pm_go_eq pm_prog cl 139 1 ls st h
theorem t139 {cl : pm_C} {j : Nat} {ls : List Value} {c : Nat} {h : pm_H} : pm_thr pm_prog cl 139 j ls c h = some (.threw c, h) := rfl
/-- TimberHouse$SawGrids.proper(Z)V -/
noncomputable def f139 (x0 : Int32) : Option (Nat ⊕ (Unit)) :=
  if x0 = 0 then
    some (.inl 70)
  else
    some (.inr ())
theorem x139 {h : pm_H} {D : Nat} {x0 : Int32} {r : Nat ⊕ (Unit)} (hD : 1 ≤ D) (e : f139 x0 = some r) : pm_call pm_prog D 139 [.int x0] h = some (match (generalizing := false) r with | .inl c => (Outcome.threw c, (pm_new h 6 (.inr (c, [])))) | .inr _ => (Outcome.returned none, h)) := by
  obtain ⟨D, rfl⟩ : ∃ D', D = D' + 1 := ⟨D - 1, by omega⟩
  have hD : 0 ≤ D := by omega
  simp only [f139] at e
  rw [c139, b139_0]
  by_cases k1 : x0 = 0
  · rw [if_pos k1] at e
    have e := Option.some.inj e; subst e
    simp -implicitDefEqProofs (disch := first | assumption | exact Nat.le_of_ble_eq_true rfl | decide) only [b139_0, g139_1, b139_1, pe_iload0, pe_if_ne, pe_return, pm_prog_1, pm_ob_some, Nat.reduceDiv, Nat.reduceMod, Nat.reduceMul, Nat.reduceAdd, Int.reduceToNat, pm_kill_i, pm_kill_r, pm_kill_n, pm_kill_j, pm_kill_l, pm_kill_d, pm_cats_nil, pm_cats_i, pm_cats_r, pm_cats_n, pm_cats_l, pm_cats_d, sz_1, sz_2, sl_1, sl_2, lc_0, lc_lt, lc_le, li_ne, va_rf, wr_m1, we_m1, pm_kill_w, Int32.reduceOfInt, Int64.reduceOfInt, Int32.reduceOfNat, Int32.reduceLT, Int32.reduceLE, Prod.mk.injEq, Nat.reduceEqDiff, reduceCtorEq, and_true, true_and, and_false, false_and, and_self, ite_true, ite_false, ↓reduceIte, not_true_eq_false, not_false_eq_true, pe_ri, pe_rz, pe_rc, p_throw, t139, eq_true k1]
  · rw [if_neg k1] at e
    have e := Option.some.inj e; subst e
    simp -implicitDefEqProofs (disch := first | assumption | exact Nat.le_of_ble_eq_true rfl | decide) only [b139_0, g139_1, b139_1, pe_iload0, pe_if_ne, pe_return, pm_prog_1, pm_ob_some, Nat.reduceDiv, Nat.reduceMod, Nat.reduceMul, Nat.reduceAdd, Int.reduceToNat, pm_kill_i, pm_kill_r, pm_kill_n, pm_kill_j, pm_kill_l, pm_kill_d, pm_cats_nil, pm_cats_i, pm_cats_r, pm_cats_n, pm_cats_l, pm_cats_d, sz_1, sz_2, sl_1, sl_2, lc_0, lc_lt, lc_le, li_ne, va_rf, wr_m1, we_m1, pm_kill_w, Int32.reduceOfInt, Int64.reduceOfInt, Int32.reduceOfNat, Int32.reduceLT, Int32.reduceLE, Prod.mk.injEq, Nat.reduceEqDiff, reduceCtorEq, and_true, true_and, and_false, false_and, and_self, ite_true, ite_false, ↓reduceIte, not_true_eq_false, not_false_eq_true, pe_ri, pe_rz, pe_rc, p_throw, t139, eq_false k1]
/-- TimberHouse$SawGrids.span(IIII)V -/
theorem c138 {d : Nat} {h : pm_H} {a : Nat} {x0 : Int32} {x1 : Int32} {x2 : Int32} {x3 : Int32} (hc : pm_cls h a = some 2) : pm_call pm_prog (d + 1) 138 [.ref a, .int x0, .int x1, .int x2, .int x3] h = pm_ev pm_prog (pm_call pm_prog d) 138 0 b138_0 [.ref a, .int x0, .int x1, .int x2, .int x3, pm_junk] [] h := pm_cal (pm_rc1 hc rfl) rfl rfl rfl
theorem g138_1 {cl : pm_C} {ls st : List Value} {h : pm_H} : pm_go pm_prog cl 138 1 ls st h = pm_ev pm_prog cl 138 1 b138_1 ls st h := pm_go_eq pm_prog cl 138 1 ls st h
theorem g138_2 {cl : pm_C} {ls st : List Value} {h : pm_H} : pm_go pm_prog cl 138 2 ls st h = pm_ev pm_prog cl 138 2 b138_2 ls st h := pm_go_eq pm_prog cl 138 2 ls st h
theorem g138_3 {cl : pm_C} {ls st : List Value} {h : pm_H} : pm_go pm_prog cl 138 3 ls st h = pm_ev pm_prog cl 138 3 b138_3 ls st h := pm_go_eq pm_prog cl 138 3 ls st h
theorem g138_4 {cl : pm_C} {ls st : List Value} {h : pm_H} : pm_go pm_prog cl 138 4 ls st h = pm_ev pm_prog cl 138 4 b138_4 ls st h := pm_go_eq pm_prog cl 138 4 ls st h
theorem g138_5 {cl : pm_C} {ls st : List Value} {h : pm_H} : pm_go pm_prog cl 138 5 ls st h = pm_ev pm_prog cl 138 5 b138_5 ls st h := pm_go_eq pm_prog cl 138 5 ls st h
theorem g138_6 {cl : pm_C} {ls st : List Value} {h : pm_H} : pm_go pm_prog cl 138 6 ls st h = pm_ev pm_prog cl 138 6 b138_6 ls st h := pm_go_eq pm_prog cl 138 6 ls st h
theorem t138 {cl : pm_C} {j : Nat} {ls : List Value} {c : Nat} {h : pm_H} : pm_thr pm_prog cl 138 j ls c h = some (.threw c, h) := rfl
noncomputable def f138_b5 (side : Int32) (cnt : Int32) : Int32 × Int32 × Int32 × Int32 × wS → Option ((Int32 × Int32 × Int32 × Int32 × wS) ⊕ ((wS))) := fun (x1, x2, x4, x5, S) =>
  if x5 < x4 then
    (f136 side cnt S x1 x5 x2 1).bind fun S4 =>
    some (.inl (x1, x2, x4, (x5 + 1), S4))
  else
    some (.inr S)
noncomputable def f138_4 (side : Int32) (cnt : Int32) (S : wS) (x1 : Int32) (x2 : Int32) (x3 : Int32) (x4 : Int32) (y0 : Int32) : Option ((Nat × wS) ⊕ (wS)) :=
  (f139 y0).bind fun r => match r with
  | .inl c6 =>
    some (.inl (c6, S))
  | .inr _ =>
  (f137 side cnt S).bind fun S3 =>
  (lp (f138_b5 side cnt) FU (x1, x2, x4, x3, S3)).bind fun S5 =>
  some (.inr S5)
noncomputable def f138_2 (side : Int32) (cnt : Int32) (S : wS) (x1 : Int32) (x2 : Int32) (x3 : Int32) (x4 : Int32) (y0 : Int32) : Option ((Nat × wS) ⊕ (wS)) :=
  (f132 y0).bind fun r => match r with
  | .inl c8 =>
    some (.inl (c8, S))
  | .inr _ =>
  (f131 x3 0 (S.1 (0, 0, 0) 0)).bind fun v2 =>
  if v2 = 0 then
    f138_4 side cnt S x1 x2 x3 x4 0
  else
    (f131 x4 x3 (S.1 (0, 0, 0) 0)).bind fun v7 =>
    if v7 = 0 then
      f138_4 side cnt S x1 x2 x3 x4 0
    else
      f138_4 side cnt S x1 x2 x3 x4 1
/-- TimberHouse$SawGrids.span(IIII)V -/
noncomputable def f138 (side : Int32) (cnt : Int32) (S : wS) (x1 : Int32) (x2 : Int32) (x3 : Int32) (x4 : Int32) : Option ((Nat × wS) ⊕ (wS)) :=
  (f131 x1 0 1).bind fun v1 =>
  if v1 = 0 then
    f138_2 side cnt S x1 x2 x3 x4 0
  else
    (f131 x2 0 ((S.1 (0, 0, 0) 0) - 1)).bind fun v9 =>
    if v9 = 0 then
      f138_2 side cnt S x1 x2 x3 x4 0
    else
      f138_2 side cnt S x1 x2 x3 x4 1
def go138_5 (side : Int32) (cnt : Int32) (A : wK → Nat) (h : pm_H) (D : Nat) (R : Outcome × pm_H) : Int32 × Int32 × Int32 × Int32 × wS → Prop := fun (x1, x2, x4, x5, S) => ∀ q3 : Value, pm_go pm_prog (pm_call pm_prog D) 138 5 [.ref (A (0, 0, 0)), .int x1, .int x2, q3, .int x4, .int x5] [] (wput A (Cs_d side cnt) S h) = some R
def ex138_5 (side : Int32) (cnt : Int32) (A : wK → Nat) (h : pm_H) (D : Nat) (R : Outcome × pm_H) : (wS) → Prop := fun S => ∀ q0 q1 q2 q3 q4 q5 : Value, pm_go pm_prog (pm_call pm_prog D) 138 6 [q0, q1, q2, q3, q4, q5] [] (wput A (Cs_d side cnt) S h) = some R
theorem y138_b5 {side : Int32} {cnt : Int32} {A : wK → Nat} {h : pm_H} {D : Nat} {R : Outcome × pm_H} (hP : Cs_P side cnt) (hA : wok A (Cs_d side cnt) h.1) (hD : 2 ≤ D) (a : Int32 × Int32 × Int32 × Int32 × wS) (r : (Int32 × Int32 × Int32 × Int32 × wS) ⊕ ((wS))) (e : f138_b5 side cnt a = some r) (hc : Sum.elim (go138_5 side cnt A h D R) (ex138_5 side cnt A h D R) r) : go138_5 side cnt A h D R a := by
  obtain ⟨x1, x2, x4, x5, S⟩ := a
  dsimp only [go138_5]
  intro q3
  simp only [f138_b5] at e
  rw [g138_5, b138_5]
  by_cases k1 : x5 < x4
  · rw [if_pos k1] at e
    obtain ⟨S4, k2, e⟩ := Option.bind_eq_some_iff.mp e
    try dsimp only at e
    have z2 := x136 (D := D) (h := h) hP hA (by omega) k2
    have e := Option.some.inj e; subst e
    dsimp only [Sum.elim_inl, go138_5] at hc
    simp -implicitDefEqProofs (disch := first | assumption | exact Nat.le_of_ble_eq_true rfl | decide) only [b138_0, g138_1, b138_1, g138_3, b138_3, g138_6, b138_6, pe_iload1, pe_sipush, pe_call3, pm_af_ret, pm_af_void, pm_af_thr, pe_if_eq, pe_iload2, pe_aload0, pe_getfield, pe_isub, pe_goto, pe_goto_w, pe_call1, pe_iload3, pe_iload4, pe_istore5, pe_iload5, pe_icmp_ge, pe_call5, pe_iinc5, pe_return, pm_prog_1, pm_ob_some, Nat.reduceDiv, Nat.reduceMod, Nat.reduceMul, Nat.reduceAdd, Int.reduceToNat, pm_kill_i, pm_kill_r, pm_kill_n, pm_kill_j, pm_kill_l, pm_kill_d, pm_cats_nil, pm_cats_i, pm_cats_r, pm_cats_n, pm_cats_l, pm_cats_d, sz_1, sz_2, sl_1, sl_2, lc_0, lc_lt, lc_le, li_ne, va_rf, wr_m1, we_m1, pm_kill_w, Int32.reduceOfInt, Int64.reduceOfInt, Int32.reduceOfNat, Int32.reduceLT, Int32.reduceLE, Prod.mk.injEq, Nat.reduceEqDiff, reduceCtorEq, and_true, true_and, and_false, false_and, and_self, ite_true, ite_false, ↓reduceIte, not_true_eq_false, not_false_eq_true, pe_ri, pe_rz, pe_rc, p_throw, t138, w_junk hA, Cs_g0_0 hP hA, eq_true k1, z2, hc]
  · rw [if_neg k1] at e
    have e := Option.some.inj e; subst e
    dsimp only [Sum.elim_inr, ex138_5] at hc
    simp -implicitDefEqProofs (disch := first | assumption | exact Nat.le_of_ble_eq_true rfl | decide) only [b138_0, g138_1, b138_1, g138_3, b138_3, g138_6, b138_6, pe_iload1, pe_sipush, pe_call3, pm_af_ret, pm_af_void, pm_af_thr, pe_if_eq, pe_iload2, pe_aload0, pe_getfield, pe_isub, pe_goto, pe_goto_w, pe_call1, pe_iload3, pe_iload4, pe_istore5, pe_iload5, pe_icmp_ge, pe_call5, pe_iinc5, pe_return, pm_prog_1, pm_ob_some, Nat.reduceDiv, Nat.reduceMod, Nat.reduceMul, Nat.reduceAdd, Int.reduceToNat, pm_kill_i, pm_kill_r, pm_kill_n, pm_kill_j, pm_kill_l, pm_kill_d, pm_cats_nil, pm_cats_i, pm_cats_r, pm_cats_n, pm_cats_l, pm_cats_d, sz_1, sz_2, sl_1, sl_2, lc_0, lc_lt, lc_le, li_ne, va_rf, wr_m1, we_m1, pm_kill_w, Int32.reduceOfInt, Int64.reduceOfInt, Int32.reduceOfNat, Int32.reduceLT, Int32.reduceLE, Prod.mk.injEq, Nat.reduceEqDiff, reduceCtorEq, and_true, true_and, and_false, false_and, and_self, ite_true, ite_false, ↓reduceIte, not_true_eq_false, not_false_eq_true, pe_ri, pe_rz, pe_rc, p_throw, t138, w_junk hA, Cs_g0_0 hP hA, eq_false k1, hc]
theorem z138_5 {side : Int32} {cnt : Int32} {A : wK → Nat} {h : pm_H} {D : Nat} {R : Outcome × pm_H} (hP : Cs_P side cnt) (hA : wok A (Cs_d side cnt) h.1) (hD : 2 ≤ D) {n : Nat} {a : Int32 × Int32 × Int32 × Int32 × wS} {b : (wS)} (e : lp (f138_b5 side cnt) n a = some b) (hx : ex138_5 side cnt A h D R b) : go138_5 side cnt A h D R a := lp_run (fun a r => y138_b5 hP hA hD a r) n a b e hx
theorem y138_4 {side : Int32} {cnt : Int32} {A : wK → Nat} {h : pm_H} {D : Nat} {S : wS} {x1 : Int32} {x2 : Int32} {x3 : Int32} {x4 : Int32} {y0 : Int32} {r : (Nat × wS) ⊕ (wS)} (hP : Cs_P side cnt) (hA : wok A (Cs_d side cnt) h.1) (hD : 2 ≤ D) (e : f138_4 side cnt S x1 x2 x3 x4 y0 = some r) : ∀ q5 : Value, pm_go pm_prog (pm_call pm_prog D) 138 4 [.ref (A (0, 0, 0)), .int x1, .int x2, .int x3, .int x4, q5] [.int y0] (wput A (Cs_d side cnt) S h) = some (match (generalizing := false) r with | .inl (c, S1) => (Outcome.threw c, (wput A (Cs_d side cnt) S1 (pm_new h 6 (.inr (c, []))))) | .inr S1 => (Outcome.returned none, (wput A (Cs_d side cnt) S1 h))) := by
  intro q5
  simp only [f138_4] at e
  rw [g138_4, b138_4]
  obtain ⟨r, k1, e⟩ := Option.bind_eq_some_iff.mp e
  have z1 := fun h => x139 (D := D) (h := h) (by omega) k1
  rcases r with c6 | _
  · dsimp only at e z1
    have e := Option.some.inj e; subst e
    simp -implicitDefEqProofs (disch := first | assumption | exact Nat.le_of_ble_eq_true rfl | decide) only [b138_0, g138_1, b138_1, g138_3, b138_3, g138_6, b138_6, pe_iload1, pe_sipush, pe_call3, pm_af_ret, pm_af_void, pm_af_thr, pe_if_eq, pe_iload2, pe_aload0, pe_getfield, pe_isub, pe_goto, pe_goto_w, pe_call1, pe_iload3, pe_iload4, pe_istore5, pe_iload5, pe_icmp_ge, pe_call5, pe_iinc5, pe_return, pm_prog_1, pm_ob_some, Nat.reduceDiv, Nat.reduceMod, Nat.reduceMul, Nat.reduceAdd, Int.reduceToNat, pm_kill_i, pm_kill_r, pm_kill_n, pm_kill_j, pm_kill_l, pm_kill_d, pm_cats_nil, pm_cats_i, pm_cats_r, pm_cats_n, pm_cats_l, pm_cats_d, sz_1, sz_2, sl_1, sl_2, lc_0, lc_lt, lc_le, li_ne, va_rf, wr_m1, we_m1, pm_kill_w, Int32.reduceOfInt, Int64.reduceOfInt, Int32.reduceOfNat, Int32.reduceLT, Int32.reduceLE, Prod.mk.injEq, Nat.reduceEqDiff, reduceCtorEq, and_true, true_and, and_false, false_and, and_self, ite_true, ite_false, ↓reduceIte, not_true_eq_false, not_false_eq_true, pe_ri, pe_rz, pe_rc, p_throw, t138, w_junk hA, Cs_g0_0 hP hA, z1]
  · dsimp only at e z1
    obtain ⟨S3, k2, e⟩ := Option.bind_eq_some_iff.mp e
    try dsimp only at e
    have z2 := x137 (D := D) (h := h) hP hA (by omega) k2
    obtain ⟨S5, k3, e⟩ := Option.bind_eq_some_iff.mp e
    try dsimp only at e
    try simp -implicitDefEqProofs (disch := first | assumption | exact Nat.le_of_ble_eq_true rfl | decide) only [b138_0, g138_1, b138_1, g138_3, b138_3, g138_6, b138_6, pe_iload1, pe_sipush, pe_call3, pm_af_ret, pm_af_void, pm_af_thr, pe_if_eq, pe_iload2, pe_aload0, pe_getfield, pe_isub, pe_goto, pe_goto_w, pe_call1, pe_iload3, pe_iload4, pe_istore5, pe_iload5, pe_icmp_ge, pe_call5, pe_iinc5, pe_return, pm_prog_1, pm_ob_some, Nat.reduceDiv, Nat.reduceMod, Nat.reduceMul, Nat.reduceAdd, Int.reduceToNat, pm_kill_i, pm_kill_r, pm_kill_n, pm_kill_j, pm_kill_l, pm_kill_d, pm_cats_nil, pm_cats_i, pm_cats_r, pm_cats_n, pm_cats_l, pm_cats_d, sz_1, sz_2, sl_1, sl_2, lc_0, lc_lt, lc_le, li_ne, va_rf, wr_m1, we_m1, pm_kill_w, Int32.reduceOfInt, Int64.reduceOfInt, Int32.reduceOfNat, Int32.reduceLT, Int32.reduceLE, Prod.mk.injEq, Nat.reduceEqDiff, reduceCtorEq, and_true, true_and, and_false, false_and, and_self, ite_true, ite_false, ↓reduceIte, not_true_eq_false, not_false_eq_true, pe_ri, pe_rz, pe_rc, p_throw, t138, w_junk hA, Cs_g0_0 hP hA, z1, z2]
    refine z138_5 hP hA hD k3 ?_ _
    dsimp only [ex138_5]
    intro q0 q1 q2 q3 q4 q5
    have e := Option.some.inj e; subst e
    simp -implicitDefEqProofs (disch := first | assumption | exact Nat.le_of_ble_eq_true rfl | decide) only [b138_0, g138_1, b138_1, g138_3, b138_3, g138_6, b138_6, pe_iload1, pe_sipush, pe_call3, pm_af_ret, pm_af_void, pm_af_thr, pe_if_eq, pe_iload2, pe_aload0, pe_getfield, pe_isub, pe_goto, pe_goto_w, pe_call1, pe_iload3, pe_iload4, pe_istore5, pe_iload5, pe_icmp_ge, pe_call5, pe_iinc5, pe_return, pm_prog_1, pm_ob_some, Nat.reduceDiv, Nat.reduceMod, Nat.reduceMul, Nat.reduceAdd, Int.reduceToNat, pm_kill_i, pm_kill_r, pm_kill_n, pm_kill_j, pm_kill_l, pm_kill_d, pm_cats_nil, pm_cats_i, pm_cats_r, pm_cats_n, pm_cats_l, pm_cats_d, sz_1, sz_2, sl_1, sl_2, lc_0, lc_lt, lc_le, li_ne, va_rf, wr_m1, we_m1, pm_kill_w, Int32.reduceOfInt, Int64.reduceOfInt, Int32.reduceOfNat, Int32.reduceLT, Int32.reduceLE, Prod.mk.injEq, Nat.reduceEqDiff, reduceCtorEq, and_true, true_and, and_false, false_and, and_self, ite_true, ite_false, ↓reduceIte, not_true_eq_false, not_false_eq_true, pe_ri, pe_rz, pe_rc, p_throw, t138, w_junk hA, Cs_g0_0 hP hA, z1, z2]
theorem y138_2 {side : Int32} {cnt : Int32} {A : wK → Nat} {h : pm_H} {D : Nat} {S : wS} {x1 : Int32} {x2 : Int32} {x3 : Int32} {x4 : Int32} {y0 : Int32} {r : (Nat × wS) ⊕ (wS)} (hP : Cs_P side cnt) (hA : wok A (Cs_d side cnt) h.1) (hD : 2 ≤ D) (e : f138_2 side cnt S x1 x2 x3 x4 y0 = some r) : ∀ q5 : Value, pm_go pm_prog (pm_call pm_prog D) 138 2 [.ref (A (0, 0, 0)), .int x1, .int x2, .int x3, .int x4, q5] [.int y0] (wput A (Cs_d side cnt) S h) = some (match (generalizing := false) r with | .inl (c, S1) => (Outcome.threw c, (wput A (Cs_d side cnt) S1 (pm_new h 6 (.inr (c, []))))) | .inr S1 => (Outcome.returned none, (wput A (Cs_d side cnt) S1 h))) := by
  intro q5
  simp only [f138_2] at e
  rw [g138_2, b138_2]
  obtain ⟨r, k1, e⟩ := Option.bind_eq_some_iff.mp e
  have z1 := fun h => x132 (D := D) (h := h) (by omega) k1
  rcases r with c8 | _
  · dsimp only at e z1
    have e := Option.some.inj e; subst e
    simp -implicitDefEqProofs (disch := first | assumption | exact Nat.le_of_ble_eq_true rfl | decide) only [b138_0, g138_1, b138_1, g138_3, b138_3, g138_6, b138_6, pe_iload1, pe_sipush, pe_call3, pm_af_ret, pm_af_void, pm_af_thr, pe_if_eq, pe_iload2, pe_aload0, pe_getfield, pe_isub, pe_goto, pe_goto_w, pe_call1, pe_iload3, pe_iload4, pe_istore5, pe_iload5, pe_icmp_ge, pe_call5, pe_iinc5, pe_return, pm_prog_1, pm_ob_some, Nat.reduceDiv, Nat.reduceMod, Nat.reduceMul, Nat.reduceAdd, Int.reduceToNat, pm_kill_i, pm_kill_r, pm_kill_n, pm_kill_j, pm_kill_l, pm_kill_d, pm_cats_nil, pm_cats_i, pm_cats_r, pm_cats_n, pm_cats_l, pm_cats_d, sz_1, sz_2, sl_1, sl_2, lc_0, lc_lt, lc_le, li_ne, va_rf, wr_m1, we_m1, pm_kill_w, Int32.reduceOfInt, Int64.reduceOfInt, Int32.reduceOfNat, Int32.reduceLT, Int32.reduceLE, Prod.mk.injEq, Nat.reduceEqDiff, reduceCtorEq, and_true, true_and, and_false, false_and, and_self, ite_true, ite_false, ↓reduceIte, not_true_eq_false, not_false_eq_true, pe_ri, pe_rz, pe_rc, p_throw, t138, w_junk hA, Cs_g0_0 hP hA, z1]
  · dsimp only at e z1
    obtain ⟨v2, k2, e⟩ := Option.bind_eq_some_iff.mp e
    try dsimp only at e
    have z2 := fun h => x131 (D := D) (h := h) (by omega) k2
    by_cases k3 : v2 = 0
    · rw [if_pos k3] at e
      have k4 := y138_4 (h := h) hP hA hD e
      simp -implicitDefEqProofs (disch := first | assumption | exact Nat.le_of_ble_eq_true rfl | decide) only [b138_0, g138_1, b138_1, g138_3, b138_3, g138_6, b138_6, pe_iload1, pe_sipush, pe_call3, pm_af_ret, pm_af_void, pm_af_thr, pe_if_eq, pe_iload2, pe_aload0, pe_getfield, pe_isub, pe_goto, pe_goto_w, pe_call1, pe_iload3, pe_iload4, pe_istore5, pe_iload5, pe_icmp_ge, pe_call5, pe_iinc5, pe_return, pm_prog_1, pm_ob_some, Nat.reduceDiv, Nat.reduceMod, Nat.reduceMul, Nat.reduceAdd, Int.reduceToNat, pm_kill_i, pm_kill_r, pm_kill_n, pm_kill_j, pm_kill_l, pm_kill_d, pm_cats_nil, pm_cats_i, pm_cats_r, pm_cats_n, pm_cats_l, pm_cats_d, sz_1, sz_2, sl_1, sl_2, lc_0, lc_lt, lc_le, li_ne, va_rf, wr_m1, we_m1, pm_kill_w, Int32.reduceOfInt, Int64.reduceOfInt, Int32.reduceOfNat, Int32.reduceLT, Int32.reduceLE, Prod.mk.injEq, Nat.reduceEqDiff, reduceCtorEq, and_true, true_and, and_false, false_and, and_self, ite_true, ite_false, ↓reduceIte, not_true_eq_false, not_false_eq_true, pe_ri, pe_rz, pe_rc, p_throw, t138, w_junk hA, Cs_g0_0 hP hA, z1, z2, eq_true k3, k4]
    · rw [if_neg k3] at e
      obtain ⟨v7, k5, e⟩ := Option.bind_eq_some_iff.mp e
      try dsimp only at e
      have z5 := fun h => x131 (D := D) (h := h) (by omega) k5
      by_cases k6 : v7 = 0
      · rw [if_pos k6] at e
        have k7 := y138_4 (h := h) hP hA hD e
        simp -implicitDefEqProofs (disch := first | assumption | exact Nat.le_of_ble_eq_true rfl | decide) only [b138_0, g138_1, b138_1, g138_3, b138_3, g138_6, b138_6, pe_iload1, pe_sipush, pe_call3, pm_af_ret, pm_af_void, pm_af_thr, pe_if_eq, pe_iload2, pe_aload0, pe_getfield, pe_isub, pe_goto, pe_goto_w, pe_call1, pe_iload3, pe_iload4, pe_istore5, pe_iload5, pe_icmp_ge, pe_call5, pe_iinc5, pe_return, pm_prog_1, pm_ob_some, Nat.reduceDiv, Nat.reduceMod, Nat.reduceMul, Nat.reduceAdd, Int.reduceToNat, pm_kill_i, pm_kill_r, pm_kill_n, pm_kill_j, pm_kill_l, pm_kill_d, pm_cats_nil, pm_cats_i, pm_cats_r, pm_cats_n, pm_cats_l, pm_cats_d, sz_1, sz_2, sl_1, sl_2, lc_0, lc_lt, lc_le, li_ne, va_rf, wr_m1, we_m1, pm_kill_w, Int32.reduceOfInt, Int64.reduceOfInt, Int32.reduceOfNat, Int32.reduceLT, Int32.reduceLE, Prod.mk.injEq, Nat.reduceEqDiff, reduceCtorEq, and_true, true_and, and_false, false_and, and_self, ite_true, ite_false, ↓reduceIte, not_true_eq_false, not_false_eq_true, pe_ri, pe_rz, pe_rc, p_throw, t138, w_junk hA, Cs_g0_0 hP hA, z1, z2, eq_false k3, z5, eq_true k6, k7]
      · rw [if_neg k6] at e
        have k8 := y138_4 (h := h) hP hA hD e
        simp -implicitDefEqProofs (disch := first | assumption | exact Nat.le_of_ble_eq_true rfl | decide) only [b138_0, g138_1, b138_1, g138_3, b138_3, g138_6, b138_6, pe_iload1, pe_sipush, pe_call3, pm_af_ret, pm_af_void, pm_af_thr, pe_if_eq, pe_iload2, pe_aload0, pe_getfield, pe_isub, pe_goto, pe_goto_w, pe_call1, pe_iload3, pe_iload4, pe_istore5, pe_iload5, pe_icmp_ge, pe_call5, pe_iinc5, pe_return, pm_prog_1, pm_ob_some, Nat.reduceDiv, Nat.reduceMod, Nat.reduceMul, Nat.reduceAdd, Int.reduceToNat, pm_kill_i, pm_kill_r, pm_kill_n, pm_kill_j, pm_kill_l, pm_kill_d, pm_cats_nil, pm_cats_i, pm_cats_r, pm_cats_n, pm_cats_l, pm_cats_d, sz_1, sz_2, sl_1, sl_2, lc_0, lc_lt, lc_le, li_ne, va_rf, wr_m1, we_m1, pm_kill_w, Int32.reduceOfInt, Int64.reduceOfInt, Int32.reduceOfNat, Int32.reduceLT, Int32.reduceLE, Prod.mk.injEq, Nat.reduceEqDiff, reduceCtorEq, and_true, true_and, and_false, false_and, and_self, ite_true, ite_false, ↓reduceIte, not_true_eq_false, not_false_eq_true, pe_ri, pe_rz, pe_rc, p_throw, t138, w_junk hA, Cs_g0_0 hP hA, z1, z2, eq_false k3, z5, eq_false k6, k8]
theorem x138 {side : Int32} {cnt : Int32} {A : wK → Nat} {h : pm_H} {D : Nat} {S : wS} {x1 : Int32} {x2 : Int32} {x3 : Int32} {x4 : Int32} {r : (Nat × wS) ⊕ (wS)} (hP : Cs_P side cnt) (hA : wok A (Cs_d side cnt) h.1) (hD : 3 ≤ D) (e : f138 side cnt S x1 x2 x3 x4 = some r) : pm_call pm_prog D 138 [.ref (A (0, 0, 0)), .int x1, .int x2, .int x3, .int x4] (wput A (Cs_d side cnt) S h) = some (match (generalizing := false) r with | .inl (c, S1) => (Outcome.threw c, (wput A (Cs_d side cnt) S1 (pm_new h 6 (.inr (c, []))))) | .inr S1 => (Outcome.returned none, (wput A (Cs_d side cnt) S1 h))) := by
  obtain ⟨D, rfl⟩ : ∃ D', D = D' + 1 := ⟨D - 1, by omega⟩
  have hD : 2 ≤ D := by omega
  simp only [f138] at e
  rw [c138 (Cs_c0 hP hA), b138_0]
  obtain ⟨v1, k1, e⟩ := Option.bind_eq_some_iff.mp e
  try dsimp only at e
  have z1 := fun h => x131 (D := D) (h := h) (by omega) k1
  by_cases k2 : v1 = 0
  · rw [if_pos k2] at e
    have k3 := y138_2 (h := h) hP hA hD e
    simp -implicitDefEqProofs (disch := first | assumption | exact Nat.le_of_ble_eq_true rfl | decide) only [b138_0, g138_1, b138_1, g138_3, b138_3, g138_6, b138_6, pe_iload1, pe_sipush, pe_call3, pm_af_ret, pm_af_void, pm_af_thr, pe_if_eq, pe_iload2, pe_aload0, pe_getfield, pe_isub, pe_goto, pe_goto_w, pe_call1, pe_iload3, pe_iload4, pe_istore5, pe_iload5, pe_icmp_ge, pe_call5, pe_iinc5, pe_return, pm_prog_1, pm_ob_some, Nat.reduceDiv, Nat.reduceMod, Nat.reduceMul, Nat.reduceAdd, Int.reduceToNat, pm_kill_i, pm_kill_r, pm_kill_n, pm_kill_j, pm_kill_l, pm_kill_d, pm_cats_nil, pm_cats_i, pm_cats_r, pm_cats_n, pm_cats_l, pm_cats_d, sz_1, sz_2, sl_1, sl_2, lc_0, lc_lt, lc_le, li_ne, va_rf, wr_m1, we_m1, pm_kill_w, Int32.reduceOfInt, Int64.reduceOfInt, Int32.reduceOfNat, Int32.reduceLT, Int32.reduceLE, Prod.mk.injEq, Nat.reduceEqDiff, reduceCtorEq, and_true, true_and, and_false, false_and, and_self, ite_true, ite_false, ↓reduceIte, not_true_eq_false, not_false_eq_true, pe_ri, pe_rz, pe_rc, p_throw, t138, w_junk hA, Cs_g0_0 hP hA, z1, eq_true k2, k3]
  · rw [if_neg k2] at e
    obtain ⟨v9, k4, e⟩ := Option.bind_eq_some_iff.mp e
    try dsimp only at e
    have z4 := fun h => x131 (D := D) (h := h) (by omega) k4
    by_cases k5 : v9 = 0
    · rw [if_pos k5] at e
      have k6 := y138_2 (h := h) hP hA hD e
      simp -implicitDefEqProofs (disch := first | assumption | exact Nat.le_of_ble_eq_true rfl | decide) only [b138_0, g138_1, b138_1, g138_3, b138_3, g138_6, b138_6, pe_iload1, pe_sipush, pe_call3, pm_af_ret, pm_af_void, pm_af_thr, pe_if_eq, pe_iload2, pe_aload0, pe_getfield, pe_isub, pe_goto, pe_goto_w, pe_call1, pe_iload3, pe_iload4, pe_istore5, pe_iload5, pe_icmp_ge, pe_call5, pe_iinc5, pe_return, pm_prog_1, pm_ob_some, Nat.reduceDiv, Nat.reduceMod, Nat.reduceMul, Nat.reduceAdd, Int.reduceToNat, pm_kill_i, pm_kill_r, pm_kill_n, pm_kill_j, pm_kill_l, pm_kill_d, pm_cats_nil, pm_cats_i, pm_cats_r, pm_cats_n, pm_cats_l, pm_cats_d, sz_1, sz_2, sl_1, sl_2, lc_0, lc_lt, lc_le, li_ne, va_rf, wr_m1, we_m1, pm_kill_w, Int32.reduceOfInt, Int64.reduceOfInt, Int32.reduceOfNat, Int32.reduceLT, Int32.reduceLE, Prod.mk.injEq, Nat.reduceEqDiff, reduceCtorEq, and_true, true_and, and_false, false_and, and_self, ite_true, ite_false, ↓reduceIte, not_true_eq_false, not_false_eq_true, pe_ri, pe_rz, pe_rc, p_throw, t138, w_junk hA, Cs_g0_0 hP hA, z1, eq_false k2, z4, eq_true k5, k6]
    · rw [if_neg k5] at e
      have k7 := y138_2 (h := h) hP hA hD e
      simp -implicitDefEqProofs (disch := first | assumption | exact Nat.le_of_ble_eq_true rfl | decide) only [b138_0, g138_1, b138_1, g138_3, b138_3, g138_6, b138_6, pe_iload1, pe_sipush, pe_call3, pm_af_ret, pm_af_void, pm_af_thr, pe_if_eq, pe_iload2, pe_aload0, pe_getfield, pe_isub, pe_goto, pe_goto_w, pe_call1, pe_iload3, pe_iload4, pe_istore5, pe_iload5, pe_icmp_ge, pe_call5, pe_iinc5, pe_return, pm_prog_1, pm_ob_some, Nat.reduceDiv, Nat.reduceMod, Nat.reduceMul, Nat.reduceAdd, Int.reduceToNat, pm_kill_i, pm_kill_r, pm_kill_n, pm_kill_j, pm_kill_l, pm_kill_d, pm_cats_nil, pm_cats_i, pm_cats_r, pm_cats_n, pm_cats_l, pm_cats_d, sz_1, sz_2, sl_1, sl_2, lc_0, lc_lt, lc_le, li_ne, va_rf, wr_m1, we_m1, pm_kill_w, Int32.reduceOfInt, Int64.reduceOfInt, Int32.reduceOfNat, Int32.reduceLT, Int32.reduceLE, Prod.mk.injEq, Nat.reduceEqDiff, reduceCtorEq, and_true, true_and, and_false, false_and, and_self, ite_true, ite_false, ↓reduceIte, not_true_eq_false, not_false_eq_true, pe_ri, pe_rz, pe_rc, p_throw, t138, w_junk hA, Cs_g0_0 hP hA, z1, eq_false k2, z4, eq_false k5, k7]
/-- TimberHouse$SawGrids.knot(III)Z -/
theorem c140 {d : Nat} {h : pm_H} {a : Nat} {x0 : Int32} {x1 : Int32} {x2 : Int32} (hc : pm_cls h a = some 2) : pm_call pm_prog (d + 1) 140 [.ref a, .int x0, .int x1, .int x2] h = pm_ev pm_prog (pm_call pm_prog d) 140 0 b140_0 [.ref a, .int x0, .int x1, .int x2] [] h := pm_cal (pm_rc1 hc rfl) rfl rfl rfl
theorem g140_1 {cl : pm_C} {ls st : List Value} {h : pm_H} : pm_go pm_prog cl 140 1 ls st h = pm_ev pm_prog cl 140 1 b140_1 ls st h := pm_go_eq pm_prog cl 140 1 ls st h
theorem g140_2 {cl : pm_C} {ls st : List Value} {h : pm_H} : pm_go pm_prog cl 140 2 ls st h = pm_ev pm_prog cl 140 2 b140_2 ls st h := pm_go_eq pm_prog cl 140 2 ls st h
theorem g140_3 {cl : pm_C} {ls st : List Value} {h : pm_H} : pm_go pm_prog cl 140 3 ls st h = pm_ev pm_prog cl 140 3 b140_3 ls st h := pm_go_eq pm_prog cl 140 3 ls st h
theorem t140 {cl : pm_C} {j : Nat} {ls : List Value} {c : Nat} {h : pm_H} : pm_thr pm_prog cl 140 j ls c h = some (.threw c, h) := rfl
noncomputable def f140_2 (side : Int32) (cnt : Int32) (S : wS) (x1 : Int32) (x2 : Int32) (x3 : Int32) (y0 : Int32) : Option ((Nat × wS) ⊕ (Int32 × wS)) :=
  (f132 y0).bind fun r => match r with
  | .inl c5 =>
    some (.inl (c5, S))
  | .inr _ =>
  (f131 x3 0 10000).bind fun v2 =>
  (f139 v2).bind fun r => match r with
  | .inl c4 =>
    some (.inl (c4, S))
  | .inr _ =>
  if 0 ≤ x2 ∧ x2 < side then
    if 0 ≤ x1 ∧ x1 < side then
      if (S.1 (7, x2, 0) x1) = x3 then
        some (.inr (0, S))
      else
        (f137 side cnt (sz S (7, x2, 0) x1 x3)).bind fun S3 =>
        some (.inr (1, S3))
    else none
  else none
/-- TimberHouse$SawGrids.knot(III)Z -/
noncomputable def f140 (side : Int32) (cnt : Int32) (S : wS) (x1 : Int32) (x2 : Int32) (x3 : Int32) : Option ((Nat × wS) ⊕ (Int32 × wS)) :=
  (f131 x1 0 ((S.1 (0, 0, 0) 0) - 1)).bind fun v1 =>
  if v1 = 0 then
    f140_2 side cnt S x1 x2 x3 0
  else
    (f131 x2 0 ((S.1 (0, 0, 0) 0) - 1)).bind fun v6 =>
    if v6 = 0 then
      f140_2 side cnt S x1 x2 x3 0
    else
      f140_2 side cnt S x1 x2 x3 1
theorem y140_2 {side : Int32} {cnt : Int32} {A : wK → Nat} {h : pm_H} {D : Nat} {S : wS} {x1 : Int32} {x2 : Int32} {x3 : Int32} {y0 : Int32} {r : (Nat × wS) ⊕ (Int32 × wS)} (hP : Cs_P side cnt) (hA : wok A (Cs_d side cnt) h.1) (hD : 1 ≤ D) (e : f140_2 side cnt S x1 x2 x3 y0 = some r) : pm_go pm_prog (pm_call pm_prog D) 140 2 [.ref (A (0, 0, 0)), .int x1, .int x2, .int x3] [.int y0] (wput A (Cs_d side cnt) S h) = some (match (generalizing := false) r with | .inl (c, S1) => (Outcome.threw c, (wput A (Cs_d side cnt) S1 (pm_new h 6 (.inr (c, []))))) | .inr (w0, S1) => (Outcome.returned (some (.int w0)), (wput A (Cs_d side cnt) S1 h))) := by
  simp only [f140_2] at e
  rw [g140_2, b140_2]
  obtain ⟨r, k1, e⟩ := Option.bind_eq_some_iff.mp e
  have z1 := fun h => x132 (D := D) (h := h) (by omega) k1
  rcases r with c5 | _
  · dsimp only at e z1
    have e := Option.some.inj e; subst e
    simp -implicitDefEqProofs (disch := first | assumption | exact Nat.le_of_ble_eq_true rfl | decide) only [b140_0, g140_1, b140_1, g140_3, b140_3, pe_iload1, pe_sipush, pe_aload0, pe_getfield, pe_isub, pe_call3, pm_af_ret, pm_af_void, pm_af_thr, pe_if_eq, pe_iload2, pe_goto, pe_goto_w, pe_call1, pe_iload3, pe_aaload, pe_iaload, pe_icmp_ne, pe_iastore, pm_prog_1, pm_ob_some, Nat.reduceDiv, Nat.reduceMod, Nat.reduceMul, Nat.reduceAdd, Int.reduceToNat, pm_kill_i, pm_kill_r, pm_kill_n, pm_kill_j, pm_kill_l, pm_kill_d, pm_cats_nil, pm_cats_i, pm_cats_r, pm_cats_n, pm_cats_l, pm_cats_d, sz_1, sz_2, sl_1, sl_2, lc_0, lc_lt, lc_le, li_ne, va_rf, wr_m1, we_m1, pm_kill_w, Int32.reduceOfInt, Int64.reduceOfInt, Int32.reduceOfNat, Int32.reduceLT, Int32.reduceLE, Prod.mk.injEq, Nat.reduceEqDiff, reduceCtorEq, and_true, true_and, and_false, false_and, and_self, ite_true, ite_false, ↓reduceIte, not_true_eq_false, not_false_eq_true, pe_ri, pe_rz, pe_rc, p_throw, t140, w_junk hA, Cs_g0_0 hP hA, Cs_g0_4 hP hA, Cs_r6 hP hA, Cs_r7 hP hA, Cs_w7 hP hA, z1]
  · dsimp only at e z1
    obtain ⟨v2, k2, e⟩ := Option.bind_eq_some_iff.mp e
    try dsimp only at e
    have z2 := fun h => x131 (D := D) (h := h) (by omega) k2
    obtain ⟨r, k3, e⟩ := Option.bind_eq_some_iff.mp e
    have z3 := fun h => x139 (D := D) (h := h) (by omega) k3
    rcases r with c4 | _
    · dsimp only at e z3
      have e := Option.some.inj e; subst e
      simp -implicitDefEqProofs (disch := first | assumption | exact Nat.le_of_ble_eq_true rfl | decide) only [b140_0, g140_1, b140_1, g140_3, b140_3, pe_iload1, pe_sipush, pe_aload0, pe_getfield, pe_isub, pe_call3, pm_af_ret, pm_af_void, pm_af_thr, pe_if_eq, pe_iload2, pe_goto, pe_goto_w, pe_call1, pe_iload3, pe_aaload, pe_iaload, pe_icmp_ne, pe_iastore, pm_prog_1, pm_ob_some, Nat.reduceDiv, Nat.reduceMod, Nat.reduceMul, Nat.reduceAdd, Int.reduceToNat, pm_kill_i, pm_kill_r, pm_kill_n, pm_kill_j, pm_kill_l, pm_kill_d, pm_cats_nil, pm_cats_i, pm_cats_r, pm_cats_n, pm_cats_l, pm_cats_d, sz_1, sz_2, sl_1, sl_2, lc_0, lc_lt, lc_le, li_ne, va_rf, wr_m1, we_m1, pm_kill_w, Int32.reduceOfInt, Int64.reduceOfInt, Int32.reduceOfNat, Int32.reduceLT, Int32.reduceLE, Prod.mk.injEq, Nat.reduceEqDiff, reduceCtorEq, and_true, true_and, and_false, false_and, and_self, ite_true, ite_false, ↓reduceIte, not_true_eq_false, not_false_eq_true, pe_ri, pe_rz, pe_rc, p_throw, t140, w_junk hA, Cs_g0_0 hP hA, Cs_g0_4 hP hA, Cs_r6 hP hA, Cs_r7 hP hA, Cs_w7 hP hA, z1, z2, z3]
    · dsimp only at e z3
      by_cases k4 : 0 ≤ x2 ∧ x2 < side
      · rw [if_pos k4] at e
        by_cases k5 : 0 ≤ x1 ∧ x1 < side
        · rw [if_pos k5] at e
          by_cases k6 : (S.1 (7, x2, 0) x1) = x3
          · rw [if_pos k6] at e
            have e := Option.some.inj e; subst e
            simp -implicitDefEqProofs (disch := first | assumption | exact Nat.le_of_ble_eq_true rfl | decide) only [b140_0, g140_1, b140_1, g140_3, b140_3, pe_iload1, pe_sipush, pe_aload0, pe_getfield, pe_isub, pe_call3, pm_af_ret, pm_af_void, pm_af_thr, pe_if_eq, pe_iload2, pe_goto, pe_goto_w, pe_call1, pe_iload3, pe_aaload, pe_iaload, pe_icmp_ne, pe_iastore, pm_prog_1, pm_ob_some, Nat.reduceDiv, Nat.reduceMod, Nat.reduceMul, Nat.reduceAdd, Int.reduceToNat, pm_kill_i, pm_kill_r, pm_kill_n, pm_kill_j, pm_kill_l, pm_kill_d, pm_cats_nil, pm_cats_i, pm_cats_r, pm_cats_n, pm_cats_l, pm_cats_d, sz_1, sz_2, sl_1, sl_2, lc_0, lc_lt, lc_le, li_ne, va_rf, wr_m1, we_m1, pm_kill_w, Int32.reduceOfInt, Int64.reduceOfInt, Int32.reduceOfNat, Int32.reduceLT, Int32.reduceLE, Prod.mk.injEq, Nat.reduceEqDiff, reduceCtorEq, and_true, true_and, and_false, false_and, and_self, ite_true, ite_false, ↓reduceIte, not_true_eq_false, not_false_eq_true, pe_ri, pe_rz, pe_rc, p_throw, t140, w_junk hA, Cs_g0_0 hP hA, Cs_g0_4 hP hA, Cs_r6 hP hA, Cs_r7 hP hA, Cs_w7 hP hA, z1, z2, z3, eq_true k6]
          · rw [if_neg k6] at e
            obtain ⟨S3, k7, e⟩ := Option.bind_eq_some_iff.mp e
            try dsimp only at e
            have z7 := x137 (D := D) (h := h) hP hA (by omega) k7
            have e := Option.some.inj e; subst e
            simp -implicitDefEqProofs (disch := first | assumption | exact Nat.le_of_ble_eq_true rfl | decide) only [b140_0, g140_1, b140_1, g140_3, b140_3, pe_iload1, pe_sipush, pe_aload0, pe_getfield, pe_isub, pe_call3, pm_af_ret, pm_af_void, pm_af_thr, pe_if_eq, pe_iload2, pe_goto, pe_goto_w, pe_call1, pe_iload3, pe_aaload, pe_iaload, pe_icmp_ne, pe_iastore, pm_prog_1, pm_ob_some, Nat.reduceDiv, Nat.reduceMod, Nat.reduceMul, Nat.reduceAdd, Int.reduceToNat, pm_kill_i, pm_kill_r, pm_kill_n, pm_kill_j, pm_kill_l, pm_kill_d, pm_cats_nil, pm_cats_i, pm_cats_r, pm_cats_n, pm_cats_l, pm_cats_d, sz_1, sz_2, sl_1, sl_2, lc_0, lc_lt, lc_le, li_ne, va_rf, wr_m1, we_m1, pm_kill_w, Int32.reduceOfInt, Int64.reduceOfInt, Int32.reduceOfNat, Int32.reduceLT, Int32.reduceLE, Prod.mk.injEq, Nat.reduceEqDiff, reduceCtorEq, and_true, true_and, and_false, false_and, and_self, ite_true, ite_false, ↓reduceIte, not_true_eq_false, not_false_eq_true, pe_ri, pe_rz, pe_rc, p_throw, t140, w_junk hA, Cs_g0_0 hP hA, Cs_g0_4 hP hA, Cs_r6 hP hA, Cs_r7 hP hA, Cs_w7 hP hA, z1, z2, z3, eq_false k6, z7]
        · rw [if_neg k5] at e; cases e
      · rw [if_neg k4] at e; cases e
theorem x140 {side : Int32} {cnt : Int32} {A : wK → Nat} {h : pm_H} {D : Nat} {S : wS} {x1 : Int32} {x2 : Int32} {x3 : Int32} {r : (Nat × wS) ⊕ (Int32 × wS)} (hP : Cs_P side cnt) (hA : wok A (Cs_d side cnt) h.1) (hD : 2 ≤ D) (e : f140 side cnt S x1 x2 x3 = some r) : pm_call pm_prog D 140 [.ref (A (0, 0, 0)), .int x1, .int x2, .int x3] (wput A (Cs_d side cnt) S h) = some (match (generalizing := false) r with | .inl (c, S1) => (Outcome.threw c, (wput A (Cs_d side cnt) S1 (pm_new h 6 (.inr (c, []))))) | .inr (w0, S1) => (Outcome.returned (some (.int w0)), (wput A (Cs_d side cnt) S1 h))) := by
  obtain ⟨D, rfl⟩ : ∃ D', D = D' + 1 := ⟨D - 1, by omega⟩
  have hD : 1 ≤ D := by omega
  simp only [f140] at e
  rw [c140 (Cs_c0 hP hA), b140_0]
  obtain ⟨v1, k1, e⟩ := Option.bind_eq_some_iff.mp e
  try dsimp only at e
  have z1 := fun h => x131 (D := D) (h := h) (by omega) k1
  by_cases k2 : v1 = 0
  · rw [if_pos k2] at e
    have k3 := y140_2 (h := h) hP hA hD e
    simp -implicitDefEqProofs (disch := first | assumption | exact Nat.le_of_ble_eq_true rfl | decide) only [b140_0, g140_1, b140_1, g140_3, b140_3, pe_iload1, pe_sipush, pe_aload0, pe_getfield, pe_isub, pe_call3, pm_af_ret, pm_af_void, pm_af_thr, pe_if_eq, pe_iload2, pe_goto, pe_goto_w, pe_call1, pe_iload3, pe_aaload, pe_iaload, pe_icmp_ne, pe_iastore, pm_prog_1, pm_ob_some, Nat.reduceDiv, Nat.reduceMod, Nat.reduceMul, Nat.reduceAdd, Int.reduceToNat, pm_kill_i, pm_kill_r, pm_kill_n, pm_kill_j, pm_kill_l, pm_kill_d, pm_cats_nil, pm_cats_i, pm_cats_r, pm_cats_n, pm_cats_l, pm_cats_d, sz_1, sz_2, sl_1, sl_2, lc_0, lc_lt, lc_le, li_ne, va_rf, wr_m1, we_m1, pm_kill_w, Int32.reduceOfInt, Int64.reduceOfInt, Int32.reduceOfNat, Int32.reduceLT, Int32.reduceLE, Prod.mk.injEq, Nat.reduceEqDiff, reduceCtorEq, and_true, true_and, and_false, false_and, and_self, ite_true, ite_false, ↓reduceIte, not_true_eq_false, not_false_eq_true, pe_ri, pe_rz, pe_rc, p_throw, t140, w_junk hA, Cs_g0_0 hP hA, Cs_g0_4 hP hA, Cs_r6 hP hA, Cs_r7 hP hA, Cs_w7 hP hA, z1, eq_true k2, k3]
  · rw [if_neg k2] at e
    obtain ⟨v6, k4, e⟩ := Option.bind_eq_some_iff.mp e
    try dsimp only at e
    have z4 := fun h => x131 (D := D) (h := h) (by omega) k4
    by_cases k5 : v6 = 0
    · rw [if_pos k5] at e
      have k6 := y140_2 (h := h) hP hA hD e
      simp -implicitDefEqProofs (disch := first | assumption | exact Nat.le_of_ble_eq_true rfl | decide) only [b140_0, g140_1, b140_1, g140_3, b140_3, pe_iload1, pe_sipush, pe_aload0, pe_getfield, pe_isub, pe_call3, pm_af_ret, pm_af_void, pm_af_thr, pe_if_eq, pe_iload2, pe_goto, pe_goto_w, pe_call1, pe_iload3, pe_aaload, pe_iaload, pe_icmp_ne, pe_iastore, pm_prog_1, pm_ob_some, Nat.reduceDiv, Nat.reduceMod, Nat.reduceMul, Nat.reduceAdd, Int.reduceToNat, pm_kill_i, pm_kill_r, pm_kill_n, pm_kill_j, pm_kill_l, pm_kill_d, pm_cats_nil, pm_cats_i, pm_cats_r, pm_cats_n, pm_cats_l, pm_cats_d, sz_1, sz_2, sl_1, sl_2, lc_0, lc_lt, lc_le, li_ne, va_rf, wr_m1, we_m1, pm_kill_w, Int32.reduceOfInt, Int64.reduceOfInt, Int32.reduceOfNat, Int32.reduceLT, Int32.reduceLE, Prod.mk.injEq, Nat.reduceEqDiff, reduceCtorEq, and_true, true_and, and_false, false_and, and_self, ite_true, ite_false, ↓reduceIte, not_true_eq_false, not_false_eq_true, pe_ri, pe_rz, pe_rc, p_throw, t140, w_junk hA, Cs_g0_0 hP hA, Cs_g0_4 hP hA, Cs_r6 hP hA, Cs_r7 hP hA, Cs_w7 hP hA, z1, eq_false k2, z4, eq_true k5, k6]
    · rw [if_neg k5] at e
      have k7 := y140_2 (h := h) hP hA hD e
      simp -implicitDefEqProofs (disch := first | assumption | exact Nat.le_of_ble_eq_true rfl | decide) only [b140_0, g140_1, b140_1, g140_3, b140_3, pe_iload1, pe_sipush, pe_aload0, pe_getfield, pe_isub, pe_call3, pm_af_ret, pm_af_void, pm_af_thr, pe_if_eq, pe_iload2, pe_goto, pe_goto_w, pe_call1, pe_iload3, pe_aaload, pe_iaload, pe_icmp_ne, pe_iastore, pm_prog_1, pm_ob_some, Nat.reduceDiv, Nat.reduceMod, Nat.reduceMul, Nat.reduceAdd, Int.reduceToNat, pm_kill_i, pm_kill_r, pm_kill_n, pm_kill_j, pm_kill_l, pm_kill_d, pm_cats_nil, pm_cats_i, pm_cats_r, pm_cats_n, pm_cats_l, pm_cats_d, sz_1, sz_2, sl_1, sl_2, lc_0, lc_lt, lc_le, li_ne, va_rf, wr_m1, we_m1, pm_kill_w, Int32.reduceOfInt, Int64.reduceOfInt, Int32.reduceOfNat, Int32.reduceLT, Int32.reduceLE, Prod.mk.injEq, Nat.reduceEqDiff, reduceCtorEq, and_true, true_and, and_false, false_and, and_self, ite_true, ite_false, ↓reduceIte, not_true_eq_false, not_false_eq_true, pe_ri, pe_rz, pe_rc, p_throw, t140, w_junk hA, Cs_g0_0 hP hA, Cs_g0_4 hP hA, Cs_r6 hP hA, Cs_r7 hP hA, Cs_w7 hP hA, z1, eq_false k2, z4, eq_false k5, k7]
/-- TimberHouse$SawGrids$View.sum([[Z[[IZ)V -/
theorem c196 {d : Nat} {h : pm_H} {a : Nat} {r0 : Nat} {r1 : Nat} {x2 : Int32} (hc : pm_cls h a = some 3) : pm_call pm_prog (d + 1) 196 [.ref a, .ref r0, .ref r1, .int x2] h = pm_ev pm_prog (pm_call pm_prog d) 196 0 b196_0 [.ref a, .ref r0, .ref r1, .int x2, pm_junk, pm_junk, pm_junk, pm_junk] [] h := pm_cal (pm_rc1 hc rfl) rfl rfl rfl
theorem g196_1 {cl : pm_C} {ls st : List Value} {h : pm_H} : pm_go pm_prog cl 196 1 ls st h = pm_ev pm_prog cl 196 1 b196_1 ls st h := pm_go_eq pm_prog cl 196 1 ls st h
theorem g196_2 {cl : pm_C} {ls st : List Value} {h : pm_H} : pm_go pm_prog cl 196 2 ls st h = pm_ev pm_prog cl 196 2 b196_2 ls st h := pm_go_eq pm_prog cl 196 2 ls st h
theorem g196_3 {cl : pm_C} {ls st : List Value} {h : pm_H} : pm_go pm_prog cl 196 3 ls st h = pm_ev pm_prog cl 196 3 b196_3 ls st h := pm_go_eq pm_prog cl 196 3 ls st h
theorem g196_4 {cl : pm_C} {ls st : List Value} {h : pm_H} : pm_go pm_prog cl 196 4 ls st h = pm_ev pm_prog cl 196 4 b196_4 ls st h := pm_go_eq pm_prog cl 196 4 ls st h
theorem g196_5 {cl : pm_C} {ls st : List Value} {h : pm_H} : pm_go pm_prog cl 196 5 ls st h = pm_ev pm_prog cl 196 5 b196_5 ls st h := pm_go_eq pm_prog cl 196 5 ls st h
theorem g196_6 {cl : pm_C} {ls st : List Value} {h : pm_H} : pm_go pm_prog cl 196 6 ls st h = pm_ev pm_prog cl 196 6 b196_6 ls st h := pm_go_eq pm_prog cl 196 6 ls st h
theorem g196_7 {cl : pm_C} {ls st : List Value} {h : pm_H} : pm_go pm_prog cl 196 7 ls st h = pm_ev pm_prog cl 196 7 b196_7 ls st h := pm_go_eq pm_prog cl 196 7 ls st h
theorem g196_8 {cl : pm_C} {ls st : List Value} {h : pm_H} : pm_go pm_prog cl 196 8 ls st h = pm_ev pm_prog cl 196 8 b196_8 ls st h := pm_go_eq pm_prog cl 196 8 ls st h
theorem g196_9 {cl : pm_C} {ls st : List Value} {h : pm_H} : pm_go pm_prog cl 196 9 ls st h = pm_ev pm_prog cl 196 9 b196_9 ls st h := pm_go_eq pm_prog cl 196 9 ls st h
theorem g196_10 {cl : pm_C} {ls st : List Value} {h : pm_H} : pm_go pm_prog cl 196 10 ls st h = pm_ev pm_prog cl 196 10 b196_10 ls st h := pm_go_eq pm_prog cl 196 10 ls st h
noncomputable def f196_8_2 (side : Int32) (cnt : Int32) (S : wS) (x0i : Int32) (x3 : Int32) (x4 : Int32) (x5 : Int32) (x7 : Int32) (y0i : Int32) (y0j : Int32) (y1 : Int32) (y2 : Int32) (y3 : Int32) : Option ((Int32 × Int32 × Int32 × Int32 × wS) ⊕ ((Int32 × Int32 × Int32 × wS))) :=
  if 0 ≤ x0i ∧ x0i < 2 then
    if 0 ≤ y0i ∧ y0i < 2 then
      if 0 ≤ y0j ∧ y0j < (side + 1) then
        if 0 ≤ y1 ∧ y1 < (side + 1) then
          if 0 ≤ (x4 + 1) ∧ (x4 + 1) < (side + 1) then
            if 0 ≤ x4 ∧ x4 < (side + 1) then
              if 0 ≤ (x5 + 1) ∧ (x5 + 1) < (side + 1) then
                if 0 ≤ x5 ∧ x5 < (side + 1) then
                  some (.inl (x0i, x3, x4, (x5 + 1), (sz (sz S (12, y0i, y0j) y1 (y2 + y3)) (14, x0i, (x4 + 1)) (x5 + 1) ((((S.1 (14, x0i, x4) (x5 + 1)) + (S.1 (14, x0i, (x4 + 1)) x5)) - (S.1 (14, x0i, x4) x5)) + x7))))
                else none
              else none
            else none
          else none
        else none
      else none
    else none
  else none
noncomputable def f196_6_2 (side : Int32) (cnt : Int32) (S : wS) (x0i : Int32) (x3 : Int32) (x4 : Int32) (x5 : Int32) (x6 : Int32) (y0 : Int32) : Option ((Int32 × Int32 × Int32 × Int32 × wS) ⊕ ((Int32 × Int32 × Int32 × wS))) :=
  if 0 ≤ x0i ∧ x0i < 2 then
    if 0 ≤ (x4 + 1) ∧ (x4 + 1) < (side + 1) then
      if 0 ≤ x4 ∧ x4 < (side + 1) then
        if 0 ≤ (x5 + 1) ∧ (x5 + 1) < (side + 1) then
          if 0 ≤ x5 ∧ x5 < (side + 1) then
            if x6 = 0 then
              f196_8_2 side cnt S x0i x3 x4 x5 y0 x0i (x4 + 1) (x5 + 1) (((S.1 (12, x0i, x4) (x5 + 1)) + (S.1 (12, x0i, (x4 + 1)) x5)) - (S.1 (12, x0i, x4) x5)) 1
            else
              f196_8_2 side cnt S x0i x3 x4 x5 y0 x0i (x4 + 1) (x5 + 1) (((S.1 (12, x0i, x4) (x5 + 1)) + (S.1 (12, x0i, (x4 + 1)) x5)) - (S.1 (12, x0i, x4) x5)) 0
          else none
        else none
      else none
    else none
  else none
noncomputable def f196_4_2 (side : Int32) (cnt : Int32) (S : wS) (x0i : Int32) (x3 : Int32) (x4 : Int32) (x5 : Int32) (y0 : Int32) : Option ((Int32 × Int32 × Int32 × Int32 × wS) ⊕ ((Int32 × Int32 × Int32 × wS))) :=
  if 0 ≤ x0i ∧ x0i < 2 then
    if x3 = 0 then
      if 0 ≤ x4 ∧ x4 < side then
        if 0 ≤ x5 ∧ x5 < side then
          f196_6_2 side cnt S x0i x3 x4 x5 y0 (S.1 (7, x4, 0) x5)
        else none
      else none
    else
      if 0 ≤ x5 ∧ x5 < side then
        if 0 ≤ x4 ∧ x4 < side then
          f196_6_2 side cnt S x0i x3 x4 x5 y0 (S.1 (7, x5, 0) x4)
        else none
      else none
  else none
noncomputable def f196_b2 (side : Int32) (cnt : Int32) : Int32 × Int32 × Int32 × Int32 × wS → Option ((Int32 × Int32 × Int32 × Int32 × wS) ⊕ ((Int32 × Int32 × Int32 × wS))) := fun (x0i, x3, x4, x5, S) =>
  if 0 ≤ x0i ∧ x0i < 2 then
    if x5 < (S.1 (10, x0i, 0) 0) then
      if x3 = 0 then
        if 0 ≤ x4 ∧ x4 < side then
          if 0 ≤ x5 ∧ x5 < side then
            f196_4_2 side cnt S x0i x3 x4 x5 (S.1 (5, x4, 0) x5)
          else none
        else none
      else
        if 0 ≤ x5 ∧ x5 < side then
          if 0 ≤ x4 ∧ x4 < side then
            f196_4_2 side cnt S x0i x3 x4 x5 (S.1 (5, x5, 0) x4)
          else none
        else none
    else
      some (.inr (x0i, x3, x4, S))
  else none
noncomputable def f196_b1 (side : Int32) (cnt : Int32) : Int32 × Int32 × Int32 × wS → Option ((Int32 × Int32 × Int32 × wS) ⊕ ((wS))) := fun (x0i, x3, x4, S) =>
  if 0 ≤ x0i ∧ x0i < 2 then
    if x4 < (S.1 (10, x0i, 0) 0) then
      (lp (f196_b2 side cnt) FU (x0i, x3, x4, 0, S)).bind fun (v2i, v5, v6, S1) =>
      if 0 ≤ v2i ∧ v2i < 2 then
        some (.inl (v2i, v5, (v6 + 1), S1))
      else none
    else
      some (.inr S)
  else none
/-- TimberHouse$SawGrids$View.sum([[Z[[IZ)V -/
noncomputable def f196 (side : Int32) (cnt : Int32) (S : wS) (x0i : Int32) (x3 : Int32) : Option (wS) :=
  if 0 ≤ x0i ∧ x0i < 2 then
    (lp (f196_b1 side cnt) FU (x0i, x3, 0, S)).bind fun S7 =>
    some S7
  else none
def go196_2 (side : Int32) (cnt : Int32) (A : wK → Nat) (h : pm_H) (D : Nat) (R : Outcome × pm_H) : Int32 × Int32 × Int32 × Int32 × wS → Prop := fun (x0i, x3, x4, x5, S) => ∀ q6 q7 : Value, pm_go pm_prog (pm_call pm_prog D) 196 2 [.ref (A (10, x0i, 0)), .ref (A (4, 0, 0)), .ref (A (6, 0, 0)), .int x3, .int x4, .int x5, q6, q7] [] (wput A (Cs_d side cnt) S h) = some R
def ex196_2 (side : Int32) (cnt : Int32) (A : wK → Nat) (h : pm_H) (D : Nat) (R : Outcome × pm_H) : (Int32 × Int32 × Int32 × wS) → Prop := fun (x0i, x3, x4, S) => ∀ q5 q6 q7 : Value, pm_go pm_prog (pm_call pm_prog D) 196 9 [.ref (A (10, x0i, 0)), .ref (A (4, 0, 0)), .ref (A (6, 0, 0)), .int x3, .int x4, q5, q6, q7] [] (wput A (Cs_d side cnt) S h) = some R
theorem y196_8_2 {side : Int32} {cnt : Int32} {A : wK → Nat} {h : pm_H} {D : Nat} {R : Outcome × pm_H} {S : wS} {x0i : Int32} {x3 : Int32} {x4 : Int32} {x5 : Int32} {x7 : Int32} {y0i : Int32} {y0j : Int32} {y1 : Int32} {y2 : Int32} {y3 : Int32} {r : (Int32 × Int32 × Int32 × Int32 × wS) ⊕ ((Int32 × Int32 × Int32 × wS))} (hP : Cs_P side cnt) (hA : wok A (Cs_d side cnt) h.1) (hD : 0 ≤ D) (e : f196_8_2 side cnt S x0i x3 x4 x5 x7 y0i y0j y1 y2 y3 = some r) (hc : Sum.elim (go196_2 side cnt A h D R) (ex196_2 side cnt A h D R) r) : ∀ q6 : Value, pm_go pm_prog (pm_call pm_prog D) 196 8 [.ref (A (10, x0i, 0)), .ref (A (4, 0, 0)), .ref (A (6, 0, 0)), .int x3, .int x4, .int x5, q6, .int x7] [.int y3, .int y2, .int y1, .ref (A (12, y0i, y0j))] (wput A (Cs_d side cnt) S h) = some R := by
  intro q6
  simp only [f196_8_2] at e
  rw [g196_8, b196_8]
  by_cases k1 : 0 ≤ x0i ∧ x0i < 2
  · rw [if_pos k1] at e
    by_cases k2 : 0 ≤ y0i ∧ y0i < 2
    · rw [if_pos k2] at e
      by_cases k3 : 0 ≤ y0j ∧ y0j < (side + 1)
      · rw [if_pos k3] at e
        by_cases k4 : 0 ≤ y1 ∧ y1 < (side + 1)
        · rw [if_pos k4] at e
          by_cases k5 : 0 ≤ (x4 + 1) ∧ (x4 + 1) < (side + 1)
          · rw [if_pos k5] at e
            by_cases k6 : 0 ≤ x4 ∧ x4 < (side + 1)
            · rw [if_pos k6] at e
              by_cases k7 : 0 ≤ (x5 + 1) ∧ (x5 + 1) < (side + 1)
              · rw [if_pos k7] at e
                by_cases k8 : 0 ≤ x5 ∧ x5 < (side + 1)
                · rw [if_pos k8] at e
                  have e := Option.some.inj e; subst e
                  dsimp only [Sum.elim_inl, go196_2] at hc
                  simp -implicitDefEqProofs (disch := first | assumption | exact Nat.le_of_ble_eq_true rfl | decide) only [b196_0, g196_3, b196_3, g196_5, b196_5, g196_7, b196_7, g196_9, b196_9, g196_10, b196_10, pe_sipush, pe_istore4, pe_goto_w, pe_iload4, pe_aload0, pe_getfield, pe_icmp_ge, pe_istore5, pe_iload5, pe_iload3, pe_if_eq, pe_aload1, pe_aaload, pe_baload, pe_goto, pe_istore6, pe_aload2, pe_iaload, pe_istore7, pe_iadd, pe_isub, pe_iload6, pe_iastore, pe_iload7, pe_iinc5, pe_iinc4, pe_return, pm_prog_1, pm_ob_some, Nat.reduceDiv, Nat.reduceMod, Nat.reduceMul, Nat.reduceAdd, Int.reduceToNat, pm_kill_i, pm_kill_r, pm_kill_n, pm_kill_j, pm_kill_l, pm_kill_d, pm_cats_nil, pm_cats_i, pm_cats_r, pm_cats_n, pm_cats_l, pm_cats_d, sz_1, sz_2, sl_1, sl_2, lc_0, lc_lt, lc_le, li_ne, va_rf, wr_m1, we_m1, pm_kill_w, Int32.reduceOfInt, Int64.reduceOfInt, Int32.reduceOfNat, Int32.reduceLT, Int32.reduceLE, Prod.mk.injEq, Nat.reduceEqDiff, reduceCtorEq, and_true, true_and, and_false, false_and, and_self, ite_true, ite_false, ↓reduceIte, not_true_eq_false, not_false_eq_true, pe_ri, pe_rz, pe_rc, Cs_g10_0 hP hA, Cs_g10_2 hP hA, Cs_g10_3 hP hA, Cs_r11 hP hA, Cs_r12 hP hA, Cs_r13 hP hA, Cs_r14 hP hA, Cs_r4 hP hA, Cs_r5 hP hA, Cs_r6 hP hA, Cs_r7 hP hA, Cs_w12 hP hA, Cs_w14 hP hA, hc]
                · rw [if_neg k8] at e; cases e
              · rw [if_neg k7] at e; cases e
            · rw [if_neg k6] at e; cases e
          · rw [if_neg k5] at e; cases e
        · rw [if_neg k4] at e; cases e
      · rw [if_neg k3] at e; cases e
    · rw [if_neg k2] at e; cases e
  · rw [if_neg k1] at e; cases e
theorem y196_6_2 {side : Int32} {cnt : Int32} {A : wK → Nat} {h : pm_H} {D : Nat} {R : Outcome × pm_H} {S : wS} {x0i : Int32} {x3 : Int32} {x4 : Int32} {x5 : Int32} {x6 : Int32} {y0 : Int32} {r : (Int32 × Int32 × Int32 × Int32 × wS) ⊕ ((Int32 × Int32 × Int32 × wS))} (hP : Cs_P side cnt) (hA : wok A (Cs_d side cnt) h.1) (hD : 0 ≤ D) (e : f196_6_2 side cnt S x0i x3 x4 x5 x6 y0 = some r) (hc : Sum.elim (go196_2 side cnt A h D R) (ex196_2 side cnt A h D R) r) : ∀ q7 : Value, pm_go pm_prog (pm_call pm_prog D) 196 6 [.ref (A (10, x0i, 0)), .ref (A (4, 0, 0)), .ref (A (6, 0, 0)), .int x3, .int x4, .int x5, .int x6, q7] [.int y0] (wput A (Cs_d side cnt) S h) = some R := by
  intro q7
  simp only [f196_6_2] at e
  rw [g196_6, b196_6]
  by_cases k1 : 0 ≤ x0i ∧ x0i < 2
  · rw [if_pos k1] at e
    by_cases k2 : 0 ≤ (x4 + 1) ∧ (x4 + 1) < (side + 1)
    · rw [if_pos k2] at e
      by_cases k3 : 0 ≤ x4 ∧ x4 < (side + 1)
      · rw [if_pos k3] at e
        by_cases k4 : 0 ≤ (x5 + 1) ∧ (x5 + 1) < (side + 1)
        · rw [if_pos k4] at e
          by_cases k5 : 0 ≤ x5 ∧ x5 < (side + 1)
          · rw [if_pos k5] at e
            by_cases k6 : x6 = 0
            · rw [if_pos k6] at e
              have k7 := y196_8_2 (h := h) hP hA hD e hc
              simp -implicitDefEqProofs (disch := first | assumption | exact Nat.le_of_ble_eq_true rfl | decide) only [b196_0, g196_3, b196_3, g196_5, b196_5, g196_7, b196_7, g196_9, b196_9, g196_10, b196_10, pe_sipush, pe_istore4, pe_goto_w, pe_iload4, pe_aload0, pe_getfield, pe_icmp_ge, pe_istore5, pe_iload5, pe_iload3, pe_if_eq, pe_aload1, pe_aaload, pe_baload, pe_goto, pe_istore6, pe_aload2, pe_iaload, pe_istore7, pe_iadd, pe_isub, pe_iload6, pe_iastore, pe_iload7, pe_iinc5, pe_iinc4, pe_return, pm_prog_1, pm_ob_some, Nat.reduceDiv, Nat.reduceMod, Nat.reduceMul, Nat.reduceAdd, Int.reduceToNat, pm_kill_i, pm_kill_r, pm_kill_n, pm_kill_j, pm_kill_l, pm_kill_d, pm_cats_nil, pm_cats_i, pm_cats_r, pm_cats_n, pm_cats_l, pm_cats_d, sz_1, sz_2, sl_1, sl_2, lc_0, lc_lt, lc_le, li_ne, va_rf, wr_m1, we_m1, pm_kill_w, Int32.reduceOfInt, Int64.reduceOfInt, Int32.reduceOfNat, Int32.reduceLT, Int32.reduceLE, Prod.mk.injEq, Nat.reduceEqDiff, reduceCtorEq, and_true, true_and, and_false, false_and, and_self, ite_true, ite_false, ↓reduceIte, not_true_eq_false, not_false_eq_true, pe_ri, pe_rz, pe_rc, Cs_g10_0 hP hA, Cs_g10_2 hP hA, Cs_g10_3 hP hA, Cs_r11 hP hA, Cs_r12 hP hA, Cs_r13 hP hA, Cs_r14 hP hA, Cs_r4 hP hA, Cs_r5 hP hA, Cs_r6 hP hA, Cs_r7 hP hA, Cs_w12 hP hA, Cs_w14 hP hA, eq_true k6, k7]
            · rw [if_neg k6] at e
              have k8 := y196_8_2 (h := h) hP hA hD e hc
              simp -implicitDefEqProofs (disch := first | assumption | exact Nat.le_of_ble_eq_true rfl | decide) only [b196_0, g196_3, b196_3, g196_5, b196_5, g196_7, b196_7, g196_9, b196_9, g196_10, b196_10, pe_sipush, pe_istore4, pe_goto_w, pe_iload4, pe_aload0, pe_getfield, pe_icmp_ge, pe_istore5, pe_iload5, pe_iload3, pe_if_eq, pe_aload1, pe_aaload, pe_baload, pe_goto, pe_istore6, pe_aload2, pe_iaload, pe_istore7, pe_iadd, pe_isub, pe_iload6, pe_iastore, pe_iload7, pe_iinc5, pe_iinc4, pe_return, pm_prog_1, pm_ob_some, Nat.reduceDiv, Nat.reduceMod, Nat.reduceMul, Nat.reduceAdd, Int.reduceToNat, pm_kill_i, pm_kill_r, pm_kill_n, pm_kill_j, pm_kill_l, pm_kill_d, pm_cats_nil, pm_cats_i, pm_cats_r, pm_cats_n, pm_cats_l, pm_cats_d, sz_1, sz_2, sl_1, sl_2, lc_0, lc_lt, lc_le, li_ne, va_rf, wr_m1, we_m1, pm_kill_w, Int32.reduceOfInt, Int64.reduceOfInt, Int32.reduceOfNat, Int32.reduceLT, Int32.reduceLE, Prod.mk.injEq, Nat.reduceEqDiff, reduceCtorEq, and_true, true_and, and_false, false_and, and_self, ite_true, ite_false, ↓reduceIte, not_true_eq_false, not_false_eq_true, pe_ri, pe_rz, pe_rc, Cs_g10_0 hP hA, Cs_g10_2 hP hA, Cs_g10_3 hP hA, Cs_r11 hP hA, Cs_r12 hP hA, Cs_r13 hP hA, Cs_r14 hP hA, Cs_r4 hP hA, Cs_r5 hP hA, Cs_r6 hP hA, Cs_r7 hP hA, Cs_w12 hP hA, Cs_w14 hP hA, eq_false k6, k8]
          · rw [if_neg k5] at e; cases e
        · rw [if_neg k4] at e; cases e
      · rw [if_neg k3] at e; cases e
    · rw [if_neg k2] at e; cases e
  · rw [if_neg k1] at e; cases e
theorem y196_4_2 {side : Int32} {cnt : Int32} {A : wK → Nat} {h : pm_H} {D : Nat} {R : Outcome × pm_H} {S : wS} {x0i : Int32} {x3 : Int32} {x4 : Int32} {x5 : Int32} {y0 : Int32} {r : (Int32 × Int32 × Int32 × Int32 × wS) ⊕ ((Int32 × Int32 × Int32 × wS))} (hP : Cs_P side cnt) (hA : wok A (Cs_d side cnt) h.1) (hD : 0 ≤ D) (e : f196_4_2 side cnt S x0i x3 x4 x5 y0 = some r) (hc : Sum.elim (go196_2 side cnt A h D R) (ex196_2 side cnt A h D R) r) : ∀ q6 q7 : Value, pm_go pm_prog (pm_call pm_prog D) 196 4 [.ref (A (10, x0i, 0)), .ref (A (4, 0, 0)), .ref (A (6, 0, 0)), .int x3, .int x4, .int x5, q6, q7] [.int y0] (wput A (Cs_d side cnt) S h) = some R := by
  intro q6 q7
  simp only [f196_4_2] at e
  rw [g196_4, b196_4]
  by_cases k1 : 0 ≤ x0i ∧ x0i < 2
  · rw [if_pos k1] at e
    by_cases k2 : x3 = 0
    · rw [if_pos k2] at e
      by_cases k3 : 0 ≤ x4 ∧ x4 < side
      · rw [if_pos k3] at e
        by_cases k4 : 0 ≤ x5 ∧ x5 < side
        · rw [if_pos k4] at e
          have k5 := y196_6_2 (h := h) hP hA hD e hc
          simp -implicitDefEqProofs (disch := first | assumption | exact Nat.le_of_ble_eq_true rfl | decide) only [b196_0, g196_3, b196_3, g196_5, b196_5, g196_7, b196_7, g196_9, b196_9, g196_10, b196_10, pe_sipush, pe_istore4, pe_goto_w, pe_iload4, pe_aload0, pe_getfield, pe_icmp_ge, pe_istore5, pe_iload5, pe_iload3, pe_if_eq, pe_aload1, pe_aaload, pe_baload, pe_goto, pe_istore6, pe_aload2, pe_iaload, pe_istore7, pe_iadd, pe_isub, pe_iload6, pe_iastore, pe_iload7, pe_iinc5, pe_iinc4, pe_return, pm_prog_1, pm_ob_some, Nat.reduceDiv, Nat.reduceMod, Nat.reduceMul, Nat.reduceAdd, Int.reduceToNat, pm_kill_i, pm_kill_r, pm_kill_n, pm_kill_j, pm_kill_l, pm_kill_d, pm_cats_nil, pm_cats_i, pm_cats_r, pm_cats_n, pm_cats_l, pm_cats_d, sz_1, sz_2, sl_1, sl_2, lc_0, lc_lt, lc_le, li_ne, va_rf, wr_m1, we_m1, pm_kill_w, Int32.reduceOfInt, Int64.reduceOfInt, Int32.reduceOfNat, Int32.reduceLT, Int32.reduceLE, Prod.mk.injEq, Nat.reduceEqDiff, reduceCtorEq, and_true, true_and, and_false, false_and, and_self, ite_true, ite_false, ↓reduceIte, not_true_eq_false, not_false_eq_true, pe_ri, pe_rz, pe_rc, Cs_g10_0 hP hA, Cs_g10_2 hP hA, Cs_g10_3 hP hA, Cs_r11 hP hA, Cs_r12 hP hA, Cs_r13 hP hA, Cs_r14 hP hA, Cs_r4 hP hA, Cs_r5 hP hA, Cs_r6 hP hA, Cs_r7 hP hA, Cs_w12 hP hA, Cs_w14 hP hA, eq_true k2, k5]
        · rw [if_neg k4] at e; cases e
      · rw [if_neg k3] at e; cases e
    · rw [if_neg k2] at e
      by_cases k6 : 0 ≤ x5 ∧ x5 < side
      · rw [if_pos k6] at e
        by_cases k7 : 0 ≤ x4 ∧ x4 < side
        · rw [if_pos k7] at e
          have k8 := y196_6_2 (h := h) hP hA hD e hc
          simp -implicitDefEqProofs (disch := first | assumption | exact Nat.le_of_ble_eq_true rfl | decide) only [b196_0, g196_3, b196_3, g196_5, b196_5, g196_7, b196_7, g196_9, b196_9, g196_10, b196_10, pe_sipush, pe_istore4, pe_goto_w, pe_iload4, pe_aload0, pe_getfield, pe_icmp_ge, pe_istore5, pe_iload5, pe_iload3, pe_if_eq, pe_aload1, pe_aaload, pe_baload, pe_goto, pe_istore6, pe_aload2, pe_iaload, pe_istore7, pe_iadd, pe_isub, pe_iload6, pe_iastore, pe_iload7, pe_iinc5, pe_iinc4, pe_return, pm_prog_1, pm_ob_some, Nat.reduceDiv, Nat.reduceMod, Nat.reduceMul, Nat.reduceAdd, Int.reduceToNat, pm_kill_i, pm_kill_r, pm_kill_n, pm_kill_j, pm_kill_l, pm_kill_d, pm_cats_nil, pm_cats_i, pm_cats_r, pm_cats_n, pm_cats_l, pm_cats_d, sz_1, sz_2, sl_1, sl_2, lc_0, lc_lt, lc_le, li_ne, va_rf, wr_m1, we_m1, pm_kill_w, Int32.reduceOfInt, Int64.reduceOfInt, Int32.reduceOfNat, Int32.reduceLT, Int32.reduceLE, Prod.mk.injEq, Nat.reduceEqDiff, reduceCtorEq, and_true, true_and, and_false, false_and, and_self, ite_true, ite_false, ↓reduceIte, not_true_eq_false, not_false_eq_true, pe_ri, pe_rz, pe_rc, Cs_g10_0 hP hA, Cs_g10_2 hP hA, Cs_g10_3 hP hA, Cs_r11 hP hA, Cs_r12 hP hA, Cs_r13 hP hA, Cs_r14 hP hA, Cs_r4 hP hA, Cs_r5 hP hA, Cs_r6 hP hA, Cs_r7 hP hA, Cs_w12 hP hA, Cs_w14 hP hA, eq_false k2, k8]
        · rw [if_neg k7] at e; cases e
      · rw [if_neg k6] at e; cases e
  · rw [if_neg k1] at e; cases e
theorem y196_b2 {side : Int32} {cnt : Int32} {A : wK → Nat} {h : pm_H} {D : Nat} {R : Outcome × pm_H} (hP : Cs_P side cnt) (hA : wok A (Cs_d side cnt) h.1) (hD : 0 ≤ D) (a : Int32 × Int32 × Int32 × Int32 × wS) (r : (Int32 × Int32 × Int32 × Int32 × wS) ⊕ ((Int32 × Int32 × Int32 × wS))) (e : f196_b2 side cnt a = some r) (hc : Sum.elim (go196_2 side cnt A h D R) (ex196_2 side cnt A h D R) r) : go196_2 side cnt A h D R a := by
  obtain ⟨x0i, x3, x4, x5, S⟩ := a
  dsimp only [go196_2]
  intro q6 q7
  simp only [f196_b2] at e
  rw [g196_2, b196_2]
  by_cases k1 : 0 ≤ x0i ∧ x0i < 2
  · rw [if_pos k1] at e
    by_cases k2 : x5 < (S.1 (10, x0i, 0) 0)
    · rw [if_pos k2] at e
      by_cases k3 : x3 = 0
      · rw [if_pos k3] at e
        by_cases k4 : 0 ≤ x4 ∧ x4 < side
        · rw [if_pos k4] at e
          by_cases k5 : 0 ≤ x5 ∧ x5 < side
          · rw [if_pos k5] at e
            have k6 := y196_4_2 (h := h) hP hA hD e hc
            simp -implicitDefEqProofs (disch := first | assumption | exact Nat.le_of_ble_eq_true rfl | decide) only [b196_0, g196_3, b196_3, g196_5, b196_5, g196_7, b196_7, g196_9, b196_9, g196_10, b196_10, pe_sipush, pe_istore4, pe_goto_w, pe_iload4, pe_aload0, pe_getfield, pe_icmp_ge, pe_istore5, pe_iload5, pe_iload3, pe_if_eq, pe_aload1, pe_aaload, pe_baload, pe_goto, pe_istore6, pe_aload2, pe_iaload, pe_istore7, pe_iadd, pe_isub, pe_iload6, pe_iastore, pe_iload7, pe_iinc5, pe_iinc4, pe_return, pm_prog_1, pm_ob_some, Nat.reduceDiv, Nat.reduceMod, Nat.reduceMul, Nat.reduceAdd, Int.reduceToNat, pm_kill_i, pm_kill_r, pm_kill_n, pm_kill_j, pm_kill_l, pm_kill_d, pm_cats_nil, pm_cats_i, pm_cats_r, pm_cats_n, pm_cats_l, pm_cats_d, sz_1, sz_2, sl_1, sl_2, lc_0, lc_lt, lc_le, li_ne, va_rf, wr_m1, we_m1, pm_kill_w, Int32.reduceOfInt, Int64.reduceOfInt, Int32.reduceOfNat, Int32.reduceLT, Int32.reduceLE, Prod.mk.injEq, Nat.reduceEqDiff, reduceCtorEq, and_true, true_and, and_false, false_and, and_self, ite_true, ite_false, ↓reduceIte, not_true_eq_false, not_false_eq_true, pe_ri, pe_rz, pe_rc, Cs_g10_0 hP hA, Cs_g10_2 hP hA, Cs_g10_3 hP hA, Cs_r11 hP hA, Cs_r12 hP hA, Cs_r13 hP hA, Cs_r14 hP hA, Cs_r4 hP hA, Cs_r5 hP hA, Cs_r6 hP hA, Cs_r7 hP hA, Cs_w12 hP hA, Cs_w14 hP hA, eq_true k2, eq_true k3, k6]
          · rw [if_neg k5] at e; cases e
        · rw [if_neg k4] at e; cases e
      · rw [if_neg k3] at e
        by_cases k7 : 0 ≤ x5 ∧ x5 < side
        · rw [if_pos k7] at e
          by_cases k8 : 0 ≤ x4 ∧ x4 < side
          · rw [if_pos k8] at e
            have k9 := y196_4_2 (h := h) hP hA hD e hc
            simp -implicitDefEqProofs (disch := first | assumption | exact Nat.le_of_ble_eq_true rfl | decide) only [b196_0, g196_3, b196_3, g196_5, b196_5, g196_7, b196_7, g196_9, b196_9, g196_10, b196_10, pe_sipush, pe_istore4, pe_goto_w, pe_iload4, pe_aload0, pe_getfield, pe_icmp_ge, pe_istore5, pe_iload5, pe_iload3, pe_if_eq, pe_aload1, pe_aaload, pe_baload, pe_goto, pe_istore6, pe_aload2, pe_iaload, pe_istore7, pe_iadd, pe_isub, pe_iload6, pe_iastore, pe_iload7, pe_iinc5, pe_iinc4, pe_return, pm_prog_1, pm_ob_some, Nat.reduceDiv, Nat.reduceMod, Nat.reduceMul, Nat.reduceAdd, Int.reduceToNat, pm_kill_i, pm_kill_r, pm_kill_n, pm_kill_j, pm_kill_l, pm_kill_d, pm_cats_nil, pm_cats_i, pm_cats_r, pm_cats_n, pm_cats_l, pm_cats_d, sz_1, sz_2, sl_1, sl_2, lc_0, lc_lt, lc_le, li_ne, va_rf, wr_m1, we_m1, pm_kill_w, Int32.reduceOfInt, Int64.reduceOfInt, Int32.reduceOfNat, Int32.reduceLT, Int32.reduceLE, Prod.mk.injEq, Nat.reduceEqDiff, reduceCtorEq, and_true, true_and, and_false, false_and, and_self, ite_true, ite_false, ↓reduceIte, not_true_eq_false, not_false_eq_true, pe_ri, pe_rz, pe_rc, Cs_g10_0 hP hA, Cs_g10_2 hP hA, Cs_g10_3 hP hA, Cs_r11 hP hA, Cs_r12 hP hA, Cs_r13 hP hA, Cs_r14 hP hA, Cs_r4 hP hA, Cs_r5 hP hA, Cs_r6 hP hA, Cs_r7 hP hA, Cs_w12 hP hA, Cs_w14 hP hA, eq_true k2, eq_false k3, k9]
          · rw [if_neg k8] at e; cases e
        · rw [if_neg k7] at e; cases e
    · rw [if_neg k2] at e
      have e := Option.some.inj e; subst e
      dsimp only [Sum.elim_inr, ex196_2] at hc
      simp -implicitDefEqProofs (disch := first | assumption | exact Nat.le_of_ble_eq_true rfl | decide) only [b196_0, g196_3, b196_3, g196_5, b196_5, g196_7, b196_7, g196_9, b196_9, g196_10, b196_10, pe_sipush, pe_istore4, pe_goto_w, pe_iload4, pe_aload0, pe_getfield, pe_icmp_ge, pe_istore5, pe_iload5, pe_iload3, pe_if_eq, pe_aload1, pe_aaload, pe_baload, pe_goto, pe_istore6, pe_aload2, pe_iaload, pe_istore7, pe_iadd, pe_isub, pe_iload6, pe_iastore, pe_iload7, pe_iinc5, pe_iinc4, pe_return, pm_prog_1, pm_ob_some, Nat.reduceDiv, Nat.reduceMod, Nat.reduceMul, Nat.reduceAdd, Int.reduceToNat, pm_kill_i, pm_kill_r, pm_kill_n, pm_kill_j, pm_kill_l, pm_kill_d, pm_cats_nil, pm_cats_i, pm_cats_r, pm_cats_n, pm_cats_l, pm_cats_d, sz_1, sz_2, sl_1, sl_2, lc_0, lc_lt, lc_le, li_ne, va_rf, wr_m1, we_m1, pm_kill_w, Int32.reduceOfInt, Int64.reduceOfInt, Int32.reduceOfNat, Int32.reduceLT, Int32.reduceLE, Prod.mk.injEq, Nat.reduceEqDiff, reduceCtorEq, and_true, true_and, and_false, false_and, and_self, ite_true, ite_false, ↓reduceIte, not_true_eq_false, not_false_eq_true, pe_ri, pe_rz, pe_rc, Cs_g10_0 hP hA, Cs_g10_2 hP hA, Cs_g10_3 hP hA, Cs_r11 hP hA, Cs_r12 hP hA, Cs_r13 hP hA, Cs_r14 hP hA, Cs_r4 hP hA, Cs_r5 hP hA, Cs_r6 hP hA, Cs_r7 hP hA, Cs_w12 hP hA, Cs_w14 hP hA, eq_false k2, hc]
  · rw [if_neg k1] at e; cases e
theorem z196_2 {side : Int32} {cnt : Int32} {A : wK → Nat} {h : pm_H} {D : Nat} {R : Outcome × pm_H} (hP : Cs_P side cnt) (hA : wok A (Cs_d side cnt) h.1) (hD : 0 ≤ D) {n : Nat} {a : Int32 × Int32 × Int32 × Int32 × wS} {b : (Int32 × Int32 × Int32 × wS)} (e : lp (f196_b2 side cnt) n a = some b) (hx : ex196_2 side cnt A h D R b) : go196_2 side cnt A h D R a := lp_run (fun a r => y196_b2 hP hA hD a r) n a b e hx
def go196_1 (side : Int32) (cnt : Int32) (A : wK → Nat) (h : pm_H) (D : Nat) (R : Outcome × pm_H) : Int32 × Int32 × Int32 × wS → Prop := fun (x0i, x3, x4, S) => ∀ q5 q6 q7 : Value, pm_go pm_prog (pm_call pm_prog D) 196 1 [.ref (A (10, x0i, 0)), .ref (A (4, 0, 0)), .ref (A (6, 0, 0)), .int x3, .int x4, q5, q6, q7] [] (wput A (Cs_d side cnt) S h) = some R
def ex196_1 (side : Int32) (cnt : Int32) (A : wK → Nat) (h : pm_H) (D : Nat) (R : Outcome × pm_H) : (wS) → Prop := fun S => ∀ q0 q1 q2 q3 q4 q5 q6 q7 : Value, pm_go pm_prog (pm_call pm_prog D) 196 10 [q0, q1, q2, q3, q4, q5, q6, q7] [] (wput A (Cs_d side cnt) S h) = some R
theorem y196_b1 {side : Int32} {cnt : Int32} {A : wK → Nat} {h : pm_H} {D : Nat} {R : Outcome × pm_H} (hP : Cs_P side cnt) (hA : wok A (Cs_d side cnt) h.1) (hD : 0 ≤ D) (a : Int32 × Int32 × Int32 × wS) (r : (Int32 × Int32 × Int32 × wS) ⊕ ((wS))) (e : f196_b1 side cnt a = some r) (hc : Sum.elim (go196_1 side cnt A h D R) (ex196_1 side cnt A h D R) r) : go196_1 side cnt A h D R a := by
  obtain ⟨x0i, x3, x4, S⟩ := a
  dsimp only [go196_1]
  intro q5 q6 q7
  simp only [f196_b1] at e
  rw [g196_1, b196_1]
  by_cases k1 : 0 ≤ x0i ∧ x0i < 2
  · rw [if_pos k1] at e
    by_cases k2 : x4 < (S.1 (10, x0i, 0) 0)
    · rw [if_pos k2] at e
      obtain ⟨⟨v2i, v5, v6, S1⟩, k3, e⟩ := Option.bind_eq_some_iff.mp e
      try dsimp only at e
      try simp -implicitDefEqProofs (disch := first | assumption | exact Nat.le_of_ble_eq_true rfl | decide) only [b196_0, g196_3, b196_3, g196_5, b196_5, g196_7, b196_7, g196_9, b196_9, g196_10, b196_10, pe_sipush, pe_istore4, pe_goto_w, pe_iload4, pe_aload0, pe_getfield, pe_icmp_ge, pe_istore5, pe_iload5, pe_iload3, pe_if_eq, pe_aload1, pe_aaload, pe_baload, pe_goto, pe_istore6, pe_aload2, pe_iaload, pe_istore7, pe_iadd, pe_isub, pe_iload6, pe_iastore, pe_iload7, pe_iinc5, pe_iinc4, pe_return, pm_prog_1, pm_ob_some, Nat.reduceDiv, Nat.reduceMod, Nat.reduceMul, Nat.reduceAdd, Int.reduceToNat, pm_kill_i, pm_kill_r, pm_kill_n, pm_kill_j, pm_kill_l, pm_kill_d, pm_cats_nil, pm_cats_i, pm_cats_r, pm_cats_n, pm_cats_l, pm_cats_d, sz_1, sz_2, sl_1, sl_2, lc_0, lc_lt, lc_le, li_ne, va_rf, wr_m1, we_m1, pm_kill_w, Int32.reduceOfInt, Int64.reduceOfInt, Int32.reduceOfNat, Int32.reduceLT, Int32.reduceLE, Prod.mk.injEq, Nat.reduceEqDiff, reduceCtorEq, and_true, true_and, and_false, false_and, and_self, ite_true, ite_false, ↓reduceIte, not_true_eq_false, not_false_eq_true, pe_ri, pe_rz, pe_rc, Cs_g10_0 hP hA, Cs_g10_2 hP hA, Cs_g10_3 hP hA, Cs_r11 hP hA, Cs_r12 hP hA, Cs_r13 hP hA, Cs_r14 hP hA, Cs_r4 hP hA, Cs_r5 hP hA, Cs_r6 hP hA, Cs_r7 hP hA, Cs_w12 hP hA, Cs_w14 hP hA, eq_true k2]
      refine z196_2 hP hA hD k3 ?_ _ _
      dsimp only [ex196_2]
      intro q5 q6 q7
      by_cases k4 : 0 ≤ v2i ∧ v2i < 2
      · rw [if_pos k4] at e
        have e := Option.some.inj e; subst e
        dsimp only [Sum.elim_inl, go196_1] at hc
        simp -implicitDefEqProofs (disch := first | assumption | exact Nat.le_of_ble_eq_true rfl | decide) only [b196_0, g196_3, b196_3, g196_5, b196_5, g196_7, b196_7, g196_9, b196_9, g196_10, b196_10, pe_sipush, pe_istore4, pe_goto_w, pe_iload4, pe_aload0, pe_getfield, pe_icmp_ge, pe_istore5, pe_iload5, pe_iload3, pe_if_eq, pe_aload1, pe_aaload, pe_baload, pe_goto, pe_istore6, pe_aload2, pe_iaload, pe_istore7, pe_iadd, pe_isub, pe_iload6, pe_iastore, pe_iload7, pe_iinc5, pe_iinc4, pe_return, pm_prog_1, pm_ob_some, Nat.reduceDiv, Nat.reduceMod, Nat.reduceMul, Nat.reduceAdd, Int.reduceToNat, pm_kill_i, pm_kill_r, pm_kill_n, pm_kill_j, pm_kill_l, pm_kill_d, pm_cats_nil, pm_cats_i, pm_cats_r, pm_cats_n, pm_cats_l, pm_cats_d, sz_1, sz_2, sl_1, sl_2, lc_0, lc_lt, lc_le, li_ne, va_rf, wr_m1, we_m1, pm_kill_w, Int32.reduceOfInt, Int64.reduceOfInt, Int32.reduceOfNat, Int32.reduceLT, Int32.reduceLE, Prod.mk.injEq, Nat.reduceEqDiff, reduceCtorEq, and_true, true_and, and_false, false_and, and_self, ite_true, ite_false, ↓reduceIte, not_true_eq_false, not_false_eq_true, pe_ri, pe_rz, pe_rc, Cs_g10_0 hP hA, Cs_g10_2 hP hA, Cs_g10_3 hP hA, Cs_r11 hP hA, Cs_r12 hP hA, Cs_r13 hP hA, Cs_r14 hP hA, Cs_r4 hP hA, Cs_r5 hP hA, Cs_r6 hP hA, Cs_r7 hP hA, Cs_w12 hP hA, Cs_w14 hP hA, eq_true k2, hc]
      · rw [if_neg k4] at e; cases e
    · rw [if_neg k2] at e
      have e := Option.some.inj e; subst e
      dsimp only [Sum.elim_inr, ex196_1] at hc
      simp -implicitDefEqProofs (disch := first | assumption | exact Nat.le_of_ble_eq_true rfl | decide) only [b196_0, g196_3, b196_3, g196_5, b196_5, g196_7, b196_7, g196_9, b196_9, g196_10, b196_10, pe_sipush, pe_istore4, pe_goto_w, pe_iload4, pe_aload0, pe_getfield, pe_icmp_ge, pe_istore5, pe_iload5, pe_iload3, pe_if_eq, pe_aload1, pe_aaload, pe_baload, pe_goto, pe_istore6, pe_aload2, pe_iaload, pe_istore7, pe_iadd, pe_isub, pe_iload6, pe_iastore, pe_iload7, pe_iinc5, pe_iinc4, pe_return, pm_prog_1, pm_ob_some, Nat.reduceDiv, Nat.reduceMod, Nat.reduceMul, Nat.reduceAdd, Int.reduceToNat, pm_kill_i, pm_kill_r, pm_kill_n, pm_kill_j, pm_kill_l, pm_kill_d, pm_cats_nil, pm_cats_i, pm_cats_r, pm_cats_n, pm_cats_l, pm_cats_d, sz_1, sz_2, sl_1, sl_2, lc_0, lc_lt, lc_le, li_ne, va_rf, wr_m1, we_m1, pm_kill_w, Int32.reduceOfInt, Int64.reduceOfInt, Int32.reduceOfNat, Int32.reduceLT, Int32.reduceLE, Prod.mk.injEq, Nat.reduceEqDiff, reduceCtorEq, and_true, true_and, and_false, false_and, and_self, ite_true, ite_false, ↓reduceIte, not_true_eq_false, not_false_eq_true, pe_ri, pe_rz, pe_rc, Cs_g10_0 hP hA, Cs_g10_2 hP hA, Cs_g10_3 hP hA, Cs_r11 hP hA, Cs_r12 hP hA, Cs_r13 hP hA, Cs_r14 hP hA, Cs_r4 hP hA, Cs_r5 hP hA, Cs_r6 hP hA, Cs_r7 hP hA, Cs_w12 hP hA, Cs_w14 hP hA, eq_false k2, hc]
  · rw [if_neg k1] at e; cases e
theorem z196_1 {side : Int32} {cnt : Int32} {A : wK → Nat} {h : pm_H} {D : Nat} {R : Outcome × pm_H} (hP : Cs_P side cnt) (hA : wok A (Cs_d side cnt) h.1) (hD : 0 ≤ D) {n : Nat} {a : Int32 × Int32 × Int32 × wS} {b : (wS)} (e : lp (f196_b1 side cnt) n a = some b) (hx : ex196_1 side cnt A h D R b) : go196_1 side cnt A h D R a := lp_run (fun a r => y196_b1 hP hA hD a r) n a b e hx
theorem x196 {side : Int32} {cnt : Int32} {A : wK → Nat} {h : pm_H} {D : Nat} {S : wS} {x0i : Int32} {x3 : Int32} {r : wS} (hP : Cs_P side cnt) (hA : wok A (Cs_d side cnt) h.1) (hD : 1 ≤ D) (e : f196 side cnt S x0i x3 = some r) : pm_call pm_prog D 196 [.ref (A (10, x0i, 0)), .ref (A (4, 0, 0)), .ref (A (6, 0, 0)), .int x3] (wput A (Cs_d side cnt) S h) = some (Outcome.returned none, (wput A (Cs_d side cnt) r h)) := by
  obtain ⟨D, rfl⟩ : ∃ D', D = D' + 1 := ⟨D - 1, by omega⟩
  have hD : 0 ≤ D := by omega
  simp only [f196] at e
  have k1 : 0 ≤ x0i ∧ x0i < 2 := by
    by_cases q : 0 ≤ x0i ∧ x0i < 2
    · exact q
    · rw [if_neg q] at e; cases e
  rw [if_pos k1] at e
  rw [c196 (Cs_c10 hP hA k1), b196_0]
  obtain ⟨S7, k2, e⟩ := Option.bind_eq_some_iff.mp e
  try dsimp only at e
  try simp -implicitDefEqProofs (disch := first | assumption | exact Nat.le_of_ble_eq_true rfl | decide) only [b196_0, g196_3, b196_3, g196_5, b196_5, g196_7, b196_7, g196_9, b196_9, g196_10, b196_10, pe_sipush, pe_istore4, pe_goto_w, pe_iload4, pe_aload0, pe_getfield, pe_icmp_ge, pe_istore5, pe_iload5, pe_iload3, pe_if_eq, pe_aload1, pe_aaload, pe_baload, pe_goto, pe_istore6, pe_aload2, pe_iaload, pe_istore7, pe_iadd, pe_isub, pe_iload6, pe_iastore, pe_iload7, pe_iinc5, pe_iinc4, pe_return, pm_prog_1, pm_ob_some, Nat.reduceDiv, Nat.reduceMod, Nat.reduceMul, Nat.reduceAdd, Int.reduceToNat, pm_kill_i, pm_kill_r, pm_kill_n, pm_kill_j, pm_kill_l, pm_kill_d, pm_cats_nil, pm_cats_i, pm_cats_r, pm_cats_n, pm_cats_l, pm_cats_d, sz_1, sz_2, sl_1, sl_2, lc_0, lc_lt, lc_le, li_ne, va_rf, wr_m1, we_m1, pm_kill_w, Int32.reduceOfInt, Int64.reduceOfInt, Int32.reduceOfNat, Int32.reduceLT, Int32.reduceLE, Prod.mk.injEq, Nat.reduceEqDiff, reduceCtorEq, and_true, true_and, and_false, false_and, and_self, ite_true, ite_false, ↓reduceIte, not_true_eq_false, not_false_eq_true, pe_ri, pe_rz, pe_rc, Cs_g10_0 hP hA, Cs_g10_2 hP hA, Cs_g10_3 hP hA, Cs_r11 hP hA, Cs_r12 hP hA, Cs_r13 hP hA, Cs_r14 hP hA, Cs_r4 hP hA, Cs_r5 hP hA, Cs_r6 hP hA, Cs_r7 hP hA, Cs_w12 hP hA, Cs_w14 hP hA]
  refine z196_1 hP hA hD k2 ?_ _ _ _
  dsimp only [ex196_1]
  intro q0 q1 q2 q3 q4 q5 q6 q7
  have e := Option.some.inj e; subst e
  simp -implicitDefEqProofs (disch := first | assumption | exact Nat.le_of_ble_eq_true rfl | decide) only [b196_0, g196_3, b196_3, g196_5, b196_5, g196_7, b196_7, g196_9, b196_9, g196_10, b196_10, pe_sipush, pe_istore4, pe_goto_w, pe_iload4, pe_aload0, pe_getfield, pe_icmp_ge, pe_istore5, pe_iload5, pe_iload3, pe_if_eq, pe_aload1, pe_aaload, pe_baload, pe_goto, pe_istore6, pe_aload2, pe_iaload, pe_istore7, pe_iadd, pe_isub, pe_iload6, pe_iastore, pe_iload7, pe_iinc5, pe_iinc4, pe_return, pm_prog_1, pm_ob_some, Nat.reduceDiv, Nat.reduceMod, Nat.reduceMul, Nat.reduceAdd, Int.reduceToNat, pm_kill_i, pm_kill_r, pm_kill_n, pm_kill_j, pm_kill_l, pm_kill_d, pm_cats_nil, pm_cats_i, pm_cats_r, pm_cats_n, pm_cats_l, pm_cats_d, sz_1, sz_2, sl_1, sl_2, lc_0, lc_lt, lc_le, li_ne, va_rf, wr_m1, we_m1, pm_kill_w, Int32.reduceOfInt, Int64.reduceOfInt, Int32.reduceOfNat, Int32.reduceLT, Int32.reduceLE, Prod.mk.injEq, Nat.reduceEqDiff, reduceCtorEq, and_true, true_and, and_false, false_and, and_self, ite_true, ite_false, ↓reduceIte, not_true_eq_false, not_false_eq_true, pe_ri, pe_rz, pe_rc, Cs_g10_0 hP hA, Cs_g10_2 hP hA, Cs_g10_3 hP hA, Cs_r11 hP hA, Cs_r12 hP hA, Cs_r13 hP hA, Cs_r14 hP hA, Cs_r4 hP hA, Cs_r5 hP hA, Cs_r6 hP hA, Cs_r7 hP hA, Cs_w12 hP hA, Cs_w14 hP hA]
/-- TimberHouse$SawGrids$View.may(LTimberHouse$SawGrids$Size;II)Z -/
theorem c199 {d : Nat} {h : pm_H} {a : Nat} {r0 : Nat} {x1 : Int32} {x2 : Int32} (hc : pm_cls h a = some 3) : pm_call pm_prog (d + 1) 199 [.ref a, .ref r0, .int x1, .int x2] h = pm_ev pm_prog (pm_call pm_prog d) 199 0 b199_0 [.ref a, .ref r0, .int x1, .int x2] [] h := pm_cal (pm_rc1 hc rfl) rfl rfl rfl
theorem g199_1 {cl : pm_C} {ls st : List Value} {h : pm_H} : pm_go pm_prog cl 199 1 ls st h = pm_ev pm_prog cl 199 1 b199_1 ls st h := pm_go_eq pm_prog cl 199 1 ls st h
theorem g199_2 {cl : pm_C} {ls st : List Value} {h : pm_H} : pm_go pm_prog cl 199 2 ls st h = pm_ev pm_prog cl 199 2 b199_2 ls st h := pm_go_eq pm_prog cl 199 2 ls st h
/-- TimberHouse$SawGrids$View.may(LTimberHouse$SawGrids$Size;II)Z -/
noncomputable def f199 (side : Int32) (cnt : Int32) (S : wS) (x0i : Int32) (x1i : Int32) (x2 : Int32) (x3 : Int32) : Option (Int32) :=
  if 0 ≤ x0i ∧ x0i < 2 then
    if 0 ≤ x1i ∧ x1i < cnt then
      if x2 < 0 then
        some 0
      else
        if x3 < 0 then
          some 0
        else
          if (x2 + (S.1 (9, x1i, 0) 1)) ≤ (S.1 (10, x0i, 0) 0) then
            if (x3 + (S.1 (9, x1i, 0) 0)) ≤ (S.1 (10, x0i, 0) 0) then
              (f195 side cnt S x0i x1i x2 x3).bind fun v1 =>
              if v1 ≤ (S.1 (9, x1i, 0) 3) then
                some 1
              else
                some 0
            else
              some 0
          else
            some 0
    else none
  else none
theorem x199 {side : Int32} {cnt : Int32} {A : wK → Nat} {h : pm_H} {D : Nat} {S : wS} {x0i : Int32} {x1i : Int32} {x2 : Int32} {x3 : Int32} {r : Int32} (hP : Cs_P side cnt) (hA : wok A (Cs_d side cnt) h.1) (hD : 3 ≤ D) (e : f199 side cnt S x0i x1i x2 x3 = some r) : pm_call pm_prog D 199 [.ref (A (10, x0i, 0)), .ref (A (9, x1i, 0)), .int x2, .int x3] (wput A (Cs_d side cnt) S h) = some (Outcome.returned (some (.int r)), (wput A (Cs_d side cnt) S h)) := by
  obtain ⟨D, rfl⟩ : ∃ D', D = D' + 1 := ⟨D - 1, by omega⟩
  have hD : 2 ≤ D := by omega
  simp only [f199] at e
  have k1 : 0 ≤ x0i ∧ x0i < 2 := by
    by_cases q : 0 ≤ x0i ∧ x0i < 2
    · exact q
    · rw [if_neg q] at e; cases e
  rw [if_pos k1] at e
  have k2 : 0 ≤ x1i ∧ x1i < cnt := by
    by_cases q : 0 ≤ x1i ∧ x1i < cnt
    · exact q
    · rw [if_neg q] at e; cases e
  rw [if_pos k2] at e
  rw [c199 (Cs_c10 hP hA k1), b199_0]
  by_cases k3 : x2 < 0
  · rw [if_pos k3] at e
    have e := Option.some.inj e; subst e
    simp -implicitDefEqProofs (disch := first | assumption | exact Nat.le_of_ble_eq_true rfl | decide) only [b199_0, g199_1, b199_1, g199_2, b199_2, pe_iload2, pe_if_lt, pe_iload3, pe_aload1, pe_getfield, pe_iadd, pe_aload0, pe_icmp_gt, pe_call4, pm_af_ret, pm_af_void, pm_af_thr, pe_sipush, pe_goto, pe_goto_w, pm_prog_1, pm_ob_some, Nat.reduceDiv, Nat.reduceMod, Nat.reduceMul, Nat.reduceAdd, Int.reduceToNat, pm_kill_i, pm_kill_r, pm_kill_n, pm_kill_j, pm_kill_l, pm_kill_d, pm_cats_nil, pm_cats_i, pm_cats_r, pm_cats_n, pm_cats_l, pm_cats_d, sz_1, sz_2, sl_1, sl_2, lc_0, lc_lt, lc_le, li_ne, va_rf, wr_m1, we_m1, pm_kill_w, Int32.reduceOfInt, Int64.reduceOfInt, Int32.reduceOfNat, Int32.reduceLT, Int32.reduceLE, Prod.mk.injEq, Nat.reduceEqDiff, reduceCtorEq, and_true, true_and, and_false, false_and, and_self, ite_true, ite_false, ↓reduceIte, not_true_eq_false, not_false_eq_true, pe_ri, pe_rz, pe_rc, Cs_g10_0 hP hA, Cs_g9_0 hP hA, Cs_g9_1 hP hA, Cs_g9_3 hP hA, eq_true k3]
  · rw [if_neg k3] at e
    by_cases k4 : x3 < 0
    · rw [if_pos k4] at e
      have e := Option.some.inj e; subst e
      simp -implicitDefEqProofs (disch := first | assumption | exact Nat.le_of_ble_eq_true rfl | decide) only [b199_0, g199_1, b199_1, g199_2, b199_2, pe_iload2, pe_if_lt, pe_iload3, pe_aload1, pe_getfield, pe_iadd, pe_aload0, pe_icmp_gt, pe_call4, pm_af_ret, pm_af_void, pm_af_thr, pe_sipush, pe_goto, pe_goto_w, pm_prog_1, pm_ob_some, Nat.reduceDiv, Nat.reduceMod, Nat.reduceMul, Nat.reduceAdd, Int.reduceToNat, pm_kill_i, pm_kill_r, pm_kill_n, pm_kill_j, pm_kill_l, pm_kill_d, pm_cats_nil, pm_cats_i, pm_cats_r, pm_cats_n, pm_cats_l, pm_cats_d, sz_1, sz_2, sl_1, sl_2, lc_0, lc_lt, lc_le, li_ne, va_rf, wr_m1, we_m1, pm_kill_w, Int32.reduceOfInt, Int64.reduceOfInt, Int32.reduceOfNat, Int32.reduceLT, Int32.reduceLE, Prod.mk.injEq, Nat.reduceEqDiff, reduceCtorEq, and_true, true_and, and_false, false_and, and_self, ite_true, ite_false, ↓reduceIte, not_true_eq_false, not_false_eq_true, pe_ri, pe_rz, pe_rc, Cs_g10_0 hP hA, Cs_g9_0 hP hA, Cs_g9_1 hP hA, Cs_g9_3 hP hA, eq_false k3, eq_true k4]
    · rw [if_neg k4] at e
      by_cases k5 : (x2 + (S.1 (9, x1i, 0) 1)) ≤ (S.1 (10, x0i, 0) 0)
      · rw [if_pos k5] at e
        by_cases k6 : (x3 + (S.1 (9, x1i, 0) 0)) ≤ (S.1 (10, x0i, 0) 0)
        · rw [if_pos k6] at e
          obtain ⟨v1, k7, e⟩ := Option.bind_eq_some_iff.mp e
          try dsimp only at e
          have z7 := x195 (D := D) (h := h) hP hA (by omega) k7
          by_cases k8 : v1 ≤ (S.1 (9, x1i, 0) 3)
          · rw [if_pos k8] at e
            have e := Option.some.inj e; subst e
            simp -implicitDefEqProofs (disch := first | assumption | exact Nat.le_of_ble_eq_true rfl | decide) only [b199_0, g199_1, b199_1, g199_2, b199_2, pe_iload2, pe_if_lt, pe_iload3, pe_aload1, pe_getfield, pe_iadd, pe_aload0, pe_icmp_gt, pe_call4, pm_af_ret, pm_af_void, pm_af_thr, pe_sipush, pe_goto, pe_goto_w, pm_prog_1, pm_ob_some, Nat.reduceDiv, Nat.reduceMod, Nat.reduceMul, Nat.reduceAdd, Int.reduceToNat, pm_kill_i, pm_kill_r, pm_kill_n, pm_kill_j, pm_kill_l, pm_kill_d, pm_cats_nil, pm_cats_i, pm_cats_r, pm_cats_n, pm_cats_l, pm_cats_d, sz_1, sz_2, sl_1, sl_2, lc_0, lc_lt, lc_le, li_ne, va_rf, wr_m1, we_m1, pm_kill_w, Int32.reduceOfInt, Int64.reduceOfInt, Int32.reduceOfNat, Int32.reduceLT, Int32.reduceLE, Prod.mk.injEq, Nat.reduceEqDiff, reduceCtorEq, and_true, true_and, and_false, false_and, and_self, ite_true, ite_false, ↓reduceIte, not_true_eq_false, not_false_eq_true, pe_ri, pe_rz, pe_rc, Cs_g10_0 hP hA, Cs_g9_0 hP hA, Cs_g9_1 hP hA, Cs_g9_3 hP hA, eq_false k3, eq_false k4, eq_true k5, eq_true k6, z7, eq_true k8]
          · rw [if_neg k8] at e
            have e := Option.some.inj e; subst e
            simp -implicitDefEqProofs (disch := first | assumption | exact Nat.le_of_ble_eq_true rfl | decide) only [b199_0, g199_1, b199_1, g199_2, b199_2, pe_iload2, pe_if_lt, pe_iload3, pe_aload1, pe_getfield, pe_iadd, pe_aload0, pe_icmp_gt, pe_call4, pm_af_ret, pm_af_void, pm_af_thr, pe_sipush, pe_goto, pe_goto_w, pm_prog_1, pm_ob_some, Nat.reduceDiv, Nat.reduceMod, Nat.reduceMul, Nat.reduceAdd, Int.reduceToNat, pm_kill_i, pm_kill_r, pm_kill_n, pm_kill_j, pm_kill_l, pm_kill_d, pm_cats_nil, pm_cats_i, pm_cats_r, pm_cats_n, pm_cats_l, pm_cats_d, sz_1, sz_2, sl_1, sl_2, lc_0, lc_lt, lc_le, li_ne, va_rf, wr_m1, we_m1, pm_kill_w, Int32.reduceOfInt, Int64.reduceOfInt, Int32.reduceOfNat, Int32.reduceLT, Int32.reduceLE, Prod.mk.injEq, Nat.reduceEqDiff, reduceCtorEq, and_true, true_and, and_false, false_and, and_self, ite_true, ite_false, ↓reduceIte, not_true_eq_false, not_false_eq_true, pe_ri, pe_rz, pe_rc, Cs_g10_0 hP hA, Cs_g9_0 hP hA, Cs_g9_1 hP hA, Cs_g9_3 hP hA, eq_false k3, eq_false k4, eq_true k5, eq_true k6, z7, eq_false k8]
        · rw [if_neg k6] at e
          have e := Option.some.inj e; subst e
          simp -implicitDefEqProofs (disch := first | assumption | exact Nat.le_of_ble_eq_true rfl | decide) only [b199_0, g199_1, b199_1, g199_2, b199_2, pe_iload2, pe_if_lt, pe_iload3, pe_aload1, pe_getfield, pe_iadd, pe_aload0, pe_icmp_gt, pe_call4, pm_af_ret, pm_af_void, pm_af_thr, pe_sipush, pe_goto, pe_goto_w, pm_prog_1, pm_ob_some, Nat.reduceDiv, Nat.reduceMod, Nat.reduceMul, Nat.reduceAdd, Int.reduceToNat, pm_kill_i, pm_kill_r, pm_kill_n, pm_kill_j, pm_kill_l, pm_kill_d, pm_cats_nil, pm_cats_i, pm_cats_r, pm_cats_n, pm_cats_l, pm_cats_d, sz_1, sz_2, sl_1, sl_2, lc_0, lc_lt, lc_le, li_ne, va_rf, wr_m1, we_m1, pm_kill_w, Int32.reduceOfInt, Int64.reduceOfInt, Int32.reduceOfNat, Int32.reduceLT, Int32.reduceLE, Prod.mk.injEq, Nat.reduceEqDiff, reduceCtorEq, and_true, true_and, and_false, false_and, and_self, ite_true, ite_false, ↓reduceIte, not_true_eq_false, not_false_eq_true, pe_ri, pe_rz, pe_rc, Cs_g10_0 hP hA, Cs_g9_0 hP hA, Cs_g9_1 hP hA, Cs_g9_3 hP hA, eq_false k3, eq_false k4, eq_true k5, eq_false k6]
      · rw [if_neg k5] at e
        have e := Option.some.inj e; subst e
        simp -implicitDefEqProofs (disch := first | assumption | exact Nat.le_of_ble_eq_true rfl | decide) only [b199_0, g199_1, b199_1, g199_2, b199_2, pe_iload2, pe_if_lt, pe_iload3, pe_aload1, pe_getfield, pe_iadd, pe_aload0, pe_icmp_gt, pe_call4, pm_af_ret, pm_af_void, pm_af_thr, pe_sipush, pe_goto, pe_goto_w, pm_prog_1, pm_ob_some, Nat.reduceDiv, Nat.reduceMod, Nat.reduceMul, Nat.reduceAdd, Int.reduceToNat, pm_kill_i, pm_kill_r, pm_kill_n, pm_kill_j, pm_kill_l, pm_kill_d, pm_cats_nil, pm_cats_i, pm_cats_r, pm_cats_n, pm_cats_l, pm_cats_d, sz_1, sz_2, sl_1, sl_2, lc_0, lc_lt, lc_le, li_ne, va_rf, wr_m1, we_m1, pm_kill_w, Int32.reduceOfInt, Int64.reduceOfInt, Int32.reduceOfNat, Int32.reduceLT, Int32.reduceLE, Prod.mk.injEq, Nat.reduceEqDiff, reduceCtorEq, and_true, true_and, and_false, false_and, and_self, ite_true, ite_false, ↓reduceIte, not_true_eq_false, not_false_eq_true, pe_ri, pe_rz, pe_rc, Cs_g10_0 hP hA, Cs_g9_0 hP hA, Cs_g9_1 hP hA, Cs_g9_3 hP hA, eq_false k3, eq_false k4, eq_false k5]
/-- TimberHouse$SawGrids$View.behind(I)I -/
theorem c200 {d : Nat} {h : pm_H} {a : Nat} {x0 : Int32} (hc : pm_cls h a = some 3) : pm_call pm_prog (d + 1) 200 [.ref a, .int x0] h = pm_ev pm_prog (pm_call pm_prog d) 200 0 b200_0 [.ref a, .int x0] [] h := pm_cal (pm_rc1 hc rfl) rfl rfl rfl
/-- TimberHouse$SawGrids$View.behind(I)I -/
noncomputable def f200 (side : Int32) (cnt : Int32) (S : wS) (x0i : Int32) (x1 : Int32) : Option (Int32) :=
  if 0 ≤ x0i ∧ x0i < 2 then
    (f3840 (S.1 (10, x0i, 0) 0) (x1 + (S.1 (10, x0i, 0) 1))).bind fun v1 =>
    some v1
  else none
theorem x200 {side : Int32} {cnt : Int32} {A : wK → Nat} {h : pm_H} {D : Nat} {S : wS} {x0i : Int32} {x1 : Int32} {r : Int32} (hP : Cs_P side cnt) (hA : wok A (Cs_d side cnt) h.1) (hD : 2 ≤ D) (e : f200 side cnt S x0i x1 = some r) : pm_call pm_prog D 200 [.ref (A (10, x0i, 0)), .int x1] (wput A (Cs_d side cnt) S h) = some (Outcome.returned (some (.int r)), (wput A (Cs_d side cnt) S h)) := by
  obtain ⟨D, rfl⟩ : ∃ D', D = D' + 1 := ⟨D - 1, by omega⟩
  have hD : 1 ≤ D := by omega
  simp only [f200] at e
  have k1 : 0 ≤ x0i ∧ x0i < 2 := by
    by_cases q : 0 ≤ x0i ∧ x0i < 2
    · exact q
    · rw [if_neg q] at e; cases e
  rw [if_pos k1] at e
  rw [c200 (Cs_c10 hP hA k1), b200_0]
  obtain ⟨v1, k2, e⟩ := Option.bind_eq_some_iff.mp e
  try dsimp only at e
  have z2 := fun h => x3840 (D := D) (h := h) (by omega) k2
  have e := Option.some.inj e; subst e
  simp -implicitDefEqProofs (disch := first | assumption | exact Nat.le_of_ble_eq_true rfl | decide) only [b200_0, pe_aload0, pe_getfield, pe_iload1, pe_iadd, pe_call2, pm_af_ret, pm_af_void, pm_af_thr, pm_prog_1, pm_ob_some, Nat.reduceDiv, Nat.reduceMod, Nat.reduceMul, Nat.reduceAdd, Int.reduceToNat, pm_kill_i, pm_kill_r, pm_kill_n, pm_kill_j, pm_kill_l, pm_kill_d, pm_cats_nil, pm_cats_i, pm_cats_r, pm_cats_n, pm_cats_l, pm_cats_d, sz_1, sz_2, sl_1, sl_2, lc_0, lc_lt, lc_le, li_ne, va_rf, wr_m1, we_m1, pm_kill_w, Int32.reduceOfInt, Int64.reduceOfInt, Int32.reduceOfNat, Int32.reduceLT, Int32.reduceLE, Prod.mk.injEq, Nat.reduceEqDiff, reduceCtorEq, and_true, true_and, and_false, false_and, and_self, ite_true, ite_false, ↓reduceIte, not_true_eq_false, not_false_eq_true, pe_ri, pe_rz, pe_rc, Cs_g10_0 hP hA, Cs_g10_1 hP hA, z2]
/-- TimberHouse$SawGrids$View.fillSlab([LTimberHouse$SawGrids$Size;III)V -/
theorem c198 {d : Nat} {h : pm_H} {a : Nat} {r0 : Nat} {x1 : Int32} {x2 : Int32} {x3 : Int32} (hc : pm_cls h a = some 3) : pm_call pm_prog (d + 1) 198 [.ref a, .ref r0, .int x1, .int x2, .int x3] h = pm_ev pm_prog (pm_call pm_prog d) 198 0 b198_0 [.ref a, .ref r0, .int x1, .int x2, .int x3, pm_junk, pm_junk, pm_junk, pm_junk, pm_junk, pm_junk] [] h := pm_cal (pm_rc1 hc rfl) rfl rfl rfl
theorem g198_1 {cl : pm_C} {ls st : List Value} {h : pm_H} : pm_go pm_prog cl 198 1 ls st h = pm_ev pm_prog cl 198 1 b198_1 ls st h := pm_go_eq pm_prog cl 198 1 ls st h
theorem g198_2 {cl : pm_C} {ls st : List Value} {h : pm_H} : pm_go pm_prog cl 198 2 ls st h = pm_ev pm_prog cl 198 2 b198_2 ls st h := pm_go_eq pm_prog cl 198 2 ls st h
theorem g198_3 {cl : pm_C} {ls st : List Value} {h : pm_H} : pm_go pm_prog cl 198 3 ls st h = pm_ev pm_prog cl 198 3 b198_3 ls st h := pm_go_eq pm_prog cl 198 3 ls st h
theorem g198_4 {cl : pm_C} {ls st : List Value} {h : pm_H} : pm_go pm_prog cl 198 4 ls st h = pm_ev pm_prog cl 198 4 b198_4 ls st h := pm_go_eq pm_prog cl 198 4 ls st h
theorem g198_5 {cl : pm_C} {ls st : List Value} {h : pm_H} : pm_go pm_prog cl 198 5 ls st h = pm_ev pm_prog cl 198 5 b198_5 ls st h := pm_go_eq pm_prog cl 198 5 ls st h
theorem g198_6 {cl : pm_C} {ls st : List Value} {h : pm_H} : pm_go pm_prog cl 198 6 ls st h = pm_ev pm_prog cl 198 6 b198_6 ls st h := pm_go_eq pm_prog cl 198 6 ls st h
theorem g198_7 {cl : pm_C} {ls st : List Value} {h : pm_H} : pm_go pm_prog cl 198 7 ls st h = pm_ev pm_prog cl 198 7 b198_7 ls st h := pm_go_eq pm_prog cl 198 7 ls st h
noncomputable def f198_4_2 (side : Int32) (cnt : Int32) (S : wS) (x0i : Int32) (x2 : Int32) (x3 : Int32) (x4 : Int32) (x5 : Int32) (x6 : Int32) (x9 : Int32) (x10 : Int32) : Option ((Int32 × Int32 × Int32 × Int32 × Int32 × Int32 × wS) ⊕ ((Int32 × Int32 × Int32 × Int32 × Int32 × wS))) :=
  if 0 ≤ x0i ∧ x0i < 2 then
    if 0 ≤ x5 ∧ x5 < side then
      if 0 ≤ x5 ∧ x5 < (side + 1) then
        some (.inl (x0i, x2, x3, x4, x5, (x6 + (-1)), (sz (sz (sz S (17, x0i, 0) x5 (vp_nar .byte (Int8.toInt32 (Int32.toInt8 x6)))) (15, x0i, 0) x5 x9) (16, x0i, 0) x5 x10)))
      else none
    else none
  else none
noncomputable def f198_b2 (side : Int32) (cnt : Int32) : Int32 × Int32 × Int32 × Int32 × Int32 × Int32 × wS → Option ((Int32 × Int32 × Int32 × Int32 × Int32 × Int32 × wS) ⊕ ((Int32 × Int32 × Int32 × Int32 × Int32 × wS))) := fun (x0i, x2, x3, x4, x5, x6, S) =>
  if 0 ≤ x0i ∧ x0i < 2 then
    if x6 < 0 then
      some (.inr (x0i, x2, x3, x4, x5, S))
    else
      if 0 ≤ x6 ∧ x6 < 8 then
        if x6 < cnt then
          if 0 ≤ x6 ∧ x6 < cnt then
            if (S.1 (9, x6, 0) 0) = x4 then
              (f199 side cnt S x0i x6 x5 x3).bind fun v1 =>
              if v1 = 0 then
                some (.inl (x0i, x2, x3, x4, x5, (x6 + (-1)), S))
              else
                (f200 side cnt S x0i (x5 + (S.1 (9, x6, 0) 1))).bind fun v2 =>
                if 0 ≤ v2 ∧ v2 < (side + 1) then
                  (f193 side cnt S x0i x6 x5 x3).bind fun v3 =>
                  if 0 ≤ x5 ∧ x5 < (side + 1) then
                    if ((S.1 (15, x0i, 0) v2) + v3) ≤ (S.1 (15, x0i, 0) x5) then
                      if ((S.1 (15, x0i, 0) v2) + v3) = (S.1 (15, x0i, 0) x5) then
                        if ((S.1 (16, x0i, 0) v2) + 1) ≤ (S.1 (16, x0i, 0) x5) then
                          f198_4_2 side cnt S x0i x2 x3 x4 x5 x6 ((S.1 (15, x0i, 0) v2) + v3) ((S.1 (16, x0i, 0) v2) + 1)
                        else
                          some (.inl (x0i, x2, x3, x4, x5, (x6 + (-1)), S))
                      else
                        some (.inl (x0i, x2, x3, x4, x5, (x6 + (-1)), S))
                    else
                      f198_4_2 side cnt S x0i x2 x3 x4 x5 x6 ((S.1 (15, x0i, 0) v2) + v3) ((S.1 (16, x0i, 0) v2) + 1)
                  else none
                else none
            else
              some (.inl (x0i, x2, x3, x4, x5, (x6 + (-1)), S))
          else none
        else none
      else none
  else none
noncomputable def f198_b1 (side : Int32) (cnt : Int32) : Int32 × Int32 × Int32 × Int32 × Int32 × wS → Option ((Int32 × Int32 × Int32 × Int32 × Int32 × wS) ⊕ ((wS))) := fun (x0i, x2, x3, x4, x5, S) =>
  if 0 ≤ x0i ∧ x0i < 2 then
    if x5 < 0 then
      some (.inr S)
    else
      if 0 ≤ x5 ∧ x5 < side then
        if 0 ≤ (x5 + 1) ∧ (x5 + 1) < (side + 1) then
          if 0 ≤ x5 ∧ x5 < (side + 1) then
            (lp (f198_b2 side cnt) FU (x0i, x2, x3, x4, x5, (x2 - 1), (sz (sz (sz S (17, x0i, 0) x5 (vp_nar .byte (-1))) (15, x0i, 0) x5 (S.1 (15, x0i, 0) (x5 + 1))) (16, x0i, 0) x5 (S.1 (16, x0i, 0) (x5 + 1))))).bind fun (v5i, v7, v8, v9, v10, S4) =>
            if 0 ≤ v5i ∧ v5i < 2 then
              some (.inl (v5i, v7, v8, v9, (v10 + (-1)), S4))
            else none
          else none
        else none
      else none
  else none
/-- TimberHouse$SawGrids$View.fillSlab([LTimberHouse$SawGrids$Size;III)V -/
noncomputable def f198 (side : Int32) (cnt : Int32) (S : wS) (x0i : Int32) (x2 : Int32) (x3 : Int32) (x4 : Int32) : Option (wS) :=
  if 0 ≤ x0i ∧ x0i < 2 then
    if 0 ≤ (S.1 (10, x0i, 0) 0) ∧ (S.1 (10, x0i, 0) 0) < (side + 1) then
      (lp (f198_b1 side cnt) FU (x0i, x2, x3, x4, ((S.1 (10, x0i, 0) 0) - 1), (sz (sz S (16, x0i, 0) (S.1 (10, x0i, 0) 0) 0) (15, x0i, 0) (S.1 (10, x0i, 0) 0) 0))).bind fun S11 =>
      some S11
    else none
  else none
def go198_2 (side : Int32) (cnt : Int32) (A : wK → Nat) (h : pm_H) (D : Nat) (R : Outcome × pm_H) : Int32 × Int32 × Int32 × Int32 × Int32 × Int32 × wS → Prop := fun (x0i, x2, x3, x4, x5, x6, S) => ∀ q7 q8 q9 q10 : Value, pm_go pm_prog (pm_call pm_prog D) 198 2 [.ref (A (10, x0i, 0)), .ref (A (8, 0, 0)), .int x2, .int x3, .int x4, .int x5, .int x6, q7, q8, q9, q10] [] (wput A (Cs_d side cnt) S h) = some R
def ex198_2 (side : Int32) (cnt : Int32) (A : wK → Nat) (h : pm_H) (D : Nat) (R : Outcome × pm_H) : (Int32 × Int32 × Int32 × Int32 × Int32 × wS) → Prop := fun (x0i, x2, x3, x4, x5, S) => ∀ q6 q7 q8 q9 q10 : Value, pm_go pm_prog (pm_call pm_prog D) 198 6 [.ref (A (10, x0i, 0)), .ref (A (8, 0, 0)), .int x2, .int x3, .int x4, .int x5, q6, q7, q8, q9, q10] [] (wput A (Cs_d side cnt) S h) = some R
theorem y198_4_2 {side : Int32} {cnt : Int32} {A : wK → Nat} {h : pm_H} {D : Nat} {R : Outcome × pm_H} {S : wS} {x0i : Int32} {x2 : Int32} {x3 : Int32} {x4 : Int32} {x5 : Int32} {x6 : Int32} {x9 : Int32} {x10 : Int32} {r : (Int32 × Int32 × Int32 × Int32 × Int32 × Int32 × wS) ⊕ ((Int32 × Int32 × Int32 × Int32 × Int32 × wS))} (hP : Cs_P side cnt) (hA : wok A (Cs_d side cnt) h.1) (hD : 3 ≤ D) (e : f198_4_2 side cnt S x0i x2 x3 x4 x5 x6 x9 x10 = some r) (hc : Sum.elim (go198_2 side cnt A h D R) (ex198_2 side cnt A h D R) r) : ∀ q7 q8 : Value, pm_go pm_prog (pm_call pm_prog D) 198 4 [.ref (A (10, x0i, 0)), .ref (A (8, 0, 0)), .int x2, .int x3, .int x4, .int x5, .int x6, q7, q8, .int x9, .int x10] [] (wput A (Cs_d side cnt) S h) = some R := by
  intro q7 q8
  simp only [f198_4_2] at e
  rw [g198_4, b198_4]
  by_cases k1 : 0 ≤ x0i ∧ x0i < 2
  · rw [if_pos k1] at e
    by_cases k2 : 0 ≤ x5 ∧ x5 < side
    · rw [if_pos k2] at e
      by_cases k3 : 0 ≤ x5 ∧ x5 < (side + 1)
      · rw [if_pos k3] at e
        have e := Option.some.inj e; subst e
        dsimp only [Sum.elim_inl, go198_2] at hc
        simp -implicitDefEqProofs (disch := first | assumption | exact Nat.le_of_ble_eq_true rfl | decide) only [b198_0, g198_3, b198_3, g198_5, b198_5, g198_6, b198_6, g198_7, b198_7, pe_aload0, pe_getfield, pe_sipush, pe_dup_x2_iir, pe_dup_x2_iii, pe_iastore, pe_isub, pe_istore5, pe_goto_w, pe_iload5, pe_if_lt, pe_bastore, pe_iadd, pe_iaload, pe_iload2, pe_istore6, pe_iload6, pe_aload1, pe_aaload, pe_astore7, pe_aload7, pe_iload4, pe_icmp_ne, pe_iload3, pe_call4, pm_af_ret, pm_af_void, pm_af_thr, pe_if_ne, pe_goto, pe_call2, pe_istore8, pe_iload8, pe_istore9, pe_istore10, pe_iload9, pe_icmp_gt, pe_iload10, pe_i2b, pe_iinc6, pe_iinc5, pe_return, pm_prog_1, pm_ob_some, Nat.reduceDiv, Nat.reduceMod, Nat.reduceMul, Nat.reduceAdd, Int.reduceToNat, pm_kill_i, pm_kill_r, pm_kill_n, pm_kill_j, pm_kill_l, pm_kill_d, pm_cats_nil, pm_cats_i, pm_cats_r, pm_cats_n, pm_cats_l, pm_cats_d, sz_1, sz_2, sl_1, sl_2, lc_0, lc_lt, lc_le, li_ne, va_rf, wr_m1, we_m1, pm_kill_w, Int32.reduceOfInt, Int64.reduceOfInt, Int32.reduceOfNat, Int32.reduceLT, Int32.reduceLE, Prod.mk.injEq, Nat.reduceEqDiff, reduceCtorEq, and_true, true_and, and_false, false_and, and_self, ite_true, ite_false, ↓reduceIte, not_true_eq_false, not_false_eq_true, pe_ri, pe_rz, pe_rc, Cs_g10_0 hP hA, Cs_g10_4 hP hA, Cs_g10_5 hP hA, Cs_g10_6 hP hA, Cs_g9_0 hP hA, Cs_g9_1 hP hA, Cs_r15 hP hA, Cs_r16 hP hA, Cs_r8 hP hA, Cs_w15 hP hA, Cs_w16 hP hA, Cs_w17 hP hA, hc]
      · rw [if_neg k3] at e; cases e
    · rw [if_neg k2] at e; cases e
  · rw [if_neg k1] at e; cases e
theorem y198_b2 {side : Int32} {cnt : Int32} {A : wK → Nat} {h : pm_H} {D : Nat} {R : Outcome × pm_H} (hP : Cs_P side cnt) (hA : wok A (Cs_d side cnt) h.1) (hD : 3 ≤ D) (a : Int32 × Int32 × Int32 × Int32 × Int32 × Int32 × wS) (r : (Int32 × Int32 × Int32 × Int32 × Int32 × Int32 × wS) ⊕ ((Int32 × Int32 × Int32 × Int32 × Int32 × wS))) (e : f198_b2 side cnt a = some r) (hc : Sum.elim (go198_2 side cnt A h D R) (ex198_2 side cnt A h D R) r) : go198_2 side cnt A h D R a := by
  obtain ⟨x0i, x2, x3, x4, x5, x6, S⟩ := a
  dsimp only [go198_2]
  intro q7 q8 q9 q10
  simp only [f198_b2] at e
  rw [g198_2, b198_2]
  by_cases k1 : 0 ≤ x0i ∧ x0i < 2
  · rw [if_pos k1] at e
    by_cases k2 : x6 < 0
    · rw [if_pos k2] at e
      have e := Option.some.inj e; subst e
      dsimp only [Sum.elim_inr, ex198_2] at hc
      simp -implicitDefEqProofs (disch := first | assumption | exact Nat.le_of_ble_eq_true rfl | decide) only [b198_0, g198_3, b198_3, g198_5, b198_5, g198_6, b198_6, g198_7, b198_7, pe_aload0, pe_getfield, pe_sipush, pe_dup_x2_iir, pe_dup_x2_iii, pe_iastore, pe_isub, pe_istore5, pe_goto_w, pe_iload5, pe_if_lt, pe_bastore, pe_iadd, pe_iaload, pe_iload2, pe_istore6, pe_iload6, pe_aload1, pe_aaload, pe_astore7, pe_aload7, pe_iload4, pe_icmp_ne, pe_iload3, pe_call4, pm_af_ret, pm_af_void, pm_af_thr, pe_if_ne, pe_goto, pe_call2, pe_istore8, pe_iload8, pe_istore9, pe_istore10, pe_iload9, pe_icmp_gt, pe_iload10, pe_i2b, pe_iinc6, pe_iinc5, pe_return, pm_prog_1, pm_ob_some, Nat.reduceDiv, Nat.reduceMod, Nat.reduceMul, Nat.reduceAdd, Int.reduceToNat, pm_kill_i, pm_kill_r, pm_kill_n, pm_kill_j, pm_kill_l, pm_kill_d, pm_cats_nil, pm_cats_i, pm_cats_r, pm_cats_n, pm_cats_l, pm_cats_d, sz_1, sz_2, sl_1, sl_2, lc_0, lc_lt, lc_le, li_ne, va_rf, wr_m1, we_m1, pm_kill_w, Int32.reduceOfInt, Int64.reduceOfInt, Int32.reduceOfNat, Int32.reduceLT, Int32.reduceLE, Prod.mk.injEq, Nat.reduceEqDiff, reduceCtorEq, and_true, true_and, and_false, false_and, and_self, ite_true, ite_false, ↓reduceIte, not_true_eq_false, not_false_eq_true, pe_ri, pe_rz, pe_rc, Cs_g10_0 hP hA, Cs_g10_4 hP hA, Cs_g10_5 hP hA, Cs_g10_6 hP hA, Cs_g9_0 hP hA, Cs_g9_1 hP hA, Cs_r15 hP hA, Cs_r16 hP hA, Cs_r8 hP hA, Cs_w15 hP hA, Cs_w16 hP hA, Cs_w17 hP hA, eq_true k2, hc]
    · rw [if_neg k2] at e
      by_cases k3 : 0 ≤ x6 ∧ x6 < 8
      · rw [if_pos k3] at e
        by_cases k4 : x6 < cnt
        · rw [if_pos k4] at e
          by_cases k5 : 0 ≤ x6 ∧ x6 < cnt
          · rw [if_pos k5] at e
            by_cases k6 : (S.1 (9, x6, 0) 0) = x4
            · rw [if_pos k6] at e
              obtain ⟨v1, k7, e⟩ := Option.bind_eq_some_iff.mp e
              try dsimp only at e
              have z7 := x199 (D := D) (h := h) hP hA (by omega) k7
              by_cases k8 : v1 = 0
              · rw [if_pos k8] at e
                have e := Option.some.inj e; subst e
                dsimp only [Sum.elim_inl, go198_2] at hc
                simp -implicitDefEqProofs (disch := first | assumption | exact Nat.le_of_ble_eq_true rfl | decide) only [b198_0, g198_3, b198_3, g198_5, b198_5, g198_6, b198_6, g198_7, b198_7, pe_aload0, pe_getfield, pe_sipush, pe_dup_x2_iir, pe_dup_x2_iii, pe_iastore, pe_isub, pe_istore5, pe_goto_w, pe_iload5, pe_if_lt, pe_bastore, pe_iadd, pe_iaload, pe_iload2, pe_istore6, pe_iload6, pe_aload1, pe_aaload, pe_astore7, pe_aload7, pe_iload4, pe_icmp_ne, pe_iload3, pe_call4, pm_af_ret, pm_af_void, pm_af_thr, pe_if_ne, pe_goto, pe_call2, pe_istore8, pe_iload8, pe_istore9, pe_istore10, pe_iload9, pe_icmp_gt, pe_iload10, pe_i2b, pe_iinc6, pe_iinc5, pe_return, pm_prog_1, pm_ob_some, Nat.reduceDiv, Nat.reduceMod, Nat.reduceMul, Nat.reduceAdd, Int.reduceToNat, pm_kill_i, pm_kill_r, pm_kill_n, pm_kill_j, pm_kill_l, pm_kill_d, pm_cats_nil, pm_cats_i, pm_cats_r, pm_cats_n, pm_cats_l, pm_cats_d, sz_1, sz_2, sl_1, sl_2, lc_0, lc_lt, lc_le, li_ne, va_rf, wr_m1, we_m1, pm_kill_w, Int32.reduceOfInt, Int64.reduceOfInt, Int32.reduceOfNat, Int32.reduceLT, Int32.reduceLE, Prod.mk.injEq, Nat.reduceEqDiff, reduceCtorEq, and_true, true_and, and_false, false_and, and_self, ite_true, ite_false, ↓reduceIte, not_true_eq_false, not_false_eq_true, pe_ri, pe_rz, pe_rc, Cs_g10_0 hP hA, Cs_g10_4 hP hA, Cs_g10_5 hP hA, Cs_g10_6 hP hA, Cs_g9_0 hP hA, Cs_g9_1 hP hA, Cs_r15 hP hA, Cs_r16 hP hA, Cs_r8 hP hA, Cs_w15 hP hA, Cs_w16 hP hA, Cs_w17 hP hA, eq_false k2, eq_true k6, z7, eq_true k8, hc]
              · rw [if_neg k8] at e
                obtain ⟨v2, k9, e⟩ := Option.bind_eq_some_iff.mp e
                try dsimp only at e
                have z9 := x200 (D := D) (h := h) hP hA (by omega) k9
                by_cases k10 : 0 ≤ v2 ∧ v2 < (side + 1)
                · rw [if_pos k10] at e
                  obtain ⟨v3, k11, e⟩ := Option.bind_eq_some_iff.mp e
                  try dsimp only at e
                  have z11 := x193 (D := D) (h := h) hP hA (by omega) k11
                  by_cases k12 : 0 ≤ x5 ∧ x5 < (side + 1)
                  · rw [if_pos k12] at e
                    by_cases k13 : ((S.1 (15, x0i, 0) v2) + v3) ≤ (S.1 (15, x0i, 0) x5)
                    · rw [if_pos k13] at e
                      by_cases k14 : ((S.1 (15, x0i, 0) v2) + v3) = (S.1 (15, x0i, 0) x5)
                      · rw [if_pos k14] at e
                        by_cases k15 : ((S.1 (16, x0i, 0) v2) + 1) ≤ (S.1 (16, x0i, 0) x5)
                        · rw [if_pos k15] at e
                          have k16 := y198_4_2 (h := h) hP hA hD e hc
                          simp -implicitDefEqProofs (disch := first | assumption | exact Nat.le_of_ble_eq_true rfl | decide) only [b198_0, g198_3, b198_3, g198_5, b198_5, g198_6, b198_6, g198_7, b198_7, pe_aload0, pe_getfield, pe_sipush, pe_dup_x2_iir, pe_dup_x2_iii, pe_iastore, pe_isub, pe_istore5, pe_goto_w, pe_iload5, pe_if_lt, pe_bastore, pe_iadd, pe_iaload, pe_iload2, pe_istore6, pe_iload6, pe_aload1, pe_aaload, pe_astore7, pe_aload7, pe_iload4, pe_icmp_ne, pe_iload3, pe_call4, pm_af_ret, pm_af_void, pm_af_thr, pe_if_ne, pe_goto, pe_call2, pe_istore8, pe_iload8, pe_istore9, pe_istore10, pe_iload9, pe_icmp_gt, pe_iload10, pe_i2b, pe_iinc6, pe_iinc5, pe_return, pm_prog_1, pm_ob_some, Nat.reduceDiv, Nat.reduceMod, Nat.reduceMul, Nat.reduceAdd, Int.reduceToNat, pm_kill_i, pm_kill_r, pm_kill_n, pm_kill_j, pm_kill_l, pm_kill_d, pm_cats_nil, pm_cats_i, pm_cats_r, pm_cats_n, pm_cats_l, pm_cats_d, sz_1, sz_2, sl_1, sl_2, lc_0, lc_lt, lc_le, li_ne, va_rf, wr_m1, we_m1, pm_kill_w, Int32.reduceOfInt, Int64.reduceOfInt, Int32.reduceOfNat, Int32.reduceLT, Int32.reduceLE, Prod.mk.injEq, Nat.reduceEqDiff, reduceCtorEq, and_true, true_and, and_false, false_and, and_self, ite_true, ite_false, ↓reduceIte, not_true_eq_false, not_false_eq_true, pe_ri, pe_rz, pe_rc, Cs_g10_0 hP hA, Cs_g10_4 hP hA, Cs_g10_5 hP hA, Cs_g10_6 hP hA, Cs_g9_0 hP hA, Cs_g9_1 hP hA, Cs_r15 hP hA, Cs_r16 hP hA, Cs_r8 hP hA, Cs_w15 hP hA, Cs_w16 hP hA, Cs_w17 hP hA, eq_false k2, eq_true k6, z7, eq_false k8, z9, z11, eq_true k13, eq_true k14, eq_true k15, k16]
                        · rw [if_neg k15] at e
                          have e := Option.some.inj e; subst e
                          dsimp only [Sum.elim_inl, go198_2] at hc
                          simp -implicitDefEqProofs (disch := first | assumption | exact Nat.le_of_ble_eq_true rfl | decide) only [b198_0, g198_3, b198_3, g198_5, b198_5, g198_6, b198_6, g198_7, b198_7, pe_aload0, pe_getfield, pe_sipush, pe_dup_x2_iir, pe_dup_x2_iii, pe_iastore, pe_isub, pe_istore5, pe_goto_w, pe_iload5, pe_if_lt, pe_bastore, pe_iadd, pe_iaload, pe_iload2, pe_istore6, pe_iload6, pe_aload1, pe_aaload, pe_astore7, pe_aload7, pe_iload4, pe_icmp_ne, pe_iload3, pe_call4, pm_af_ret, pm_af_void, pm_af_thr, pe_if_ne, pe_goto, pe_call2, pe_istore8, pe_iload8, pe_istore9, pe_istore10, pe_iload9, pe_icmp_gt, pe_iload10, pe_i2b, pe_iinc6, pe_iinc5, pe_return, pm_prog_1, pm_ob_some, Nat.reduceDiv, Nat.reduceMod, Nat.reduceMul, Nat.reduceAdd, Int.reduceToNat, pm_kill_i, pm_kill_r, pm_kill_n, pm_kill_j, pm_kill_l, pm_kill_d, pm_cats_nil, pm_cats_i, pm_cats_r, pm_cats_n, pm_cats_l, pm_cats_d, sz_1, sz_2, sl_1, sl_2, lc_0, lc_lt, lc_le, li_ne, va_rf, wr_m1, we_m1, pm_kill_w, Int32.reduceOfInt, Int64.reduceOfInt, Int32.reduceOfNat, Int32.reduceLT, Int32.reduceLE, Prod.mk.injEq, Nat.reduceEqDiff, reduceCtorEq, and_true, true_and, and_false, false_and, and_self, ite_true, ite_false, ↓reduceIte, not_true_eq_false, not_false_eq_true, pe_ri, pe_rz, pe_rc, Cs_g10_0 hP hA, Cs_g10_4 hP hA, Cs_g10_5 hP hA, Cs_g10_6 hP hA, Cs_g9_0 hP hA, Cs_g9_1 hP hA, Cs_r15 hP hA, Cs_r16 hP hA, Cs_r8 hP hA, Cs_w15 hP hA, Cs_w16 hP hA, Cs_w17 hP hA, eq_false k2, eq_true k6, z7, eq_false k8, z9, z11, eq_true k13, eq_true k14, eq_false k15, hc]
                      · rw [if_neg k14] at e
                        have e := Option.some.inj e; subst e
                        dsimp only [Sum.elim_inl, go198_2] at hc
                        simp -implicitDefEqProofs (disch := first | assumption | exact Nat.le_of_ble_eq_true rfl | decide) only [b198_0, g198_3, b198_3, g198_5, b198_5, g198_6, b198_6, g198_7, b198_7, pe_aload0, pe_getfield, pe_sipush, pe_dup_x2_iir, pe_dup_x2_iii, pe_iastore, pe_isub, pe_istore5, pe_goto_w, pe_iload5, pe_if_lt, pe_bastore, pe_iadd, pe_iaload, pe_iload2, pe_istore6, pe_iload6, pe_aload1, pe_aaload, pe_astore7, pe_aload7, pe_iload4, pe_icmp_ne, pe_iload3, pe_call4, pm_af_ret, pm_af_void, pm_af_thr, pe_if_ne, pe_goto, pe_call2, pe_istore8, pe_iload8, pe_istore9, pe_istore10, pe_iload9, pe_icmp_gt, pe_iload10, pe_i2b, pe_iinc6, pe_iinc5, pe_return, pm_prog_1, pm_ob_some, Nat.reduceDiv, Nat.reduceMod, Nat.reduceMul, Nat.reduceAdd, Int.reduceToNat, pm_kill_i, pm_kill_r, pm_kill_n, pm_kill_j, pm_kill_l, pm_kill_d, pm_cats_nil, pm_cats_i, pm_cats_r, pm_cats_n, pm_cats_l, pm_cats_d, sz_1, sz_2, sl_1, sl_2, lc_0, lc_lt, lc_le, li_ne, va_rf, wr_m1, we_m1, pm_kill_w, Int32.reduceOfInt, Int64.reduceOfInt, Int32.reduceOfNat, Int32.reduceLT, Int32.reduceLE, Prod.mk.injEq, Nat.reduceEqDiff, reduceCtorEq, and_true, true_and, and_false, false_and, and_self, ite_true, ite_false, ↓reduceIte, not_true_eq_false, not_false_eq_true, pe_ri, pe_rz, pe_rc, Cs_g10_0 hP hA, Cs_g10_4 hP hA, Cs_g10_5 hP hA, Cs_g10_6 hP hA, Cs_g9_0 hP hA, Cs_g9_1 hP hA, Cs_r15 hP hA, Cs_r16 hP hA, Cs_r8 hP hA, Cs_w15 hP hA, Cs_w16 hP hA, Cs_w17 hP hA, eq_false k2, eq_true k6, z7, eq_false k8, z9, z11, eq_true k13, eq_false k14, hc]
                    · rw [if_neg k13] at e
                      have k17 := y198_4_2 (h := h) hP hA hD e hc
                      simp -implicitDefEqProofs (disch := first | assumption | exact Nat.le_of_ble_eq_true rfl | decide) only [b198_0, g198_3, b198_3, g198_5, b198_5, g198_6, b198_6, g198_7, b198_7, pe_aload0, pe_getfield, pe_sipush, pe_dup_x2_iir, pe_dup_x2_iii, pe_iastore, pe_isub, pe_istore5, pe_goto_w, pe_iload5, pe_if_lt, pe_bastore, pe_iadd, pe_iaload, pe_iload2, pe_istore6, pe_iload6, pe_aload1, pe_aaload, pe_astore7, pe_aload7, pe_iload4, pe_icmp_ne, pe_iload3, pe_call4, pm_af_ret, pm_af_void, pm_af_thr, pe_if_ne, pe_goto, pe_call2, pe_istore8, pe_iload8, pe_istore9, pe_istore10, pe_iload9, pe_icmp_gt, pe_iload10, pe_i2b, pe_iinc6, pe_iinc5, pe_return, pm_prog_1, pm_ob_some, Nat.reduceDiv, Nat.reduceMod, Nat.reduceMul, Nat.reduceAdd, Int.reduceToNat, pm_kill_i, pm_kill_r, pm_kill_n, pm_kill_j, pm_kill_l, pm_kill_d, pm_cats_nil, pm_cats_i, pm_cats_r, pm_cats_n, pm_cats_l, pm_cats_d, sz_1, sz_2, sl_1, sl_2, lc_0, lc_lt, lc_le, li_ne, va_rf, wr_m1, we_m1, pm_kill_w, Int32.reduceOfInt, Int64.reduceOfInt, Int32.reduceOfNat, Int32.reduceLT, Int32.reduceLE, Prod.mk.injEq, Nat.reduceEqDiff, reduceCtorEq, and_true, true_and, and_false, false_and, and_self, ite_true, ite_false, ↓reduceIte, not_true_eq_false, not_false_eq_true, pe_ri, pe_rz, pe_rc, Cs_g10_0 hP hA, Cs_g10_4 hP hA, Cs_g10_5 hP hA, Cs_g10_6 hP hA, Cs_g9_0 hP hA, Cs_g9_1 hP hA, Cs_r15 hP hA, Cs_r16 hP hA, Cs_r8 hP hA, Cs_w15 hP hA, Cs_w16 hP hA, Cs_w17 hP hA, eq_false k2, eq_true k6, z7, eq_false k8, z9, z11, eq_false k13, k17]
                  · rw [if_neg k12] at e; cases e
                · rw [if_neg k10] at e; cases e
            · rw [if_neg k6] at e
              have e := Option.some.inj e; subst e
              dsimp only [Sum.elim_inl, go198_2] at hc
              simp -implicitDefEqProofs (disch := first | assumption | exact Nat.le_of_ble_eq_true rfl | decide) only [b198_0, g198_3, b198_3, g198_5, b198_5, g198_6, b198_6, g198_7, b198_7, pe_aload0, pe_getfield, pe_sipush, pe_dup_x2_iir, pe_dup_x2_iii, pe_iastore, pe_isub, pe_istore5, pe_goto_w, pe_iload5, pe_if_lt, pe_bastore, pe_iadd, pe_iaload, pe_iload2, pe_istore6, pe_iload6, pe_aload1, pe_aaload, pe_astore7, pe_aload7, pe_iload4, pe_icmp_ne, pe_iload3, pe_call4, pm_af_ret, pm_af_void, pm_af_thr, pe_if_ne, pe_goto, pe_call2, pe_istore8, pe_iload8, pe_istore9, pe_istore10, pe_iload9, pe_icmp_gt, pe_iload10, pe_i2b, pe_iinc6, pe_iinc5, pe_return, pm_prog_1, pm_ob_some, Nat.reduceDiv, Nat.reduceMod, Nat.reduceMul, Nat.reduceAdd, Int.reduceToNat, pm_kill_i, pm_kill_r, pm_kill_n, pm_kill_j, pm_kill_l, pm_kill_d, pm_cats_nil, pm_cats_i, pm_cats_r, pm_cats_n, pm_cats_l, pm_cats_d, sz_1, sz_2, sl_1, sl_2, lc_0, lc_lt, lc_le, li_ne, va_rf, wr_m1, we_m1, pm_kill_w, Int32.reduceOfInt, Int64.reduceOfInt, Int32.reduceOfNat, Int32.reduceLT, Int32.reduceLE, Prod.mk.injEq, Nat.reduceEqDiff, reduceCtorEq, and_true, true_and, and_false, false_and, and_self, ite_true, ite_false, ↓reduceIte, not_true_eq_false, not_false_eq_true, pe_ri, pe_rz, pe_rc, Cs_g10_0 hP hA, Cs_g10_4 hP hA, Cs_g10_5 hP hA, Cs_g10_6 hP hA, Cs_g9_0 hP hA, Cs_g9_1 hP hA, Cs_r15 hP hA, Cs_r16 hP hA, Cs_r8 hP hA, Cs_w15 hP hA, Cs_w16 hP hA, Cs_w17 hP hA, eq_false k2, eq_false k6, hc]
          · rw [if_neg k5] at e; cases e
        · rw [if_neg k4] at e; cases e
      · rw [if_neg k3] at e; cases e
  · rw [if_neg k1] at e; cases e
theorem z198_2 {side : Int32} {cnt : Int32} {A : wK → Nat} {h : pm_H} {D : Nat} {R : Outcome × pm_H} (hP : Cs_P side cnt) (hA : wok A (Cs_d side cnt) h.1) (hD : 3 ≤ D) {n : Nat} {a : Int32 × Int32 × Int32 × Int32 × Int32 × Int32 × wS} {b : (Int32 × Int32 × Int32 × Int32 × Int32 × wS)} (e : lp (f198_b2 side cnt) n a = some b) (hx : ex198_2 side cnt A h D R b) : go198_2 side cnt A h D R a := lp_run (fun a r => y198_b2 hP hA hD a r) n a b e hx
def go198_1 (side : Int32) (cnt : Int32) (A : wK → Nat) (h : pm_H) (D : Nat) (R : Outcome × pm_H) : Int32 × Int32 × Int32 × Int32 × Int32 × wS → Prop := fun (x0i, x2, x3, x4, x5, S) => ∀ q6 q7 q8 q9 q10 : Value, pm_go pm_prog (pm_call pm_prog D) 198 1 [.ref (A (10, x0i, 0)), .ref (A (8, 0, 0)), .int x2, .int x3, .int x4, .int x5, q6, q7, q8, q9, q10] [] (wput A (Cs_d side cnt) S h) = some R
def ex198_1 (side : Int32) (cnt : Int32) (A : wK → Nat) (h : pm_H) (D : Nat) (R : Outcome × pm_H) : (wS) → Prop := fun S => ∀ q0 q1 q2 q3 q4 q5 q6 q7 q8 q9 q10 : Value, pm_go pm_prog (pm_call pm_prog D) 198 7 [q0, q1, q2, q3, q4, q5, q6, q7, q8, q9, q10] [] (wput A (Cs_d side cnt) S h) = some R
theorem y198_b1 {side : Int32} {cnt : Int32} {A : wK → Nat} {h : pm_H} {D : Nat} {R : Outcome × pm_H} (hP : Cs_P side cnt) (hA : wok A (Cs_d side cnt) h.1) (hD : 3 ≤ D) (a : Int32 × Int32 × Int32 × Int32 × Int32 × wS) (r : (Int32 × Int32 × Int32 × Int32 × Int32 × wS) ⊕ ((wS))) (e : f198_b1 side cnt a = some r) (hc : Sum.elim (go198_1 side cnt A h D R) (ex198_1 side cnt A h D R) r) : go198_1 side cnt A h D R a := by
  obtain ⟨x0i, x2, x3, x4, x5, S⟩ := a
  dsimp only [go198_1]
  intro q6 q7 q8 q9 q10
  simp only [f198_b1] at e
  rw [g198_1, b198_1]
  by_cases k1 : 0 ≤ x0i ∧ x0i < 2
  · rw [if_pos k1] at e
    by_cases k2 : x5 < 0
    · rw [if_pos k2] at e
      have e := Option.some.inj e; subst e
      dsimp only [Sum.elim_inr, ex198_1] at hc
      simp -implicitDefEqProofs (disch := first | assumption | exact Nat.le_of_ble_eq_true rfl | decide) only [b198_0, g198_3, b198_3, g198_5, b198_5, g198_6, b198_6, g198_7, b198_7, pe_aload0, pe_getfield, pe_sipush, pe_dup_x2_iir, pe_dup_x2_iii, pe_iastore, pe_isub, pe_istore5, pe_goto_w, pe_iload5, pe_if_lt, pe_bastore, pe_iadd, pe_iaload, pe_iload2, pe_istore6, pe_iload6, pe_aload1, pe_aaload, pe_astore7, pe_aload7, pe_iload4, pe_icmp_ne, pe_iload3, pe_call4, pm_af_ret, pm_af_void, pm_af_thr, pe_if_ne, pe_goto, pe_call2, pe_istore8, pe_iload8, pe_istore9, pe_istore10, pe_iload9, pe_icmp_gt, pe_iload10, pe_i2b, pe_iinc6, pe_iinc5, pe_return, pm_prog_1, pm_ob_some, Nat.reduceDiv, Nat.reduceMod, Nat.reduceMul, Nat.reduceAdd, Int.reduceToNat, pm_kill_i, pm_kill_r, pm_kill_n, pm_kill_j, pm_kill_l, pm_kill_d, pm_cats_nil, pm_cats_i, pm_cats_r, pm_cats_n, pm_cats_l, pm_cats_d, sz_1, sz_2, sl_1, sl_2, lc_0, lc_lt, lc_le, li_ne, va_rf, wr_m1, we_m1, pm_kill_w, Int32.reduceOfInt, Int64.reduceOfInt, Int32.reduceOfNat, Int32.reduceLT, Int32.reduceLE, Prod.mk.injEq, Nat.reduceEqDiff, reduceCtorEq, and_true, true_and, and_false, false_and, and_self, ite_true, ite_false, ↓reduceIte, not_true_eq_false, not_false_eq_true, pe_ri, pe_rz, pe_rc, Cs_g10_0 hP hA, Cs_g10_4 hP hA, Cs_g10_5 hP hA, Cs_g10_6 hP hA, Cs_g9_0 hP hA, Cs_g9_1 hP hA, Cs_r15 hP hA, Cs_r16 hP hA, Cs_r8 hP hA, Cs_w15 hP hA, Cs_w16 hP hA, Cs_w17 hP hA, eq_true k2, hc]
    · rw [if_neg k2] at e
      by_cases k3 : 0 ≤ x5 ∧ x5 < side
      · rw [if_pos k3] at e
        by_cases k4 : 0 ≤ (x5 + 1) ∧ (x5 + 1) < (side + 1)
        · rw [if_pos k4] at e
          by_cases k5 : 0 ≤ x5 ∧ x5 < (side + 1)
          · rw [if_pos k5] at e
            obtain ⟨⟨v5i, v7, v8, v9, v10, S4⟩, k6, e⟩ := Option.bind_eq_some_iff.mp e
            try dsimp only at e
            try simp -implicitDefEqProofs (disch := first | assumption | exact Nat.le_of_ble_eq_true rfl | decide) only [b198_0, g198_3, b198_3, g198_5, b198_5, g198_6, b198_6, g198_7, b198_7, pe_aload0, pe_getfield, pe_sipush, pe_dup_x2_iir, pe_dup_x2_iii, pe_iastore, pe_isub, pe_istore5, pe_goto_w, pe_iload5, pe_if_lt, pe_bastore, pe_iadd, pe_iaload, pe_iload2, pe_istore6, pe_iload6, pe_aload1, pe_aaload, pe_astore7, pe_aload7, pe_iload4, pe_icmp_ne, pe_iload3, pe_call4, pm_af_ret, pm_af_void, pm_af_thr, pe_if_ne, pe_goto, pe_call2, pe_istore8, pe_iload8, pe_istore9, pe_istore10, pe_iload9, pe_icmp_gt, pe_iload10, pe_i2b, pe_iinc6, pe_iinc5, pe_return, pm_prog_1, pm_ob_some, Nat.reduceDiv, Nat.reduceMod, Nat.reduceMul, Nat.reduceAdd, Int.reduceToNat, pm_kill_i, pm_kill_r, pm_kill_n, pm_kill_j, pm_kill_l, pm_kill_d, pm_cats_nil, pm_cats_i, pm_cats_r, pm_cats_n, pm_cats_l, pm_cats_d, sz_1, sz_2, sl_1, sl_2, lc_0, lc_lt, lc_le, li_ne, va_rf, wr_m1, we_m1, pm_kill_w, Int32.reduceOfInt, Int64.reduceOfInt, Int32.reduceOfNat, Int32.reduceLT, Int32.reduceLE, Prod.mk.injEq, Nat.reduceEqDiff, reduceCtorEq, and_true, true_and, and_false, false_and, and_self, ite_true, ite_false, ↓reduceIte, not_true_eq_false, not_false_eq_true, pe_ri, pe_rz, pe_rc, Cs_g10_0 hP hA, Cs_g10_4 hP hA, Cs_g10_5 hP hA, Cs_g10_6 hP hA, Cs_g9_0 hP hA, Cs_g9_1 hP hA, Cs_r15 hP hA, Cs_r16 hP hA, Cs_r8 hP hA, Cs_w15 hP hA, Cs_w16 hP hA, Cs_w17 hP hA, eq_false k2]
            refine z198_2 hP hA hD k6 ?_ _ _ _ _
            dsimp only [ex198_2]
            intro q6 q7 q8 q9 q10
            by_cases k7 : 0 ≤ v5i ∧ v5i < 2
            · rw [if_pos k7] at e
              have e := Option.some.inj e; subst e
              dsimp only [Sum.elim_inl, go198_1] at hc
              simp -implicitDefEqProofs (disch := first | assumption | exact Nat.le_of_ble_eq_true rfl | decide) only [b198_0, g198_3, b198_3, g198_5, b198_5, g198_6, b198_6, g198_7, b198_7, pe_aload0, pe_getfield, pe_sipush, pe_dup_x2_iir, pe_dup_x2_iii, pe_iastore, pe_isub, pe_istore5, pe_goto_w, pe_iload5, pe_if_lt, pe_bastore, pe_iadd, pe_iaload, pe_iload2, pe_istore6, pe_iload6, pe_aload1, pe_aaload, pe_astore7, pe_aload7, pe_iload4, pe_icmp_ne, pe_iload3, pe_call4, pm_af_ret, pm_af_void, pm_af_thr, pe_if_ne, pe_goto, pe_call2, pe_istore8, pe_iload8, pe_istore9, pe_istore10, pe_iload9, pe_icmp_gt, pe_iload10, pe_i2b, pe_iinc6, pe_iinc5, pe_return, pm_prog_1, pm_ob_some, Nat.reduceDiv, Nat.reduceMod, Nat.reduceMul, Nat.reduceAdd, Int.reduceToNat, pm_kill_i, pm_kill_r, pm_kill_n, pm_kill_j, pm_kill_l, pm_kill_d, pm_cats_nil, pm_cats_i, pm_cats_r, pm_cats_n, pm_cats_l, pm_cats_d, sz_1, sz_2, sl_1, sl_2, lc_0, lc_lt, lc_le, li_ne, va_rf, wr_m1, we_m1, pm_kill_w, Int32.reduceOfInt, Int64.reduceOfInt, Int32.reduceOfNat, Int32.reduceLT, Int32.reduceLE, Prod.mk.injEq, Nat.reduceEqDiff, reduceCtorEq, and_true, true_and, and_false, false_and, and_self, ite_true, ite_false, ↓reduceIte, not_true_eq_false, not_false_eq_true, pe_ri, pe_rz, pe_rc, Cs_g10_0 hP hA, Cs_g10_4 hP hA, Cs_g10_5 hP hA, Cs_g10_6 hP hA, Cs_g9_0 hP hA, Cs_g9_1 hP hA, Cs_r15 hP hA, Cs_r16 hP hA, Cs_r8 hP hA, Cs_w15 hP hA, Cs_w16 hP hA, Cs_w17 hP hA, eq_false k2, hc]
            · rw [if_neg k7] at e; cases e
          · rw [if_neg k5] at e; cases e
        · rw [if_neg k4] at e; cases e
      · rw [if_neg k3] at e; cases e
  · rw [if_neg k1] at e; cases e
theorem z198_1 {side : Int32} {cnt : Int32} {A : wK → Nat} {h : pm_H} {D : Nat} {R : Outcome × pm_H} (hP : Cs_P side cnt) (hA : wok A (Cs_d side cnt) h.1) (hD : 3 ≤ D) {n : Nat} {a : Int32 × Int32 × Int32 × Int32 × Int32 × wS} {b : (wS)} (e : lp (f198_b1 side cnt) n a = some b) (hx : ex198_1 side cnt A h D R b) : go198_1 side cnt A h D R a := lp_run (fun a r => y198_b1 hP hA hD a r) n a b e hx
theorem x198 {side : Int32} {cnt : Int32} {A : wK → Nat} {h : pm_H} {D : Nat} {S : wS} {x0i : Int32} {x2 : Int32} {x3 : Int32} {x4 : Int32} {r : wS} (hP : Cs_P side cnt) (hA : wok A (Cs_d side cnt) h.1) (hD : 4 ≤ D) (e : f198 side cnt S x0i x2 x3 x4 = some r) : pm_call pm_prog D 198 [.ref (A (10, x0i, 0)), .ref (A (8, 0, 0)), .int x2, .int x3, .int x4] (wput A (Cs_d side cnt) S h) = some (Outcome.returned none, (wput A (Cs_d side cnt) r h)) := by
  obtain ⟨D, rfl⟩ : ∃ D', D = D' + 1 := ⟨D - 1, by omega⟩
  have hD : 3 ≤ D := by omega
  simp only [f198] at e
  have k1 : 0 ≤ x0i ∧ x0i < 2 := by
    by_cases q : 0 ≤ x0i ∧ x0i < 2
    · exact q
    · rw [if_neg q] at e; cases e
  rw [if_pos k1] at e
  rw [c198 (Cs_c10 hP hA k1), b198_0]
  by_cases k2 : 0 ≤ (S.1 (10, x0i, 0) 0) ∧ (S.1 (10, x0i, 0) 0) < (side + 1)
  · rw [if_pos k2] at e
    obtain ⟨S11, k3, e⟩ := Option.bind_eq_some_iff.mp e
    try dsimp only at e
    try simp -implicitDefEqProofs (disch := first | assumption | exact Nat.le_of_ble_eq_true rfl | decide) only [b198_0, g198_3, b198_3, g198_5, b198_5, g198_6, b198_6, g198_7, b198_7, pe_aload0, pe_getfield, pe_sipush, pe_dup_x2_iir, pe_dup_x2_iii, pe_iastore, pe_isub, pe_istore5, pe_goto_w, pe_iload5, pe_if_lt, pe_bastore, pe_iadd, pe_iaload, pe_iload2, pe_istore6, pe_iload6, pe_aload1, pe_aaload, pe_astore7, pe_aload7, pe_iload4, pe_icmp_ne, pe_iload3, pe_call4, pm_af_ret, pm_af_void, pm_af_thr, pe_if_ne, pe_goto, pe_call2, pe_istore8, pe_iload8, pe_istore9, pe_istore10, pe_iload9, pe_icmp_gt, pe_iload10, pe_i2b, pe_iinc6, pe_iinc5, pe_return, pm_prog_1, pm_ob_some, Nat.reduceDiv, Nat.reduceMod, Nat.reduceMul, Nat.reduceAdd, Int.reduceToNat, pm_kill_i, pm_kill_r, pm_kill_n, pm_kill_j, pm_kill_l, pm_kill_d, pm_cats_nil, pm_cats_i, pm_cats_r, pm_cats_n, pm_cats_l, pm_cats_d, sz_1, sz_2, sl_1, sl_2, lc_0, lc_lt, lc_le, li_ne, va_rf, wr_m1, we_m1, pm_kill_w, Int32.reduceOfInt, Int64.reduceOfInt, Int32.reduceOfNat, Int32.reduceLT, Int32.reduceLE, Prod.mk.injEq, Nat.reduceEqDiff, reduceCtorEq, and_true, true_and, and_false, false_and, and_self, ite_true, ite_false, ↓reduceIte, not_true_eq_false, not_false_eq_true, pe_ri, pe_rz, pe_rc, Cs_g10_0 hP hA, Cs_g10_4 hP hA, Cs_g10_5 hP hA, Cs_g10_6 hP hA, Cs_g9_0 hP hA, Cs_g9_1 hP hA, Cs_r15 hP hA, Cs_r16 hP hA, Cs_r8 hP hA, Cs_w15 hP hA, Cs_w16 hP hA, Cs_w17 hP hA]
    refine z198_1 hP hA hD k3 ?_ _ _ _ _ _
    dsimp only [ex198_1]
    intro q0 q1 q2 q3 q4 q5 q6 q7 q8 q9 q10
    have e := Option.some.inj e; subst e
    simp -implicitDefEqProofs (disch := first | assumption | exact Nat.le_of_ble_eq_true rfl | decide) only [b198_0, g198_3, b198_3, g198_5, b198_5, g198_6, b198_6, g198_7, b198_7, pe_aload0, pe_getfield, pe_sipush, pe_dup_x2_iir, pe_dup_x2_iii, pe_iastore, pe_isub, pe_istore5, pe_goto_w, pe_iload5, pe_if_lt, pe_bastore, pe_iadd, pe_iaload, pe_iload2, pe_istore6, pe_iload6, pe_aload1, pe_aaload, pe_astore7, pe_aload7, pe_iload4, pe_icmp_ne, pe_iload3, pe_call4, pm_af_ret, pm_af_void, pm_af_thr, pe_if_ne, pe_goto, pe_call2, pe_istore8, pe_iload8, pe_istore9, pe_istore10, pe_iload9, pe_icmp_gt, pe_iload10, pe_i2b, pe_iinc6, pe_iinc5, pe_return, pm_prog_1, pm_ob_some, Nat.reduceDiv, Nat.reduceMod, Nat.reduceMul, Nat.reduceAdd, Int.reduceToNat, pm_kill_i, pm_kill_r, pm_kill_n, pm_kill_j, pm_kill_l, pm_kill_d, pm_cats_nil, pm_cats_i, pm_cats_r, pm_cats_n, pm_cats_l, pm_cats_d, sz_1, sz_2, sl_1, sl_2, lc_0, lc_lt, lc_le, li_ne, va_rf, wr_m1, we_m1, pm_kill_w, Int32.reduceOfInt, Int64.reduceOfInt, Int32.reduceOfNat, Int32.reduceLT, Int32.reduceLE, Prod.mk.injEq, Nat.reduceEqDiff, reduceCtorEq, and_true, true_and, and_false, false_and, and_self, ite_true, ite_false, ↓reduceIte, not_true_eq_false, not_false_eq_true, pe_ri, pe_rz, pe_rc, Cs_g10_0 hP hA, Cs_g10_4 hP hA, Cs_g10_5 hP hA, Cs_g10_6 hP hA, Cs_g9_0 hP hA, Cs_g9_1 hP hA, Cs_r15 hP hA, Cs_r16 hP hA, Cs_r8 hP hA, Cs_w15 hP hA, Cs_w16 hP hA, Cs_w17 hP hA]
  · rw [if_neg k2] at e; cases e
/-- TimberHouse$SawGrids$View.fill([LTimberHouse$SawGrids$Size;I)V -/
theorem c197 {d : Nat} {h : pm_H} {a : Nat} {r0 : Nat} {x1 : Int32} (hc : pm_cls h a = some 3) : pm_call pm_prog (d + 1) 197 [.ref a, .ref r0, .int x1] h = pm_ev pm_prog (pm_call pm_prog d) 197 0 b197_0 [.ref a, .ref r0, .int x1, pm_junk, pm_junk, pm_junk, pm_junk, pm_junk] [] h := pm_cal (pm_rc1 hc rfl) rfl rfl rfl
theorem g197_1 {cl : pm_C} {ls st : List Value} {h : pm_H} : pm_go pm_prog cl 197 1 ls st h = pm_ev pm_prog cl 197 1 b197_1 ls st h := pm_go_eq pm_prog cl 197 1 ls st h
theorem g197_2 {cl : pm_C} {ls st : List Value} {h : pm_H} : pm_go pm_prog cl 197 2 ls st h = pm_ev pm_prog cl 197 2 b197_2 ls st h := pm_go_eq pm_prog cl 197 2 ls st h
theorem g197_3 {cl : pm_C} {ls st : List Value} {h : pm_H} : pm_go pm_prog cl 197 3 ls st h = pm_ev pm_prog cl 197 3 b197_3 ls st h := pm_go_eq pm_prog cl 197 3 ls st h
theorem g197_4 {cl : pm_C} {ls st : List Value} {h : pm_H} : pm_go pm_prog cl 197 4 ls st h = pm_ev pm_prog cl 197 4 b197_4 ls st h := pm_go_eq pm_prog cl 197 4 ls st h
theorem g197_5 {cl : pm_C} {ls st : List Value} {h : pm_H} : pm_go pm_prog cl 197 5 ls st h = pm_ev pm_prog cl 197 5 b197_5 ls st h := pm_go_eq pm_prog cl 197 5 ls st h
theorem g197_6 {cl : pm_C} {ls st : List Value} {h : pm_H} : pm_go pm_prog cl 197 6 ls st h = pm_ev pm_prog cl 197 6 b197_6 ls st h := pm_go_eq pm_prog cl 197 6 ls st h
theorem g197_7 {cl : pm_C} {ls st : List Value} {h : pm_H} : pm_go pm_prog cl 197 7 ls st h = pm_ev pm_prog cl 197 7 b197_7 ls st h := pm_go_eq pm_prog cl 197 7 ls st h
noncomputable def f197_4_2 (side : Int32) (cnt : Int32) (S : wS) (x0i : Int32) (x2 : Int32) (x3 : Int32) (x4 : Int32) (x6 : Int32) (x7 : Int32) : Option ((Int32 × Int32 × Int32 × Int32 × wS) ⊕ ((Int32 × Int32 × Int32 × wS))) :=
  if 0 ≤ x0i ∧ x0i < 2 then
    if 0 ≤ x3 ∧ x3 < side then
      if 0 ≤ x3 ∧ x3 < (side + 1) then
        some (.inl (x0i, x2, x3, (x4 + (-1)), (sz (sz (sz S (20, x0i, 0) x3 (vp_nar .byte (Int8.toInt32 (Int32.toInt8 x4)))) (18, x0i, 0) x3 x6) (19, x0i, 0) x3 x7)))
      else none
    else none
  else none
noncomputable def f197_b2 (side : Int32) (cnt : Int32) : Int32 × Int32 × Int32 × Int32 × wS → Option ((Int32 × Int32 × Int32 × Int32 × wS) ⊕ ((Int32 × Int32 × Int32 × wS))) := fun (x0i, x2, x3, x4, S) =>
  if 0 ≤ x0i ∧ x0i < 2 then
    if x4 ≤ 0 then
      some (.inr (x0i, x2, x3, S))
    else
      (f198 side cnt S x0i x2 x3 x4).bind fun S1 =>
      if (0 : Int32) ≤ 0 ∧ 0 < (side + 1) then
        if (S1.1 (16, x0i, 0) 0) = 0 then
          some (.inl (x0i, x2, x3, (x4 + (-1)), S1))
        else
          (f200 side cnt S1 x0i (x3 + x4)).bind fun v2 =>
          if 0 ≤ v2 ∧ v2 < (side + 1) then
            if 0 ≤ x3 ∧ x3 < (side + 1) then
              if ((S1.1 (18, x0i, 0) v2) + (S1.1 (15, x0i, 0) 0)) ≤ (S1.1 (18, x0i, 0) x3) then
                if ((S1.1 (18, x0i, 0) v2) + (S1.1 (15, x0i, 0) 0)) = (S1.1 (18, x0i, 0) x3) then
                  if ((S1.1 (19, x0i, 0) v2) + (S1.1 (16, x0i, 0) 0)) ≤ (S1.1 (19, x0i, 0) x3) then
                    f197_4_2 side cnt S1 x0i x2 x3 x4 ((S1.1 (18, x0i, 0) v2) + (S1.1 (15, x0i, 0) 0)) ((S1.1 (19, x0i, 0) v2) + (S1.1 (16, x0i, 0) 0))
                  else
                    some (.inl (x0i, x2, x3, (x4 + (-1)), S1))
                else
                  some (.inl (x0i, x2, x3, (x4 + (-1)), S1))
              else
                f197_4_2 side cnt S1 x0i x2 x3 x4 ((S1.1 (18, x0i, 0) v2) + (S1.1 (15, x0i, 0) 0)) ((S1.1 (19, x0i, 0) v2) + (S1.1 (16, x0i, 0) 0))
            else none
          else none
      else none
  else none
noncomputable def f197_b1 (side : Int32) (cnt : Int32) : Int32 × Int32 × Int32 × wS → Option ((Int32 × Int32 × Int32 × wS) ⊕ ((wS))) := fun (x0i, x2, x3, S) =>
  if 0 ≤ x0i ∧ x0i < 2 then
    if x3 < 0 then
      some (.inr S)
    else
      if 0 ≤ x3 ∧ x3 < side then
        if 0 ≤ (x3 + 1) ∧ (x3 + 1) < (side + 1) then
          if 0 ≤ x3 ∧ x3 < (side + 1) then
            (lp (f197_b2 side cnt) FU (x0i, x2, x3, ((S.1 (10, x0i, 0) 0) - x3), (sz (sz (sz S (20, x0i, 0) x3 (vp_nar .byte 0)) (18, x0i, 0) x3 (S.1 (18, x0i, 0) (x3 + 1))) (19, x0i, 0) x3 (S.1 (19, x0i, 0) (x3 + 1))))).bind fun (v4i, v6, v7, S3) =>
            if 0 ≤ v4i ∧ v4i < 2 then
              some (.inl (v4i, v6, (v7 + (-1)), S3))
            else none
          else none
        else none
      else none
  else none
/-- TimberHouse$SawGrids$View.fill([LTimberHouse$SawGrids$Size;I)V -/
noncomputable def f197 (side : Int32) (cnt : Int32) (S : wS) (x0i : Int32) (x2 : Int32) : Option (wS) :=
  if 0 ≤ x0i ∧ x0i < 2 then
    if 0 ≤ (S.1 (10, x0i, 0) 0) ∧ (S.1 (10, x0i, 0) 0) < (side + 1) then
      (lp (f197_b1 side cnt) FU (x0i, x2, ((S.1 (10, x0i, 0) 0) - 1), (sz (sz S (19, x0i, 0) (S.1 (10, x0i, 0) 0) 0) (18, x0i, 0) (S.1 (10, x0i, 0) 0) 0))).bind fun S8 =>
      some S8
    else none
  else none
def go197_2 (side : Int32) (cnt : Int32) (A : wK → Nat) (h : pm_H) (D : Nat) (R : Outcome × pm_H) : Int32 × Int32 × Int32 × Int32 × wS → Prop := fun (x0i, x2, x3, x4, S) => ∀ q5 q6 q7 : Value, pm_go pm_prog (pm_call pm_prog D) 197 2 [.ref (A (10, x0i, 0)), .ref (A (8, 0, 0)), .int x2, .int x3, .int x4, q5, q6, q7] [] (wput A (Cs_d side cnt) S h) = some R
def ex197_2 (side : Int32) (cnt : Int32) (A : wK → Nat) (h : pm_H) (D : Nat) (R : Outcome × pm_H) : (Int32 × Int32 × Int32 × wS) → Prop := fun (x0i, x2, x3, S) => ∀ q4 q5 q6 q7 : Value, pm_go pm_prog (pm_call pm_prog D) 197 6 [.ref (A (10, x0i, 0)), .ref (A (8, 0, 0)), .int x2, .int x3, q4, q5, q6, q7] [] (wput A (Cs_d side cnt) S h) = some R
theorem y197_4_2 {side : Int32} {cnt : Int32} {A : wK → Nat} {h : pm_H} {D : Nat} {R : Outcome × pm_H} {S : wS} {x0i : Int32} {x2 : Int32} {x3 : Int32} {x4 : Int32} {x6 : Int32} {x7 : Int32} {r : (Int32 × Int32 × Int32 × Int32 × wS) ⊕ ((Int32 × Int32 × Int32 × wS))} (hP : Cs_P side cnt) (hA : wok A (Cs_d side cnt) h.1) (hD : 4 ≤ D) (e : f197_4_2 side cnt S x0i x2 x3 x4 x6 x7 = some r) (hc : Sum.elim (go197_2 side cnt A h D R) (ex197_2 side cnt A h D R) r) : ∀ q5 : Value, pm_go pm_prog (pm_call pm_prog D) 197 4 [.ref (A (10, x0i, 0)), .ref (A (8, 0, 0)), .int x2, .int x3, .int x4, q5, .int x6, .int x7] [] (wput A (Cs_d side cnt) S h) = some R := by
  intro q5
  simp only [f197_4_2] at e
  rw [g197_4, b197_4]
  by_cases k1 : 0 ≤ x0i ∧ x0i < 2
  · rw [if_pos k1] at e
    by_cases k2 : 0 ≤ x3 ∧ x3 < side
    · rw [if_pos k2] at e
      by_cases k3 : 0 ≤ x3 ∧ x3 < (side + 1)
      · rw [if_pos k3] at e
        have e := Option.some.inj e; subst e
        dsimp only [Sum.elim_inl, go197_2] at hc
        simp -implicitDefEqProofs (disch := first | assumption | exact Nat.le_of_ble_eq_true rfl | decide) only [b197_0, g197_3, b197_3, g197_5, b197_5, g197_6, b197_6, g197_7, b197_7, pe_aload0, pe_getfield, pe_sipush, pe_dup_x2_iir, pe_dup_x2_iii, pe_iastore, pe_isub, pe_istore3, pe_goto_w, pe_iload3, pe_if_lt, pe_bastore, pe_iadd, pe_iaload, pe_istore4, pe_iload4, pe_if_le, pe_aload1, pe_iload2, pe_call5, pm_af_ret, pm_af_void, pm_af_thr, pe_if_ne, pe_goto, pe_call2, pe_istore5, pe_iload5, pe_istore6, pe_istore7, pe_iload6, pe_icmp_gt, pe_icmp_ne, pe_iload7, pe_i2b, pe_iinc4, pe_iinc3, pe_return, pm_prog_1, pm_ob_some, Nat.reduceDiv, Nat.reduceMod, Nat.reduceMul, Nat.reduceAdd, Int.reduceToNat, pm_kill_i, pm_kill_r, pm_kill_n, pm_kill_j, pm_kill_l, pm_kill_d, pm_cats_nil, pm_cats_i, pm_cats_r, pm_cats_n, pm_cats_l, pm_cats_d, sz_1, sz_2, sl_1, sl_2, lc_0, lc_lt, lc_le, li_ne, va_rf, wr_m1, we_m1, pm_kill_w, Int32.reduceOfInt, Int64.reduceOfInt, Int32.reduceOfNat, Int32.reduceLT, Int32.reduceLE, Prod.mk.injEq, Nat.reduceEqDiff, reduceCtorEq, and_true, true_and, and_false, false_and, and_self, ite_true, ite_false, ↓reduceIte, not_true_eq_false, not_false_eq_true, pe_ri, pe_rz, pe_rc, Cs_g10_0 hP hA, Cs_g10_4 hP hA, Cs_g10_5 hP hA, Cs_g10_7 hP hA, Cs_g10_8 hP hA, Cs_g10_9 hP hA, Cs_r15 hP hA, Cs_r16 hP hA, Cs_r18 hP hA, Cs_r19 hP hA, Cs_w18 hP hA, Cs_w19 hP hA, Cs_w20 hP hA, hc]
      · rw [if_neg k3] at e; cases e
    · rw [if_neg k2] at e; cases e
  · rw [if_neg k1] at e; cases e
theorem y197_b2 {side : Int32} {cnt : Int32} {A : wK → Nat} {h : pm_H} {D : Nat} {R : Outcome × pm_H} (hP : Cs_P side cnt) (hA : wok A (Cs_d side cnt) h.1) (hD : 4 ≤ D) (a : Int32 × Int32 × Int32 × Int32 × wS) (r : (Int32 × Int32 × Int32 × Int32 × wS) ⊕ ((Int32 × Int32 × Int32 × wS))) (e : f197_b2 side cnt a = some r) (hc : Sum.elim (go197_2 side cnt A h D R) (ex197_2 side cnt A h D R) r) : go197_2 side cnt A h D R a := by
  obtain ⟨x0i, x2, x3, x4, S⟩ := a
  dsimp only [go197_2]
  intro q5 q6 q7
  simp only [f197_b2] at e
  rw [g197_2, b197_2]
  by_cases k1 : 0 ≤ x0i ∧ x0i < 2
  · rw [if_pos k1] at e
    by_cases k2 : x4 ≤ 0
    · rw [if_pos k2] at e
      have e := Option.some.inj e; subst e
      dsimp only [Sum.elim_inr, ex197_2] at hc
      simp -implicitDefEqProofs (disch := first | assumption | exact Nat.le_of_ble_eq_true rfl | decide) only [b197_0, g197_3, b197_3, g197_5, b197_5, g197_6, b197_6, g197_7, b197_7, pe_aload0, pe_getfield, pe_sipush, pe_dup_x2_iir, pe_dup_x2_iii, pe_iastore, pe_isub, pe_istore3, pe_goto_w, pe_iload3, pe_if_lt, pe_bastore, pe_iadd, pe_iaload, pe_istore4, pe_iload4, pe_if_le, pe_aload1, pe_iload2, pe_call5, pm_af_ret, pm_af_void, pm_af_thr, pe_if_ne, pe_goto, pe_call2, pe_istore5, pe_iload5, pe_istore6, pe_istore7, pe_iload6, pe_icmp_gt, pe_icmp_ne, pe_iload7, pe_i2b, pe_iinc4, pe_iinc3, pe_return, pm_prog_1, pm_ob_some, Nat.reduceDiv, Nat.reduceMod, Nat.reduceMul, Nat.reduceAdd, Int.reduceToNat, pm_kill_i, pm_kill_r, pm_kill_n, pm_kill_j, pm_kill_l, pm_kill_d, pm_cats_nil, pm_cats_i, pm_cats_r, pm_cats_n, pm_cats_l, pm_cats_d, sz_1, sz_2, sl_1, sl_2, lc_0, lc_lt, lc_le, li_ne, va_rf, wr_m1, we_m1, pm_kill_w, Int32.reduceOfInt, Int64.reduceOfInt, Int32.reduceOfNat, Int32.reduceLT, Int32.reduceLE, Prod.mk.injEq, Nat.reduceEqDiff, reduceCtorEq, and_true, true_and, and_false, false_and, and_self, ite_true, ite_false, ↓reduceIte, not_true_eq_false, not_false_eq_true, pe_ri, pe_rz, pe_rc, Cs_g10_0 hP hA, Cs_g10_4 hP hA, Cs_g10_5 hP hA, Cs_g10_7 hP hA, Cs_g10_8 hP hA, Cs_g10_9 hP hA, Cs_r15 hP hA, Cs_r16 hP hA, Cs_r18 hP hA, Cs_r19 hP hA, Cs_w18 hP hA, Cs_w19 hP hA, Cs_w20 hP hA, eq_true k2, hc]
    · rw [if_neg k2] at e
      obtain ⟨S1, k3, e⟩ := Option.bind_eq_some_iff.mp e
      try dsimp only at e
      have z3 := x198 (D := D) (h := h) hP hA (by omega) k3
      by_cases k4 : (0 : Int32) ≤ 0 ∧ 0 < (side + 1)
      · rw [if_pos k4] at e
        by_cases k5 : (S1.1 (16, x0i, 0) 0) = 0
        · rw [if_pos k5] at e
          have e := Option.some.inj e; subst e
          dsimp only [Sum.elim_inl, go197_2] at hc
          simp -implicitDefEqProofs (disch := first | assumption | exact Nat.le_of_ble_eq_true rfl | decide) only [b197_0, g197_3, b197_3, g197_5, b197_5, g197_6, b197_6, g197_7, b197_7, pe_aload0, pe_getfield, pe_sipush, pe_dup_x2_iir, pe_dup_x2_iii, pe_iastore, pe_isub, pe_istore3, pe_goto_w, pe_iload3, pe_if_lt, pe_bastore, pe_iadd, pe_iaload, pe_istore4, pe_iload4, pe_if_le, pe_aload1, pe_iload2, pe_call5, pm_af_ret, pm_af_void, pm_af_thr, pe_if_ne, pe_goto, pe_call2, pe_istore5, pe_iload5, pe_istore6, pe_istore7, pe_iload6, pe_icmp_gt, pe_icmp_ne, pe_iload7, pe_i2b, pe_iinc4, pe_iinc3, pe_return, pm_prog_1, pm_ob_some, Nat.reduceDiv, Nat.reduceMod, Nat.reduceMul, Nat.reduceAdd, Int.reduceToNat, pm_kill_i, pm_kill_r, pm_kill_n, pm_kill_j, pm_kill_l, pm_kill_d, pm_cats_nil, pm_cats_i, pm_cats_r, pm_cats_n, pm_cats_l, pm_cats_d, sz_1, sz_2, sl_1, sl_2, lc_0, lc_lt, lc_le, li_ne, va_rf, wr_m1, we_m1, pm_kill_w, Int32.reduceOfInt, Int64.reduceOfInt, Int32.reduceOfNat, Int32.reduceLT, Int32.reduceLE, Prod.mk.injEq, Nat.reduceEqDiff, reduceCtorEq, and_true, true_and, and_false, false_and, and_self, ite_true, ite_false, ↓reduceIte, not_true_eq_false, not_false_eq_true, pe_ri, pe_rz, pe_rc, Cs_g10_0 hP hA, Cs_g10_4 hP hA, Cs_g10_5 hP hA, Cs_g10_7 hP hA, Cs_g10_8 hP hA, Cs_g10_9 hP hA, Cs_r15 hP hA, Cs_r16 hP hA, Cs_r18 hP hA, Cs_r19 hP hA, Cs_w18 hP hA, Cs_w19 hP hA, Cs_w20 hP hA, eq_false k2, z3, eq_true k5, hc]
        · rw [if_neg k5] at e
          obtain ⟨v2, k6, e⟩ := Option.bind_eq_some_iff.mp e
          try dsimp only at e
          have z6 := x200 (D := D) (h := h) hP hA (by omega) k6
          by_cases k7 : 0 ≤ v2 ∧ v2 < (side + 1)
          · rw [if_pos k7] at e
            by_cases k8 : 0 ≤ x3 ∧ x3 < (side + 1)
            · rw [if_pos k8] at e
              by_cases k9 : ((S1.1 (18, x0i, 0) v2) + (S1.1 (15, x0i, 0) 0)) ≤ (S1.1 (18, x0i, 0) x3)
              · rw [if_pos k9] at e
                by_cases k10 : ((S1.1 (18, x0i, 0) v2) + (S1.1 (15, x0i, 0) 0)) = (S1.1 (18, x0i, 0) x3)
                · rw [if_pos k10] at e
                  by_cases k11 : ((S1.1 (19, x0i, 0) v2) + (S1.1 (16, x0i, 0) 0)) ≤ (S1.1 (19, x0i, 0) x3)
                  · rw [if_pos k11] at e
                    have k12 := y197_4_2 (h := h) hP hA hD e hc
                    simp -implicitDefEqProofs (disch := first | assumption | exact Nat.le_of_ble_eq_true rfl | decide) only [b197_0, g197_3, b197_3, g197_5, b197_5, g197_6, b197_6, g197_7, b197_7, pe_aload0, pe_getfield, pe_sipush, pe_dup_x2_iir, pe_dup_x2_iii, pe_iastore, pe_isub, pe_istore3, pe_goto_w, pe_iload3, pe_if_lt, pe_bastore, pe_iadd, pe_iaload, pe_istore4, pe_iload4, pe_if_le, pe_aload1, pe_iload2, pe_call5, pm_af_ret, pm_af_void, pm_af_thr, pe_if_ne, pe_goto, pe_call2, pe_istore5, pe_iload5, pe_istore6, pe_istore7, pe_iload6, pe_icmp_gt, pe_icmp_ne, pe_iload7, pe_i2b, pe_iinc4, pe_iinc3, pe_return, pm_prog_1, pm_ob_some, Nat.reduceDiv, Nat.reduceMod, Nat.reduceMul, Nat.reduceAdd, Int.reduceToNat, pm_kill_i, pm_kill_r, pm_kill_n, pm_kill_j, pm_kill_l, pm_kill_d, pm_cats_nil, pm_cats_i, pm_cats_r, pm_cats_n, pm_cats_l, pm_cats_d, sz_1, sz_2, sl_1, sl_2, lc_0, lc_lt, lc_le, li_ne, va_rf, wr_m1, we_m1, pm_kill_w, Int32.reduceOfInt, Int64.reduceOfInt, Int32.reduceOfNat, Int32.reduceLT, Int32.reduceLE, Prod.mk.injEq, Nat.reduceEqDiff, reduceCtorEq, and_true, true_and, and_false, false_and, and_self, ite_true, ite_false, ↓reduceIte, not_true_eq_false, not_false_eq_true, pe_ri, pe_rz, pe_rc, Cs_g10_0 hP hA, Cs_g10_4 hP hA, Cs_g10_5 hP hA, Cs_g10_7 hP hA, Cs_g10_8 hP hA, Cs_g10_9 hP hA, Cs_r15 hP hA, Cs_r16 hP hA, Cs_r18 hP hA, Cs_r19 hP hA, Cs_w18 hP hA, Cs_w19 hP hA, Cs_w20 hP hA, eq_false k2, z3, eq_false k5, z6, eq_true k9, eq_true k10, eq_true k11, k12]
                  · rw [if_neg k11] at e
                    have e := Option.some.inj e; subst e
                    dsimp only [Sum.elim_inl, go197_2] at hc
                    simp -implicitDefEqProofs (disch := first | assumption | exact Nat.le_of_ble_eq_true rfl | decide) only [b197_0, g197_3, b197_3, g197_5, b197_5, g197_6, b197_6, g197_7, b197_7, pe_aload0, pe_getfield, pe_sipush, pe_dup_x2_iir, pe_dup_x2_iii, pe_iastore, pe_isub, pe_istore3, pe_goto_w, pe_iload3, pe_if_lt, pe_bastore, pe_iadd, pe_iaload, pe_istore4, pe_iload4, pe_if_le, pe_aload1, pe_iload2, pe_call5, pm_af_ret, pm_af_void, pm_af_thr, pe_if_ne, pe_goto, pe_call2, pe_istore5, pe_iload5, pe_istore6, pe_istore7, pe_iload6, pe_icmp_gt, pe_icmp_ne, pe_iload7, pe_i2b, pe_iinc4, pe_iinc3, pe_return, pm_prog_1, pm_ob_some, Nat.reduceDiv, Nat.reduceMod, Nat.reduceMul, Nat.reduceAdd, Int.reduceToNat, pm_kill_i, pm_kill_r, pm_kill_n, pm_kill_j, pm_kill_l, pm_kill_d, pm_cats_nil, pm_cats_i, pm_cats_r, pm_cats_n, pm_cats_l, pm_cats_d, sz_1, sz_2, sl_1, sl_2, lc_0, lc_lt, lc_le, li_ne, va_rf, wr_m1, we_m1, pm_kill_w, Int32.reduceOfInt, Int64.reduceOfInt, Int32.reduceOfNat, Int32.reduceLT, Int32.reduceLE, Prod.mk.injEq, Nat.reduceEqDiff, reduceCtorEq, and_true, true_and, and_false, false_and, and_self, ite_true, ite_false, ↓reduceIte, not_true_eq_false, not_false_eq_true, pe_ri, pe_rz, pe_rc, Cs_g10_0 hP hA, Cs_g10_4 hP hA, Cs_g10_5 hP hA, Cs_g10_7 hP hA, Cs_g10_8 hP hA, Cs_g10_9 hP hA, Cs_r15 hP hA, Cs_r16 hP hA, Cs_r18 hP hA, Cs_r19 hP hA, Cs_w18 hP hA, Cs_w19 hP hA, Cs_w20 hP hA, eq_false k2, z3, eq_false k5, z6, eq_true k9, eq_true k10, eq_false k11, hc]
                · rw [if_neg k10] at e
                  have e := Option.some.inj e; subst e
                  dsimp only [Sum.elim_inl, go197_2] at hc
                  simp -implicitDefEqProofs (disch := first | assumption | exact Nat.le_of_ble_eq_true rfl | decide) only [b197_0, g197_3, b197_3, g197_5, b197_5, g197_6, b197_6, g197_7, b197_7, pe_aload0, pe_getfield, pe_sipush, pe_dup_x2_iir, pe_dup_x2_iii, pe_iastore, pe_isub, pe_istore3, pe_goto_w, pe_iload3, pe_if_lt, pe_bastore, pe_iadd, pe_iaload, pe_istore4, pe_iload4, pe_if_le, pe_aload1, pe_iload2, pe_call5, pm_af_ret, pm_af_void, pm_af_thr, pe_if_ne, pe_goto, pe_call2, pe_istore5, pe_iload5, pe_istore6, pe_istore7, pe_iload6, pe_icmp_gt, pe_icmp_ne, pe_iload7, pe_i2b, pe_iinc4, pe_iinc3, pe_return, pm_prog_1, pm_ob_some, Nat.reduceDiv, Nat.reduceMod, Nat.reduceMul, Nat.reduceAdd, Int.reduceToNat, pm_kill_i, pm_kill_r, pm_kill_n, pm_kill_j, pm_kill_l, pm_kill_d, pm_cats_nil, pm_cats_i, pm_cats_r, pm_cats_n, pm_cats_l, pm_cats_d, sz_1, sz_2, sl_1, sl_2, lc_0, lc_lt, lc_le, li_ne, va_rf, wr_m1, we_m1, pm_kill_w, Int32.reduceOfInt, Int64.reduceOfInt, Int32.reduceOfNat, Int32.reduceLT, Int32.reduceLE, Prod.mk.injEq, Nat.reduceEqDiff, reduceCtorEq, and_true, true_and, and_false, false_and, and_self, ite_true, ite_false, ↓reduceIte, not_true_eq_false, not_false_eq_true, pe_ri, pe_rz, pe_rc, Cs_g10_0 hP hA, Cs_g10_4 hP hA, Cs_g10_5 hP hA, Cs_g10_7 hP hA, Cs_g10_8 hP hA, Cs_g10_9 hP hA, Cs_r15 hP hA, Cs_r16 hP hA, Cs_r18 hP hA, Cs_r19 hP hA, Cs_w18 hP hA, Cs_w19 hP hA, Cs_w20 hP hA, eq_false k2, z3, eq_false k5, z6, eq_true k9, eq_false k10, hc]
              · rw [if_neg k9] at e
                have k13 := y197_4_2 (h := h) hP hA hD e hc
                simp -implicitDefEqProofs (disch := first | assumption | exact Nat.le_of_ble_eq_true rfl | decide) only [b197_0, g197_3, b197_3, g197_5, b197_5, g197_6, b197_6, g197_7, b197_7, pe_aload0, pe_getfield, pe_sipush, pe_dup_x2_iir, pe_dup_x2_iii, pe_iastore, pe_isub, pe_istore3, pe_goto_w, pe_iload3, pe_if_lt, pe_bastore, pe_iadd, pe_iaload, pe_istore4, pe_iload4, pe_if_le, pe_aload1, pe_iload2, pe_call5, pm_af_ret, pm_af_void, pm_af_thr, pe_if_ne, pe_goto, pe_call2, pe_istore5, pe_iload5, pe_istore6, pe_istore7, pe_iload6, pe_icmp_gt, pe_icmp_ne, pe_iload7, pe_i2b, pe_iinc4, pe_iinc3, pe_return, pm_prog_1, pm_ob_some, Nat.reduceDiv, Nat.reduceMod, Nat.reduceMul, Nat.reduceAdd, Int.reduceToNat, pm_kill_i, pm_kill_r, pm_kill_n, pm_kill_j, pm_kill_l, pm_kill_d, pm_cats_nil, pm_cats_i, pm_cats_r, pm_cats_n, pm_cats_l, pm_cats_d, sz_1, sz_2, sl_1, sl_2, lc_0, lc_lt, lc_le, li_ne, va_rf, wr_m1, we_m1, pm_kill_w, Int32.reduceOfInt, Int64.reduceOfInt, Int32.reduceOfNat, Int32.reduceLT, Int32.reduceLE, Prod.mk.injEq, Nat.reduceEqDiff, reduceCtorEq, and_true, true_and, and_false, false_and, and_self, ite_true, ite_false, ↓reduceIte, not_true_eq_false, not_false_eq_true, pe_ri, pe_rz, pe_rc, Cs_g10_0 hP hA, Cs_g10_4 hP hA, Cs_g10_5 hP hA, Cs_g10_7 hP hA, Cs_g10_8 hP hA, Cs_g10_9 hP hA, Cs_r15 hP hA, Cs_r16 hP hA, Cs_r18 hP hA, Cs_r19 hP hA, Cs_w18 hP hA, Cs_w19 hP hA, Cs_w20 hP hA, eq_false k2, z3, eq_false k5, z6, eq_false k9, k13]
            · rw [if_neg k8] at e; cases e
          · rw [if_neg k7] at e; cases e
      · rw [if_neg k4] at e; cases e
  · rw [if_neg k1] at e; cases e
theorem z197_2 {side : Int32} {cnt : Int32} {A : wK → Nat} {h : pm_H} {D : Nat} {R : Outcome × pm_H} (hP : Cs_P side cnt) (hA : wok A (Cs_d side cnt) h.1) (hD : 4 ≤ D) {n : Nat} {a : Int32 × Int32 × Int32 × Int32 × wS} {b : (Int32 × Int32 × Int32 × wS)} (e : lp (f197_b2 side cnt) n a = some b) (hx : ex197_2 side cnt A h D R b) : go197_2 side cnt A h D R a := lp_run (fun a r => y197_b2 hP hA hD a r) n a b e hx
def go197_1 (side : Int32) (cnt : Int32) (A : wK → Nat) (h : pm_H) (D : Nat) (R : Outcome × pm_H) : Int32 × Int32 × Int32 × wS → Prop := fun (x0i, x2, x3, S) => ∀ q4 q5 q6 q7 : Value, pm_go pm_prog (pm_call pm_prog D) 197 1 [.ref (A (10, x0i, 0)), .ref (A (8, 0, 0)), .int x2, .int x3, q4, q5, q6, q7] [] (wput A (Cs_d side cnt) S h) = some R
def ex197_1 (side : Int32) (cnt : Int32) (A : wK → Nat) (h : pm_H) (D : Nat) (R : Outcome × pm_H) : (wS) → Prop := fun S => ∀ q0 q1 q2 q3 q4 q5 q6 q7 : Value, pm_go pm_prog (pm_call pm_prog D) 197 7 [q0, q1, q2, q3, q4, q5, q6, q7] [] (wput A (Cs_d side cnt) S h) = some R
theorem y197_b1 {side : Int32} {cnt : Int32} {A : wK → Nat} {h : pm_H} {D : Nat} {R : Outcome × pm_H} (hP : Cs_P side cnt) (hA : wok A (Cs_d side cnt) h.1) (hD : 4 ≤ D) (a : Int32 × Int32 × Int32 × wS) (r : (Int32 × Int32 × Int32 × wS) ⊕ ((wS))) (e : f197_b1 side cnt a = some r) (hc : Sum.elim (go197_1 side cnt A h D R) (ex197_1 side cnt A h D R) r) : go197_1 side cnt A h D R a := by
  obtain ⟨x0i, x2, x3, S⟩ := a
  dsimp only [go197_1]
  intro q4 q5 q6 q7
  simp only [f197_b1] at e
  rw [g197_1, b197_1]
  by_cases k1 : 0 ≤ x0i ∧ x0i < 2
  · rw [if_pos k1] at e
    by_cases k2 : x3 < 0
    · rw [if_pos k2] at e
      have e := Option.some.inj e; subst e
      dsimp only [Sum.elim_inr, ex197_1] at hc
      simp -implicitDefEqProofs (disch := first | assumption | exact Nat.le_of_ble_eq_true rfl | decide) only [b197_0, g197_3, b197_3, g197_5, b197_5, g197_6, b197_6, g197_7, b197_7, pe_aload0, pe_getfield, pe_sipush, pe_dup_x2_iir, pe_dup_x2_iii, pe_iastore, pe_isub, pe_istore3, pe_goto_w, pe_iload3, pe_if_lt, pe_bastore, pe_iadd, pe_iaload, pe_istore4, pe_iload4, pe_if_le, pe_aload1, pe_iload2, pe_call5, pm_af_ret, pm_af_void, pm_af_thr, pe_if_ne, pe_goto, pe_call2, pe_istore5, pe_iload5, pe_istore6, pe_istore7, pe_iload6, pe_icmp_gt, pe_icmp_ne, pe_iload7, pe_i2b, pe_iinc4, pe_iinc3, pe_return, pm_prog_1, pm_ob_some, Nat.reduceDiv, Nat.reduceMod, Nat.reduceMul, Nat.reduceAdd, Int.reduceToNat, pm_kill_i, pm_kill_r, pm_kill_n, pm_kill_j, pm_kill_l, pm_kill_d, pm_cats_nil, pm_cats_i, pm_cats_r, pm_cats_n, pm_cats_l, pm_cats_d, sz_1, sz_2, sl_1, sl_2, lc_0, lc_lt, lc_le, li_ne, va_rf, wr_m1, we_m1, pm_kill_w, Int32.reduceOfInt, Int64.reduceOfInt, Int32.reduceOfNat, Int32.reduceLT, Int32.reduceLE, Prod.mk.injEq, Nat.reduceEqDiff, reduceCtorEq, and_true, true_and, and_false, false_and, and_self, ite_true, ite_false, ↓reduceIte, not_true_eq_false, not_false_eq_true, pe_ri, pe_rz, pe_rc, Cs_g10_0 hP hA, Cs_g10_4 hP hA, Cs_g10_5 hP hA, Cs_g10_7 hP hA, Cs_g10_8 hP hA, Cs_g10_9 hP hA, Cs_r15 hP hA, Cs_r16 hP hA, Cs_r18 hP hA, Cs_r19 hP hA, Cs_w18 hP hA, Cs_w19 hP hA, Cs_w20 hP hA, eq_true k2, hc]
    · rw [if_neg k2] at e
      by_cases k3 : 0 ≤ x3 ∧ x3 < side
      · rw [if_pos k3] at e
        by_cases k4 : 0 ≤ (x3 + 1) ∧ (x3 + 1) < (side + 1)
        · rw [if_pos k4] at e
          by_cases k5 : 0 ≤ x3 ∧ x3 < (side + 1)
          · rw [if_pos k5] at e
            obtain ⟨⟨v4i, v6, v7, S3⟩, k6, e⟩ := Option.bind_eq_some_iff.mp e
            try dsimp only at e
            try simp -implicitDefEqProofs (disch := first | assumption | exact Nat.le_of_ble_eq_true rfl | decide) only [b197_0, g197_3, b197_3, g197_5, b197_5, g197_6, b197_6, g197_7, b197_7, pe_aload0, pe_getfield, pe_sipush, pe_dup_x2_iir, pe_dup_x2_iii, pe_iastore, pe_isub, pe_istore3, pe_goto_w, pe_iload3, pe_if_lt, pe_bastore, pe_iadd, pe_iaload, pe_istore4, pe_iload4, pe_if_le, pe_aload1, pe_iload2, pe_call5, pm_af_ret, pm_af_void, pm_af_thr, pe_if_ne, pe_goto, pe_call2, pe_istore5, pe_iload5, pe_istore6, pe_istore7, pe_iload6, pe_icmp_gt, pe_icmp_ne, pe_iload7, pe_i2b, pe_iinc4, pe_iinc3, pe_return, pm_prog_1, pm_ob_some, Nat.reduceDiv, Nat.reduceMod, Nat.reduceMul, Nat.reduceAdd, Int.reduceToNat, pm_kill_i, pm_kill_r, pm_kill_n, pm_kill_j, pm_kill_l, pm_kill_d, pm_cats_nil, pm_cats_i, pm_cats_r, pm_cats_n, pm_cats_l, pm_cats_d, sz_1, sz_2, sl_1, sl_2, lc_0, lc_lt, lc_le, li_ne, va_rf, wr_m1, we_m1, pm_kill_w, Int32.reduceOfInt, Int64.reduceOfInt, Int32.reduceOfNat, Int32.reduceLT, Int32.reduceLE, Prod.mk.injEq, Nat.reduceEqDiff, reduceCtorEq, and_true, true_and, and_false, false_and, and_self, ite_true, ite_false, ↓reduceIte, not_true_eq_false, not_false_eq_true, pe_ri, pe_rz, pe_rc, Cs_g10_0 hP hA, Cs_g10_4 hP hA, Cs_g10_5 hP hA, Cs_g10_7 hP hA, Cs_g10_8 hP hA, Cs_g10_9 hP hA, Cs_r15 hP hA, Cs_r16 hP hA, Cs_r18 hP hA, Cs_r19 hP hA, Cs_w18 hP hA, Cs_w19 hP hA, Cs_w20 hP hA, eq_false k2]
            refine z197_2 hP hA hD k6 ?_ _ _ _
            dsimp only [ex197_2]
            intro q4 q5 q6 q7
            by_cases k7 : 0 ≤ v4i ∧ v4i < 2
            · rw [if_pos k7] at e
              have e := Option.some.inj e; subst e
              dsimp only [Sum.elim_inl, go197_1] at hc
              simp -implicitDefEqProofs (disch := first | assumption | exact Nat.le_of_ble_eq_true rfl | decide) only [b197_0, g197_3, b197_3, g197_5, b197_5, g197_6, b197_6, g197_7, b197_7, pe_aload0, pe_getfield, pe_sipush, pe_dup_x2_iir, pe_dup_x2_iii, pe_iastore, pe_isub, pe_istore3, pe_goto_w, pe_iload3, pe_if_lt, pe_bastore, pe_iadd, pe_iaload, pe_istore4, pe_iload4, pe_if_le, pe_aload1, pe_iload2, pe_call5, pm_af_ret, pm_af_void, pm_af_thr, pe_if_ne, pe_goto, pe_call2, pe_istore5, pe_iload5, pe_istore6, pe_istore7, pe_iload6, pe_icmp_gt, pe_icmp_ne, pe_iload7, pe_i2b, pe_iinc4, pe_iinc3, pe_return, pm_prog_1, pm_ob_some, Nat.reduceDiv, Nat.reduceMod, Nat.reduceMul, Nat.reduceAdd, Int.reduceToNat, pm_kill_i, pm_kill_r, pm_kill_n, pm_kill_j, pm_kill_l, pm_kill_d, pm_cats_nil, pm_cats_i, pm_cats_r, pm_cats_n, pm_cats_l, pm_cats_d, sz_1, sz_2, sl_1, sl_2, lc_0, lc_lt, lc_le, li_ne, va_rf, wr_m1, we_m1, pm_kill_w, Int32.reduceOfInt, Int64.reduceOfInt, Int32.reduceOfNat, Int32.reduceLT, Int32.reduceLE, Prod.mk.injEq, Nat.reduceEqDiff, reduceCtorEq, and_true, true_and, and_false, false_and, and_self, ite_true, ite_false, ↓reduceIte, not_true_eq_false, not_false_eq_true, pe_ri, pe_rz, pe_rc, Cs_g10_0 hP hA, Cs_g10_4 hP hA, Cs_g10_5 hP hA, Cs_g10_7 hP hA, Cs_g10_8 hP hA, Cs_g10_9 hP hA, Cs_r15 hP hA, Cs_r16 hP hA, Cs_r18 hP hA, Cs_r19 hP hA, Cs_w18 hP hA, Cs_w19 hP hA, Cs_w20 hP hA, eq_false k2, hc]
            · rw [if_neg k7] at e; cases e
          · rw [if_neg k5] at e; cases e
        · rw [if_neg k4] at e; cases e
      · rw [if_neg k3] at e; cases e
  · rw [if_neg k1] at e; cases e
theorem z197_1 {side : Int32} {cnt : Int32} {A : wK → Nat} {h : pm_H} {D : Nat} {R : Outcome × pm_H} (hP : Cs_P side cnt) (hA : wok A (Cs_d side cnt) h.1) (hD : 4 ≤ D) {n : Nat} {a : Int32 × Int32 × Int32 × wS} {b : (wS)} (e : lp (f197_b1 side cnt) n a = some b) (hx : ex197_1 side cnt A h D R b) : go197_1 side cnt A h D R a := lp_run (fun a r => y197_b1 hP hA hD a r) n a b e hx
theorem x197 {side : Int32} {cnt : Int32} {A : wK → Nat} {h : pm_H} {D : Nat} {S : wS} {x0i : Int32} {x2 : Int32} {r : wS} (hP : Cs_P side cnt) (hA : wok A (Cs_d side cnt) h.1) (hD : 5 ≤ D) (e : f197 side cnt S x0i x2 = some r) : pm_call pm_prog D 197 [.ref (A (10, x0i, 0)), .ref (A (8, 0, 0)), .int x2] (wput A (Cs_d side cnt) S h) = some (Outcome.returned none, (wput A (Cs_d side cnt) r h)) := by
  obtain ⟨D, rfl⟩ : ∃ D', D = D' + 1 := ⟨D - 1, by omega⟩
  have hD : 4 ≤ D := by omega
  simp only [f197] at e
  have k1 : 0 ≤ x0i ∧ x0i < 2 := by
    by_cases q : 0 ≤ x0i ∧ x0i < 2
    · exact q
    · rw [if_neg q] at e; cases e
  rw [if_pos k1] at e
  rw [c197 (Cs_c10 hP hA k1), b197_0]
  by_cases k2 : 0 ≤ (S.1 (10, x0i, 0) 0) ∧ (S.1 (10, x0i, 0) 0) < (side + 1)
  · rw [if_pos k2] at e
    obtain ⟨S8, k3, e⟩ := Option.bind_eq_some_iff.mp e
    try dsimp only at e
    try simp -implicitDefEqProofs (disch := first | assumption | exact Nat.le_of_ble_eq_true rfl | decide) only [b197_0, g197_3, b197_3, g197_5, b197_5, g197_6, b197_6, g197_7, b197_7, pe_aload0, pe_getfield, pe_sipush, pe_dup_x2_iir, pe_dup_x2_iii, pe_iastore, pe_isub, pe_istore3, pe_goto_w, pe_iload3, pe_if_lt, pe_bastore, pe_iadd, pe_iaload, pe_istore4, pe_iload4, pe_if_le, pe_aload1, pe_iload2, pe_call5, pm_af_ret, pm_af_void, pm_af_thr, pe_if_ne, pe_goto, pe_call2, pe_istore5, pe_iload5, pe_istore6, pe_istore7, pe_iload6, pe_icmp_gt, pe_icmp_ne, pe_iload7, pe_i2b, pe_iinc4, pe_iinc3, pe_return, pm_prog_1, pm_ob_some, Nat.reduceDiv, Nat.reduceMod, Nat.reduceMul, Nat.reduceAdd, Int.reduceToNat, pm_kill_i, pm_kill_r, pm_kill_n, pm_kill_j, pm_kill_l, pm_kill_d, pm_cats_nil, pm_cats_i, pm_cats_r, pm_cats_n, pm_cats_l, pm_cats_d, sz_1, sz_2, sl_1, sl_2, lc_0, lc_lt, lc_le, li_ne, va_rf, wr_m1, we_m1, pm_kill_w, Int32.reduceOfInt, Int64.reduceOfInt, Int32.reduceOfNat, Int32.reduceLT, Int32.reduceLE, Prod.mk.injEq, Nat.reduceEqDiff, reduceCtorEq, and_true, true_and, and_false, false_and, and_self, ite_true, ite_false, ↓reduceIte, not_true_eq_false, not_false_eq_true, pe_ri, pe_rz, pe_rc, Cs_g10_0 hP hA, Cs_g10_4 hP hA, Cs_g10_5 hP hA, Cs_g10_7 hP hA, Cs_g10_8 hP hA, Cs_g10_9 hP hA, Cs_r15 hP hA, Cs_r16 hP hA, Cs_r18 hP hA, Cs_r19 hP hA, Cs_w18 hP hA, Cs_w19 hP hA, Cs_w20 hP hA]
    refine z197_1 hP hA hD k3 ?_ _ _ _ _
    dsimp only [ex197_1]
    intro q0 q1 q2 q3 q4 q5 q6 q7
    have e := Option.some.inj e; subst e
    simp -implicitDefEqProofs (disch := first | assumption | exact Nat.le_of_ble_eq_true rfl | decide) only [b197_0, g197_3, b197_3, g197_5, b197_5, g197_6, b197_6, g197_7, b197_7, pe_aload0, pe_getfield, pe_sipush, pe_dup_x2_iir, pe_dup_x2_iii, pe_iastore, pe_isub, pe_istore3, pe_goto_w, pe_iload3, pe_if_lt, pe_bastore, pe_iadd, pe_iaload, pe_istore4, pe_iload4, pe_if_le, pe_aload1, pe_iload2, pe_call5, pm_af_ret, pm_af_void, pm_af_thr, pe_if_ne, pe_goto, pe_call2, pe_istore5, pe_iload5, pe_istore6, pe_istore7, pe_iload6, pe_icmp_gt, pe_icmp_ne, pe_iload7, pe_i2b, pe_iinc4, pe_iinc3, pe_return, pm_prog_1, pm_ob_some, Nat.reduceDiv, Nat.reduceMod, Nat.reduceMul, Nat.reduceAdd, Int.reduceToNat, pm_kill_i, pm_kill_r, pm_kill_n, pm_kill_j, pm_kill_l, pm_kill_d, pm_cats_nil, pm_cats_i, pm_cats_r, pm_cats_n, pm_cats_l, pm_cats_d, sz_1, sz_2, sl_1, sl_2, lc_0, lc_lt, lc_le, li_ne, va_rf, wr_m1, we_m1, pm_kill_w, Int32.reduceOfInt, Int64.reduceOfInt, Int32.reduceOfNat, Int32.reduceLT, Int32.reduceLE, Prod.mk.injEq, Nat.reduceEqDiff, reduceCtorEq, and_true, true_and, and_false, false_and, and_self, ite_true, ite_false, ↓reduceIte, not_true_eq_false, not_false_eq_true, pe_ri, pe_rz, pe_rc, Cs_g10_0 hP hA, Cs_g10_4 hP hA, Cs_g10_5 hP hA, Cs_g10_7 hP hA, Cs_g10_8 hP hA, Cs_g10_9 hP hA, Cs_r15 hP hA, Cs_r16 hP hA, Cs_r18 hP hA, Cs_r19 hP hA, Cs_w18 hP hA, Cs_w19 hP hA, Cs_w20 hP hA]
  · rw [if_neg k2] at e; cases e
/-- TimberHouse$SawGrids.look()V -/
theorem c143 {d : Nat} {h : pm_H} {a : Nat} (hc : pm_cls h a = some 2) : pm_call pm_prog (d + 1) 143 [.ref a] h = pm_ev pm_prog (pm_call pm_prog d) 143 0 b143_0 [.ref a] [] h := pm_cal (pm_rc1 hc rfl) rfl rfl rfl
theorem g143_1 {cl : pm_C} {ls st : List Value} {h : pm_H} : pm_go pm_prog cl 143 1 ls st h = pm_ev pm_prog cl 143 1 b143_1 ls st h := pm_go_eq pm_prog cl 143 1 ls st h
/-- TimberHouse$SawGrids.look()V -/
noncomputable def f143 (side : Int32) (cnt : Int32) (S : wS) : Option (wS) :=
  if (S.1 (0, 0, 0) 9) = 0 then
    (f196 side cnt S 0 0).bind fun S1 =>
    (f196 side cnt S1 1 1).bind fun S2 =>
    (f197 side cnt S2 0 (S2.1 (0, 0, 0) 6)).bind fun S3 =>
    (f197 side cnt S3 1 (S3.1 (0, 0, 0) 6)).bind fun S4 =>
    some (sz S4 (0, 0, 0) 9 1)
  else
    some S
theorem x143 {side : Int32} {cnt : Int32} {A : wK → Nat} {h : pm_H} {D : Nat} {S : wS} {r : wS} (hP : Cs_P side cnt) (hA : wok A (Cs_d side cnt) h.1) (hD : 6 ≤ D) (e : f143 side cnt S = some r) : pm_call pm_prog D 143 [.ref (A (0, 0, 0))] (wput A (Cs_d side cnt) S h) = some (Outcome.returned none, (wput A (Cs_d side cnt) r h)) := by
  obtain ⟨D, rfl⟩ : ∃ D', D = D' + 1 := ⟨D - 1, by omega⟩
  have hD : 5 ≤ D := by omega
  simp only [f143] at e
  rw [c143 (Cs_c0 hP hA), b143_0]
  by_cases k1 : (S.1 (0, 0, 0) 9) = 0
  · rw [if_pos k1] at e
    obtain ⟨S1, k2, e⟩ := Option.bind_eq_some_iff.mp e
    try dsimp only at e
    have z2 := x196 (D := D) (h := h) hP hA (by omega) k2
    obtain ⟨S2, k3, e⟩ := Option.bind_eq_some_iff.mp e
    try dsimp only at e
    have z3 := x196 (D := D) (h := h) hP hA (by omega) k3
    obtain ⟨S3, k4, e⟩ := Option.bind_eq_some_iff.mp e
    try dsimp only at e
    have z4 := x197 (D := D) (h := h) hP hA (by omega) k4
    obtain ⟨S4, k5, e⟩ := Option.bind_eq_some_iff.mp e
    try dsimp only at e
    have z5 := x197 (D := D) (h := h) hP hA (by omega) k5
    have e := Option.some.inj e; subst e
    simp -implicitDefEqProofs (disch := first | assumption | exact Nat.le_of_ble_eq_true rfl | decide) only [b143_0, g143_1, b143_1, pe_aload0, pe_getfield, pe_if_eq, pe_return, pe_sipush, pe_call4, pm_af_ret, pm_af_void, pm_af_thr, pe_call3, pe_putfield, pm_prog_1, pm_ob_some, Nat.reduceDiv, Nat.reduceMod, Nat.reduceMul, Nat.reduceAdd, Int.reduceToNat, pm_kill_i, pm_kill_r, pm_kill_n, pm_kill_j, pm_kill_l, pm_kill_d, pm_cats_nil, pm_cats_i, pm_cats_r, pm_cats_n, pm_cats_l, pm_cats_d, sz_1, sz_2, sl_1, sl_2, lc_0, lc_lt, lc_le, li_ne, va_rf, wr_m1, we_m1, pm_kill_w, Int32.reduceOfInt, Int64.reduceOfInt, Int32.reduceOfNat, Int32.reduceLT, Int32.reduceLE, Prod.mk.injEq, Nat.reduceEqDiff, reduceCtorEq, and_true, true_and, and_false, false_and, and_self, ite_true, ite_false, ↓reduceIte, not_true_eq_false, not_false_eq_true, pe_ri, pe_rz, pe_rc, Cs_g0_3 hP hA, Cs_g0_4 hP hA, Cs_g0_5 hP hA, Cs_g0_6 hP hA, Cs_g0_7 hP hA, Cs_g0_8 hP hA, Cs_g0_9 hP hA, Cs_p0_9 hP hA, eq_true k1, z2, z3, z4, z5]
  · rw [if_neg k1] at e
    have e := Option.some.inj e; subst e
    simp -implicitDefEqProofs (disch := first | assumption | exact Nat.le_of_ble_eq_true rfl | decide) only [b143_0, g143_1, b143_1, pe_aload0, pe_getfield, pe_if_eq, pe_return, pe_sipush, pe_call4, pm_af_ret, pm_af_void, pm_af_thr, pe_call3, pe_putfield, pm_prog_1, pm_ob_some, Nat.reduceDiv, Nat.reduceMod, Nat.reduceMul, Nat.reduceAdd, Int.reduceToNat, pm_kill_i, pm_kill_r, pm_kill_n, pm_kill_j, pm_kill_l, pm_kill_d, pm_cats_nil, pm_cats_i, pm_cats_r, pm_cats_n, pm_cats_l, pm_cats_d, sz_1, sz_2, sl_1, sl_2, lc_0, lc_lt, lc_le, li_ne, va_rf, wr_m1, we_m1, pm_kill_w, Int32.reduceOfInt, Int64.reduceOfInt, Int32.reduceOfNat, Int32.reduceLT, Int32.reduceLE, Prod.mk.injEq, Nat.reduceEqDiff, reduceCtorEq, and_true, true_and, and_false, false_and, and_self, ite_true, ite_false, ↓reduceIte, not_true_eq_false, not_false_eq_true, pe_ri, pe_rz, pe_rc, Cs_g0_3 hP hA, Cs_g0_4 hP hA, Cs_g0_5 hP hA, Cs_g0_6 hP hA, Cs_g0_7 hP hA, Cs_g0_8 hP hA, Cs_g0_9 hP hA, Cs_p0_9 hP hA, eq_false k1]
/-- TimberHouse$SawGrids.walk(LTimberHouse$SawGrids$View;)V -/
theorem c144 {d : Nat} {h : pm_H} {a : Nat} {r0 : Nat} (hc : pm_cls h a = some 2) : pm_call pm_prog (d + 1) 144 [.ref a, .ref r0] h = pm_ev pm_prog (pm_call pm_prog d) 144 0 b144_0 [.ref a, .ref r0, pm_junk, pm_junk, pm_junk, pm_junk, pm_junk] [] h := pm_cal (pm_rc1 hc rfl) rfl rfl rfl
theorem g144_1 {cl : pm_C} {ls st : List Value} {h : pm_H} : pm_go pm_prog cl 144 1 ls st h = pm_ev pm_prog cl 144 1 b144_1 ls st h := pm_go_eq pm_prog cl 144 1 ls st h
theorem g144_2 {cl : pm_C} {ls st : List Value} {h : pm_H} : pm_go pm_prog cl 144 2 ls st h = pm_ev pm_prog cl 144 2 b144_2 ls st h := pm_go_eq pm_prog cl 144 2 ls st h
theorem g144_3 {cl : pm_C} {ls st : List Value} {h : pm_H} : pm_go pm_prog cl 144 3 ls st h = pm_ev pm_prog cl 144 3 b144_3 ls st h := pm_go_eq pm_prog cl 144 3 ls st h
theorem g144_4 {cl : pm_C} {ls st : List Value} {h : pm_H} : pm_go pm_prog cl 144 4 ls st h = pm_ev pm_prog cl 144 4 b144_4 ls st h := pm_go_eq pm_prog cl 144 4 ls st h
theorem g144_5 {cl : pm_C} {ls st : List Value} {h : pm_H} : pm_go pm_prog cl 144 5 ls st h = pm_ev pm_prog cl 144 5 b144_5 ls st h := pm_go_eq pm_prog cl 144 5 ls st h
theorem g144_6 {cl : pm_C} {ls st : List Value} {h : pm_H} : pm_go pm_prog cl 144 6 ls st h = pm_ev pm_prog cl 144 6 b144_6 ls st h := pm_go_eq pm_prog cl 144 6 ls st h
noncomputable def f144_b3 (side : Int32) (cnt : Int32) : Int32 × Int32 × Int32 × Int32 × wS → Option ((Int32 × Int32 × Int32 × Int32 × wS) ⊕ ((Int32 × Int32 × Int32 × wS))) := fun (x1i, x2, x3, x4, S) =>
  if 0 ≤ x1i ∧ x1i < 2 then
    if x4 < (S.1 (0, 0, 0) 0) then
      if 0 ≤ x4 ∧ x4 < side then
        if (S.1 (17, x1i, 0) x4) = (-1) then
          some (.inl (x1i, x2, x3, (x4 + 1), S))
        else
          if 0 ≤ (S.1 (0, 0, 0) 13) ∧ (S.1 (0, 0, 0) 13) < (side * side) then
            if 0 ≤ (S.1 (17, x1i, 0) x4) ∧ (S.1 (17, x1i, 0) x4) < 8 then
              if (S.1 (17, x1i, 0) x4) < cnt then
                if 0 ≤ (S.1 (17, x1i, 0) x4) ∧ (S.1 (17, x1i, 0) x4) < cnt then
                  (f200 side cnt (sz (sz (sz (sz S (0, 0, 0) 13 ((S.1 (0, 0, 0) 13) + 1)) (22, (S.1 (0, 0, 0) 13), 0) 0 (S.1 (17, x1i, 0) x4)) (22, (S.1 (0, 0, 0) 13), 0) 1 x4) (22, (S.1 (0, 0, 0) 13), 0) 2 x2) x1i (x4 + (S.1 (9, (S.1 (17, x1i, 0) x4), 0) 1))).bind fun v2 =>
                  some (.inl (x1i, x2, x3, v2, (sz (sz (sz (sz S (0, 0, 0) 13 ((S.1 (0, 0, 0) 13) + 1)) (22, (S.1 (0, 0, 0) 13), 0) 0 (S.1 (17, x1i, 0) x4)) (22, (S.1 (0, 0, 0) 13), 0) 1 x4) (22, (S.1 (0, 0, 0) 13), 0) 2 x2)))
                else none
              else none
            else none
          else none
      else none
    else
      some (.inr (x1i, x2, x3, S))
  else none
noncomputable def f144_b1 (side : Int32) (cnt : Int32) : Int32 × Int32 × wS → Option ((Int32 × Int32 × wS) ⊕ ((wS))) := fun (x1i, x2, S) =>
  if 0 ≤ x1i ∧ x1i < 2 then
    if x2 < (S.1 (0, 0, 0) 0) then
      if 0 ≤ x2 ∧ x2 < side then
        if (S.1 (20, x1i, 0) x2) = 0 then
          some (.inl (x1i, (x2 + 1), S))
        else
          (f198 side cnt S x1i (S.1 (0, 0, 0) 6) x2 (S.1 (20, x1i, 0) x2)).bind fun S1 =>
          (lp (f144_b3 side cnt) FU (x1i, x2, (S.1 (20, x1i, 0) x2), 0, S1)).bind fun (v5i, v6, v7, S3) =>
          if 0 ≤ v5i ∧ v5i < 2 then
            (f200 side cnt (sz S3 (0, 0, 0) 12 ((S3.1 (0, 0, 0) 12) + 1)) v5i (v6 + v7)).bind fun v8 =>
            some (.inl (v5i, v8, (sz S3 (0, 0, 0) 12 ((S3.1 (0, 0, 0) 12) + 1))))
          else none
      else none
    else
      some (.inr S)
  else none
/-- TimberHouse$SawGrids.walk(LTimberHouse$SawGrids$View;)V -/
noncomputable def f144 (side : Int32) (cnt : Int32) (S : wS) (x1i : Int32) : Option (wS) :=
  if 0 ≤ x1i ∧ x1i < 2 then
    (lp (f144_b1 side cnt) FU (x1i, 0, (sz (sz S (0, 0, 0) 12 0) (0, 0, 0) 13 0))).bind fun S9 =>
    some S9
  else none
def go144_3 (side : Int32) (cnt : Int32) (A : wK → Nat) (h : pm_H) (D : Nat) (R : Outcome × pm_H) : Int32 × Int32 × Int32 × Int32 × wS → Prop := fun (x1i, x2, x3, x4, S) => ∀ q5 q6 : Value, pm_go pm_prog (pm_call pm_prog D) 144 3 [.ref (A (0, 0, 0)), .ref (A (10, x1i, 0)), .int x2, .int x3, .int x4, q5, q6] [] (wput A (Cs_d side cnt) S h) = some R
def ex144_3 (side : Int32) (cnt : Int32) (A : wK → Nat) (h : pm_H) (D : Nat) (R : Outcome × pm_H) : (Int32 × Int32 × Int32 × wS) → Prop := fun (x1i, x2, x3, S) => ∀ q4 q5 q6 : Value, pm_go pm_prog (pm_call pm_prog D) 144 5 [.ref (A (0, 0, 0)), .ref (A (10, x1i, 0)), .int x2, .int x3, q4, q5, q6] [] (wput A (Cs_d side cnt) S h) = some R
theorem y144_b3 {side : Int32} {cnt : Int32} {A : wK → Nat} {h : pm_H} {D : Nat} {R : Outcome × pm_H} (hP : Cs_P side cnt) (hA : wok A (Cs_d side cnt) h.1) (hD : 4 ≤ D) (a : Int32 × Int32 × Int32 × Int32 × wS) (r : (Int32 × Int32 × Int32 × Int32 × wS) ⊕ ((Int32 × Int32 × Int32 × wS))) (e : f144_b3 side cnt a = some r) (hc : Sum.elim (go144_3 side cnt A h D R) (ex144_3 side cnt A h D R) r) : go144_3 side cnt A h D R a := by
  obtain ⟨x1i, x2, x3, x4, S⟩ := a
  dsimp only [go144_3]
  intro q5 q6
  simp only [f144_b3] at e
  rw [g144_3, b144_3]
  by_cases k1 : 0 ≤ x1i ∧ x1i < 2
  · rw [if_pos k1] at e
    by_cases k2 : x4 < (S.1 (0, 0, 0) 0)
    · rw [if_pos k2] at e
      by_cases k3 : 0 ≤ x4 ∧ x4 < side
      · rw [if_pos k3] at e
        by_cases k4 : (S.1 (17, x1i, 0) x4) = (-1)
        · rw [if_pos k4] at e
          have e := Option.some.inj e; subst e
          dsimp only [Sum.elim_inl, go144_3] at hc
          simp -implicitDefEqProofs (disch := first | assumption | exact Nat.le_of_ble_eq_true rfl | decide) only [b144_0, g144_2, b144_2, g144_4, b144_4, g144_5, b144_5, g144_6, b144_6, pe_aload0, pe_sipush, pe_putfield, pe_istore2, pe_goto_w, pe_iload2, pe_getfield, pe_icmp_ge, pe_aload1, pe_baload, pe_istore3, pe_iload3, pe_if_ne, pe_iinc2, pe_goto, pe_call5, pm_af_ret, pm_af_void, pm_af_thr, pe_istore4, pe_iload4, pe_istore5, pe_iload5, pe_icmp_ne, pe_iinc4, pe_dup_i, pe_dup_r, pe_dup_x1_ii, pe_dup_x1_ir, pe_dup_x1_ri, pe_dup_x1_rr, pe_iadd, pe_aaload, pe_astore6, pe_aload6, pe_iastore, pe_call2, pe_return, pm_prog_1, pm_ob_some, Nat.reduceDiv, Nat.reduceMod, Nat.reduceMul, Nat.reduceAdd, Int.reduceToNat, pm_kill_i, pm_kill_r, pm_kill_n, pm_kill_j, pm_kill_l, pm_kill_d, pm_cats_nil, pm_cats_i, pm_cats_r, pm_cats_n, pm_cats_l, pm_cats_d, sz_1, sz_2, sl_1, sl_2, lc_0, lc_lt, lc_le, li_ne, va_rf, wr_m1, we_m1, pm_kill_w, Int32.reduceOfInt, Int64.reduceOfInt, Int32.reduceOfNat, Int32.reduceLT, Int32.reduceLE, Prod.mk.injEq, Nat.reduceEqDiff, reduceCtorEq, and_true, true_and, and_false, false_and, and_self, ite_true, ite_false, ↓reduceIte, not_true_eq_false, not_false_eq_true, pe_ri, pe_rz, pe_rc, Cs_g0_0 hP hA, Cs_g0_12 hP hA, Cs_g0_13 hP hA, Cs_g0_14 hP hA, Cs_g0_5 hP hA, Cs_g0_6 hP hA, Cs_g10_6 hP hA, Cs_g10_9 hP hA, Cs_g9_1 hP hA, Cs_p0_12 hP hA, Cs_p0_13 hP hA, Cs_r17 hP hA, Cs_r20 hP hA, Cs_r21 hP hA, Cs_r8 hP hA, Cs_w22 hP hA, eq_true k2, eq_true k4, hc]
        · rw [if_neg k4] at e
          by_cases k5 : 0 ≤ (S.1 (0, 0, 0) 13) ∧ (S.1 (0, 0, 0) 13) < (side * side)
          · rw [if_pos k5] at e
            by_cases k6 : 0 ≤ (S.1 (17, x1i, 0) x4) ∧ (S.1 (17, x1i, 0) x4) < 8
            · rw [if_pos k6] at e
              by_cases k7 : (S.1 (17, x1i, 0) x4) < cnt
              · rw [if_pos k7] at e
                by_cases k8 : 0 ≤ (S.1 (17, x1i, 0) x4) ∧ (S.1 (17, x1i, 0) x4) < cnt
                · rw [if_pos k8] at e
                  obtain ⟨v2, k9, e⟩ := Option.bind_eq_some_iff.mp e
                  try dsimp only at e
                  have z9 := x200 (D := D) (h := h) hP hA (by omega) k9
                  have e := Option.some.inj e; subst e
                  dsimp only [Sum.elim_inl, go144_3] at hc
                  simp -implicitDefEqProofs (disch := first | assumption | exact Nat.le_of_ble_eq_true rfl | decide) only [b144_0, g144_2, b144_2, g144_4, b144_4, g144_5, b144_5, g144_6, b144_6, pe_aload0, pe_sipush, pe_putfield, pe_istore2, pe_goto_w, pe_iload2, pe_getfield, pe_icmp_ge, pe_aload1, pe_baload, pe_istore3, pe_iload3, pe_if_ne, pe_iinc2, pe_goto, pe_call5, pm_af_ret, pm_af_void, pm_af_thr, pe_istore4, pe_iload4, pe_istore5, pe_iload5, pe_icmp_ne, pe_iinc4, pe_dup_i, pe_dup_r, pe_dup_x1_ii, pe_dup_x1_ir, pe_dup_x1_ri, pe_dup_x1_rr, pe_iadd, pe_aaload, pe_astore6, pe_aload6, pe_iastore, pe_call2, pe_return, pm_prog_1, pm_ob_some, Nat.reduceDiv, Nat.reduceMod, Nat.reduceMul, Nat.reduceAdd, Int.reduceToNat, pm_kill_i, pm_kill_r, pm_kill_n, pm_kill_j, pm_kill_l, pm_kill_d, pm_cats_nil, pm_cats_i, pm_cats_r, pm_cats_n, pm_cats_l, pm_cats_d, sz_1, sz_2, sl_1, sl_2, lc_0, lc_lt, lc_le, li_ne, va_rf, wr_m1, we_m1, pm_kill_w, Int32.reduceOfInt, Int64.reduceOfInt, Int32.reduceOfNat, Int32.reduceLT, Int32.reduceLE, Prod.mk.injEq, Nat.reduceEqDiff, reduceCtorEq, and_true, true_and, and_false, false_and, and_self, ite_true, ite_false, ↓reduceIte, not_true_eq_false, not_false_eq_true, pe_ri, pe_rz, pe_rc, Cs_g0_0 hP hA, Cs_g0_12 hP hA, Cs_g0_13 hP hA, Cs_g0_14 hP hA, Cs_g0_5 hP hA, Cs_g0_6 hP hA, Cs_g10_6 hP hA, Cs_g10_9 hP hA, Cs_g9_1 hP hA, Cs_p0_12 hP hA, Cs_p0_13 hP hA, Cs_r17 hP hA, Cs_r20 hP hA, Cs_r21 hP hA, Cs_r8 hP hA, Cs_w22 hP hA, eq_true k2, eq_false k4, z9, hc]
                · rw [if_neg k8] at e; cases e
              · rw [if_neg k7] at e; cases e
            · rw [if_neg k6] at e; cases e
          · rw [if_neg k5] at e; cases e
      · rw [if_neg k3] at e; cases e
    · rw [if_neg k2] at e
      have e := Option.some.inj e; subst e
      dsimp only [Sum.elim_inr, ex144_3] at hc
      simp -implicitDefEqProofs (disch := first | assumption | exact Nat.le_of_ble_eq_true rfl | decide) only [b144_0, g144_2, b144_2, g144_4, b144_4, g144_5, b144_5, g144_6, b144_6, pe_aload0, pe_sipush, pe_putfield, pe_istore2, pe_goto_w, pe_iload2, pe_getfield, pe_icmp_ge, pe_aload1, pe_baload, pe_istore3, pe_iload3, pe_if_ne, pe_iinc2, pe_goto, pe_call5, pm_af_ret, pm_af_void, pm_af_thr, pe_istore4, pe_iload4, pe_istore5, pe_iload5, pe_icmp_ne, pe_iinc4, pe_dup_i, pe_dup_r, pe_dup_x1_ii, pe_dup_x1_ir, pe_dup_x1_ri, pe_dup_x1_rr, pe_iadd, pe_aaload, pe_astore6, pe_aload6, pe_iastore, pe_call2, pe_return, pm_prog_1, pm_ob_some, Nat.reduceDiv, Nat.reduceMod, Nat.reduceMul, Nat.reduceAdd, Int.reduceToNat, pm_kill_i, pm_kill_r, pm_kill_n, pm_kill_j, pm_kill_l, pm_kill_d, pm_cats_nil, pm_cats_i, pm_cats_r, pm_cats_n, pm_cats_l, pm_cats_d, sz_1, sz_2, sl_1, sl_2, lc_0, lc_lt, lc_le, li_ne, va_rf, wr_m1, we_m1, pm_kill_w, Int32.reduceOfInt, Int64.reduceOfInt, Int32.reduceOfNat, Int32.reduceLT, Int32.reduceLE, Prod.mk.injEq, Nat.reduceEqDiff, reduceCtorEq, and_true, true_and, and_false, false_and, and_self, ite_true, ite_false, ↓reduceIte, not_true_eq_false, not_false_eq_true, pe_ri, pe_rz, pe_rc, Cs_g0_0 hP hA, Cs_g0_12 hP hA, Cs_g0_13 hP hA, Cs_g0_14 hP hA, Cs_g0_5 hP hA, Cs_g0_6 hP hA, Cs_g10_6 hP hA, Cs_g10_9 hP hA, Cs_g9_1 hP hA, Cs_p0_12 hP hA, Cs_p0_13 hP hA, Cs_r17 hP hA, Cs_r20 hP hA, Cs_r21 hP hA, Cs_r8 hP hA, Cs_w22 hP hA, eq_false k2, hc]
  · rw [if_neg k1] at e; cases e
theorem z144_3 {side : Int32} {cnt : Int32} {A : wK → Nat} {h : pm_H} {D : Nat} {R : Outcome × pm_H} (hP : Cs_P side cnt) (hA : wok A (Cs_d side cnt) h.1) (hD : 4 ≤ D) {n : Nat} {a : Int32 × Int32 × Int32 × Int32 × wS} {b : (Int32 × Int32 × Int32 × wS)} (e : lp (f144_b3 side cnt) n a = some b) (hx : ex144_3 side cnt A h D R b) : go144_3 side cnt A h D R a := lp_run (fun a r => y144_b3 hP hA hD a r) n a b e hx
def go144_1 (side : Int32) (cnt : Int32) (A : wK → Nat) (h : pm_H) (D : Nat) (R : Outcome × pm_H) : Int32 × Int32 × wS → Prop := fun (x1i, x2, S) => ∀ q3 q4 q5 q6 : Value, pm_go pm_prog (pm_call pm_prog D) 144 1 [.ref (A (0, 0, 0)), .ref (A (10, x1i, 0)), .int x2, q3, q4, q5, q6] [] (wput A (Cs_d side cnt) S h) = some R
def ex144_1 (side : Int32) (cnt : Int32) (A : wK → Nat) (h : pm_H) (D : Nat) (R : Outcome × pm_H) : (wS) → Prop := fun S => ∀ q0 q1 q2 q3 q4 q5 q6 : Value, pm_go pm_prog (pm_call pm_prog D) 144 6 [q0, q1, q2, q3, q4, q5, q6] [] (wput A (Cs_d side cnt) S h) = some R
theorem y144_b1 {side : Int32} {cnt : Int32} {A : wK → Nat} {h : pm_H} {D : Nat} {R : Outcome × pm_H} (hP : Cs_P side cnt) (hA : wok A (Cs_d side cnt) h.1) (hD : 4 ≤ D) (a : Int32 × Int32 × wS) (r : (Int32 × Int32 × wS) ⊕ ((wS))) (e : f144_b1 side cnt a = some r) (hc : Sum.elim (go144_1 side cnt A h D R) (ex144_1 side cnt A h D R) r) : go144_1 side cnt A h D R a := by
  obtain ⟨x1i, x2, S⟩ := a
  dsimp only [go144_1]
  intro q3 q4 q5 q6
  simp only [f144_b1] at e
  rw [g144_1, b144_1]
  by_cases k1 : 0 ≤ x1i ∧ x1i < 2
  · rw [if_pos k1] at e
    by_cases k2 : x2 < (S.1 (0, 0, 0) 0)
    · rw [if_pos k2] at e
      by_cases k3 : 0 ≤ x2 ∧ x2 < side
      · rw [if_pos k3] at e
        by_cases k4 : (S.1 (20, x1i, 0) x2) = 0
        · rw [if_pos k4] at e
          have e := Option.some.inj e; subst e
          dsimp only [Sum.elim_inl, go144_1] at hc
          simp -implicitDefEqProofs (disch := first | assumption | exact Nat.le_of_ble_eq_true rfl | decide) only [b144_0, g144_2, b144_2, g144_4, b144_4, g144_5, b144_5, g144_6, b144_6, pe_aload0, pe_sipush, pe_putfield, pe_istore2, pe_goto_w, pe_iload2, pe_getfield, pe_icmp_ge, pe_aload1, pe_baload, pe_istore3, pe_iload3, pe_if_ne, pe_iinc2, pe_goto, pe_call5, pm_af_ret, pm_af_void, pm_af_thr, pe_istore4, pe_iload4, pe_istore5, pe_iload5, pe_icmp_ne, pe_iinc4, pe_dup_i, pe_dup_r, pe_dup_x1_ii, pe_dup_x1_ir, pe_dup_x1_ri, pe_dup_x1_rr, pe_iadd, pe_aaload, pe_astore6, pe_aload6, pe_iastore, pe_call2, pe_return, pm_prog_1, pm_ob_some, Nat.reduceDiv, Nat.reduceMod, Nat.reduceMul, Nat.reduceAdd, Int.reduceToNat, pm_kill_i, pm_kill_r, pm_kill_n, pm_kill_j, pm_kill_l, pm_kill_d, pm_cats_nil, pm_cats_i, pm_cats_r, pm_cats_n, pm_cats_l, pm_cats_d, sz_1, sz_2, sl_1, sl_2, lc_0, lc_lt, lc_le, li_ne, va_rf, wr_m1, we_m1, pm_kill_w, Int32.reduceOfInt, Int64.reduceOfInt, Int32.reduceOfNat, Int32.reduceLT, Int32.reduceLE, Prod.mk.injEq, Nat.reduceEqDiff, reduceCtorEq, and_true, true_and, and_false, false_and, and_self, ite_true, ite_false, ↓reduceIte, not_true_eq_false, not_false_eq_true, pe_ri, pe_rz, pe_rc, Cs_g0_0 hP hA, Cs_g0_12 hP hA, Cs_g0_13 hP hA, Cs_g0_14 hP hA, Cs_g0_5 hP hA, Cs_g0_6 hP hA, Cs_g10_6 hP hA, Cs_g10_9 hP hA, Cs_g9_1 hP hA, Cs_p0_12 hP hA, Cs_p0_13 hP hA, Cs_r17 hP hA, Cs_r20 hP hA, Cs_r21 hP hA, Cs_r8 hP hA, Cs_w22 hP hA, eq_true k2, eq_true k4, hc]
        · rw [if_neg k4] at e
          obtain ⟨S1, k5, e⟩ := Option.bind_eq_some_iff.mp e
          try dsimp only at e
          have z5 := x198 (D := D) (h := h) hP hA (by omega) k5
          obtain ⟨⟨v5i, v6, v7, S3⟩, k6, e⟩ := Option.bind_eq_some_iff.mp e
          try dsimp only at e
          try simp -implicitDefEqProofs (disch := first | assumption | exact Nat.le_of_ble_eq_true rfl | decide) only [b144_0, g144_2, b144_2, g144_4, b144_4, g144_5, b144_5, g144_6, b144_6, pe_aload0, pe_sipush, pe_putfield, pe_istore2, pe_goto_w, pe_iload2, pe_getfield, pe_icmp_ge, pe_aload1, pe_baload, pe_istore3, pe_iload3, pe_if_ne, pe_iinc2, pe_goto, pe_call5, pm_af_ret, pm_af_void, pm_af_thr, pe_istore4, pe_iload4, pe_istore5, pe_iload5, pe_icmp_ne, pe_iinc4, pe_dup_i, pe_dup_r, pe_dup_x1_ii, pe_dup_x1_ir, pe_dup_x1_ri, pe_dup_x1_rr, pe_iadd, pe_aaload, pe_astore6, pe_aload6, pe_iastore, pe_call2, pe_return, pm_prog_1, pm_ob_some, Nat.reduceDiv, Nat.reduceMod, Nat.reduceMul, Nat.reduceAdd, Int.reduceToNat, pm_kill_i, pm_kill_r, pm_kill_n, pm_kill_j, pm_kill_l, pm_kill_d, pm_cats_nil, pm_cats_i, pm_cats_r, pm_cats_n, pm_cats_l, pm_cats_d, sz_1, sz_2, sl_1, sl_2, lc_0, lc_lt, lc_le, li_ne, va_rf, wr_m1, we_m1, pm_kill_w, Int32.reduceOfInt, Int64.reduceOfInt, Int32.reduceOfNat, Int32.reduceLT, Int32.reduceLE, Prod.mk.injEq, Nat.reduceEqDiff, reduceCtorEq, and_true, true_and, and_false, false_and, and_self, ite_true, ite_false, ↓reduceIte, not_true_eq_false, not_false_eq_true, pe_ri, pe_rz, pe_rc, Cs_g0_0 hP hA, Cs_g0_12 hP hA, Cs_g0_13 hP hA, Cs_g0_14 hP hA, Cs_g0_5 hP hA, Cs_g0_6 hP hA, Cs_g10_6 hP hA, Cs_g10_9 hP hA, Cs_g9_1 hP hA, Cs_p0_12 hP hA, Cs_p0_13 hP hA, Cs_r17 hP hA, Cs_r20 hP hA, Cs_r21 hP hA, Cs_r8 hP hA, Cs_w22 hP hA, eq_true k2, eq_false k4, z5]
          refine z144_3 hP hA hD k6 ?_ _ _
          dsimp only [ex144_3]
          intro q4 q5 q6
          by_cases k7 : 0 ≤ v5i ∧ v5i < 2
          · rw [if_pos k7] at e
            obtain ⟨v8, k8, e⟩ := Option.bind_eq_some_iff.mp e
            try dsimp only at e
            have z8 := x200 (D := D) (h := h) hP hA (by omega) k8
            have e := Option.some.inj e; subst e
            dsimp only [Sum.elim_inl, go144_1] at hc
            simp -implicitDefEqProofs (disch := first | assumption | exact Nat.le_of_ble_eq_true rfl | decide) only [b144_0, g144_2, b144_2, g144_4, b144_4, g144_5, b144_5, g144_6, b144_6, pe_aload0, pe_sipush, pe_putfield, pe_istore2, pe_goto_w, pe_iload2, pe_getfield, pe_icmp_ge, pe_aload1, pe_baload, pe_istore3, pe_iload3, pe_if_ne, pe_iinc2, pe_goto, pe_call5, pm_af_ret, pm_af_void, pm_af_thr, pe_istore4, pe_iload4, pe_istore5, pe_iload5, pe_icmp_ne, pe_iinc4, pe_dup_i, pe_dup_r, pe_dup_x1_ii, pe_dup_x1_ir, pe_dup_x1_ri, pe_dup_x1_rr, pe_iadd, pe_aaload, pe_astore6, pe_aload6, pe_iastore, pe_call2, pe_return, pm_prog_1, pm_ob_some, Nat.reduceDiv, Nat.reduceMod, Nat.reduceMul, Nat.reduceAdd, Int.reduceToNat, pm_kill_i, pm_kill_r, pm_kill_n, pm_kill_j, pm_kill_l, pm_kill_d, pm_cats_nil, pm_cats_i, pm_cats_r, pm_cats_n, pm_cats_l, pm_cats_d, sz_1, sz_2, sl_1, sl_2, lc_0, lc_lt, lc_le, li_ne, va_rf, wr_m1, we_m1, pm_kill_w, Int32.reduceOfInt, Int64.reduceOfInt, Int32.reduceOfNat, Int32.reduceLT, Int32.reduceLE, Prod.mk.injEq, Nat.reduceEqDiff, reduceCtorEq, and_true, true_and, and_false, false_and, and_self, ite_true, ite_false, ↓reduceIte, not_true_eq_false, not_false_eq_true, pe_ri, pe_rz, pe_rc, Cs_g0_0 hP hA, Cs_g0_12 hP hA, Cs_g0_13 hP hA, Cs_g0_14 hP hA, Cs_g0_5 hP hA, Cs_g0_6 hP hA, Cs_g10_6 hP hA, Cs_g10_9 hP hA, Cs_g9_1 hP hA, Cs_p0_12 hP hA, Cs_p0_13 hP hA, Cs_r17 hP hA, Cs_r20 hP hA, Cs_r21 hP hA, Cs_r8 hP hA, Cs_w22 hP hA, eq_true k2, eq_false k4, z5, z8, hc]
          · rw [if_neg k7] at e; cases e
      · rw [if_neg k3] at e; cases e
    · rw [if_neg k2] at e
      have e := Option.some.inj e; subst e
      dsimp only [Sum.elim_inr, ex144_1] at hc
      simp -implicitDefEqProofs (disch := first | assumption | exact Nat.le_of_ble_eq_true rfl | decide) only [b144_0, g144_2, b144_2, g144_4, b144_4, g144_5, b144_5, g144_6, b144_6, pe_aload0, pe_sipush, pe_putfield, pe_istore2, pe_goto_w, pe_iload2, pe_getfield, pe_icmp_ge, pe_aload1, pe_baload, pe_istore3, pe_iload3, pe_if_ne, pe_iinc2, pe_goto, pe_call5, pm_af_ret, pm_af_void, pm_af_thr, pe_istore4, pe_iload4, pe_istore5, pe_iload5, pe_icmp_ne, pe_iinc4, pe_dup_i, pe_dup_r, pe_dup_x1_ii, pe_dup_x1_ir, pe_dup_x1_ri, pe_dup_x1_rr, pe_iadd, pe_aaload, pe_astore6, pe_aload6, pe_iastore, pe_call2, pe_return, pm_prog_1, pm_ob_some, Nat.reduceDiv, Nat.reduceMod, Nat.reduceMul, Nat.reduceAdd, Int.reduceToNat, pm_kill_i, pm_kill_r, pm_kill_n, pm_kill_j, pm_kill_l, pm_kill_d, pm_cats_nil, pm_cats_i, pm_cats_r, pm_cats_n, pm_cats_l, pm_cats_d, sz_1, sz_2, sl_1, sl_2, lc_0, lc_lt, lc_le, li_ne, va_rf, wr_m1, we_m1, pm_kill_w, Int32.reduceOfInt, Int64.reduceOfInt, Int32.reduceOfNat, Int32.reduceLT, Int32.reduceLE, Prod.mk.injEq, Nat.reduceEqDiff, reduceCtorEq, and_true, true_and, and_false, false_and, and_self, ite_true, ite_false, ↓reduceIte, not_true_eq_false, not_false_eq_true, pe_ri, pe_rz, pe_rc, Cs_g0_0 hP hA, Cs_g0_12 hP hA, Cs_g0_13 hP hA, Cs_g0_14 hP hA, Cs_g0_5 hP hA, Cs_g0_6 hP hA, Cs_g10_6 hP hA, Cs_g10_9 hP hA, Cs_g9_1 hP hA, Cs_p0_12 hP hA, Cs_p0_13 hP hA, Cs_r17 hP hA, Cs_r20 hP hA, Cs_r21 hP hA, Cs_r8 hP hA, Cs_w22 hP hA, eq_false k2, hc]
  · rw [if_neg k1] at e; cases e
theorem z144_1 {side : Int32} {cnt : Int32} {A : wK → Nat} {h : pm_H} {D : Nat} {R : Outcome × pm_H} (hP : Cs_P side cnt) (hA : wok A (Cs_d side cnt) h.1) (hD : 4 ≤ D) {n : Nat} {a : Int32 × Int32 × wS} {b : (wS)} (e : lp (f144_b1 side cnt) n a = some b) (hx : ex144_1 side cnt A h D R b) : go144_1 side cnt A h D R a := lp_run (fun a r => y144_b1 hP hA hD a r) n a b e hx
theorem x144 {side : Int32} {cnt : Int32} {A : wK → Nat} {h : pm_H} {D : Nat} {S : wS} {x1i : Int32} {r : wS} (hP : Cs_P side cnt) (hA : wok A (Cs_d side cnt) h.1) (hD : 5 ≤ D) (e : f144 side cnt S x1i = some r) : pm_call pm_prog D 144 [.ref (A (0, 0, 0)), .ref (A (10, x1i, 0))] (wput A (Cs_d side cnt) S h) = some (Outcome.returned none, (wput A (Cs_d side cnt) r h)) := by
  obtain ⟨D, rfl⟩ : ∃ D', D = D' + 1 := ⟨D - 1, by omega⟩
  have hD : 4 ≤ D := by omega
  simp only [f144] at e
  have k1 : 0 ≤ x1i ∧ x1i < 2 := by
    by_cases q : 0 ≤ x1i ∧ x1i < 2
    · exact q
    · rw [if_neg q] at e; cases e
  rw [if_pos k1] at e
  rw [c144 (Cs_c0 hP hA), b144_0]
  obtain ⟨S9, k2, e⟩ := Option.bind_eq_some_iff.mp e
  try dsimp only at e
  try simp -implicitDefEqProofs (disch := first | assumption | exact Nat.le_of_ble_eq_true rfl | decide) only [b144_0, g144_2, b144_2, g144_4, b144_4, g144_5, b144_5, g144_6, b144_6, pe_aload0, pe_sipush, pe_putfield, pe_istore2, pe_goto_w, pe_iload2, pe_getfield, pe_icmp_ge, pe_aload1, pe_baload, pe_istore3, pe_iload3, pe_if_ne, pe_iinc2, pe_goto, pe_call5, pm_af_ret, pm_af_void, pm_af_thr, pe_istore4, pe_iload4, pe_istore5, pe_iload5, pe_icmp_ne, pe_iinc4, pe_dup_i, pe_dup_r, pe_dup_x1_ii, pe_dup_x1_ir, pe_dup_x1_ri, pe_dup_x1_rr, pe_iadd, pe_aaload, pe_astore6, pe_aload6, pe_iastore, pe_call2, pe_return, pm_prog_1, pm_ob_some, Nat.reduceDiv, Nat.reduceMod, Nat.reduceMul, Nat.reduceAdd, Int.reduceToNat, pm_kill_i, pm_kill_r, pm_kill_n, pm_kill_j, pm_kill_l, pm_kill_d, pm_cats_nil, pm_cats_i, pm_cats_r, pm_cats_n, pm_cats_l, pm_cats_d, sz_1, sz_2, sl_1, sl_2, lc_0, lc_lt, lc_le, li_ne, va_rf, wr_m1, we_m1, pm_kill_w, Int32.reduceOfInt, Int64.reduceOfInt, Int32.reduceOfNat, Int32.reduceLT, Int32.reduceLE, Prod.mk.injEq, Nat.reduceEqDiff, reduceCtorEq, and_true, true_and, and_false, false_and, and_self, ite_true, ite_false, ↓reduceIte, not_true_eq_false, not_false_eq_true, pe_ri, pe_rz, pe_rc, Cs_g0_0 hP hA, Cs_g0_12 hP hA, Cs_g0_13 hP hA, Cs_g0_14 hP hA, Cs_g0_5 hP hA, Cs_g0_6 hP hA, Cs_g10_6 hP hA, Cs_g10_9 hP hA, Cs_g9_1 hP hA, Cs_p0_12 hP hA, Cs_p0_13 hP hA, Cs_r17 hP hA, Cs_r20 hP hA, Cs_r21 hP hA, Cs_r8 hP hA, Cs_w22 hP hA]
  refine z144_1 hP hA hD k2 ?_ _ _ _ _
  dsimp only [ex144_1]
  intro q0 q1 q2 q3 q4 q5 q6
  have e := Option.some.inj e; subst e
  simp -implicitDefEqProofs (disch := first | assumption | exact Nat.le_of_ble_eq_true rfl | decide) only [b144_0, g144_2, b144_2, g144_4, b144_4, g144_5, b144_5, g144_6, b144_6, pe_aload0, pe_sipush, pe_putfield, pe_istore2, pe_goto_w, pe_iload2, pe_getfield, pe_icmp_ge, pe_aload1, pe_baload, pe_istore3, pe_iload3, pe_if_ne, pe_iinc2, pe_goto, pe_call5, pm_af_ret, pm_af_void, pm_af_thr, pe_istore4, pe_iload4, pe_istore5, pe_iload5, pe_icmp_ne, pe_iinc4, pe_dup_i, pe_dup_r, pe_dup_x1_ii, pe_dup_x1_ir, pe_dup_x1_ri, pe_dup_x1_rr, pe_iadd, pe_aaload, pe_astore6, pe_aload6, pe_iastore, pe_call2, pe_return, pm_prog_1, pm_ob_some, Nat.reduceDiv, Nat.reduceMod, Nat.reduceMul, Nat.reduceAdd, Int.reduceToNat, pm_kill_i, pm_kill_r, pm_kill_n, pm_kill_j, pm_kill_l, pm_kill_d, pm_cats_nil, pm_cats_i, pm_cats_r, pm_cats_n, pm_cats_l, pm_cats_d, sz_1, sz_2, sl_1, sl_2, lc_0, lc_lt, lc_le, li_ne, va_rf, wr_m1, we_m1, pm_kill_w, Int32.reduceOfInt, Int64.reduceOfInt, Int32.reduceOfNat, Int32.reduceLT, Int32.reduceLE, Prod.mk.injEq, Nat.reduceEqDiff, reduceCtorEq, and_true, true_and, and_false, false_and, and_self, ite_true, ite_false, ↓reduceIte, not_true_eq_false, not_false_eq_true, pe_ri, pe_rz, pe_rc, Cs_g0_0 hP hA, Cs_g0_12 hP hA, Cs_g0_13 hP hA, Cs_g0_14 hP hA, Cs_g0_5 hP hA, Cs_g0_6 hP hA, Cs_g10_6 hP hA, Cs_g10_9 hP hA, Cs_g9_1 hP hA, Cs_p0_12 hP hA, Cs_p0_13 hP hA, Cs_r17 hP hA, Cs_r20 hP hA, Cs_r21 hP hA, Cs_r8 hP hA, Cs_w22 hP hA]
/-- TimberHouse$SawGrids.run()I -/
theorem c142 {d : Nat} {h : pm_H} {a : Nat} (hc : pm_cls h a = some 2) : pm_call pm_prog (d + 1) 142 [.ref a] h = pm_ev pm_prog (pm_call pm_prog d) 142 0 b142_0 [.ref a, pm_junk] [] h := pm_cal (pm_rc1 hc rfl) rfl rfl rfl
theorem g142_1 {cl : pm_C} {ls st : List Value} {h : pm_H} : pm_go pm_prog cl 142 1 ls st h = pm_ev pm_prog cl 142 1 b142_1 ls st h := pm_go_eq pm_prog cl 142 1 ls st h
theorem g142_2 {cl : pm_C} {ls st : List Value} {h : pm_H} : pm_go pm_prog cl 142 2 ls st h = pm_ev pm_prog cl 142 2 b142_2 ls st h := pm_go_eq pm_prog cl 142 2 ls st h
theorem g142_3 {cl : pm_C} {ls st : List Value} {h : pm_H} : pm_go pm_prog cl 142 3 ls st h = pm_ev pm_prog cl 142 3 b142_3 ls st h := pm_go_eq pm_prog cl 142 3 ls st h
theorem g142_4 {cl : pm_C} {ls st : List Value} {h : pm_H} : pm_go pm_prog cl 142 4 ls st h = pm_ev pm_prog cl 142 4 b142_4 ls st h := pm_go_eq pm_prog cl 142 4 ls st h
theorem g142_5 {cl : pm_C} {ls st : List Value} {h : pm_H} : pm_go pm_prog cl 142 5 ls st h = pm_ev pm_prog cl 142 5 b142_5 ls st h := pm_go_eq pm_prog cl 142 5 ls st h
noncomputable def f142_5 (side : Int32) (cnt : Int32) (S : wS) (y1 : Int32) : Option (Int32 × wS) :=
  (f133 side cnt (sz S (0, 0, 0) 11 y1) y1).bind fun v2i =>
  if 0 ≤ v2i ∧ v2i < 2 then
    (f144 side cnt (sz S (0, 0, 0) 11 y1) v2i).bind fun S3 =>
    some ((S3.1 (0, 0, 0) 13), (sz S3 (0, 0, 0) 10 1))
  else none
noncomputable def f142_3 (side : Int32) (cnt : Int32) (S : wS) (y0 : Int32) : Option (Int32 × wS) :=
  if y0 = 0 then
    f142_5 side cnt S 0
  else
    f142_5 side cnt S 1
/-- TimberHouse$SawGrids.run()I -/
noncomputable def f142 (side : Int32) (cnt : Int32) (S : wS) : Option (Int32 × wS) :=
  (f143 side cnt S).bind fun S1 =>
  if (0 : Int32) ≤ 0 ∧ 0 < (side + 1) then
    if (S1.1 (18, 1, 0) 0) ≤ (S1.1 (18, 0, 0) 0) then
      if (S1.1 (18, 1, 0) 0) = (S1.1 (18, 0, 0) 0) then
        if (S1.1 (19, 1, 0) 0) < (S1.1 (19, 0, 0) 0) then
          f142_3 side cnt S1 1
        else
          f142_3 side cnt S1 0
      else
        f142_3 side cnt S1 0
    else
      f142_3 side cnt S1 1
  else none
theorem y142_5 {side : Int32} {cnt : Int32} {A : wK → Nat} {h : pm_H} {D : Nat} {S : wS} {y1 : Int32} {r : Int32 × wS} (hP : Cs_P side cnt) (hA : wok A (Cs_d side cnt) h.1) (hD : 6 ≤ D) (e : f142_5 side cnt S y1 = some r) : ∀ q1 : Value, pm_go pm_prog (pm_call pm_prog D) 142 5 [.ref (A (0, 0, 0)), q1] [.int y1, .ref (A (0, 0, 0))] (wput A (Cs_d side cnt) S h) = some (match (generalizing := false) r with | (w0, S1) => (Outcome.returned (some (.int w0)), (wput A (Cs_d side cnt) S1 h))) := by
  intro q1
  simp only [f142_5] at e
  rw [g142_5, b142_5]
  obtain ⟨v2i, k1, e⟩ := Option.bind_eq_some_iff.mp e
  try dsimp only at e
  have z1 := x133 (D := D) (h := h) hP hA (by omega) k1
  by_cases k2 : 0 ≤ v2i ∧ v2i < 2
  · rw [if_pos k2] at e
    obtain ⟨S3, k3, e⟩ := Option.bind_eq_some_iff.mp e
    try dsimp only at e
    have z3 := x144 (D := D) (h := h) hP hA (by omega) k3
    have e := Option.some.inj e; subst e
    simp -implicitDefEqProofs (disch := first | assumption | exact Nat.le_of_ble_eq_true rfl | decide) only [b142_0, g142_1, b142_1, g142_2, b142_2, g142_4, b142_4, pe_aload0, pe_call1, pm_af_ret, pm_af_void, pm_af_thr, pe_getfield, pe_sipush, pe_iaload, pe_icmp_gt, pe_icmp_ne, pe_icmp_ge, pe_goto_w, pe_goto, pe_istore1, pe_iload1, pe_if_eq, pe_putfield, pe_call2, pm_prog_1, pm_ob_some, Nat.reduceDiv, Nat.reduceMod, Nat.reduceMul, Nat.reduceAdd, Int.reduceToNat, pm_kill_i, pm_kill_r, pm_kill_n, pm_kill_j, pm_kill_l, pm_kill_d, pm_cats_nil, pm_cats_i, pm_cats_r, pm_cats_n, pm_cats_l, pm_cats_d, sz_1, sz_2, sl_1, sl_2, lc_0, lc_lt, lc_le, li_ne, va_rf, wr_m1, we_m1, pm_kill_w, Int32.reduceOfInt, Int64.reduceOfInt, Int32.reduceOfNat, Int32.reduceLT, Int32.reduceLE, Prod.mk.injEq, Nat.reduceEqDiff, reduceCtorEq, and_true, true_and, and_false, false_and, and_self, ite_true, ite_false, ↓reduceIte, not_true_eq_false, not_false_eq_true, pe_ri, pe_rz, pe_rc, Cs_g0_11 hP hA, Cs_g0_13 hP hA, Cs_g0_7 hP hA, Cs_g0_8 hP hA, Cs_g10_7 hP hA, Cs_g10_8 hP hA, Cs_p0_10 hP hA, Cs_p0_11 hP hA, Cs_r18 hP hA, Cs_r19 hP hA, z1, z3]
  · rw [if_neg k2] at e; cases e
theorem y142_3 {side : Int32} {cnt : Int32} {A : wK → Nat} {h : pm_H} {D : Nat} {S : wS} {y0 : Int32} {r : Int32 × wS} (hP : Cs_P side cnt) (hA : wok A (Cs_d side cnt) h.1) (hD : 6 ≤ D) (e : f142_3 side cnt S y0 = some r) : ∀ q1 : Value, pm_go pm_prog (pm_call pm_prog D) 142 3 [.ref (A (0, 0, 0)), q1] [.int y0] (wput A (Cs_d side cnt) S h) = some (match (generalizing := false) r with | (w0, S1) => (Outcome.returned (some (.int w0)), (wput A (Cs_d side cnt) S1 h))) := by
  intro q1
  simp only [f142_3] at e
  rw [g142_3, b142_3]
  by_cases k1 : y0 = 0
  · rw [if_pos k1] at e
    have k2 := y142_5 (h := h) hP hA hD e
    simp -implicitDefEqProofs (disch := first | assumption | exact Nat.le_of_ble_eq_true rfl | decide) only [b142_0, g142_1, b142_1, g142_2, b142_2, g142_4, b142_4, pe_aload0, pe_call1, pm_af_ret, pm_af_void, pm_af_thr, pe_getfield, pe_sipush, pe_iaload, pe_icmp_gt, pe_icmp_ne, pe_icmp_ge, pe_goto_w, pe_goto, pe_istore1, pe_iload1, pe_if_eq, pe_putfield, pe_call2, pm_prog_1, pm_ob_some, Nat.reduceDiv, Nat.reduceMod, Nat.reduceMul, Nat.reduceAdd, Int.reduceToNat, pm_kill_i, pm_kill_r, pm_kill_n, pm_kill_j, pm_kill_l, pm_kill_d, pm_cats_nil, pm_cats_i, pm_cats_r, pm_cats_n, pm_cats_l, pm_cats_d, sz_1, sz_2, sl_1, sl_2, lc_0, lc_lt, lc_le, li_ne, va_rf, wr_m1, we_m1, pm_kill_w, Int32.reduceOfInt, Int64.reduceOfInt, Int32.reduceOfNat, Int32.reduceLT, Int32.reduceLE, Prod.mk.injEq, Nat.reduceEqDiff, reduceCtorEq, and_true, true_and, and_false, false_and, and_self, ite_true, ite_false, ↓reduceIte, not_true_eq_false, not_false_eq_true, pe_ri, pe_rz, pe_rc, Cs_g0_11 hP hA, Cs_g0_13 hP hA, Cs_g0_7 hP hA, Cs_g0_8 hP hA, Cs_g10_7 hP hA, Cs_g10_8 hP hA, Cs_p0_10 hP hA, Cs_p0_11 hP hA, Cs_r18 hP hA, Cs_r19 hP hA, eq_true k1, k2]
  · rw [if_neg k1] at e
    have k3 := y142_5 (h := h) hP hA hD e
    simp -implicitDefEqProofs (disch := first | assumption | exact Nat.le_of_ble_eq_true rfl | decide) only [b142_0, g142_1, b142_1, g142_2, b142_2, g142_4, b142_4, pe_aload0, pe_call1, pm_af_ret, pm_af_void, pm_af_thr, pe_getfield, pe_sipush, pe_iaload, pe_icmp_gt, pe_icmp_ne, pe_icmp_ge, pe_goto_w, pe_goto, pe_istore1, pe_iload1, pe_if_eq, pe_putfield, pe_call2, pm_prog_1, pm_ob_some, Nat.reduceDiv, Nat.reduceMod, Nat.reduceMul, Nat.reduceAdd, Int.reduceToNat, pm_kill_i, pm_kill_r, pm_kill_n, pm_kill_j, pm_kill_l, pm_kill_d, pm_cats_nil, pm_cats_i, pm_cats_r, pm_cats_n, pm_cats_l, pm_cats_d, sz_1, sz_2, sl_1, sl_2, lc_0, lc_lt, lc_le, li_ne, va_rf, wr_m1, we_m1, pm_kill_w, Int32.reduceOfInt, Int64.reduceOfInt, Int32.reduceOfNat, Int32.reduceLT, Int32.reduceLE, Prod.mk.injEq, Nat.reduceEqDiff, reduceCtorEq, and_true, true_and, and_false, false_and, and_self, ite_true, ite_false, ↓reduceIte, not_true_eq_false, not_false_eq_true, pe_ri, pe_rz, pe_rc, Cs_g0_11 hP hA, Cs_g0_13 hP hA, Cs_g0_7 hP hA, Cs_g0_8 hP hA, Cs_g10_7 hP hA, Cs_g10_8 hP hA, Cs_p0_10 hP hA, Cs_p0_11 hP hA, Cs_r18 hP hA, Cs_r19 hP hA, eq_false k1, k3]
theorem x142 {side : Int32} {cnt : Int32} {A : wK → Nat} {h : pm_H} {D : Nat} {S : wS} {r : Int32 × wS} (hP : Cs_P side cnt) (hA : wok A (Cs_d side cnt) h.1) (hD : 7 ≤ D) (e : f142 side cnt S = some r) : pm_call pm_prog D 142 [.ref (A (0, 0, 0))] (wput A (Cs_d side cnt) S h) = some (match (generalizing := false) r with | (w0, S1) => (Outcome.returned (some (.int w0)), (wput A (Cs_d side cnt) S1 h))) := by
  obtain ⟨D, rfl⟩ : ∃ D', D = D' + 1 := ⟨D - 1, by omega⟩
  have hD : 6 ≤ D := by omega
  simp only [f142] at e
  rw [c142 (Cs_c0 hP hA), b142_0]
  obtain ⟨S1, k1, e⟩ := Option.bind_eq_some_iff.mp e
  try dsimp only at e
  have z1 := x143 (D := D) (h := h) hP hA (by omega) k1
  by_cases k2 : (0 : Int32) ≤ 0 ∧ 0 < (side + 1)
  · rw [if_pos k2] at e
    by_cases k3 : (S1.1 (18, 1, 0) 0) ≤ (S1.1 (18, 0, 0) 0)
    · rw [if_pos k3] at e
      by_cases k4 : (S1.1 (18, 1, 0) 0) = (S1.1 (18, 0, 0) 0)
      · rw [if_pos k4] at e
        by_cases k5 : (S1.1 (19, 1, 0) 0) < (S1.1 (19, 0, 0) 0)
        · rw [if_pos k5] at e
          have k6 := y142_3 (h := h) hP hA hD e
          simp -implicitDefEqProofs (disch := first | assumption | exact Nat.le_of_ble_eq_true rfl | decide) only [b142_0, g142_1, b142_1, g142_2, b142_2, g142_4, b142_4, pe_aload0, pe_call1, pm_af_ret, pm_af_void, pm_af_thr, pe_getfield, pe_sipush, pe_iaload, pe_icmp_gt, pe_icmp_ne, pe_icmp_ge, pe_goto_w, pe_goto, pe_istore1, pe_iload1, pe_if_eq, pe_putfield, pe_call2, pm_prog_1, pm_ob_some, Nat.reduceDiv, Nat.reduceMod, Nat.reduceMul, Nat.reduceAdd, Int.reduceToNat, pm_kill_i, pm_kill_r, pm_kill_n, pm_kill_j, pm_kill_l, pm_kill_d, pm_cats_nil, pm_cats_i, pm_cats_r, pm_cats_n, pm_cats_l, pm_cats_d, sz_1, sz_2, sl_1, sl_2, lc_0, lc_lt, lc_le, li_ne, va_rf, wr_m1, we_m1, pm_kill_w, Int32.reduceOfInt, Int64.reduceOfInt, Int32.reduceOfNat, Int32.reduceLT, Int32.reduceLE, Prod.mk.injEq, Nat.reduceEqDiff, reduceCtorEq, and_true, true_and, and_false, false_and, and_self, ite_true, ite_false, ↓reduceIte, not_true_eq_false, not_false_eq_true, pe_ri, pe_rz, pe_rc, Cs_g0_11 hP hA, Cs_g0_13 hP hA, Cs_g0_7 hP hA, Cs_g0_8 hP hA, Cs_g10_7 hP hA, Cs_g10_8 hP hA, Cs_p0_10 hP hA, Cs_p0_11 hP hA, Cs_r18 hP hA, Cs_r19 hP hA, z1, eq_true k3, eq_true k4, eq_true k5, k6]
        · rw [if_neg k5] at e
          have k7 := y142_3 (h := h) hP hA hD e
          simp -implicitDefEqProofs (disch := first | assumption | exact Nat.le_of_ble_eq_true rfl | decide) only [b142_0, g142_1, b142_1, g142_2, b142_2, g142_4, b142_4, pe_aload0, pe_call1, pm_af_ret, pm_af_void, pm_af_thr, pe_getfield, pe_sipush, pe_iaload, pe_icmp_gt, pe_icmp_ne, pe_icmp_ge, pe_goto_w, pe_goto, pe_istore1, pe_iload1, pe_if_eq, pe_putfield, pe_call2, pm_prog_1, pm_ob_some, Nat.reduceDiv, Nat.reduceMod, Nat.reduceMul, Nat.reduceAdd, Int.reduceToNat, pm_kill_i, pm_kill_r, pm_kill_n, pm_kill_j, pm_kill_l, pm_kill_d, pm_cats_nil, pm_cats_i, pm_cats_r, pm_cats_n, pm_cats_l, pm_cats_d, sz_1, sz_2, sl_1, sl_2, lc_0, lc_lt, lc_le, li_ne, va_rf, wr_m1, we_m1, pm_kill_w, Int32.reduceOfInt, Int64.reduceOfInt, Int32.reduceOfNat, Int32.reduceLT, Int32.reduceLE, Prod.mk.injEq, Nat.reduceEqDiff, reduceCtorEq, and_true, true_and, and_false, false_and, and_self, ite_true, ite_false, ↓reduceIte, not_true_eq_false, not_false_eq_true, pe_ri, pe_rz, pe_rc, Cs_g0_11 hP hA, Cs_g0_13 hP hA, Cs_g0_7 hP hA, Cs_g0_8 hP hA, Cs_g10_7 hP hA, Cs_g10_8 hP hA, Cs_p0_10 hP hA, Cs_p0_11 hP hA, Cs_r18 hP hA, Cs_r19 hP hA, z1, eq_true k3, eq_true k4, eq_false k5, k7]
      · rw [if_neg k4] at e
        have k8 := y142_3 (h := h) hP hA hD e
        simp -implicitDefEqProofs (disch := first | assumption | exact Nat.le_of_ble_eq_true rfl | decide) only [b142_0, g142_1, b142_1, g142_2, b142_2, g142_4, b142_4, pe_aload0, pe_call1, pm_af_ret, pm_af_void, pm_af_thr, pe_getfield, pe_sipush, pe_iaload, pe_icmp_gt, pe_icmp_ne, pe_icmp_ge, pe_goto_w, pe_goto, pe_istore1, pe_iload1, pe_if_eq, pe_putfield, pe_call2, pm_prog_1, pm_ob_some, Nat.reduceDiv, Nat.reduceMod, Nat.reduceMul, Nat.reduceAdd, Int.reduceToNat, pm_kill_i, pm_kill_r, pm_kill_n, pm_kill_j, pm_kill_l, pm_kill_d, pm_cats_nil, pm_cats_i, pm_cats_r, pm_cats_n, pm_cats_l, pm_cats_d, sz_1, sz_2, sl_1, sl_2, lc_0, lc_lt, lc_le, li_ne, va_rf, wr_m1, we_m1, pm_kill_w, Int32.reduceOfInt, Int64.reduceOfInt, Int32.reduceOfNat, Int32.reduceLT, Int32.reduceLE, Prod.mk.injEq, Nat.reduceEqDiff, reduceCtorEq, and_true, true_and, and_false, false_and, and_self, ite_true, ite_false, ↓reduceIte, not_true_eq_false, not_false_eq_true, pe_ri, pe_rz, pe_rc, Cs_g0_11 hP hA, Cs_g0_13 hP hA, Cs_g0_7 hP hA, Cs_g0_8 hP hA, Cs_g10_7 hP hA, Cs_g10_8 hP hA, Cs_p0_10 hP hA, Cs_p0_11 hP hA, Cs_r18 hP hA, Cs_r19 hP hA, z1, eq_true k3, eq_false k4, k8]
    · rw [if_neg k3] at e
      have k9 := y142_3 (h := h) hP hA hD e
      simp -implicitDefEqProofs (disch := first | assumption | exact Nat.le_of_ble_eq_true rfl | decide) only [b142_0, g142_1, b142_1, g142_2, b142_2, g142_4, b142_4, pe_aload0, pe_call1, pm_af_ret, pm_af_void, pm_af_thr, pe_getfield, pe_sipush, pe_iaload, pe_icmp_gt, pe_icmp_ne, pe_icmp_ge, pe_goto_w, pe_goto, pe_istore1, pe_iload1, pe_if_eq, pe_putfield, pe_call2, pm_prog_1, pm_ob_some, Nat.reduceDiv, Nat.reduceMod, Nat.reduceMul, Nat.reduceAdd, Int.reduceToNat, pm_kill_i, pm_kill_r, pm_kill_n, pm_kill_j, pm_kill_l, pm_kill_d, pm_cats_nil, pm_cats_i, pm_cats_r, pm_cats_n, pm_cats_l, pm_cats_d, sz_1, sz_2, sl_1, sl_2, lc_0, lc_lt, lc_le, li_ne, va_rf, wr_m1, we_m1, pm_kill_w, Int32.reduceOfInt, Int64.reduceOfInt, Int32.reduceOfNat, Int32.reduceLT, Int32.reduceLE, Prod.mk.injEq, Nat.reduceEqDiff, reduceCtorEq, and_true, true_and, and_false, false_and, and_self, ite_true, ite_false, ↓reduceIte, not_true_eq_false, not_false_eq_true, pe_ri, pe_rz, pe_rc, Cs_g0_11 hP hA, Cs_g0_13 hP hA, Cs_g0_7 hP hA, Cs_g0_8 hP hA, Cs_g10_7 hP hA, Cs_g10_8 hP hA, Cs_p0_10 hP hA, Cs_p0_11 hP hA, Cs_r18 hP hA, Cs_r19 hP hA, z1, eq_false k3, k9]
  · rw [if_neg k2] at e; cases e
/-- TimberHouse$SawGrids.worth(I)I -/
theorem c145 {d : Nat} {h : pm_H} {a : Nat} {x0 : Int32} (hc : pm_cls h a = some 2) : pm_call pm_prog (d + 1) 145 [.ref a, .int x0] h = pm_ev pm_prog (pm_call pm_prog d) 145 0 b145_0 [.ref a, .int x0] [] h := pm_cal (pm_rc1 hc rfl) rfl rfl rfl
theorem t145 {cl : pm_C} {j : Nat} {ls : List Value} {c : Nat} {h : pm_H} : pm_thr pm_prog cl 145 j ls c h = some (.threw c, h) := rfl
/-- TimberHouse$SawGrids.worth(I)I -/
noncomputable def f145 (side : Int32) (cnt : Int32) (S : wS) (x1 : Int32) : Option ((Nat × wS) ⊕ (Int32 × wS)) :=
  (f131 x1 0 1).bind fun v1 =>
  (f132 v1).bind fun r => match r with
  | .inl c4 =>
    some (.inl (c4, S))
  | .inr _ =>
  (f143 side cnt S).bind fun S2 =>
  (f133 side cnt S2 x1).bind fun v3i =>
  if 0 ≤ v3i ∧ v3i < 2 then
    if (0 : Int32) ≤ 0 ∧ 0 < (side + 1) then
      some (.inr ((S2.1 (18, v3i, 0) 0), S2))
    else none
  else none
theorem x145 {side : Int32} {cnt : Int32} {A : wK → Nat} {h : pm_H} {D : Nat} {S : wS} {x1 : Int32} {r : (Nat × wS) ⊕ (Int32 × wS)} (hP : Cs_P side cnt) (hA : wok A (Cs_d side cnt) h.1) (hD : 7 ≤ D) (e : f145 side cnt S x1 = some r) : pm_call pm_prog D 145 [.ref (A (0, 0, 0)), .int x1] (wput A (Cs_d side cnt) S h) = some (match (generalizing := false) r with | .inl (c, S1) => (Outcome.threw c, (wput A (Cs_d side cnt) S1 (pm_new h 6 (.inr (c, []))))) | .inr (w0, S1) => (Outcome.returned (some (.int w0)), (wput A (Cs_d side cnt) S1 h))) := by
  obtain ⟨D, rfl⟩ : ∃ D', D = D' + 1 := ⟨D - 1, by omega⟩
  have hD : 6 ≤ D := by omega
  simp only [f145] at e
  rw [c145 (Cs_c0 hP hA), b145_0]
  obtain ⟨v1, k1, e⟩ := Option.bind_eq_some_iff.mp e
  try dsimp only at e
  have z1 := fun h => x131 (D := D) (h := h) (by omega) k1
  obtain ⟨r, k2, e⟩ := Option.bind_eq_some_iff.mp e
  have z2 := fun h => x132 (D := D) (h := h) (by omega) k2
  rcases r with c4 | _
  · dsimp only at e z2
    have e := Option.some.inj e; subst e
    simp -implicitDefEqProofs (disch := first | assumption | exact Nat.le_of_ble_eq_true rfl | decide) only [b145_0, pe_iload1, pe_sipush, pe_call3, pm_af_ret, pm_af_void, pm_af_thr, pe_call1, pe_aload0, pe_call2, pe_getfield, pe_iaload, pm_prog_1, pm_ob_some, Nat.reduceDiv, Nat.reduceMod, Nat.reduceMul, Nat.reduceAdd, Int.reduceToNat, pm_kill_i, pm_kill_r, pm_kill_n, pm_kill_j, pm_kill_l, pm_kill_d, pm_cats_nil, pm_cats_i, pm_cats_r, pm_cats_n, pm_cats_l, pm_cats_d, sz_1, sz_2, sl_1, sl_2, lc_0, lc_lt, lc_le, li_ne, va_rf, wr_m1, we_m1, pm_kill_w, Int32.reduceOfInt, Int64.reduceOfInt, Int32.reduceOfNat, Int32.reduceLT, Int32.reduceLE, Prod.mk.injEq, Nat.reduceEqDiff, reduceCtorEq, and_true, true_and, and_false, false_and, and_self, ite_true, ite_false, ↓reduceIte, not_true_eq_false, not_false_eq_true, pe_ri, pe_rz, pe_rc, p_throw, t145, w_junk hA, Cs_g10_7 hP hA, Cs_r18 hP hA, z1, z2]
  · dsimp only at e z2
    obtain ⟨S2, k3, e⟩ := Option.bind_eq_some_iff.mp e
    try dsimp only at e
    have z3 := x143 (D := D) (h := h) hP hA (by omega) k3
    obtain ⟨v3i, k4, e⟩ := Option.bind_eq_some_iff.mp e
    try dsimp only at e
    have z4 := x133 (D := D) (h := h) hP hA (by omega) k4
    by_cases k5 : 0 ≤ v3i ∧ v3i < 2
    · rw [if_pos k5] at e
      by_cases k6 : (0 : Int32) ≤ 0 ∧ 0 < (side + 1)
      · rw [if_pos k6] at e
        have e := Option.some.inj e; subst e
        simp -implicitDefEqProofs (disch := first | assumption | exact Nat.le_of_ble_eq_true rfl | decide) only [b145_0, pe_iload1, pe_sipush, pe_call3, pm_af_ret, pm_af_void, pm_af_thr, pe_call1, pe_aload0, pe_call2, pe_getfield, pe_iaload, pm_prog_1, pm_ob_some, Nat.reduceDiv, Nat.reduceMod, Nat.reduceMul, Nat.reduceAdd, Int.reduceToNat, pm_kill_i, pm_kill_r, pm_kill_n, pm_kill_j, pm_kill_l, pm_kill_d, pm_cats_nil, pm_cats_i, pm_cats_r, pm_cats_n, pm_cats_l, pm_cats_d, sz_1, sz_2, sl_1, sl_2, lc_0, lc_lt, lc_le, li_ne, va_rf, wr_m1, we_m1, pm_kill_w, Int32.reduceOfInt, Int64.reduceOfInt, Int32.reduceOfNat, Int32.reduceLT, Int32.reduceLE, Prod.mk.injEq, Nat.reduceEqDiff, reduceCtorEq, and_true, true_and, and_false, false_and, and_self, ite_true, ite_false, ↓reduceIte, not_true_eq_false, not_false_eq_true, pe_ri, pe_rz, pe_rc, p_throw, t145, w_junk hA, Cs_g10_7 hP hA, Cs_r18 hP hA, z1, z2, z3, z4]
      · rw [if_neg k6] at e; cases e
    · rw [if_neg k5] at e; cases e
/-- TimberHouse$SawGrids.wood()I -/
theorem c147 {d : Nat} {h : pm_H} {a : Nat} (hc : pm_cls h a = some 2) : pm_call pm_prog (d + 1) 147 [.ref a] h = pm_ev pm_prog (pm_call pm_prog d) 147 0 b147_0 [.ref a, pm_junk, pm_junk, pm_junk, pm_junk, pm_junk, pm_junk, pm_junk, pm_junk, pm_junk] [] h := pm_cal (pm_rc1 hc rfl) rfl rfl rfl
theorem g147_1 {cl : pm_C} {ls st : List Value} {h : pm_H} : pm_go pm_prog cl 147 1 ls st h = pm_ev pm_prog cl 147 1 b147_1 ls st h := pm_go_eq pm_prog cl 147 1 ls st h
theorem g147_2 {cl : pm_C} {ls st : List Value} {h : pm_H} : pm_go pm_prog cl 147 2 ls st h = pm_ev pm_prog cl 147 2 b147_2 ls st h := pm_go_eq pm_prog cl 147 2 ls st h
theorem g147_3 {cl : pm_C} {ls st : List Value} {h : pm_H} : pm_go pm_prog cl 147 3 ls st h = pm_ev pm_prog cl 147 3 b147_3 ls st h := pm_go_eq pm_prog cl 147 3 ls st h
theorem g147_4 {cl : pm_C} {ls st : List Value} {h : pm_H} : pm_go pm_prog cl 147 4 ls st h = pm_ev pm_prog cl 147 4 b147_4 ls st h := pm_go_eq pm_prog cl 147 4 ls st h
theorem g147_5 {cl : pm_C} {ls st : List Value} {h : pm_H} : pm_go pm_prog cl 147 5 ls st h = pm_ev pm_prog cl 147 5 b147_5 ls st h := pm_go_eq pm_prog cl 147 5 ls st h
theorem g147_6 {cl : pm_C} {ls st : List Value} {h : pm_H} : pm_go pm_prog cl 147 6 ls st h = pm_ev pm_prog cl 147 6 b147_6 ls st h := pm_go_eq pm_prog cl 147 6 ls st h
noncomputable def f147_b2 (side : Int32) (cnt : Int32) (S : wS) : Int32 × Int32 × Int32 × Int32 × Int32 × Int32 → Option ((Int32 × Int32 × Int32 × Int32 × Int32 × Int32) ⊕ ((Int32 × Int32 × Int32))) := fun (x1, x3, x4, x6i, x7, x8) =>
  if 0 ≤ x6i ∧ x6i < side then
    if x8 < x7 then
      if 0 ≤ x8 ∧ x8 < side then
        if (S.1 (5, x6i, 0) x8) = 0 then
          some (.inl ((x1 + 0), x3, x4, x6i, x7, (x8 + 1)))
        else
          some (.inl ((x1 + 1), x3, x4, x6i, x7, (x8 + 1)))
      else none
    else
      some (.inr (x1, x3, x4))
  else none
noncomputable def f147_b1 (side : Int32) (cnt : Int32) (S : wS) : Int32 × Int32 × Int32 → Option ((Int32 × Int32 × Int32) ⊕ ((Int32))) := fun (x1, x3, x4) =>
  if x4 < x3 then
    if 0 ≤ x4 ∧ x4 < side then
      (lp (f147_b2 side cnt S) FU (x1, x3, x4, x4, side, 0)).bind fun (v1, v3, v4) =>
      some (.inl (v1, v3, (v4 + 1)))
    else none
  else
    some (.inr x1)
/-- TimberHouse$SawGrids.wood()I -/
noncomputable def f147 (side : Int32) (cnt : Int32) (S : wS) : Option (Int32) :=
  (lp (f147_b1 side cnt S) FU (0, side, 0)).bind fun v5 =>
  some v5
def go147_2 (side : Int32) (cnt : Int32) (A : wK → Nat) (h : pm_H) (D : Nat) (R : Outcome × pm_H) (S : wS) : Int32 × Int32 × Int32 × Int32 × Int32 × Int32 → Prop := fun (x1, x3, x4, x6i, x7, x8) => ∀ q0 q5 q9 : Value, pm_go pm_prog (pm_call pm_prog D) 147 2 [q0, .int x1, .ref (A (4, 0, 0)), .int x3, .int x4, q5, .ref (A (5, x6i, 0)), .int x7, .int x8, q9] [] (wput A (Cs_d side cnt) S h) = some R
def ex147_2 (side : Int32) (cnt : Int32) (A : wK → Nat) (h : pm_H) (D : Nat) (R : Outcome × pm_H) (S : wS) : (Int32 × Int32 × Int32) → Prop := fun (x1, x3, x4) => ∀ q0 q5 q6 q7 q8 q9 : Value, pm_go pm_prog (pm_call pm_prog D) 147 5 [q0, .int x1, .ref (A (4, 0, 0)), .int x3, .int x4, q5, q6, q7, q8, q9] [] (wput A (Cs_d side cnt) S h) = some R
theorem y147_b2 {side : Int32} {cnt : Int32} {A : wK → Nat} {h : pm_H} {D : Nat} {R : Outcome × pm_H} {S : wS} (hP : Cs_P side cnt) (hA : wok A (Cs_d side cnt) h.1) (hD : 0 ≤ D) (a : Int32 × Int32 × Int32 × Int32 × Int32 × Int32) (r : (Int32 × Int32 × Int32 × Int32 × Int32 × Int32) ⊕ ((Int32 × Int32 × Int32))) (e : f147_b2 side cnt S a = some r) (hc : Sum.elim (go147_2 side cnt A h D R S) (ex147_2 side cnt A h D R S) r) : go147_2 side cnt A h D R S a := by
  obtain ⟨x1, x3, x4, x6i, x7, x8⟩ := a
  dsimp only [go147_2]
  intro q0 q5 q9
  simp only [f147_b2] at e
  rw [g147_2, b147_2]
  by_cases k1 : 0 ≤ x6i ∧ x6i < side
  · rw [if_pos k1] at e
    by_cases k2 : x8 < x7
    · rw [if_pos k2] at e
      by_cases k3 : 0 ≤ x8 ∧ x8 < side
      · rw [if_pos k3] at e
        by_cases k4 : (S.1 (5, x6i, 0) x8) = 0
        · rw [if_pos k4] at e
          have e := Option.some.inj e; subst e
          dsimp only [Sum.elim_inl, go147_2] at hc
          simp -implicitDefEqProofs (disch := first | assumption | exact Nat.le_of_ble_eq_true rfl | decide) only [b147_0, g147_3, b147_3, g147_4, b147_4, g147_5, b147_5, g147_6, b147_6, pe_sipush, pe_istore1, pe_aload0, pe_getfield, pe_astore2, pe_aload2, pe_arraylength, pe_istore3, pe_istore4, pe_goto_w, pe_iload4, pe_iload3, pe_icmp_ge, pe_aaload, pe_astore5, pe_aload5, pe_astore6, pe_aload6, pe_istore7, pe_istore8, pe_iload8, pe_iload7, pe_baload, pe_istore9, pe_iload1, pe_iload9, pe_if_eq, pe_goto, pe_iadd, pe_iinc8, pe_iinc4, pm_prog_1, pm_ob_some, Nat.reduceDiv, Nat.reduceMod, Nat.reduceMul, Nat.reduceAdd, Int.reduceToNat, pm_kill_i, pm_kill_r, pm_kill_n, pm_kill_j, pm_kill_l, pm_kill_d, pm_cats_nil, pm_cats_i, pm_cats_r, pm_cats_n, pm_cats_l, pm_cats_d, sz_1, sz_2, sl_1, sl_2, lc_0, lc_lt, lc_le, li_ne, va_rf, wr_m1, we_m1, pm_kill_w, Int32.reduceOfInt, Int64.reduceOfInt, Int32.reduceOfNat, Int32.reduceLT, Int32.reduceLE, Prod.mk.injEq, Nat.reduceEqDiff, reduceCtorEq, and_true, true_and, and_false, false_and, and_self, ite_true, ite_false, ↓reduceIte, not_true_eq_false, not_false_eq_true, pe_ri, pe_rz, pe_rc, Cs_g0_3 hP hA, Cs_l4 hP hA, Cs_l5 hP hA, Cs_r4 hP hA, Cs_r5 hP hA, Cs_n0 hP , Cs_n1 hP , Cs_n2 hP , eq_true k2, eq_true k4, hc]
        · rw [if_neg k4] at e
          have e := Option.some.inj e; subst e
          dsimp only [Sum.elim_inl, go147_2] at hc
          simp -implicitDefEqProofs (disch := first | assumption | exact Nat.le_of_ble_eq_true rfl | decide) only [b147_0, g147_3, b147_3, g147_4, b147_4, g147_5, b147_5, g147_6, b147_6, pe_sipush, pe_istore1, pe_aload0, pe_getfield, pe_astore2, pe_aload2, pe_arraylength, pe_istore3, pe_istore4, pe_goto_w, pe_iload4, pe_iload3, pe_icmp_ge, pe_aaload, pe_astore5, pe_aload5, pe_astore6, pe_aload6, pe_istore7, pe_istore8, pe_iload8, pe_iload7, pe_baload, pe_istore9, pe_iload1, pe_iload9, pe_if_eq, pe_goto, pe_iadd, pe_iinc8, pe_iinc4, pm_prog_1, pm_ob_some, Nat.reduceDiv, Nat.reduceMod, Nat.reduceMul, Nat.reduceAdd, Int.reduceToNat, pm_kill_i, pm_kill_r, pm_kill_n, pm_kill_j, pm_kill_l, pm_kill_d, pm_cats_nil, pm_cats_i, pm_cats_r, pm_cats_n, pm_cats_l, pm_cats_d, sz_1, sz_2, sl_1, sl_2, lc_0, lc_lt, lc_le, li_ne, va_rf, wr_m1, we_m1, pm_kill_w, Int32.reduceOfInt, Int64.reduceOfInt, Int32.reduceOfNat, Int32.reduceLT, Int32.reduceLE, Prod.mk.injEq, Nat.reduceEqDiff, reduceCtorEq, and_true, true_and, and_false, false_and, and_self, ite_true, ite_false, ↓reduceIte, not_true_eq_false, not_false_eq_true, pe_ri, pe_rz, pe_rc, Cs_g0_3 hP hA, Cs_l4 hP hA, Cs_l5 hP hA, Cs_r4 hP hA, Cs_r5 hP hA, Cs_n0 hP , Cs_n1 hP , Cs_n2 hP , eq_true k2, eq_false k4, hc]
      · rw [if_neg k3] at e; cases e
    · rw [if_neg k2] at e
      have e := Option.some.inj e; subst e
      dsimp only [Sum.elim_inr, ex147_2] at hc
      simp -implicitDefEqProofs (disch := first | assumption | exact Nat.le_of_ble_eq_true rfl | decide) only [b147_0, g147_3, b147_3, g147_4, b147_4, g147_5, b147_5, g147_6, b147_6, pe_sipush, pe_istore1, pe_aload0, pe_getfield, pe_astore2, pe_aload2, pe_arraylength, pe_istore3, pe_istore4, pe_goto_w, pe_iload4, pe_iload3, pe_icmp_ge, pe_aaload, pe_astore5, pe_aload5, pe_astore6, pe_aload6, pe_istore7, pe_istore8, pe_iload8, pe_iload7, pe_baload, pe_istore9, pe_iload1, pe_iload9, pe_if_eq, pe_goto, pe_iadd, pe_iinc8, pe_iinc4, pm_prog_1, pm_ob_some, Nat.reduceDiv, Nat.reduceMod, Nat.reduceMul, Nat.reduceAdd, Int.reduceToNat, pm_kill_i, pm_kill_r, pm_kill_n, pm_kill_j, pm_kill_l, pm_kill_d, pm_cats_nil, pm_cats_i, pm_cats_r, pm_cats_n, pm_cats_l, pm_cats_d, sz_1, sz_2, sl_1, sl_2, lc_0, lc_lt, lc_le, li_ne, va_rf, wr_m1, we_m1, pm_kill_w, Int32.reduceOfInt, Int64.reduceOfInt, Int32.reduceOfNat, Int32.reduceLT, Int32.reduceLE, Prod.mk.injEq, Nat.reduceEqDiff, reduceCtorEq, and_true, true_and, and_false, false_and, and_self, ite_true, ite_false, ↓reduceIte, not_true_eq_false, not_false_eq_true, pe_ri, pe_rz, pe_rc, Cs_g0_3 hP hA, Cs_l4 hP hA, Cs_l5 hP hA, Cs_r4 hP hA, Cs_r5 hP hA, Cs_n0 hP , Cs_n1 hP , Cs_n2 hP , eq_false k2, hc]
  · rw [if_neg k1] at e; cases e
theorem z147_2 {side : Int32} {cnt : Int32} {A : wK → Nat} {h : pm_H} {D : Nat} {R : Outcome × pm_H} {S : wS} (hP : Cs_P side cnt) (hA : wok A (Cs_d side cnt) h.1) (hD : 0 ≤ D) {n : Nat} {a : Int32 × Int32 × Int32 × Int32 × Int32 × Int32} {b : (Int32 × Int32 × Int32)} (e : lp (f147_b2 side cnt S) n a = some b) (hx : ex147_2 side cnt A h D R S b) : go147_2 side cnt A h D R S a := lp_run (fun a r => y147_b2 hP hA hD a r) n a b e hx
def go147_1 (side : Int32) (cnt : Int32) (A : wK → Nat) (h : pm_H) (D : Nat) (R : Outcome × pm_H) (S : wS) : Int32 × Int32 × Int32 → Prop := fun (x1, x3, x4) => ∀ q0 q5 q6 q7 q8 q9 : Value, pm_go pm_prog (pm_call pm_prog D) 147 1 [q0, .int x1, .ref (A (4, 0, 0)), .int x3, .int x4, q5, q6, q7, q8, q9] [] (wput A (Cs_d side cnt) S h) = some R
def ex147_1 (side : Int32) (cnt : Int32) (A : wK → Nat) (h : pm_H) (D : Nat) (R : Outcome × pm_H) (S : wS) : (Int32) → Prop := fun x1 => ∀ q0 q2 q3 q4 q5 q6 q7 q8 q9 : Value, pm_go pm_prog (pm_call pm_prog D) 147 6 [q0, .int x1, q2, q3, q4, q5, q6, q7, q8, q9] [] (wput A (Cs_d side cnt) S h) = some R
theorem y147_b1 {side : Int32} {cnt : Int32} {A : wK → Nat} {h : pm_H} {D : Nat} {R : Outcome × pm_H} {S : wS} (hP : Cs_P side cnt) (hA : wok A (Cs_d side cnt) h.1) (hD : 0 ≤ D) (a : Int32 × Int32 × Int32) (r : (Int32 × Int32 × Int32) ⊕ ((Int32))) (e : f147_b1 side cnt S a = some r) (hc : Sum.elim (go147_1 side cnt A h D R S) (ex147_1 side cnt A h D R S) r) : go147_1 side cnt A h D R S a := by
  obtain ⟨x1, x3, x4⟩ := a
  dsimp only [go147_1]
  intro q0 q5 q6 q7 q8 q9
  simp only [f147_b1] at e
  rw [g147_1, b147_1]
  by_cases k1 : x4 < x3
  · rw [if_pos k1] at e
    by_cases k2 : 0 ≤ x4 ∧ x4 < side
    · rw [if_pos k2] at e
      obtain ⟨⟨v1, v3, v4⟩, k3, e⟩ := Option.bind_eq_some_iff.mp e
      try dsimp only at e
      try simp -implicitDefEqProofs (disch := first | assumption | exact Nat.le_of_ble_eq_true rfl | decide) only [b147_0, g147_3, b147_3, g147_4, b147_4, g147_5, b147_5, g147_6, b147_6, pe_sipush, pe_istore1, pe_aload0, pe_getfield, pe_astore2, pe_aload2, pe_arraylength, pe_istore3, pe_istore4, pe_goto_w, pe_iload4, pe_iload3, pe_icmp_ge, pe_aaload, pe_astore5, pe_aload5, pe_astore6, pe_aload6, pe_istore7, pe_istore8, pe_iload8, pe_iload7, pe_baload, pe_istore9, pe_iload1, pe_iload9, pe_if_eq, pe_goto, pe_iadd, pe_iinc8, pe_iinc4, pm_prog_1, pm_ob_some, Nat.reduceDiv, Nat.reduceMod, Nat.reduceMul, Nat.reduceAdd, Int.reduceToNat, pm_kill_i, pm_kill_r, pm_kill_n, pm_kill_j, pm_kill_l, pm_kill_d, pm_cats_nil, pm_cats_i, pm_cats_r, pm_cats_n, pm_cats_l, pm_cats_d, sz_1, sz_2, sl_1, sl_2, lc_0, lc_lt, lc_le, li_ne, va_rf, wr_m1, we_m1, pm_kill_w, Int32.reduceOfInt, Int64.reduceOfInt, Int32.reduceOfNat, Int32.reduceLT, Int32.reduceLE, Prod.mk.injEq, Nat.reduceEqDiff, reduceCtorEq, and_true, true_and, and_false, false_and, and_self, ite_true, ite_false, ↓reduceIte, not_true_eq_false, not_false_eq_true, pe_ri, pe_rz, pe_rc, Cs_g0_3 hP hA, Cs_l4 hP hA, Cs_l5 hP hA, Cs_r4 hP hA, Cs_r5 hP hA, Cs_n0 hP , Cs_n1 hP , Cs_n2 hP , eq_true k1]
      refine z147_2 hP hA hD k3 ?_ _ _ _
      dsimp only [ex147_2]
      intro q0 q5 q6 q7 q8 q9
      have e := Option.some.inj e; subst e
      dsimp only [Sum.elim_inl, go147_1] at hc
      simp -implicitDefEqProofs (disch := first | assumption | exact Nat.le_of_ble_eq_true rfl | decide) only [b147_0, g147_3, b147_3, g147_4, b147_4, g147_5, b147_5, g147_6, b147_6, pe_sipush, pe_istore1, pe_aload0, pe_getfield, pe_astore2, pe_aload2, pe_arraylength, pe_istore3, pe_istore4, pe_goto_w, pe_iload4, pe_iload3, pe_icmp_ge, pe_aaload, pe_astore5, pe_aload5, pe_astore6, pe_aload6, pe_istore7, pe_istore8, pe_iload8, pe_iload7, pe_baload, pe_istore9, pe_iload1, pe_iload9, pe_if_eq, pe_goto, pe_iadd, pe_iinc8, pe_iinc4, pm_prog_1, pm_ob_some, Nat.reduceDiv, Nat.reduceMod, Nat.reduceMul, Nat.reduceAdd, Int.reduceToNat, pm_kill_i, pm_kill_r, pm_kill_n, pm_kill_j, pm_kill_l, pm_kill_d, pm_cats_nil, pm_cats_i, pm_cats_r, pm_cats_n, pm_cats_l, pm_cats_d, sz_1, sz_2, sl_1, sl_2, lc_0, lc_lt, lc_le, li_ne, va_rf, wr_m1, we_m1, pm_kill_w, Int32.reduceOfInt, Int64.reduceOfInt, Int32.reduceOfNat, Int32.reduceLT, Int32.reduceLE, Prod.mk.injEq, Nat.reduceEqDiff, reduceCtorEq, and_true, true_and, and_false, false_and, and_self, ite_true, ite_false, ↓reduceIte, not_true_eq_false, not_false_eq_true, pe_ri, pe_rz, pe_rc, Cs_g0_3 hP hA, Cs_l4 hP hA, Cs_l5 hP hA, Cs_r4 hP hA, Cs_r5 hP hA, Cs_n0 hP , Cs_n1 hP , Cs_n2 hP , eq_true k1, hc]
    · rw [if_neg k2] at e; cases e
  · rw [if_neg k1] at e
    have e := Option.some.inj e; subst e
    dsimp only [Sum.elim_inr, ex147_1] at hc
    simp -implicitDefEqProofs (disch := first | assumption | exact Nat.le_of_ble_eq_true rfl | decide) only [b147_0, g147_3, b147_3, g147_4, b147_4, g147_5, b147_5, g147_6, b147_6, pe_sipush, pe_istore1, pe_aload0, pe_getfield, pe_astore2, pe_aload2, pe_arraylength, pe_istore3, pe_istore4, pe_goto_w, pe_iload4, pe_iload3, pe_icmp_ge, pe_aaload, pe_astore5, pe_aload5, pe_astore6, pe_aload6, pe_istore7, pe_istore8, pe_iload8, pe_iload7, pe_baload, pe_istore9, pe_iload1, pe_iload9, pe_if_eq, pe_goto, pe_iadd, pe_iinc8, pe_iinc4, pm_prog_1, pm_ob_some, Nat.reduceDiv, Nat.reduceMod, Nat.reduceMul, Nat.reduceAdd, Int.reduceToNat, pm_kill_i, pm_kill_r, pm_kill_n, pm_kill_j, pm_kill_l, pm_kill_d, pm_cats_nil, pm_cats_i, pm_cats_r, pm_cats_n, pm_cats_l, pm_cats_d, sz_1, sz_2, sl_1, sl_2, lc_0, lc_lt, lc_le, li_ne, va_rf, wr_m1, we_m1, pm_kill_w, Int32.reduceOfInt, Int64.reduceOfInt, Int32.reduceOfNat, Int32.reduceLT, Int32.reduceLE, Prod.mk.injEq, Nat.reduceEqDiff, reduceCtorEq, and_true, true_and, and_false, false_and, and_self, ite_true, ite_false, ↓reduceIte, not_true_eq_false, not_false_eq_true, pe_ri, pe_rz, pe_rc, Cs_g0_3 hP hA, Cs_l4 hP hA, Cs_l5 hP hA, Cs_r4 hP hA, Cs_r5 hP hA, Cs_n0 hP , Cs_n1 hP , Cs_n2 hP , eq_false k1, hc]
theorem z147_1 {side : Int32} {cnt : Int32} {A : wK → Nat} {h : pm_H} {D : Nat} {R : Outcome × pm_H} {S : wS} (hP : Cs_P side cnt) (hA : wok A (Cs_d side cnt) h.1) (hD : 0 ≤ D) {n : Nat} {a : Int32 × Int32 × Int32} {b : (Int32)} (e : lp (f147_b1 side cnt S) n a = some b) (hx : ex147_1 side cnt A h D R S b) : go147_1 side cnt A h D R S a := lp_run (fun a r => y147_b1 hP hA hD a r) n a b e hx
theorem x147 {side : Int32} {cnt : Int32} {A : wK → Nat} {h : pm_H} {D : Nat} {S : wS} {r : Int32} (hP : Cs_P side cnt) (hA : wok A (Cs_d side cnt) h.1) (hD : 1 ≤ D) (e : f147 side cnt S = some r) : pm_call pm_prog D 147 [.ref (A (0, 0, 0))] (wput A (Cs_d side cnt) S h) = some (Outcome.returned (some (.int r)), (wput A (Cs_d side cnt) S h)) := by
  obtain ⟨D, rfl⟩ : ∃ D', D = D' + 1 := ⟨D - 1, by omega⟩
  have hD : 0 ≤ D := by omega
  simp only [f147] at e
  rw [c147 (Cs_c0 hP hA), b147_0]
  obtain ⟨v5, k1, e⟩ := Option.bind_eq_some_iff.mp e
  try dsimp only at e
  try simp -implicitDefEqProofs (disch := first | assumption | exact Nat.le_of_ble_eq_true rfl | decide) only [b147_0, g147_3, b147_3, g147_4, b147_4, g147_5, b147_5, g147_6, b147_6, pe_sipush, pe_istore1, pe_aload0, pe_getfield, pe_astore2, pe_aload2, pe_arraylength, pe_istore3, pe_istore4, pe_goto_w, pe_iload4, pe_iload3, pe_icmp_ge, pe_aaload, pe_astore5, pe_aload5, pe_astore6, pe_aload6, pe_istore7, pe_istore8, pe_iload8, pe_iload7, pe_baload, pe_istore9, pe_iload1, pe_iload9, pe_if_eq, pe_goto, pe_iadd, pe_iinc8, pe_iinc4, pm_prog_1, pm_ob_some, Nat.reduceDiv, Nat.reduceMod, Nat.reduceMul, Nat.reduceAdd, Int.reduceToNat, pm_kill_i, pm_kill_r, pm_kill_n, pm_kill_j, pm_kill_l, pm_kill_d, pm_cats_nil, pm_cats_i, pm_cats_r, pm_cats_n, pm_cats_l, pm_cats_d, sz_1, sz_2, sl_1, sl_2, lc_0, lc_lt, lc_le, li_ne, va_rf, wr_m1, we_m1, pm_kill_w, Int32.reduceOfInt, Int64.reduceOfInt, Int32.reduceOfNat, Int32.reduceLT, Int32.reduceLE, Prod.mk.injEq, Nat.reduceEqDiff, reduceCtorEq, and_true, true_and, and_false, false_and, and_self, ite_true, ite_false, ↓reduceIte, not_true_eq_false, not_false_eq_true, pe_ri, pe_rz, pe_rc, Cs_g0_3 hP hA, Cs_l4 hP hA, Cs_l5 hP hA, Cs_r4 hP hA, Cs_r5 hP hA, Cs_n0 hP , Cs_n1 hP , Cs_n2 hP ]
  refine z147_1 hP hA hD k1 ?_ _ _ _ _ _ _
  dsimp only [ex147_1]
  intro q0 q2 q3 q4 q5 q6 q7 q8 q9
  have e := Option.some.inj e; subst e
  simp -implicitDefEqProofs (disch := first | assumption | exact Nat.le_of_ble_eq_true rfl | decide) only [b147_0, g147_3, b147_3, g147_4, b147_4, g147_5, b147_5, g147_6, b147_6, pe_sipush, pe_istore1, pe_aload0, pe_getfield, pe_astore2, pe_aload2, pe_arraylength, pe_istore3, pe_istore4, pe_goto_w, pe_iload4, pe_iload3, pe_icmp_ge, pe_aaload, pe_astore5, pe_aload5, pe_astore6, pe_aload6, pe_istore7, pe_istore8, pe_iload8, pe_iload7, pe_baload, pe_istore9, pe_iload1, pe_iload9, pe_if_eq, pe_goto, pe_iadd, pe_iinc8, pe_iinc4, pm_prog_1, pm_ob_some, Nat.reduceDiv, Nat.reduceMod, Nat.reduceMul, Nat.reduceAdd, Int.reduceToNat, pm_kill_i, pm_kill_r, pm_kill_n, pm_kill_j, pm_kill_l, pm_kill_d, pm_cats_nil, pm_cats_i, pm_cats_r, pm_cats_n, pm_cats_l, pm_cats_d, sz_1, sz_2, sl_1, sl_2, lc_0, lc_lt, lc_le, li_ne, va_rf, wr_m1, we_m1, pm_kill_w, Int32.reduceOfInt, Int64.reduceOfInt, Int32.reduceOfNat, Int32.reduceLT, Int32.reduceLE, Prod.mk.injEq, Nat.reduceEqDiff, reduceCtorEq, and_true, true_and, and_false, false_and, and_self, ite_true, ite_false, ↓reduceIte, not_true_eq_false, not_false_eq_true, pe_ri, pe_rz, pe_rc, Cs_g0_3 hP hA, Cs_l4 hP hA, Cs_l5 hP hA, Cs_r4 hP hA, Cs_r5 hP hA, Cs_n0 hP , Cs_n1 hP , Cs_n2 hP ]
/-- TimberHouse$SawGrids.divisor(II)I -/
theorem c148 {d : Nat} {h : pm_H} {x0 : Int32} {x1 : Int32} : pm_call pm_prog (d + 1) 148 [.int x0, .int x1] h = pm_ev pm_prog (pm_call pm_prog d) 148 0 b148_0 [.int x0, .int x1, pm_junk, pm_junk, pm_junk] [] h := pm_cal (pm_rc0 rfl) rfl rfl rfl
theorem g148_1 {cl : pm_C} {ls st : List Value} {h : pm_H} : pm_go pm_prog cl 148 1 ls st h = pm_ev pm_prog cl 148 1 b148_1 ls st h := pm_go_eq pm_prog cl 148 1 ls st h
theorem g148_2 {cl : pm_C} {ls st : List Value} {h : pm_H} : pm_go pm_prog cl 148 2 ls st h = pm_ev pm_prog cl 148 2 b148_2 ls st h := pm_go_eq pm_prog cl 148 2 ls st h
noncomputable def f148_b1 : Int32 × Int32 → Option ((Int32 × Int32) ⊕ ((Int32))) := fun (x2, x3) =>
  if x3 = 0 then
    some (.inr x2)
  else
    if ¬ x3 = 0 then
      some (.inl (x3, (x2 - x2 / x3 * x3)))
    else none
/-- TimberHouse$SawGrids.divisor(II)I -/
noncomputable def f148 (x0 : Int32) (x1 : Int32) : Option (Int32) :=
  (lp (f148_b1) FU (x0, x1)).bind fun v1 =>
  some v1
def go148_1 (h : pm_H) (D : Nat) (R : Outcome × pm_H) : Int32 × Int32 → Prop := fun (x2, x3) => ∀ q0 q1 q4 : Value, pm_go pm_prog (pm_call pm_prog D) 148 1 [q0, q1, .int x2, .int x3, q4] [] h = some R
def ex148_1 (h : pm_H) (D : Nat) (R : Outcome × pm_H) : (Int32) → Prop := fun x2 => ∀ q0 q1 q3 q4 : Value, pm_go pm_prog (pm_call pm_prog D) 148 2 [q0, q1, .int x2, q3, q4] [] h = some R
theorem y148_b1 {h : pm_H} {D : Nat} {R : Outcome × pm_H} (hD : 0 ≤ D) (a : Int32 × Int32) (r : (Int32 × Int32) ⊕ ((Int32))) (e : f148_b1 a = some r) (hc : Sum.elim (go148_1 h D R) (ex148_1 h D R) r) : go148_1 h D R a := by
  obtain ⟨x2, x3⟩ := a
  dsimp only [go148_1]
  intro q0 q1 q4
  simp only [f148_b1] at e
  rw [g148_1, b148_1]
  by_cases k1 : x3 = 0
  · rw [if_pos k1] at e
    have e := Option.some.inj e; subst e
    dsimp only [Sum.elim_inr, ex148_1] at hc
    simp -implicitDefEqProofs (disch := first | assumption | exact Nat.le_of_ble_eq_true rfl | decide) only [b148_0, g148_2, b148_2, pe_iload0, pe_istore2, pe_iload1, pe_istore3, pe_goto_w, pe_iload3, pe_if_eq, pe_iload2, pe_irem, pe_istore4, pe_iload4, pe_goto, pm_prog_1, pm_ob_some, Nat.reduceDiv, Nat.reduceMod, Nat.reduceMul, Nat.reduceAdd, Int.reduceToNat, pm_kill_i, pm_kill_r, pm_kill_n, pm_kill_j, pm_kill_l, pm_kill_d, pm_cats_nil, pm_cats_i, pm_cats_r, pm_cats_n, pm_cats_l, pm_cats_d, sz_1, sz_2, sl_1, sl_2, lc_0, lc_lt, lc_le, li_ne, va_rf, wr_m1, we_m1, pm_kill_w, Int32.reduceOfInt, Int64.reduceOfInt, Int32.reduceOfNat, Int32.reduceLT, Int32.reduceLE, Prod.mk.injEq, Nat.reduceEqDiff, reduceCtorEq, and_true, true_and, and_false, false_and, and_self, ite_true, ite_false, ↓reduceIte, not_true_eq_false, not_false_eq_true, pe_ri, pe_rz, pe_rc, eq_true k1, hc]
  · rw [if_neg k1] at e
    by_cases k2 : ¬ x3 = 0
    · rw [if_pos k2] at e
      have e := Option.some.inj e; subst e
      dsimp only [Sum.elim_inl, go148_1] at hc
      simp -implicitDefEqProofs (disch := first | assumption | exact Nat.le_of_ble_eq_true rfl | decide) only [b148_0, g148_2, b148_2, pe_iload0, pe_istore2, pe_iload1, pe_istore3, pe_goto_w, pe_iload3, pe_if_eq, pe_iload2, pe_irem, pe_istore4, pe_iload4, pe_goto, pm_prog_1, pm_ob_some, Nat.reduceDiv, Nat.reduceMod, Nat.reduceMul, Nat.reduceAdd, Int.reduceToNat, pm_kill_i, pm_kill_r, pm_kill_n, pm_kill_j, pm_kill_l, pm_kill_d, pm_cats_nil, pm_cats_i, pm_cats_r, pm_cats_n, pm_cats_l, pm_cats_d, sz_1, sz_2, sl_1, sl_2, lc_0, lc_lt, lc_le, li_ne, va_rf, wr_m1, we_m1, pm_kill_w, Int32.reduceOfInt, Int64.reduceOfInt, Int32.reduceOfNat, Int32.reduceLT, Int32.reduceLE, Prod.mk.injEq, Nat.reduceEqDiff, reduceCtorEq, and_true, true_and, and_false, false_and, and_self, ite_true, ite_false, ↓reduceIte, not_true_eq_false, not_false_eq_true, pe_ri, pe_rz, pe_rc, eq_false k1, hc]
    · rw [if_neg k2] at e; cases e
theorem z148_1 {h : pm_H} {D : Nat} {R : Outcome × pm_H} (hD : 0 ≤ D) {n : Nat} {a : Int32 × Int32} {b : (Int32)} (e : lp (f148_b1) n a = some b) (hx : ex148_1 h D R b) : go148_1 h D R a := lp_run (fun a r => y148_b1 hD a r) n a b e hx
theorem x148 {h : pm_H} {D : Nat} {x0 : Int32} {x1 : Int32} {r : Int32} (hD : 1 ≤ D) (e : f148 x0 x1 = some r) : pm_call pm_prog D 148 [.int x0, .int x1] h = some (Outcome.returned (some (.int r)), h) := by
  obtain ⟨D, rfl⟩ : ∃ D', D = D' + 1 := ⟨D - 1, by omega⟩
  have hD : 0 ≤ D := by omega
  simp only [f148] at e
  rw [c148, b148_0]
  obtain ⟨v1, k1, e⟩ := Option.bind_eq_some_iff.mp e
  try dsimp only at e
  try simp -implicitDefEqProofs (disch := first | assumption | exact Nat.le_of_ble_eq_true rfl | decide) only [b148_0, g148_2, b148_2, pe_iload0, pe_istore2, pe_iload1, pe_istore3, pe_goto_w, pe_iload3, pe_if_eq, pe_iload2, pe_irem, pe_istore4, pe_iload4, pe_goto, pm_prog_1, pm_ob_some, Nat.reduceDiv, Nat.reduceMod, Nat.reduceMul, Nat.reduceAdd, Int.reduceToNat, pm_kill_i, pm_kill_r, pm_kill_n, pm_kill_j, pm_kill_l, pm_kill_d, pm_cats_nil, pm_cats_i, pm_cats_r, pm_cats_n, pm_cats_l, pm_cats_d, sz_1, sz_2, sl_1, sl_2, lc_0, lc_lt, lc_le, li_ne, va_rf, wr_m1, we_m1, pm_kill_w, Int32.reduceOfInt, Int64.reduceOfInt, Int32.reduceOfNat, Int32.reduceLT, Int32.reduceLE, Prod.mk.injEq, Nat.reduceEqDiff, reduceCtorEq, and_true, true_and, and_false, false_and, and_self, ite_true, ite_false, ↓reduceIte, not_true_eq_false, not_false_eq_true, pe_ri, pe_rz, pe_rc]
  refine z148_1 hD k1 ?_ _ _ _
  dsimp only [ex148_1]
  intro q0 q1 q3 q4
  have e := Option.some.inj e; subst e
  simp -implicitDefEqProofs (disch := first | assumption | exact Nat.le_of_ble_eq_true rfl | decide) only [b148_0, g148_2, b148_2, pe_iload0, pe_istore2, pe_iload1, pe_istore3, pe_goto_w, pe_iload3, pe_if_eq, pe_iload2, pe_irem, pe_istore4, pe_iload4, pe_goto, pm_prog_1, pm_ob_some, Nat.reduceDiv, Nat.reduceMod, Nat.reduceMul, Nat.reduceAdd, Int.reduceToNat, pm_kill_i, pm_kill_r, pm_kill_n, pm_kill_j, pm_kill_l, pm_kill_d, pm_cats_nil, pm_cats_i, pm_cats_r, pm_cats_n, pm_cats_l, pm_cats_d, sz_1, sz_2, sl_1, sl_2, lc_0, lc_lt, lc_le, li_ne, va_rf, wr_m1, we_m1, pm_kill_w, Int32.reduceOfInt, Int64.reduceOfInt, Int32.reduceOfNat, Int32.reduceLT, Int32.reduceLE, Prod.mk.injEq, Nat.reduceEqDiff, reduceCtorEq, and_true, true_and, and_false, false_and, and_self, ite_true, ite_false, ↓reduceIte, not_true_eq_false, not_false_eq_true, pe_ri, pe_rz, pe_rc]
/-- TimberHouse$SawGrids.yields(I)I -/
theorem c146 {d : Nat} {h : pm_H} {a : Nat} {x0 : Int32} (hc : pm_cls h a = some 2) : pm_call pm_prog (d + 1) 146 [.ref a, .int x0] h = pm_ev pm_prog (pm_call pm_prog d) 146 0 b146_0 [.ref a, .int x0, pm_junk, pm_junk, pm_junk] [] h := pm_cal (pm_rc1 hc rfl) rfl rfl rfl
theorem g146_1 {cl : pm_C} {ls st : List Value} {h : pm_H} : pm_go pm_prog cl 146 1 ls st h = pm_ev pm_prog cl 146 1 b146_1 ls st h := pm_go_eq pm_prog cl 146 1 ls st h
theorem g146_2 {cl : pm_C} {ls st : List Value} {h : pm_H} : pm_go pm_prog cl 146 2 ls st h = pm_ev pm_prog cl 146 2 b146_2 ls st h := pm_go_eq pm_prog cl 146 2 ls st h
theorem g146_3 {cl : pm_C} {ls st : List Value} {h : pm_H} : pm_go pm_prog cl 146 3 ls st h = pm_ev pm_prog cl 146 3 b146_3 ls st h := pm_go_eq pm_prog cl 146 3 ls st h
theorem g146_4 {cl : pm_C} {ls st : List Value} {h : pm_H} : pm_go pm_prog cl 146 4 ls st h = pm_ev pm_prog cl 146 4 b146_4 ls st h := pm_go_eq pm_prog cl 146 4 ls st h
theorem g146_5 {cl : pm_C} {ls st : List Value} {h : pm_H} : pm_go pm_prog cl 146 5 ls st h = pm_ev pm_prog cl 146 5 b146_5 ls st h := pm_go_eq pm_prog cl 146 5 ls st h
theorem t146 {cl : pm_C} {j : Nat} {ls : List Value} {c : Nat} {h : pm_H} : pm_thr pm_prog cl 146 j ls c h = some (.threw c, h) := rfl
noncomputable def f146_b1 (side : Int32) (cnt : Int32) (S : wS) : Int32 × Int32 × Int32 → Option ((Int32 × Int32 × Int32) ⊕ ((Int32 × Int32))) := fun (x1, x2, x3) =>
  if x3 < (S.1 (0, 0, 0) 13) then
    if 0 ≤ x3 ∧ x3 < (side * side) then
      if 0 ≤ (S.1 (22, x3, 0) 0) ∧ (S.1 (22, x3, 0) 0) < 8 then
        if (S.1 (22, x3, 0) 0) < cnt then
          if 0 ≤ (S.1 (22, x3, 0) 0) ∧ (S.1 (22, x3, 0) 0) < cnt then
            some (.inl (x1, (x2 + ((S.1 (9, (S.1 (22, x3, 0) 0), 0) 0) * (S.1 (9, (S.1 (22, x3, 0) 0), 0) 1))), (x3 + 1)))
          else none
        else none
      else none
    else none
  else
    some (.inr (x1, x2))
/-- TimberHouse$SawGrids.yields(I)I -/
noncomputable def f146 (side : Int32) (cnt : Int32) (S : wS) (x1 : Int32) : Option (Nat ⊕ (Int32)) :=
  (f130 (S.1 (0, 0, 0) 10)).bind fun r => match r with
  | .inl c8 =>
    some (.inl c8)
  | .inr _ =>
  (f131 x1 0 1).bind fun v1 =>
  (f132 v1).bind fun r => match r with
  | .inl c7 =>
    some (.inl c7)
  | .inr _ =>
  (lp (f146_b1 side cnt S) FU (x1, 0, 0)).bind fun (v3, v4) =>
  (f147 side cnt S).bind fun v5 =>
  if v5 = 0 then
    some (.inr v3)
  else
    (f148 v4 v5).bind fun v6 =>
    if v3 = 0 then
      if ¬ v6 = 0 then
        some (.inr (v4 / v6))
      else none
    else
      if ¬ v6 = 0 then
        some (.inr (v5 / v6))
      else none
def go146_1 (side : Int32) (cnt : Int32) (A : wK → Nat) (h : pm_H) (D : Nat) (R : Outcome × pm_H) (S : wS) : Int32 × Int32 × Int32 → Prop := fun (x1, x2, x3) => ∀ q4 : Value, pm_go pm_prog (pm_call pm_prog D) 146 1 [.ref (A (0, 0, 0)), .int x1, .int x2, .int x3, q4] [] (wput A (Cs_d side cnt) S h) = some R
def ex146_1 (side : Int32) (cnt : Int32) (A : wK → Nat) (h : pm_H) (D : Nat) (R : Outcome × pm_H) (S : wS) : (Int32 × Int32) → Prop := fun (x1, x2) => ∀ q3 q4 : Value, pm_go pm_prog (pm_call pm_prog D) 146 2 [.ref (A (0, 0, 0)), .int x1, .int x2, q3, q4] [] (wput A (Cs_d side cnt) S h) = some R
theorem y146_b1 {side : Int32} {cnt : Int32} {A : wK → Nat} {h : pm_H} {D : Nat} {R : Outcome × pm_H} {S : wS} (hP : Cs_P side cnt) (hA : wok A (Cs_d side cnt) h.1) (hD : 1 ≤ D) (a : Int32 × Int32 × Int32) (r : (Int32 × Int32 × Int32) ⊕ ((Int32 × Int32))) (e : f146_b1 side cnt S a = some r) (hc : Sum.elim (go146_1 side cnt A h D R S) (ex146_1 side cnt A h D R S) r) : go146_1 side cnt A h D R S a := by
  obtain ⟨x1, x2, x3⟩ := a
  dsimp only [go146_1]
  intro q4
  simp only [f146_b1] at e
  rw [g146_1, b146_1]
  by_cases k1 : x3 < (S.1 (0, 0, 0) 13)
  · rw [if_pos k1] at e
    by_cases k2 : 0 ≤ x3 ∧ x3 < (side * side)
    · rw [if_pos k2] at e
      by_cases k3 : 0 ≤ (S.1 (22, x3, 0) 0) ∧ (S.1 (22, x3, 0) 0) < 8
      · rw [if_pos k3] at e
        by_cases k4 : (S.1 (22, x3, 0) 0) < cnt
        · rw [if_pos k4] at e
          by_cases k5 : 0 ≤ (S.1 (22, x3, 0) 0) ∧ (S.1 (22, x3, 0) 0) < cnt
          · rw [if_pos k5] at e
            have e := Option.some.inj e; subst e
            dsimp only [Sum.elim_inl, go146_1] at hc
            simp -implicitDefEqProofs (disch := first | assumption | exact Nat.le_of_ble_eq_true rfl | decide) only [b146_0, g146_2, b146_2, g146_3, b146_3, g146_4, b146_4, g146_5, b146_5, pe_aload0, pe_getfield, pe_call1, pm_af_ret, pm_af_void, pm_af_thr, pe_iload1, pe_sipush, pe_call3, pe_istore2, pe_istore3, pe_goto_w, pe_iload3, pe_icmp_ge, pe_aaload, pe_iaload, pe_astore4, pe_iload2, pe_aload4, pe_imul, pe_iadd, pe_iinc3, pe_goto, pe_if_ne, pe_call2, pe_istore4, pe_iload4, pe_idiv, pm_prog_1, pm_ob_some, Nat.reduceDiv, Nat.reduceMod, Nat.reduceMul, Nat.reduceAdd, Int.reduceToNat, pm_kill_i, pm_kill_r, pm_kill_n, pm_kill_j, pm_kill_l, pm_kill_d, pm_cats_nil, pm_cats_i, pm_cats_r, pm_cats_n, pm_cats_l, pm_cats_d, sz_1, sz_2, sl_1, sl_2, lc_0, lc_lt, lc_le, li_ne, va_rf, wr_m1, we_m1, pm_kill_w, Int32.reduceOfInt, Int64.reduceOfInt, Int32.reduceOfNat, Int32.reduceLT, Int32.reduceLE, Prod.mk.injEq, Nat.reduceEqDiff, reduceCtorEq, and_true, true_and, and_false, false_and, and_self, ite_true, ite_false, ↓reduceIte, not_true_eq_false, not_false_eq_true, pe_ri, pe_rz, pe_rc, p_throw, t146, w_junk hA, Cs_g0_10 hP hA, Cs_g0_13 hP hA, Cs_g0_14 hP hA, Cs_g0_5 hP hA, Cs_g9_0 hP hA, Cs_g9_1 hP hA, Cs_r21 hP hA, Cs_r22 hP hA, Cs_r8 hP hA, eq_true k1, hc]
          · rw [if_neg k5] at e; cases e
        · rw [if_neg k4] at e; cases e
      · rw [if_neg k3] at e; cases e
    · rw [if_neg k2] at e; cases e
  · rw [if_neg k1] at e
    have e := Option.some.inj e; subst e
    dsimp only [Sum.elim_inr, ex146_1] at hc
    simp -implicitDefEqProofs (disch := first | assumption | exact Nat.le_of_ble_eq_true rfl | decide) only [b146_0, g146_2, b146_2, g146_3, b146_3, g146_4, b146_4, g146_5, b146_5, pe_aload0, pe_getfield, pe_call1, pm_af_ret, pm_af_void, pm_af_thr, pe_iload1, pe_sipush, pe_call3, pe_istore2, pe_istore3, pe_goto_w, pe_iload3, pe_icmp_ge, pe_aaload, pe_iaload, pe_astore4, pe_iload2, pe_aload4, pe_imul, pe_iadd, pe_iinc3, pe_goto, pe_if_ne, pe_call2, pe_istore4, pe_iload4, pe_idiv, pm_prog_1, pm_ob_some, Nat.reduceDiv, Nat.reduceMod, Nat.reduceMul, Nat.reduceAdd, Int.reduceToNat, pm_kill_i, pm_kill_r, pm_kill_n, pm_kill_j, pm_kill_l, pm_kill_d, pm_cats_nil, pm_cats_i, pm_cats_r, pm_cats_n, pm_cats_l, pm_cats_d, sz_1, sz_2, sl_1, sl_2, lc_0, lc_lt, lc_le, li_ne, va_rf, wr_m1, we_m1, pm_kill_w, Int32.reduceOfInt, Int64.reduceOfInt, Int32.reduceOfNat, Int32.reduceLT, Int32.reduceLE, Prod.mk.injEq, Nat.reduceEqDiff, reduceCtorEq, and_true, true_and, and_false, false_and, and_self, ite_true, ite_false, ↓reduceIte, not_true_eq_false, not_false_eq_true, pe_ri, pe_rz, pe_rc, p_throw, t146, w_junk hA, Cs_g0_10 hP hA, Cs_g0_13 hP hA, Cs_g0_14 hP hA, Cs_g0_5 hP hA, Cs_g9_0 hP hA, Cs_g9_1 hP hA, Cs_r21 hP hA, Cs_r22 hP hA, Cs_r8 hP hA, eq_false k1, hc]
theorem z146_1 {side : Int32} {cnt : Int32} {A : wK → Nat} {h : pm_H} {D : Nat} {R : Outcome × pm_H} {S : wS} (hP : Cs_P side cnt) (hA : wok A (Cs_d side cnt) h.1) (hD : 1 ≤ D) {n : Nat} {a : Int32 × Int32 × Int32} {b : (Int32 × Int32)} (e : lp (f146_b1 side cnt S) n a = some b) (hx : ex146_1 side cnt A h D R S b) : go146_1 side cnt A h D R S a := lp_run (fun a r => y146_b1 hP hA hD a r) n a b e hx
theorem x146 {side : Int32} {cnt : Int32} {A : wK → Nat} {h : pm_H} {D : Nat} {S : wS} {x1 : Int32} {r : Nat ⊕ (Int32)} (hP : Cs_P side cnt) (hA : wok A (Cs_d side cnt) h.1) (hD : 2 ≤ D) (e : f146 side cnt S x1 = some r) : pm_call pm_prog D 146 [.ref (A (0, 0, 0)), .int x1] (wput A (Cs_d side cnt) S h) = some (match (generalizing := false) r with | .inl c => (Outcome.threw c, (wput A (Cs_d side cnt) S (pm_new h 6 (.inr (c, []))))) | .inr w0 => (Outcome.returned (some (.int w0)), (wput A (Cs_d side cnt) S h))) := by
  obtain ⟨D, rfl⟩ : ∃ D', D = D' + 1 := ⟨D - 1, by omega⟩
  have hD : 1 ≤ D := by omega
  simp only [f146] at e
  rw [c146 (Cs_c0 hP hA), b146_0]
  obtain ⟨r, k1, e⟩ := Option.bind_eq_some_iff.mp e
  have z1 := fun h => x130 (D := D) (h := h) (by omega) k1
  rcases r with c8 | _
  · dsimp only at e z1
    have e := Option.some.inj e; subst e
    simp -implicitDefEqProofs (disch := first | assumption | exact Nat.le_of_ble_eq_true rfl | decide) only [b146_0, g146_2, b146_2, g146_3, b146_3, g146_4, b146_4, g146_5, b146_5, pe_aload0, pe_getfield, pe_call1, pm_af_ret, pm_af_void, pm_af_thr, pe_iload1, pe_sipush, pe_call3, pe_istore2, pe_istore3, pe_goto_w, pe_iload3, pe_icmp_ge, pe_aaload, pe_iaload, pe_astore4, pe_iload2, pe_aload4, pe_imul, pe_iadd, pe_iinc3, pe_goto, pe_if_ne, pe_call2, pe_istore4, pe_iload4, pe_idiv, pm_prog_1, pm_ob_some, Nat.reduceDiv, Nat.reduceMod, Nat.reduceMul, Nat.reduceAdd, Int.reduceToNat, pm_kill_i, pm_kill_r, pm_kill_n, pm_kill_j, pm_kill_l, pm_kill_d, pm_cats_nil, pm_cats_i, pm_cats_r, pm_cats_n, pm_cats_l, pm_cats_d, sz_1, sz_2, sl_1, sl_2, lc_0, lc_lt, lc_le, li_ne, va_rf, wr_m1, we_m1, pm_kill_w, Int32.reduceOfInt, Int64.reduceOfInt, Int32.reduceOfNat, Int32.reduceLT, Int32.reduceLE, Prod.mk.injEq, Nat.reduceEqDiff, reduceCtorEq, and_true, true_and, and_false, false_and, and_self, ite_true, ite_false, ↓reduceIte, not_true_eq_false, not_false_eq_true, pe_ri, pe_rz, pe_rc, p_throw, t146, w_junk hA, Cs_g0_10 hP hA, Cs_g0_13 hP hA, Cs_g0_14 hP hA, Cs_g0_5 hP hA, Cs_g9_0 hP hA, Cs_g9_1 hP hA, Cs_r21 hP hA, Cs_r22 hP hA, Cs_r8 hP hA, z1]
  · dsimp only at e z1
    obtain ⟨v1, k2, e⟩ := Option.bind_eq_some_iff.mp e
    try dsimp only at e
    have z2 := fun h => x131 (D := D) (h := h) (by omega) k2
    obtain ⟨r, k3, e⟩ := Option.bind_eq_some_iff.mp e
    have z3 := fun h => x132 (D := D) (h := h) (by omega) k3
    rcases r with c7 | _
    · dsimp only at e z3
      have e := Option.some.inj e; subst e
      simp -implicitDefEqProofs (disch := first | assumption | exact Nat.le_of_ble_eq_true rfl | decide) only [b146_0, g146_2, b146_2, g146_3, b146_3, g146_4, b146_4, g146_5, b146_5, pe_aload0, pe_getfield, pe_call1, pm_af_ret, pm_af_void, pm_af_thr, pe_iload1, pe_sipush, pe_call3, pe_istore2, pe_istore3, pe_goto_w, pe_iload3, pe_icmp_ge, pe_aaload, pe_iaload, pe_astore4, pe_iload2, pe_aload4, pe_imul, pe_iadd, pe_iinc3, pe_goto, pe_if_ne, pe_call2, pe_istore4, pe_iload4, pe_idiv, pm_prog_1, pm_ob_some, Nat.reduceDiv, Nat.reduceMod, Nat.reduceMul, Nat.reduceAdd, Int.reduceToNat, pm_kill_i, pm_kill_r, pm_kill_n, pm_kill_j, pm_kill_l, pm_kill_d, pm_cats_nil, pm_cats_i, pm_cats_r, pm_cats_n, pm_cats_l, pm_cats_d, sz_1, sz_2, sl_1, sl_2, lc_0, lc_lt, lc_le, li_ne, va_rf, wr_m1, we_m1, pm_kill_w, Int32.reduceOfInt, Int64.reduceOfInt, Int32.reduceOfNat, Int32.reduceLT, Int32.reduceLE, Prod.mk.injEq, Nat.reduceEqDiff, reduceCtorEq, and_true, true_and, and_false, false_and, and_self, ite_true, ite_false, ↓reduceIte, not_true_eq_false, not_false_eq_true, pe_ri, pe_rz, pe_rc, p_throw, t146, w_junk hA, Cs_g0_10 hP hA, Cs_g0_13 hP hA, Cs_g0_14 hP hA, Cs_g0_5 hP hA, Cs_g9_0 hP hA, Cs_g9_1 hP hA, Cs_r21 hP hA, Cs_r22 hP hA, Cs_r8 hP hA, z1, z2, z3]
    · dsimp only at e z3
      obtain ⟨⟨v3, v4⟩, k4, e⟩ := Option.bind_eq_some_iff.mp e
      try dsimp only at e
      try simp -implicitDefEqProofs (disch := first | assumption | exact Nat.le_of_ble_eq_true rfl | decide) only [b146_0, g146_2, b146_2, g146_3, b146_3, g146_4, b146_4, g146_5, b146_5, pe_aload0, pe_getfield, pe_call1, pm_af_ret, pm_af_void, pm_af_thr, pe_iload1, pe_sipush, pe_call3, pe_istore2, pe_istore3, pe_goto_w, pe_iload3, pe_icmp_ge, pe_aaload, pe_iaload, pe_astore4, pe_iload2, pe_aload4, pe_imul, pe_iadd, pe_iinc3, pe_goto, pe_if_ne, pe_call2, pe_istore4, pe_iload4, pe_idiv, pm_prog_1, pm_ob_some, Nat.reduceDiv, Nat.reduceMod, Nat.reduceMul, Nat.reduceAdd, Int.reduceToNat, pm_kill_i, pm_kill_r, pm_kill_n, pm_kill_j, pm_kill_l, pm_kill_d, pm_cats_nil, pm_cats_i, pm_cats_r, pm_cats_n, pm_cats_l, pm_cats_d, sz_1, sz_2, sl_1, sl_2, lc_0, lc_lt, lc_le, li_ne, va_rf, wr_m1, we_m1, pm_kill_w, Int32.reduceOfInt, Int64.reduceOfInt, Int32.reduceOfNat, Int32.reduceLT, Int32.reduceLE, Prod.mk.injEq, Nat.reduceEqDiff, reduceCtorEq, and_true, true_and, and_false, false_and, and_self, ite_true, ite_false, ↓reduceIte, not_true_eq_false, not_false_eq_true, pe_ri, pe_rz, pe_rc, p_throw, t146, w_junk hA, Cs_g0_10 hP hA, Cs_g0_13 hP hA, Cs_g0_14 hP hA, Cs_g0_5 hP hA, Cs_g9_0 hP hA, Cs_g9_1 hP hA, Cs_r21 hP hA, Cs_r22 hP hA, Cs_r8 hP hA, z1, z2, z3]
      refine z146_1 hP hA hD k4 ?_ _
      dsimp only [ex146_1]
      intro q3 q4
      obtain ⟨v5, k5, e⟩ := Option.bind_eq_some_iff.mp e
      try dsimp only at e
      have z5 := x147 (D := D) (h := h) hP hA (by omega) k5
      by_cases k6 : v5 = 0
      · rw [if_pos k6] at e
        have e := Option.some.inj e; subst e
        simp -implicitDefEqProofs (disch := first | assumption | exact Nat.le_of_ble_eq_true rfl | decide) only [b146_0, g146_2, b146_2, g146_3, b146_3, g146_4, b146_4, g146_5, b146_5, pe_aload0, pe_getfield, pe_call1, pm_af_ret, pm_af_void, pm_af_thr, pe_iload1, pe_sipush, pe_call3, pe_istore2, pe_istore3, pe_goto_w, pe_iload3, pe_icmp_ge, pe_aaload, pe_iaload, pe_astore4, pe_iload2, pe_aload4, pe_imul, pe_iadd, pe_iinc3, pe_goto, pe_if_ne, pe_call2, pe_istore4, pe_iload4, pe_idiv, pm_prog_1, pm_ob_some, Nat.reduceDiv, Nat.reduceMod, Nat.reduceMul, Nat.reduceAdd, Int.reduceToNat, pm_kill_i, pm_kill_r, pm_kill_n, pm_kill_j, pm_kill_l, pm_kill_d, pm_cats_nil, pm_cats_i, pm_cats_r, pm_cats_n, pm_cats_l, pm_cats_d, sz_1, sz_2, sl_1, sl_2, lc_0, lc_lt, lc_le, li_ne, va_rf, wr_m1, we_m1, pm_kill_w, Int32.reduceOfInt, Int64.reduceOfInt, Int32.reduceOfNat, Int32.reduceLT, Int32.reduceLE, Prod.mk.injEq, Nat.reduceEqDiff, reduceCtorEq, and_true, true_and, and_false, false_and, and_self, ite_true, ite_false, ↓reduceIte, not_true_eq_false, not_false_eq_true, pe_ri, pe_rz, pe_rc, p_throw, t146, w_junk hA, Cs_g0_10 hP hA, Cs_g0_13 hP hA, Cs_g0_14 hP hA, Cs_g0_5 hP hA, Cs_g9_0 hP hA, Cs_g9_1 hP hA, Cs_r21 hP hA, Cs_r22 hP hA, Cs_r8 hP hA, z1, z2, z3, z5, eq_true k6]
      · rw [if_neg k6] at e
        obtain ⟨v6, k7, e⟩ := Option.bind_eq_some_iff.mp e
        try dsimp only at e
        have z7 := fun h => x148 (D := D) (h := h) (by omega) k7
        by_cases k8 : v3 = 0
        · rw [if_pos k8] at e
          by_cases k9 : ¬ v6 = 0
          · rw [if_pos k9] at e
            have e := Option.some.inj e; subst e
            simp -implicitDefEqProofs (disch := first | assumption | exact Nat.le_of_ble_eq_true rfl | decide) only [b146_0, g146_2, b146_2, g146_3, b146_3, g146_4, b146_4, g146_5, b146_5, pe_aload0, pe_getfield, pe_call1, pm_af_ret, pm_af_void, pm_af_thr, pe_iload1, pe_sipush, pe_call3, pe_istore2, pe_istore3, pe_goto_w, pe_iload3, pe_icmp_ge, pe_aaload, pe_iaload, pe_astore4, pe_iload2, pe_aload4, pe_imul, pe_iadd, pe_iinc3, pe_goto, pe_if_ne, pe_call2, pe_istore4, pe_iload4, pe_idiv, pm_prog_1, pm_ob_some, Nat.reduceDiv, Nat.reduceMod, Nat.reduceMul, Nat.reduceAdd, Int.reduceToNat, pm_kill_i, pm_kill_r, pm_kill_n, pm_kill_j, pm_kill_l, pm_kill_d, pm_cats_nil, pm_cats_i, pm_cats_r, pm_cats_n, pm_cats_l, pm_cats_d, sz_1, sz_2, sl_1, sl_2, lc_0, lc_lt, lc_le, li_ne, va_rf, wr_m1, we_m1, pm_kill_w, Int32.reduceOfInt, Int64.reduceOfInt, Int32.reduceOfNat, Int32.reduceLT, Int32.reduceLE, Prod.mk.injEq, Nat.reduceEqDiff, reduceCtorEq, and_true, true_and, and_false, false_and, and_self, ite_true, ite_false, ↓reduceIte, not_true_eq_false, not_false_eq_true, pe_ri, pe_rz, pe_rc, p_throw, t146, w_junk hA, Cs_g0_10 hP hA, Cs_g0_13 hP hA, Cs_g0_14 hP hA, Cs_g0_5 hP hA, Cs_g9_0 hP hA, Cs_g9_1 hP hA, Cs_r21 hP hA, Cs_r22 hP hA, Cs_r8 hP hA, z1, z2, z3, z5, eq_false k6, z7, eq_true k8]
          · rw [if_neg k9] at e; cases e
        · rw [if_neg k8] at e
          by_cases k10 : ¬ v6 = 0
          · rw [if_pos k10] at e
            have e := Option.some.inj e; subst e
            simp -implicitDefEqProofs (disch := first | assumption | exact Nat.le_of_ble_eq_true rfl | decide) only [b146_0, g146_2, b146_2, g146_3, b146_3, g146_4, b146_4, g146_5, b146_5, pe_aload0, pe_getfield, pe_call1, pm_af_ret, pm_af_void, pm_af_thr, pe_iload1, pe_sipush, pe_call3, pe_istore2, pe_istore3, pe_goto_w, pe_iload3, pe_icmp_ge, pe_aaload, pe_iaload, pe_astore4, pe_iload2, pe_aload4, pe_imul, pe_iadd, pe_iinc3, pe_goto, pe_if_ne, pe_call2, pe_istore4, pe_iload4, pe_idiv, pm_prog_1, pm_ob_some, Nat.reduceDiv, Nat.reduceMod, Nat.reduceMul, Nat.reduceAdd, Int.reduceToNat, pm_kill_i, pm_kill_r, pm_kill_n, pm_kill_j, pm_kill_l, pm_kill_d, pm_cats_nil, pm_cats_i, pm_cats_r, pm_cats_n, pm_cats_l, pm_cats_d, sz_1, sz_2, sl_1, sl_2, lc_0, lc_lt, lc_le, li_ne, va_rf, wr_m1, we_m1, pm_kill_w, Int32.reduceOfInt, Int64.reduceOfInt, Int32.reduceOfNat, Int32.reduceLT, Int32.reduceLE, Prod.mk.injEq, Nat.reduceEqDiff, reduceCtorEq, and_true, true_and, and_false, false_and, and_self, ite_true, ite_false, ↓reduceIte, not_true_eq_false, not_false_eq_true, pe_ri, pe_rz, pe_rc, p_throw, t146, w_junk hA, Cs_g0_10 hP hA, Cs_g0_13 hP hA, Cs_g0_14 hP hA, Cs_g0_5 hP hA, Cs_g9_0 hP hA, Cs_g9_1 hP hA, Cs_r21 hP hA, Cs_r22 hP hA, Cs_r8 hP hA, z1, z2, z3, z5, eq_false k6, z7, eq_false k8]
          · rw [if_neg k10] at e; cases e
/-- TimberHouse$SawGrids.may(IIII)Z -/
theorem c149 {d : Nat} {h : pm_H} {a : Nat} {x0 : Int32} {x1 : Int32} {x2 : Int32} {x3 : Int32} (hc : pm_cls h a = some 2) : pm_call pm_prog (d + 1) 149 [.ref a, .int x0, .int x1, .int x2, .int x3] h = pm_ev pm_prog (pm_call pm_prog d) 149 0 b149_0 [.ref a, .int x0, .int x1, .int x2, .int x3] [] h := pm_cal (pm_rc1 hc rfl) rfl rfl rfl
theorem g149_1 {cl : pm_C} {ls st : List Value} {h : pm_H} : pm_go pm_prog cl 149 1 ls st h = pm_ev pm_prog cl 149 1 b149_1 ls st h := pm_go_eq pm_prog cl 149 1 ls st h
theorem g149_2 {cl : pm_C} {ls st : List Value} {h : pm_H} : pm_go pm_prog cl 149 2 ls st h = pm_ev pm_prog cl 149 2 b149_2 ls st h := pm_go_eq pm_prog cl 149 2 ls st h
theorem g149_3 {cl : pm_C} {ls st : List Value} {h : pm_H} : pm_go pm_prog cl 149 3 ls st h = pm_ev pm_prog cl 149 3 b149_3 ls st h := pm_go_eq pm_prog cl 149 3 ls st h
theorem g149_4 {cl : pm_C} {ls st : List Value} {h : pm_H} : pm_go pm_prog cl 149 4 ls st h = pm_ev pm_prog cl 149 4 b149_4 ls st h := pm_go_eq pm_prog cl 149 4 ls st h
theorem g149_5 {cl : pm_C} {ls st : List Value} {h : pm_H} : pm_go pm_prog cl 149 5 ls st h = pm_ev pm_prog cl 149 5 b149_5 ls st h := pm_go_eq pm_prog cl 149 5 ls st h
theorem g149_6 {cl : pm_C} {ls st : List Value} {h : pm_H} : pm_go pm_prog cl 149 6 ls st h = pm_ev pm_prog cl 149 6 b149_6 ls st h := pm_go_eq pm_prog cl 149 6 ls st h
theorem t149 {cl : pm_C} {j : Nat} {ls : List Value} {c : Nat} {h : pm_H} : pm_thr pm_prog cl 149 j ls c h = some (.threw c, h) := rfl
noncomputable def f149_2 (side : Int32) (cnt : Int32) (S : wS) (x1 : Int32) (x2 : Int32) (x3 : Int32) (x4 : Int32) (y0 : Int32) : Option ((Nat × wS) ⊕ (Int32 × wS)) :=
  (f132 y0).bind fun r => match r with
  | .inl c7 =>
    some (.inl (c7, S))
  | .inr _ =>
  (f143 side cnt S).bind fun S2 =>
  (f131 x2 0 (S2.1 (0, 0, 0) 0)).bind fun v3 =>
  if v3 = 0 then
    some (.inr (0, S2))
  else
    (f131 x3 0 (S2.1 (0, 0, 0) 0)).bind fun v4 =>
    if v4 = 0 then
      some (.inr (0, S2))
    else
      if x4 = 0 then
        if 0 ≤ x1 ∧ x1 < 8 then
          if x1 < cnt then
            if 0 ≤ x1 ∧ x1 < cnt then
              (f199 side cnt S2 0 x1 x2 x3).bind fun v5 =>
              if v5 = 0 then
                some (.inr (0, S2))
              else
                some (.inr (1, S2))
            else none
          else none
        else none
      else
        if 0 ≤ x1 ∧ x1 < 8 then
          if x1 < cnt then
            if 0 ≤ x1 ∧ x1 < cnt then
              (f199 side cnt S2 1 x1 x3 x2).bind fun v6 =>
              if v6 = 0 then
                some (.inr (0, S2))
              else
                some (.inr (1, S2))
            else none
          else none
        else none
/-- TimberHouse$SawGrids.may(IIII)Z -/
noncomputable def f149 (side : Int32) (cnt : Int32) (S : wS) (x1 : Int32) (x2 : Int32) (x3 : Int32) (x4 : Int32) : Option ((Nat × wS) ⊕ (Int32 × wS)) :=
  (f131 x1 0 ((S.1 (0, 0, 0) 6) - 1)).bind fun v1 =>
  if v1 = 0 then
    f149_2 side cnt S x1 x2 x3 x4 0
  else
    (f131 x4 0 1).bind fun v8 =>
    if v8 = 0 then
      f149_2 side cnt S x1 x2 x3 x4 0
    else
      f149_2 side cnt S x1 x2 x3 x4 1
theorem y149_2 {side : Int32} {cnt : Int32} {A : wK → Nat} {h : pm_H} {D : Nat} {S : wS} {x1 : Int32} {x2 : Int32} {x3 : Int32} {x4 : Int32} {y0 : Int32} {r : (Nat × wS) ⊕ (Int32 × wS)} (hP : Cs_P side cnt) (hA : wok A (Cs_d side cnt) h.1) (hD : 6 ≤ D) (e : f149_2 side cnt S x1 x2 x3 x4 y0 = some r) : pm_go pm_prog (pm_call pm_prog D) 149 2 [.ref (A (0, 0, 0)), .int x1, .int x2, .int x3, .int x4] [.int y0] (wput A (Cs_d side cnt) S h) = some (match (generalizing := false) r with | .inl (c, S1) => (Outcome.threw c, (wput A (Cs_d side cnt) S1 (pm_new h 6 (.inr (c, []))))) | .inr (w0, S1) => (Outcome.returned (some (.int w0)), (wput A (Cs_d side cnt) S1 h))) := by
  simp only [f149_2] at e
  rw [g149_2, b149_2]
  obtain ⟨r, k1, e⟩ := Option.bind_eq_some_iff.mp e
  have z1 := fun h => x132 (D := D) (h := h) (by omega) k1
  rcases r with c7 | _
  · dsimp only at e z1
    have e := Option.some.inj e; subst e
    simp -implicitDefEqProofs (disch := first | assumption | exact Nat.le_of_ble_eq_true rfl | decide) only [b149_0, g149_1, b149_1, g149_3, b149_3, g149_4, b149_4, g149_5, b149_5, g149_6, b149_6, pe_iload1, pe_sipush, pe_aload0, pe_getfield, pe_isub, pe_call3, pm_af_ret, pm_af_void, pm_af_thr, pe_if_eq, pe_iload4, pe_goto, pe_goto_w, pe_call1, pe_iload2, pe_iload3, pe_if_ne, pe_aaload, pe_call4, pm_prog_1, pm_ob_some, Nat.reduceDiv, Nat.reduceMod, Nat.reduceMul, Nat.reduceAdd, Int.reduceToNat, pm_kill_i, pm_kill_r, pm_kill_n, pm_kill_j, pm_kill_l, pm_kill_d, pm_cats_nil, pm_cats_i, pm_cats_r, pm_cats_n, pm_cats_l, pm_cats_d, sz_1, sz_2, sl_1, sl_2, lc_0, lc_lt, lc_le, li_ne, va_rf, wr_m1, we_m1, pm_kill_w, Int32.reduceOfInt, Int64.reduceOfInt, Int32.reduceOfNat, Int32.reduceLT, Int32.reduceLE, Prod.mk.injEq, Nat.reduceEqDiff, reduceCtorEq, and_true, true_and, and_false, false_and, and_self, ite_true, ite_false, ↓reduceIte, not_true_eq_false, not_false_eq_true, pe_ri, pe_rz, pe_rc, p_throw, t149, w_junk hA, Cs_g0_0 hP hA, Cs_g0_5 hP hA, Cs_g0_6 hP hA, Cs_g0_7 hP hA, Cs_g0_8 hP hA, Cs_r8 hP hA, z1]
  · dsimp only at e z1
    obtain ⟨S2, k2, e⟩ := Option.bind_eq_some_iff.mp e
    try dsimp only at e
    have z2 := x143 (D := D) (h := h) hP hA (by omega) k2
    obtain ⟨v3, k3, e⟩ := Option.bind_eq_some_iff.mp e
    try dsimp only at e
    have z3 := fun h => x131 (D := D) (h := h) (by omega) k3
    by_cases k4 : v3 = 0
    · rw [if_pos k4] at e
      have e := Option.some.inj e; subst e
      simp -implicitDefEqProofs (disch := first | assumption | exact Nat.le_of_ble_eq_true rfl | decide) only [b149_0, g149_1, b149_1, g149_3, b149_3, g149_4, b149_4, g149_5, b149_5, g149_6, b149_6, pe_iload1, pe_sipush, pe_aload0, pe_getfield, pe_isub, pe_call3, pm_af_ret, pm_af_void, pm_af_thr, pe_if_eq, pe_iload4, pe_goto, pe_goto_w, pe_call1, pe_iload2, pe_iload3, pe_if_ne, pe_aaload, pe_call4, pm_prog_1, pm_ob_some, Nat.reduceDiv, Nat.reduceMod, Nat.reduceMul, Nat.reduceAdd, Int.reduceToNat, pm_kill_i, pm_kill_r, pm_kill_n, pm_kill_j, pm_kill_l, pm_kill_d, pm_cats_nil, pm_cats_i, pm_cats_r, pm_cats_n, pm_cats_l, pm_cats_d, sz_1, sz_2, sl_1, sl_2, lc_0, lc_lt, lc_le, li_ne, va_rf, wr_m1, we_m1, pm_kill_w, Int32.reduceOfInt, Int64.reduceOfInt, Int32.reduceOfNat, Int32.reduceLT, Int32.reduceLE, Prod.mk.injEq, Nat.reduceEqDiff, reduceCtorEq, and_true, true_and, and_false, false_and, and_self, ite_true, ite_false, ↓reduceIte, not_true_eq_false, not_false_eq_true, pe_ri, pe_rz, pe_rc, p_throw, t149, w_junk hA, Cs_g0_0 hP hA, Cs_g0_5 hP hA, Cs_g0_6 hP hA, Cs_g0_7 hP hA, Cs_g0_8 hP hA, Cs_r8 hP hA, z1, z2, z3, eq_true k4]
    · rw [if_neg k4] at e
      obtain ⟨v4, k5, e⟩ := Option.bind_eq_some_iff.mp e
      try dsimp only at e
      have z5 := fun h => x131 (D := D) (h := h) (by omega) k5
      by_cases k6 : v4 = 0
      · rw [if_pos k6] at e
        have e := Option.some.inj e; subst e
        simp -implicitDefEqProofs (disch := first | assumption | exact Nat.le_of_ble_eq_true rfl | decide) only [b149_0, g149_1, b149_1, g149_3, b149_3, g149_4, b149_4, g149_5, b149_5, g149_6, b149_6, pe_iload1, pe_sipush, pe_aload0, pe_getfield, pe_isub, pe_call3, pm_af_ret, pm_af_void, pm_af_thr, pe_if_eq, pe_iload4, pe_goto, pe_goto_w, pe_call1, pe_iload2, pe_iload3, pe_if_ne, pe_aaload, pe_call4, pm_prog_1, pm_ob_some, Nat.reduceDiv, Nat.reduceMod, Nat.reduceMul, Nat.reduceAdd, Int.reduceToNat, pm_kill_i, pm_kill_r, pm_kill_n, pm_kill_j, pm_kill_l, pm_kill_d, pm_cats_nil, pm_cats_i, pm_cats_r, pm_cats_n, pm_cats_l, pm_cats_d, sz_1, sz_2, sl_1, sl_2, lc_0, lc_lt, lc_le, li_ne, va_rf, wr_m1, we_m1, pm_kill_w, Int32.reduceOfInt, Int64.reduceOfInt, Int32.reduceOfNat, Int32.reduceLT, Int32.reduceLE, Prod.mk.injEq, Nat.reduceEqDiff, reduceCtorEq, and_true, true_and, and_false, false_and, and_self, ite_true, ite_false, ↓reduceIte, not_true_eq_false, not_false_eq_true, pe_ri, pe_rz, pe_rc, p_throw, t149, w_junk hA, Cs_g0_0 hP hA, Cs_g0_5 hP hA, Cs_g0_6 hP hA, Cs_g0_7 hP hA, Cs_g0_8 hP hA, Cs_r8 hP hA, z1, z2, z3, eq_false k4, z5, eq_true k6]
      · rw [if_neg k6] at e
        by_cases k7 : x4 = 0
        · rw [if_pos k7] at e
          by_cases k8 : 0 ≤ x1 ∧ x1 < 8
          · rw [if_pos k8] at e
            by_cases k9 : x1 < cnt
            · rw [if_pos k9] at e
              by_cases k10 : 0 ≤ x1 ∧ x1 < cnt
              · rw [if_pos k10] at e
                obtain ⟨v5, k11, e⟩ := Option.bind_eq_some_iff.mp e
                try dsimp only at e
                have z11 := x199 (D := D) (h := h) hP hA (by omega) k11
                by_cases k12 : v5 = 0
                · rw [if_pos k12] at e
                  have e := Option.some.inj e; subst e
                  simp -implicitDefEqProofs (disch := first | assumption | exact Nat.le_of_ble_eq_true rfl | decide) only [b149_0, g149_1, b149_1, g149_3, b149_3, g149_4, b149_4, g149_5, b149_5, g149_6, b149_6, pe_iload1, pe_sipush, pe_aload0, pe_getfield, pe_isub, pe_call3, pm_af_ret, pm_af_void, pm_af_thr, pe_if_eq, pe_iload4, pe_goto, pe_goto_w, pe_call1, pe_iload2, pe_iload3, pe_if_ne, pe_aaload, pe_call4, pm_prog_1, pm_ob_some, Nat.reduceDiv, Nat.reduceMod, Nat.reduceMul, Nat.reduceAdd, Int.reduceToNat, pm_kill_i, pm_kill_r, pm_kill_n, pm_kill_j, pm_kill_l, pm_kill_d, pm_cats_nil, pm_cats_i, pm_cats_r, pm_cats_n, pm_cats_l, pm_cats_d, sz_1, sz_2, sl_1, sl_2, lc_0, lc_lt, lc_le, li_ne, va_rf, wr_m1, we_m1, pm_kill_w, Int32.reduceOfInt, Int64.reduceOfInt, Int32.reduceOfNat, Int32.reduceLT, Int32.reduceLE, Prod.mk.injEq, Nat.reduceEqDiff, reduceCtorEq, and_true, true_and, and_false, false_and, and_self, ite_true, ite_false, ↓reduceIte, not_true_eq_false, not_false_eq_true, pe_ri, pe_rz, pe_rc, p_throw, t149, w_junk hA, Cs_g0_0 hP hA, Cs_g0_5 hP hA, Cs_g0_6 hP hA, Cs_g0_7 hP hA, Cs_g0_8 hP hA, Cs_r8 hP hA, z1, z2, z3, eq_false k4, z5, eq_false k6, eq_true k7, z11, eq_true k12]
                · rw [if_neg k12] at e
                  have e := Option.some.inj e; subst e
                  simp -implicitDefEqProofs (disch := first | assumption | exact Nat.le_of_ble_eq_true rfl | decide) only [b149_0, g149_1, b149_1, g149_3, b149_3, g149_4, b149_4, g149_5, b149_5, g149_6, b149_6, pe_iload1, pe_sipush, pe_aload0, pe_getfield, pe_isub, pe_call3, pm_af_ret, pm_af_void, pm_af_thr, pe_if_eq, pe_iload4, pe_goto, pe_goto_w, pe_call1, pe_iload2, pe_iload3, pe_if_ne, pe_aaload, pe_call4, pm_prog_1, pm_ob_some, Nat.reduceDiv, Nat.reduceMod, Nat.reduceMul, Nat.reduceAdd, Int.reduceToNat, pm_kill_i, pm_kill_r, pm_kill_n, pm_kill_j, pm_kill_l, pm_kill_d, pm_cats_nil, pm_cats_i, pm_cats_r, pm_cats_n, pm_cats_l, pm_cats_d, sz_1, sz_2, sl_1, sl_2, lc_0, lc_lt, lc_le, li_ne, va_rf, wr_m1, we_m1, pm_kill_w, Int32.reduceOfInt, Int64.reduceOfInt, Int32.reduceOfNat, Int32.reduceLT, Int32.reduceLE, Prod.mk.injEq, Nat.reduceEqDiff, reduceCtorEq, and_true, true_and, and_false, false_and, and_self, ite_true, ite_false, ↓reduceIte, not_true_eq_false, not_false_eq_true, pe_ri, pe_rz, pe_rc, p_throw, t149, w_junk hA, Cs_g0_0 hP hA, Cs_g0_5 hP hA, Cs_g0_6 hP hA, Cs_g0_7 hP hA, Cs_g0_8 hP hA, Cs_r8 hP hA, z1, z2, z3, eq_false k4, z5, eq_false k6, eq_true k7, z11, eq_false k12]
              · rw [if_neg k10] at e; cases e
            · rw [if_neg k9] at e; cases e
          · rw [if_neg k8] at e; cases e
        · rw [if_neg k7] at e
          by_cases k13 : 0 ≤ x1 ∧ x1 < 8
          · rw [if_pos k13] at e
            by_cases k14 : x1 < cnt
            · rw [if_pos k14] at e
              by_cases k15 : 0 ≤ x1 ∧ x1 < cnt
              · rw [if_pos k15] at e
                obtain ⟨v6, k16, e⟩ := Option.bind_eq_some_iff.mp e
                try dsimp only at e
                have z16 := x199 (D := D) (h := h) hP hA (by omega) k16
                by_cases k17 : v6 = 0
                · rw [if_pos k17] at e
                  have e := Option.some.inj e; subst e
                  simp -implicitDefEqProofs (disch := first | assumption | exact Nat.le_of_ble_eq_true rfl | decide) only [b149_0, g149_1, b149_1, g149_3, b149_3, g149_4, b149_4, g149_5, b149_5, g149_6, b149_6, pe_iload1, pe_sipush, pe_aload0, pe_getfield, pe_isub, pe_call3, pm_af_ret, pm_af_void, pm_af_thr, pe_if_eq, pe_iload4, pe_goto, pe_goto_w, pe_call1, pe_iload2, pe_iload3, pe_if_ne, pe_aaload, pe_call4, pm_prog_1, pm_ob_some, Nat.reduceDiv, Nat.reduceMod, Nat.reduceMul, Nat.reduceAdd, Int.reduceToNat, pm_kill_i, pm_kill_r, pm_kill_n, pm_kill_j, pm_kill_l, pm_kill_d, pm_cats_nil, pm_cats_i, pm_cats_r, pm_cats_n, pm_cats_l, pm_cats_d, sz_1, sz_2, sl_1, sl_2, lc_0, lc_lt, lc_le, li_ne, va_rf, wr_m1, we_m1, pm_kill_w, Int32.reduceOfInt, Int64.reduceOfInt, Int32.reduceOfNat, Int32.reduceLT, Int32.reduceLE, Prod.mk.injEq, Nat.reduceEqDiff, reduceCtorEq, and_true, true_and, and_false, false_and, and_self, ite_true, ite_false, ↓reduceIte, not_true_eq_false, not_false_eq_true, pe_ri, pe_rz, pe_rc, p_throw, t149, w_junk hA, Cs_g0_0 hP hA, Cs_g0_5 hP hA, Cs_g0_6 hP hA, Cs_g0_7 hP hA, Cs_g0_8 hP hA, Cs_r8 hP hA, z1, z2, z3, eq_false k4, z5, eq_false k6, eq_false k7, z16, eq_true k17]
                · rw [if_neg k17] at e
                  have e := Option.some.inj e; subst e
                  simp -implicitDefEqProofs (disch := first | assumption | exact Nat.le_of_ble_eq_true rfl | decide) only [b149_0, g149_1, b149_1, g149_3, b149_3, g149_4, b149_4, g149_5, b149_5, g149_6, b149_6, pe_iload1, pe_sipush, pe_aload0, pe_getfield, pe_isub, pe_call3, pm_af_ret, pm_af_void, pm_af_thr, pe_if_eq, pe_iload4, pe_goto, pe_goto_w, pe_call1, pe_iload2, pe_iload3, pe_if_ne, pe_aaload, pe_call4, pm_prog_1, pm_ob_some, Nat.reduceDiv, Nat.reduceMod, Nat.reduceMul, Nat.reduceAdd, Int.reduceToNat, pm_kill_i, pm_kill_r, pm_kill_n, pm_kill_j, pm_kill_l, pm_kill_d, pm_cats_nil, pm_cats_i, pm_cats_r, pm_cats_n, pm_cats_l, pm_cats_d, sz_1, sz_2, sl_1, sl_2, lc_0, lc_lt, lc_le, li_ne, va_rf, wr_m1, we_m1, pm_kill_w, Int32.reduceOfInt, Int64.reduceOfInt, Int32.reduceOfNat, Int32.reduceLT, Int32.reduceLE, Prod.mk.injEq, Nat.reduceEqDiff, reduceCtorEq, and_true, true_and, and_false, false_and, and_self, ite_true, ite_false, ↓reduceIte, not_true_eq_false, not_false_eq_true, pe_ri, pe_rz, pe_rc, p_throw, t149, w_junk hA, Cs_g0_0 hP hA, Cs_g0_5 hP hA, Cs_g0_6 hP hA, Cs_g0_7 hP hA, Cs_g0_8 hP hA, Cs_r8 hP hA, z1, z2, z3, eq_false k4, z5, eq_false k6, eq_false k7, z16, eq_false k17]
              · rw [if_neg k15] at e; cases e
            · rw [if_neg k14] at e; cases e
          · rw [if_neg k13] at e; cases e
theorem x149 {side : Int32} {cnt : Int32} {A : wK → Nat} {h : pm_H} {D : Nat} {S : wS} {x1 : Int32} {x2 : Int32} {x3 : Int32} {x4 : Int32} {r : (Nat × wS) ⊕ (Int32 × wS)} (hP : Cs_P side cnt) (hA : wok A (Cs_d side cnt) h.1) (hD : 7 ≤ D) (e : f149 side cnt S x1 x2 x3 x4 = some r) : pm_call pm_prog D 149 [.ref (A (0, 0, 0)), .int x1, .int x2, .int x3, .int x4] (wput A (Cs_d side cnt) S h) = some (match (generalizing := false) r with | .inl (c, S1) => (Outcome.threw c, (wput A (Cs_d side cnt) S1 (pm_new h 6 (.inr (c, []))))) | .inr (w0, S1) => (Outcome.returned (some (.int w0)), (wput A (Cs_d side cnt) S1 h))) := by
  obtain ⟨D, rfl⟩ : ∃ D', D = D' + 1 := ⟨D - 1, by omega⟩
  have hD : 6 ≤ D := by omega
  simp only [f149] at e
  rw [c149 (Cs_c0 hP hA), b149_0]
  obtain ⟨v1, k1, e⟩ := Option.bind_eq_some_iff.mp e
  try dsimp only at e
  have z1 := fun h => x131 (D := D) (h := h) (by omega) k1
  by_cases k2 : v1 = 0
  · rw [if_pos k2] at e
    have k3 := y149_2 (h := h) hP hA hD e
    simp -implicitDefEqProofs (disch := first | assumption | exact Nat.le_of_ble_eq_true rfl | decide) only [b149_0, g149_1, b149_1, g149_3, b149_3, g149_4, b149_4, g149_5, b149_5, g149_6, b149_6, pe_iload1, pe_sipush, pe_aload0, pe_getfield, pe_isub, pe_call3, pm_af_ret, pm_af_void, pm_af_thr, pe_if_eq, pe_iload4, pe_goto, pe_goto_w, pe_call1, pe_iload2, pe_iload3, pe_if_ne, pe_aaload, pe_call4, pm_prog_1, pm_ob_some, Nat.reduceDiv, Nat.reduceMod, Nat.reduceMul, Nat.reduceAdd, Int.reduceToNat, pm_kill_i, pm_kill_r, pm_kill_n, pm_kill_j, pm_kill_l, pm_kill_d, pm_cats_nil, pm_cats_i, pm_cats_r, pm_cats_n, pm_cats_l, pm_cats_d, sz_1, sz_2, sl_1, sl_2, lc_0, lc_lt, lc_le, li_ne, va_rf, wr_m1, we_m1, pm_kill_w, Int32.reduceOfInt, Int64.reduceOfInt, Int32.reduceOfNat, Int32.reduceLT, Int32.reduceLE, Prod.mk.injEq, Nat.reduceEqDiff, reduceCtorEq, and_true, true_and, and_false, false_and, and_self, ite_true, ite_false, ↓reduceIte, not_true_eq_false, not_false_eq_true, pe_ri, pe_rz, pe_rc, p_throw, t149, w_junk hA, Cs_g0_0 hP hA, Cs_g0_5 hP hA, Cs_g0_6 hP hA, Cs_g0_7 hP hA, Cs_g0_8 hP hA, Cs_r8 hP hA, z1, eq_true k2, k3]
  · rw [if_neg k2] at e
    obtain ⟨v8, k4, e⟩ := Option.bind_eq_some_iff.mp e
    try dsimp only at e
    have z4 := fun h => x131 (D := D) (h := h) (by omega) k4
    by_cases k5 : v8 = 0
    · rw [if_pos k5] at e
      have k6 := y149_2 (h := h) hP hA hD e
      simp -implicitDefEqProofs (disch := first | assumption | exact Nat.le_of_ble_eq_true rfl | decide) only [b149_0, g149_1, b149_1, g149_3, b149_3, g149_4, b149_4, g149_5, b149_5, g149_6, b149_6, pe_iload1, pe_sipush, pe_aload0, pe_getfield, pe_isub, pe_call3, pm_af_ret, pm_af_void, pm_af_thr, pe_if_eq, pe_iload4, pe_goto, pe_goto_w, pe_call1, pe_iload2, pe_iload3, pe_if_ne, pe_aaload, pe_call4, pm_prog_1, pm_ob_some, Nat.reduceDiv, Nat.reduceMod, Nat.reduceMul, Nat.reduceAdd, Int.reduceToNat, pm_kill_i, pm_kill_r, pm_kill_n, pm_kill_j, pm_kill_l, pm_kill_d, pm_cats_nil, pm_cats_i, pm_cats_r, pm_cats_n, pm_cats_l, pm_cats_d, sz_1, sz_2, sl_1, sl_2, lc_0, lc_lt, lc_le, li_ne, va_rf, wr_m1, we_m1, pm_kill_w, Int32.reduceOfInt, Int64.reduceOfInt, Int32.reduceOfNat, Int32.reduceLT, Int32.reduceLE, Prod.mk.injEq, Nat.reduceEqDiff, reduceCtorEq, and_true, true_and, and_false, false_and, and_self, ite_true, ite_false, ↓reduceIte, not_true_eq_false, not_false_eq_true, pe_ri, pe_rz, pe_rc, p_throw, t149, w_junk hA, Cs_g0_0 hP hA, Cs_g0_5 hP hA, Cs_g0_6 hP hA, Cs_g0_7 hP hA, Cs_g0_8 hP hA, Cs_r8 hP hA, z1, eq_false k2, z4, eq_true k5, k6]
    · rw [if_neg k5] at e
      have k7 := y149_2 (h := h) hP hA hD e
      simp -implicitDefEqProofs (disch := first | assumption | exact Nat.le_of_ble_eq_true rfl | decide) only [b149_0, g149_1, b149_1, g149_3, b149_3, g149_4, b149_4, g149_5, b149_5, g149_6, b149_6, pe_iload1, pe_sipush, pe_aload0, pe_getfield, pe_isub, pe_call3, pm_af_ret, pm_af_void, pm_af_thr, pe_if_eq, pe_iload4, pe_goto, pe_goto_w, pe_call1, pe_iload2, pe_iload3, pe_if_ne, pe_aaload, pe_call4, pm_prog_1, pm_ob_some, Nat.reduceDiv, Nat.reduceMod, Nat.reduceMul, Nat.reduceAdd, Int.reduceToNat, pm_kill_i, pm_kill_r, pm_kill_n, pm_kill_j, pm_kill_l, pm_kill_d, pm_cats_nil, pm_cats_i, pm_cats_r, pm_cats_n, pm_cats_l, pm_cats_d, sz_1, sz_2, sl_1, sl_2, lc_0, lc_lt, lc_le, li_ne, va_rf, wr_m1, we_m1, pm_kill_w, Int32.reduceOfInt, Int64.reduceOfInt, Int32.reduceOfNat, Int32.reduceLT, Int32.reduceLE, Prod.mk.injEq, Nat.reduceEqDiff, reduceCtorEq, and_true, true_and, and_false, false_and, and_self, ite_true, ite_false, ↓reduceIte, not_true_eq_false, not_false_eq_true, pe_ri, pe_rz, pe_rc, p_throw, t149, w_junk hA, Cs_g0_0 hP hA, Cs_g0_5 hP hA, Cs_g0_6 hP hA, Cs_g0_7 hP hA, Cs_g0_8 hP hA, Cs_r8 hP hA, z1, eq_false k2, z4, eq_false k5, k7]
/-- TimberHouse$SawGrids.apart(II)Z -/
theorem c150 {d : Nat} {h : pm_H} {a : Nat} {x0 : Int32} {x1 : Int32} (hc : pm_cls h a = some 2) : pm_call pm_prog (d + 1) 150 [.ref a, .int x0, .int x1] h = pm_ev pm_prog (pm_call pm_prog d) 150 0 b150_0 [.ref a, .int x0, .int x1, pm_junk, pm_junk, pm_junk, pm_junk] [] h := pm_cal (pm_rc1 hc rfl) rfl rfl rfl
theorem g150_1 {cl : pm_C} {ls st : List Value} {h : pm_H} : pm_go pm_prog cl 150 1 ls st h = pm_ev pm_prog cl 150 1 b150_1 ls st h := pm_go_eq pm_prog cl 150 1 ls st h
theorem g150_2 {cl : pm_C} {ls st : List Value} {h : pm_H} : pm_go pm_prog cl 150 2 ls st h = pm_ev pm_prog cl 150 2 b150_2 ls st h := pm_go_eq pm_prog cl 150 2 ls st h
theorem g150_3 {cl : pm_C} {ls st : List Value} {h : pm_H} : pm_go pm_prog cl 150 3 ls st h = pm_ev pm_prog cl 150 3 b150_3 ls st h := pm_go_eq pm_prog cl 150 3 ls st h
theorem g150_4 {cl : pm_C} {ls st : List Value} {h : pm_H} : pm_go pm_prog cl 150 4 ls st h = pm_ev pm_prog cl 150 4 b150_4 ls st h := pm_go_eq pm_prog cl 150 4 ls st h
theorem g150_5 {cl : pm_C} {ls st : List Value} {h : pm_H} : pm_go pm_prog cl 150 5 ls st h = pm_ev pm_prog cl 150 5 b150_5 ls st h := pm_go_eq pm_prog cl 150 5 ls st h
theorem g150_6 {cl : pm_C} {ls st : List Value} {h : pm_H} : pm_go pm_prog cl 150 6 ls st h = pm_ev pm_prog cl 150 6 b150_6 ls st h := pm_go_eq pm_prog cl 150 6 ls st h
theorem g150_7 {cl : pm_C} {ls st : List Value} {h : pm_H} : pm_go pm_prog cl 150 7 ls st h = pm_ev pm_prog cl 150 7 b150_7 ls st h := pm_go_eq pm_prog cl 150 7 ls st h
theorem g150_8 {cl : pm_C} {ls st : List Value} {h : pm_H} : pm_go pm_prog cl 150 8 ls st h = pm_ev pm_prog cl 150 8 b150_8 ls st h := pm_go_eq pm_prog cl 150 8 ls st h
theorem g150_9 {cl : pm_C} {ls st : List Value} {h : pm_H} : pm_go pm_prog cl 150 9 ls st h = pm_ev pm_prog cl 150 9 b150_9 ls st h := pm_go_eq pm_prog cl 150 9 ls st h
theorem g150_10 {cl : pm_C} {ls st : List Value} {h : pm_H} : pm_go pm_prog cl 150 10 ls st h = pm_ev pm_prog cl 150 10 b150_10 ls st h := pm_go_eq pm_prog cl 150 10 ls st h
theorem g150_11 {cl : pm_C} {ls st : List Value} {h : pm_H} : pm_go pm_prog cl 150 11 ls st h = pm_ev pm_prog cl 150 11 b150_11 ls st h := pm_go_eq pm_prog cl 150 11 ls st h
theorem t150 {cl : pm_C} {j : Nat} {ls : List Value} {c : Nat} {h : pm_H} : pm_thr pm_prog cl 150 j ls c h = some (.threw c, h) := rfl
noncomputable def f150_8 (side : Int32) (cnt : Int32) (S : wS) (x5 : Int32) (y0 : Int32) : Option (Nat ⊕ (Int32)) :=
  if x5 = 0 then
    if y0 = 0 then
      some (.inr 0)
    else
      some (.inr 1)
  else
    some (.inr 1)
noncomputable def f150_5 (side : Int32) (cnt : Int32) (S : wS) (x3i : Int32) (x4i : Int32) (y0 : Int32) : Option (Nat ⊕ (Int32)) :=
  if 0 ≤ x3i ∧ x3i < (side * side) then
    if 0 ≤ x4i ∧ x4i < (side * side) then
      if 0 ≤ (S.1 (22, x3i, 0) 0) ∧ (S.1 (22, x3i, 0) 0) < 8 then
        if (S.1 (22, x3i, 0) 0) < cnt then
          if 0 ≤ (S.1 (22, x3i, 0) 0) ∧ (S.1 (22, x3i, 0) 0) < cnt then
            if (((S.1 (22, x3i, 0) 2) + (S.1 (9, (S.1 (22, x3i, 0) 0), 0) 0)) + (S.1 (0, 0, 0) 1)) ≤ (S.1 (22, x4i, 0) 2) then
              f150_8 side cnt S y0 1
            else
              if 0 ≤ (S.1 (22, x4i, 0) 0) ∧ (S.1 (22, x4i, 0) 0) < 8 then
                if (S.1 (22, x4i, 0) 0) < cnt then
                  if 0 ≤ (S.1 (22, x4i, 0) 0) ∧ (S.1 (22, x4i, 0) 0) < cnt then
                    if (((S.1 (22, x4i, 0) 2) + (S.1 (9, (S.1 (22, x4i, 0) 0), 0) 0)) + (S.1 (0, 0, 0) 1)) ≤ (S.1 (22, x3i, 0) 2) then
                      f150_8 side cnt S y0 1
                    else
                      f150_8 side cnt S y0 0
                  else none
                else none
              else none
          else none
        else none
      else none
    else none
  else none
noncomputable def f150_2 (side : Int32) (cnt : Int32) (S : wS) (x1 : Int32) (x2 : Int32) (y0 : Int32) : Option (Nat ⊕ (Int32)) :=
  (f132 y0).bind fun r => match r with
  | .inl c2 =>
    some (.inl c2)
  | .inr _ =>
  if 0 ≤ x1 ∧ x1 < (side * side) then
    if 0 ≤ x2 ∧ x2 < (side * side) then
      if 0 ≤ (S.1 (22, x1, 0) 0) ∧ (S.1 (22, x1, 0) 0) < 8 then
        if (S.1 (22, x1, 0) 0) < cnt then
          if 0 ≤ (S.1 (22, x1, 0) 0) ∧ (S.1 (22, x1, 0) 0) < cnt then
            if (((S.1 (22, x1, 0) 1) + (S.1 (9, (S.1 (22, x1, 0) 0), 0) 1)) + (S.1 (0, 0, 0) 1)) ≤ (S.1 (22, x2, 0) 1) then
              f150_5 side cnt S x1 x2 1
            else
              if 0 ≤ (S.1 (22, x2, 0) 0) ∧ (S.1 (22, x2, 0) 0) < 8 then
                if (S.1 (22, x2, 0) 0) < cnt then
                  if 0 ≤ (S.1 (22, x2, 0) 0) ∧ (S.1 (22, x2, 0) 0) < cnt then
                    if (((S.1 (22, x2, 0) 1) + (S.1 (9, (S.1 (22, x2, 0) 0), 0) 1)) + (S.1 (0, 0, 0) 1)) ≤ (S.1 (22, x1, 0) 1) then
                      f150_5 side cnt S x1 x2 1
                    else
                      f150_5 side cnt S x1 x2 0
                  else none
                else none
              else none
          else none
        else none
      else none
    else none
  else none
/-- TimberHouse$SawGrids.apart(II)Z -/
noncomputable def f150 (side : Int32) (cnt : Int32) (S : wS) (x1 : Int32) (x2 : Int32) : Option (Nat ⊕ (Int32)) :=
  (f130 (S.1 (0, 0, 0) 10)).bind fun r => match r with
  | .inl c4 =>
    some (.inl c4)
  | .inr _ =>
  (f131 x1 0 ((S.1 (0, 0, 0) 13) - 1)).bind fun v1 =>
  if v1 = 0 then
    f150_2 side cnt S x1 x2 0
  else
    (f131 x2 0 ((S.1 (0, 0, 0) 13) - 1)).bind fun v3 =>
    if v3 = 0 then
      f150_2 side cnt S x1 x2 0
    else
      f150_2 side cnt S x1 x2 1
theorem y150_8 {side : Int32} {cnt : Int32} {A : wK → Nat} {h : pm_H} {D : Nat} {S : wS} {x5 : Int32} {y0 : Int32} {r : Nat ⊕ (Int32)} (hP : Cs_P side cnt) (hA : wok A (Cs_d side cnt) h.1) (hD : 1 ≤ D) (e : f150_8 side cnt S x5 y0 = some r) : ∀ q0 q1 q2 q3 q4 q6 : Value, pm_go pm_prog (pm_call pm_prog D) 150 8 [q0, q1, q2, q3, q4, .int x5, q6] [.int y0] (wput A (Cs_d side cnt) S h) = some (match (generalizing := false) r with | .inl c => (Outcome.threw c, (wput A (Cs_d side cnt) S (pm_new h 6 (.inr (c, []))))) | .inr w0 => (Outcome.returned (some (.int w0)), (wput A (Cs_d side cnt) S h))) := by
  intro q0 q1 q2 q3 q4 q6
  simp only [f150_8] at e
  rw [g150_8, b150_8]
  by_cases k1 : x5 = 0
  · rw [if_pos k1] at e
    by_cases k2 : y0 = 0
    · rw [if_pos k2] at e
      have e := Option.some.inj e; subst e
      simp -implicitDefEqProofs (disch := first | assumption | exact Nat.le_of_ble_eq_true rfl | decide) only [b150_0, g150_1, b150_1, g150_3, b150_3, g150_4, b150_4, g150_6, b150_6, g150_7, b150_7, g150_9, b150_9, g150_10, b150_10, g150_11, b150_11, pe_aload0, pe_getfield, pe_call1, pm_af_ret, pm_af_void, pm_af_thr, pe_iload1, pe_sipush, pe_isub, pe_call3, pe_if_eq, pe_iload2, pe_goto, pe_goto_w, pe_aaload, pe_astore3, pe_astore4, pe_aload3, pe_iaload, pe_iadd, pe_aload4, pe_icmp_le, pe_icmp_gt, pe_istore5, pe_istore6, pe_iload5, pe_if_ne, pe_iload6, pm_prog_1, pm_ob_some, Nat.reduceDiv, Nat.reduceMod, Nat.reduceMul, Nat.reduceAdd, Int.reduceToNat, pm_kill_i, pm_kill_r, pm_kill_n, pm_kill_j, pm_kill_l, pm_kill_d, pm_cats_nil, pm_cats_i, pm_cats_r, pm_cats_n, pm_cats_l, pm_cats_d, sz_1, sz_2, sl_1, sl_2, lc_0, lc_lt, lc_le, li_ne, va_rf, wr_m1, we_m1, pm_kill_w, Int32.reduceOfInt, Int64.reduceOfInt, Int32.reduceOfNat, Int32.reduceLT, Int32.reduceLE, Prod.mk.injEq, Nat.reduceEqDiff, reduceCtorEq, and_true, true_and, and_false, false_and, and_self, ite_true, ite_false, ↓reduceIte, not_true_eq_false, not_false_eq_true, pe_ri, pe_rz, pe_rc, p_throw, t150, w_junk hA, Cs_g0_1 hP hA, Cs_g0_10 hP hA, Cs_g0_13 hP hA, Cs_g0_14 hP hA, Cs_g0_5 hP hA, Cs_g9_0 hP hA, Cs_g9_1 hP hA, Cs_r21 hP hA, Cs_r22 hP hA, Cs_r8 hP hA, eq_true k1, eq_true k2]
    · rw [if_neg k2] at e
      have e := Option.some.inj e; subst e
      simp -implicitDefEqProofs (disch := first | assumption | exact Nat.le_of_ble_eq_true rfl | decide) only [b150_0, g150_1, b150_1, g150_3, b150_3, g150_4, b150_4, g150_6, b150_6, g150_7, b150_7, g150_9, b150_9, g150_10, b150_10, g150_11, b150_11, pe_aload0, pe_getfield, pe_call1, pm_af_ret, pm_af_void, pm_af_thr, pe_iload1, pe_sipush, pe_isub, pe_call3, pe_if_eq, pe_iload2, pe_goto, pe_goto_w, pe_aaload, pe_astore3, pe_astore4, pe_aload3, pe_iaload, pe_iadd, pe_aload4, pe_icmp_le, pe_icmp_gt, pe_istore5, pe_istore6, pe_iload5, pe_if_ne, pe_iload6, pm_prog_1, pm_ob_some, Nat.reduceDiv, Nat.reduceMod, Nat.reduceMul, Nat.reduceAdd, Int.reduceToNat, pm_kill_i, pm_kill_r, pm_kill_n, pm_kill_j, pm_kill_l, pm_kill_d, pm_cats_nil, pm_cats_i, pm_cats_r, pm_cats_n, pm_cats_l, pm_cats_d, sz_1, sz_2, sl_1, sl_2, lc_0, lc_lt, lc_le, li_ne, va_rf, wr_m1, we_m1, pm_kill_w, Int32.reduceOfInt, Int64.reduceOfInt, Int32.reduceOfNat, Int32.reduceLT, Int32.reduceLE, Prod.mk.injEq, Nat.reduceEqDiff, reduceCtorEq, and_true, true_and, and_false, false_and, and_self, ite_true, ite_false, ↓reduceIte, not_true_eq_false, not_false_eq_true, pe_ri, pe_rz, pe_rc, p_throw, t150, w_junk hA, Cs_g0_1 hP hA, Cs_g0_10 hP hA, Cs_g0_13 hP hA, Cs_g0_14 hP hA, Cs_g0_5 hP hA, Cs_g9_0 hP hA, Cs_g9_1 hP hA, Cs_r21 hP hA, Cs_r22 hP hA, Cs_r8 hP hA, eq_true k1, eq_false k2]
  · rw [if_neg k1] at e
    have e := Option.some.inj e; subst e
    simp -implicitDefEqProofs (disch := first | assumption | exact Nat.le_of_ble_eq_true rfl | decide) only [b150_0, g150_1, b150_1, g150_3, b150_3, g150_4, b150_4, g150_6, b150_6, g150_7, b150_7, g150_9, b150_9, g150_10, b150_10, g150_11, b150_11, pe_aload0, pe_getfield, pe_call1, pm_af_ret, pm_af_void, pm_af_thr, pe_iload1, pe_sipush, pe_isub, pe_call3, pe_if_eq, pe_iload2, pe_goto, pe_goto_w, pe_aaload, pe_astore3, pe_astore4, pe_aload3, pe_iaload, pe_iadd, pe_aload4, pe_icmp_le, pe_icmp_gt, pe_istore5, pe_istore6, pe_iload5, pe_if_ne, pe_iload6, pm_prog_1, pm_ob_some, Nat.reduceDiv, Nat.reduceMod, Nat.reduceMul, Nat.reduceAdd, Int.reduceToNat, pm_kill_i, pm_kill_r, pm_kill_n, pm_kill_j, pm_kill_l, pm_kill_d, pm_cats_nil, pm_cats_i, pm_cats_r, pm_cats_n, pm_cats_l, pm_cats_d, sz_1, sz_2, sl_1, sl_2, lc_0, lc_lt, lc_le, li_ne, va_rf, wr_m1, we_m1, pm_kill_w, Int32.reduceOfInt, Int64.reduceOfInt, Int32.reduceOfNat, Int32.reduceLT, Int32.reduceLE, Prod.mk.injEq, Nat.reduceEqDiff, reduceCtorEq, and_true, true_and, and_false, false_and, and_self, ite_true, ite_false, ↓reduceIte, not_true_eq_false, not_false_eq_true, pe_ri, pe_rz, pe_rc, p_throw, t150, w_junk hA, Cs_g0_1 hP hA, Cs_g0_10 hP hA, Cs_g0_13 hP hA, Cs_g0_14 hP hA, Cs_g0_5 hP hA, Cs_g9_0 hP hA, Cs_g9_1 hP hA, Cs_r21 hP hA, Cs_r22 hP hA, Cs_r8 hP hA, eq_false k1]
theorem y150_5 {side : Int32} {cnt : Int32} {A : wK → Nat} {h : pm_H} {D : Nat} {S : wS} {x3i : Int32} {x4i : Int32} {y0 : Int32} {r : Nat ⊕ (Int32)} (hP : Cs_P side cnt) (hA : wok A (Cs_d side cnt) h.1) (hD : 1 ≤ D) (e : f150_5 side cnt S x3i x4i y0 = some r) : ∀ q1 q2 q5 q6 : Value, pm_go pm_prog (pm_call pm_prog D) 150 5 [.ref (A (0, 0, 0)), q1, q2, .ref (A (22, x3i, 0)), .ref (A (22, x4i, 0)), q5, q6] [.int y0] (wput A (Cs_d side cnt) S h) = some (match (generalizing := false) r with | .inl c => (Outcome.threw c, (wput A (Cs_d side cnt) S (pm_new h 6 (.inr (c, []))))) | .inr w0 => (Outcome.returned (some (.int w0)), (wput A (Cs_d side cnt) S h))) := by
  intro q1 q2 q5 q6
  simp only [f150_5] at e
  rw [g150_5, b150_5]
  by_cases k1 : 0 ≤ x3i ∧ x3i < (side * side)
  · rw [if_pos k1] at e
    by_cases k2 : 0 ≤ x4i ∧ x4i < (side * side)
    · rw [if_pos k2] at e
      by_cases k3 : 0 ≤ (S.1 (22, x3i, 0) 0) ∧ (S.1 (22, x3i, 0) 0) < 8
      · rw [if_pos k3] at e
        by_cases k4 : (S.1 (22, x3i, 0) 0) < cnt
        · rw [if_pos k4] at e
          by_cases k5 : 0 ≤ (S.1 (22, x3i, 0) 0) ∧ (S.1 (22, x3i, 0) 0) < cnt
          · rw [if_pos k5] at e
            by_cases k6 : (((S.1 (22, x3i, 0) 2) + (S.1 (9, (S.1 (22, x3i, 0) 0), 0) 0)) + (S.1 (0, 0, 0) 1)) ≤ (S.1 (22, x4i, 0) 2)
            · rw [if_pos k6] at e
              have k7 := y150_8 (h := h) hP hA hD e
              simp -implicitDefEqProofs (disch := first | assumption | exact Nat.le_of_ble_eq_true rfl | decide) only [b150_0, g150_1, b150_1, g150_3, b150_3, g150_4, b150_4, g150_6, b150_6, g150_7, b150_7, g150_9, b150_9, g150_10, b150_10, g150_11, b150_11, pe_aload0, pe_getfield, pe_call1, pm_af_ret, pm_af_void, pm_af_thr, pe_iload1, pe_sipush, pe_isub, pe_call3, pe_if_eq, pe_iload2, pe_goto, pe_goto_w, pe_aaload, pe_astore3, pe_astore4, pe_aload3, pe_iaload, pe_iadd, pe_aload4, pe_icmp_le, pe_icmp_gt, pe_istore5, pe_istore6, pe_iload5, pe_if_ne, pe_iload6, pm_prog_1, pm_ob_some, Nat.reduceDiv, Nat.reduceMod, Nat.reduceMul, Nat.reduceAdd, Int.reduceToNat, pm_kill_i, pm_kill_r, pm_kill_n, pm_kill_j, pm_kill_l, pm_kill_d, pm_cats_nil, pm_cats_i, pm_cats_r, pm_cats_n, pm_cats_l, pm_cats_d, sz_1, sz_2, sl_1, sl_2, lc_0, lc_lt, lc_le, li_ne, va_rf, wr_m1, we_m1, pm_kill_w, Int32.reduceOfInt, Int64.reduceOfInt, Int32.reduceOfNat, Int32.reduceLT, Int32.reduceLE, Prod.mk.injEq, Nat.reduceEqDiff, reduceCtorEq, and_true, true_and, and_false, false_and, and_self, ite_true, ite_false, ↓reduceIte, not_true_eq_false, not_false_eq_true, pe_ri, pe_rz, pe_rc, p_throw, t150, w_junk hA, Cs_g0_1 hP hA, Cs_g0_10 hP hA, Cs_g0_13 hP hA, Cs_g0_14 hP hA, Cs_g0_5 hP hA, Cs_g9_0 hP hA, Cs_g9_1 hP hA, Cs_r21 hP hA, Cs_r22 hP hA, Cs_r8 hP hA, eq_true k6, k7]
            · rw [if_neg k6] at e
              by_cases k8 : 0 ≤ (S.1 (22, x4i, 0) 0) ∧ (S.1 (22, x4i, 0) 0) < 8
              · rw [if_pos k8] at e
                by_cases k9 : (S.1 (22, x4i, 0) 0) < cnt
                · rw [if_pos k9] at e
                  by_cases k10 : 0 ≤ (S.1 (22, x4i, 0) 0) ∧ (S.1 (22, x4i, 0) 0) < cnt
                  · rw [if_pos k10] at e
                    by_cases k11 : (((S.1 (22, x4i, 0) 2) + (S.1 (9, (S.1 (22, x4i, 0) 0), 0) 0)) + (S.1 (0, 0, 0) 1)) ≤ (S.1 (22, x3i, 0) 2)
                    · rw [if_pos k11] at e
                      have k12 := y150_8 (h := h) hP hA hD e
                      simp -implicitDefEqProofs (disch := first | assumption | exact Nat.le_of_ble_eq_true rfl | decide) only [b150_0, g150_1, b150_1, g150_3, b150_3, g150_4, b150_4, g150_6, b150_6, g150_7, b150_7, g150_9, b150_9, g150_10, b150_10, g150_11, b150_11, pe_aload0, pe_getfield, pe_call1, pm_af_ret, pm_af_void, pm_af_thr, pe_iload1, pe_sipush, pe_isub, pe_call3, pe_if_eq, pe_iload2, pe_goto, pe_goto_w, pe_aaload, pe_astore3, pe_astore4, pe_aload3, pe_iaload, pe_iadd, pe_aload4, pe_icmp_le, pe_icmp_gt, pe_istore5, pe_istore6, pe_iload5, pe_if_ne, pe_iload6, pm_prog_1, pm_ob_some, Nat.reduceDiv, Nat.reduceMod, Nat.reduceMul, Nat.reduceAdd, Int.reduceToNat, pm_kill_i, pm_kill_r, pm_kill_n, pm_kill_j, pm_kill_l, pm_kill_d, pm_cats_nil, pm_cats_i, pm_cats_r, pm_cats_n, pm_cats_l, pm_cats_d, sz_1, sz_2, sl_1, sl_2, lc_0, lc_lt, lc_le, li_ne, va_rf, wr_m1, we_m1, pm_kill_w, Int32.reduceOfInt, Int64.reduceOfInt, Int32.reduceOfNat, Int32.reduceLT, Int32.reduceLE, Prod.mk.injEq, Nat.reduceEqDiff, reduceCtorEq, and_true, true_and, and_false, false_and, and_self, ite_true, ite_false, ↓reduceIte, not_true_eq_false, not_false_eq_true, pe_ri, pe_rz, pe_rc, p_throw, t150, w_junk hA, Cs_g0_1 hP hA, Cs_g0_10 hP hA, Cs_g0_13 hP hA, Cs_g0_14 hP hA, Cs_g0_5 hP hA, Cs_g9_0 hP hA, Cs_g9_1 hP hA, Cs_r21 hP hA, Cs_r22 hP hA, Cs_r8 hP hA, eq_false k6, eq_true k11, k12]
                    · rw [if_neg k11] at e
                      have k13 := y150_8 (h := h) hP hA hD e
                      simp -implicitDefEqProofs (disch := first | assumption | exact Nat.le_of_ble_eq_true rfl | decide) only [b150_0, g150_1, b150_1, g150_3, b150_3, g150_4, b150_4, g150_6, b150_6, g150_7, b150_7, g150_9, b150_9, g150_10, b150_10, g150_11, b150_11, pe_aload0, pe_getfield, pe_call1, pm_af_ret, pm_af_void, pm_af_thr, pe_iload1, pe_sipush, pe_isub, pe_call3, pe_if_eq, pe_iload2, pe_goto, pe_goto_w, pe_aaload, pe_astore3, pe_astore4, pe_aload3, pe_iaload, pe_iadd, pe_aload4, pe_icmp_le, pe_icmp_gt, pe_istore5, pe_istore6, pe_iload5, pe_if_ne, pe_iload6, pm_prog_1, pm_ob_some, Nat.reduceDiv, Nat.reduceMod, Nat.reduceMul, Nat.reduceAdd, Int.reduceToNat, pm_kill_i, pm_kill_r, pm_kill_n, pm_kill_j, pm_kill_l, pm_kill_d, pm_cats_nil, pm_cats_i, pm_cats_r, pm_cats_n, pm_cats_l, pm_cats_d, sz_1, sz_2, sl_1, sl_2, lc_0, lc_lt, lc_le, li_ne, va_rf, wr_m1, we_m1, pm_kill_w, Int32.reduceOfInt, Int64.reduceOfInt, Int32.reduceOfNat, Int32.reduceLT, Int32.reduceLE, Prod.mk.injEq, Nat.reduceEqDiff, reduceCtorEq, and_true, true_and, and_false, false_and, and_self, ite_true, ite_false, ↓reduceIte, not_true_eq_false, not_false_eq_true, pe_ri, pe_rz, pe_rc, p_throw, t150, w_junk hA, Cs_g0_1 hP hA, Cs_g0_10 hP hA, Cs_g0_13 hP hA, Cs_g0_14 hP hA, Cs_g0_5 hP hA, Cs_g9_0 hP hA, Cs_g9_1 hP hA, Cs_r21 hP hA, Cs_r22 hP hA, Cs_r8 hP hA, eq_false k6, eq_false k11, k13]
                  · rw [if_neg k10] at e; cases e
                · rw [if_neg k9] at e; cases e
              · rw [if_neg k8] at e; cases e
          · rw [if_neg k5] at e; cases e
        · rw [if_neg k4] at e; cases e
      · rw [if_neg k3] at e; cases e
    · rw [if_neg k2] at e; cases e
  · rw [if_neg k1] at e; cases e
theorem y150_2 {side : Int32} {cnt : Int32} {A : wK → Nat} {h : pm_H} {D : Nat} {S : wS} {x1 : Int32} {x2 : Int32} {y0 : Int32} {r : Nat ⊕ (Int32)} (hP : Cs_P side cnt) (hA : wok A (Cs_d side cnt) h.1) (hD : 1 ≤ D) (e : f150_2 side cnt S x1 x2 y0 = some r) : ∀ q3 q4 q5 q6 : Value, pm_go pm_prog (pm_call pm_prog D) 150 2 [.ref (A (0, 0, 0)), .int x1, .int x2, q3, q4, q5, q6] [.int y0] (wput A (Cs_d side cnt) S h) = some (match (generalizing := false) r with | .inl c => (Outcome.threw c, (wput A (Cs_d side cnt) S (pm_new h 6 (.inr (c, []))))) | .inr w0 => (Outcome.returned (some (.int w0)), (wput A (Cs_d side cnt) S h))) := by
  intro q3 q4 q5 q6
  simp only [f150_2] at e
  rw [g150_2, b150_2]
  obtain ⟨r, k1, e⟩ := Option.bind_eq_some_iff.mp e
  have z1 := fun h => x132 (D := D) (h := h) (by omega) k1
  rcases r with c2 | _
  · dsimp only at e z1
    have e := Option.some.inj e; subst e
    simp -implicitDefEqProofs (disch := first | assumption | exact Nat.le_of_ble_eq_true rfl | decide) only [b150_0, g150_1, b150_1, g150_3, b150_3, g150_4, b150_4, g150_6, b150_6, g150_7, b150_7, g150_9, b150_9, g150_10, b150_10, g150_11, b150_11, pe_aload0, pe_getfield, pe_call1, pm_af_ret, pm_af_void, pm_af_thr, pe_iload1, pe_sipush, pe_isub, pe_call3, pe_if_eq, pe_iload2, pe_goto, pe_goto_w, pe_aaload, pe_astore3, pe_astore4, pe_aload3, pe_iaload, pe_iadd, pe_aload4, pe_icmp_le, pe_icmp_gt, pe_istore5, pe_istore6, pe_iload5, pe_if_ne, pe_iload6, pm_prog_1, pm_ob_some, Nat.reduceDiv, Nat.reduceMod, Nat.reduceMul, Nat.reduceAdd, Int.reduceToNat, pm_kill_i, pm_kill_r, pm_kill_n, pm_kill_j, pm_kill_l, pm_kill_d, pm_cats_nil, pm_cats_i, pm_cats_r, pm_cats_n, pm_cats_l, pm_cats_d, sz_1, sz_2, sl_1, sl_2, lc_0, lc_lt, lc_le, li_ne, va_rf, wr_m1, we_m1, pm_kill_w, Int32.reduceOfInt, Int64.reduceOfInt, Int32.reduceOfNat, Int32.reduceLT, Int32.reduceLE, Prod.mk.injEq, Nat.reduceEqDiff, reduceCtorEq, and_true, true_and, and_false, false_and, and_self, ite_true, ite_false, ↓reduceIte, not_true_eq_false, not_false_eq_true, pe_ri, pe_rz, pe_rc, p_throw, t150, w_junk hA, Cs_g0_1 hP hA, Cs_g0_10 hP hA, Cs_g0_13 hP hA, Cs_g0_14 hP hA, Cs_g0_5 hP hA, Cs_g9_0 hP hA, Cs_g9_1 hP hA, Cs_r21 hP hA, Cs_r22 hP hA, Cs_r8 hP hA, z1]
  · dsimp only at e z1
    by_cases k2 : 0 ≤ x1 ∧ x1 < (side * side)
    · rw [if_pos k2] at e
      by_cases k3 : 0 ≤ x2 ∧ x2 < (side * side)
      · rw [if_pos k3] at e
        by_cases k4 : 0 ≤ (S.1 (22, x1, 0) 0) ∧ (S.1 (22, x1, 0) 0) < 8
        · rw [if_pos k4] at e
          by_cases k5 : (S.1 (22, x1, 0) 0) < cnt
          · rw [if_pos k5] at e
            by_cases k6 : 0 ≤ (S.1 (22, x1, 0) 0) ∧ (S.1 (22, x1, 0) 0) < cnt
            · rw [if_pos k6] at e
              by_cases k7 : (((S.1 (22, x1, 0) 1) + (S.1 (9, (S.1 (22, x1, 0) 0), 0) 1)) + (S.1 (0, 0, 0) 1)) ≤ (S.1 (22, x2, 0) 1)
              · rw [if_pos k7] at e
                have k8 := y150_5 (h := h) hP hA hD e
                simp -implicitDefEqProofs (disch := first | assumption | exact Nat.le_of_ble_eq_true rfl | decide) only [b150_0, g150_1, b150_1, g150_3, b150_3, g150_4, b150_4, g150_6, b150_6, g150_7, b150_7, g150_9, b150_9, g150_10, b150_10, g150_11, b150_11, pe_aload0, pe_getfield, pe_call1, pm_af_ret, pm_af_void, pm_af_thr, pe_iload1, pe_sipush, pe_isub, pe_call3, pe_if_eq, pe_iload2, pe_goto, pe_goto_w, pe_aaload, pe_astore3, pe_astore4, pe_aload3, pe_iaload, pe_iadd, pe_aload4, pe_icmp_le, pe_icmp_gt, pe_istore5, pe_istore6, pe_iload5, pe_if_ne, pe_iload6, pm_prog_1, pm_ob_some, Nat.reduceDiv, Nat.reduceMod, Nat.reduceMul, Nat.reduceAdd, Int.reduceToNat, pm_kill_i, pm_kill_r, pm_kill_n, pm_kill_j, pm_kill_l, pm_kill_d, pm_cats_nil, pm_cats_i, pm_cats_r, pm_cats_n, pm_cats_l, pm_cats_d, sz_1, sz_2, sl_1, sl_2, lc_0, lc_lt, lc_le, li_ne, va_rf, wr_m1, we_m1, pm_kill_w, Int32.reduceOfInt, Int64.reduceOfInt, Int32.reduceOfNat, Int32.reduceLT, Int32.reduceLE, Prod.mk.injEq, Nat.reduceEqDiff, reduceCtorEq, and_true, true_and, and_false, false_and, and_self, ite_true, ite_false, ↓reduceIte, not_true_eq_false, not_false_eq_true, pe_ri, pe_rz, pe_rc, p_throw, t150, w_junk hA, Cs_g0_1 hP hA, Cs_g0_10 hP hA, Cs_g0_13 hP hA, Cs_g0_14 hP hA, Cs_g0_5 hP hA, Cs_g9_0 hP hA, Cs_g9_1 hP hA, Cs_r21 hP hA, Cs_r22 hP hA, Cs_r8 hP hA, z1, eq_true k7, k8]
              · rw [if_neg k7] at e
                by_cases k9 : 0 ≤ (S.1 (22, x2, 0) 0) ∧ (S.1 (22, x2, 0) 0) < 8
                · rw [if_pos k9] at e
                  by_cases k10 : (S.1 (22, x2, 0) 0) < cnt
                  · rw [if_pos k10] at e
                    by_cases k11 : 0 ≤ (S.1 (22, x2, 0) 0) ∧ (S.1 (22, x2, 0) 0) < cnt
                    · rw [if_pos k11] at e
                      by_cases k12 : (((S.1 (22, x2, 0) 1) + (S.1 (9, (S.1 (22, x2, 0) 0), 0) 1)) + (S.1 (0, 0, 0) 1)) ≤ (S.1 (22, x1, 0) 1)
                      · rw [if_pos k12] at e
                        have k13 := y150_5 (h := h) hP hA hD e
                        simp -implicitDefEqProofs (disch := first | assumption | exact Nat.le_of_ble_eq_true rfl | decide) only [b150_0, g150_1, b150_1, g150_3, b150_3, g150_4, b150_4, g150_6, b150_6, g150_7, b150_7, g150_9, b150_9, g150_10, b150_10, g150_11, b150_11, pe_aload0, pe_getfield, pe_call1, pm_af_ret, pm_af_void, pm_af_thr, pe_iload1, pe_sipush, pe_isub, pe_call3, pe_if_eq, pe_iload2, pe_goto, pe_goto_w, pe_aaload, pe_astore3, pe_astore4, pe_aload3, pe_iaload, pe_iadd, pe_aload4, pe_icmp_le, pe_icmp_gt, pe_istore5, pe_istore6, pe_iload5, pe_if_ne, pe_iload6, pm_prog_1, pm_ob_some, Nat.reduceDiv, Nat.reduceMod, Nat.reduceMul, Nat.reduceAdd, Int.reduceToNat, pm_kill_i, pm_kill_r, pm_kill_n, pm_kill_j, pm_kill_l, pm_kill_d, pm_cats_nil, pm_cats_i, pm_cats_r, pm_cats_n, pm_cats_l, pm_cats_d, sz_1, sz_2, sl_1, sl_2, lc_0, lc_lt, lc_le, li_ne, va_rf, wr_m1, we_m1, pm_kill_w, Int32.reduceOfInt, Int64.reduceOfInt, Int32.reduceOfNat, Int32.reduceLT, Int32.reduceLE, Prod.mk.injEq, Nat.reduceEqDiff, reduceCtorEq, and_true, true_and, and_false, false_and, and_self, ite_true, ite_false, ↓reduceIte, not_true_eq_false, not_false_eq_true, pe_ri, pe_rz, pe_rc, p_throw, t150, w_junk hA, Cs_g0_1 hP hA, Cs_g0_10 hP hA, Cs_g0_13 hP hA, Cs_g0_14 hP hA, Cs_g0_5 hP hA, Cs_g9_0 hP hA, Cs_g9_1 hP hA, Cs_r21 hP hA, Cs_r22 hP hA, Cs_r8 hP hA, z1, eq_false k7, eq_true k12, k13]
                      · rw [if_neg k12] at e
                        have k14 := y150_5 (h := h) hP hA hD e
                        simp -implicitDefEqProofs (disch := first | assumption | exact Nat.le_of_ble_eq_true rfl | decide) only [b150_0, g150_1, b150_1, g150_3, b150_3, g150_4, b150_4, g150_6, b150_6, g150_7, b150_7, g150_9, b150_9, g150_10, b150_10, g150_11, b150_11, pe_aload0, pe_getfield, pe_call1, pm_af_ret, pm_af_void, pm_af_thr, pe_iload1, pe_sipush, pe_isub, pe_call3, pe_if_eq, pe_iload2, pe_goto, pe_goto_w, pe_aaload, pe_astore3, pe_astore4, pe_aload3, pe_iaload, pe_iadd, pe_aload4, pe_icmp_le, pe_icmp_gt, pe_istore5, pe_istore6, pe_iload5, pe_if_ne, pe_iload6, pm_prog_1, pm_ob_some, Nat.reduceDiv, Nat.reduceMod, Nat.reduceMul, Nat.reduceAdd, Int.reduceToNat, pm_kill_i, pm_kill_r, pm_kill_n, pm_kill_j, pm_kill_l, pm_kill_d, pm_cats_nil, pm_cats_i, pm_cats_r, pm_cats_n, pm_cats_l, pm_cats_d, sz_1, sz_2, sl_1, sl_2, lc_0, lc_lt, lc_le, li_ne, va_rf, wr_m1, we_m1, pm_kill_w, Int32.reduceOfInt, Int64.reduceOfInt, Int32.reduceOfNat, Int32.reduceLT, Int32.reduceLE, Prod.mk.injEq, Nat.reduceEqDiff, reduceCtorEq, and_true, true_and, and_false, false_and, and_self, ite_true, ite_false, ↓reduceIte, not_true_eq_false, not_false_eq_true, pe_ri, pe_rz, pe_rc, p_throw, t150, w_junk hA, Cs_g0_1 hP hA, Cs_g0_10 hP hA, Cs_g0_13 hP hA, Cs_g0_14 hP hA, Cs_g0_5 hP hA, Cs_g9_0 hP hA, Cs_g9_1 hP hA, Cs_r21 hP hA, Cs_r22 hP hA, Cs_r8 hP hA, z1, eq_false k7, eq_false k12, k14]
                    · rw [if_neg k11] at e; cases e
                  · rw [if_neg k10] at e; cases e
                · rw [if_neg k9] at e; cases e
            · rw [if_neg k6] at e; cases e
          · rw [if_neg k5] at e; cases e
        · rw [if_neg k4] at e; cases e
      · rw [if_neg k3] at e; cases e
    · rw [if_neg k2] at e; cases e
theorem x150 {side : Int32} {cnt : Int32} {A : wK → Nat} {h : pm_H} {D : Nat} {S : wS} {x1 : Int32} {x2 : Int32} {r : Nat ⊕ (Int32)} (hP : Cs_P side cnt) (hA : wok A (Cs_d side cnt) h.1) (hD : 2 ≤ D) (e : f150 side cnt S x1 x2 = some r) : pm_call pm_prog D 150 [.ref (A (0, 0, 0)), .int x1, .int x2] (wput A (Cs_d side cnt) S h) = some (match (generalizing := false) r with | .inl c => (Outcome.threw c, (wput A (Cs_d side cnt) S (pm_new h 6 (.inr (c, []))))) | .inr w0 => (Outcome.returned (some (.int w0)), (wput A (Cs_d side cnt) S h))) := by
  obtain ⟨D, rfl⟩ : ∃ D', D = D' + 1 := ⟨D - 1, by omega⟩
  have hD : 1 ≤ D := by omega
  simp only [f150] at e
  rw [c150 (Cs_c0 hP hA), b150_0]
  obtain ⟨r, k1, e⟩ := Option.bind_eq_some_iff.mp e
  have z1 := fun h => x130 (D := D) (h := h) (by omega) k1
  rcases r with c4 | _
  · dsimp only at e z1
    have e := Option.some.inj e; subst e
    simp -implicitDefEqProofs (disch := first | assumption | exact Nat.le_of_ble_eq_true rfl | decide) only [b150_0, g150_1, b150_1, g150_3, b150_3, g150_4, b150_4, g150_6, b150_6, g150_7, b150_7, g150_9, b150_9, g150_10, b150_10, g150_11, b150_11, pe_aload0, pe_getfield, pe_call1, pm_af_ret, pm_af_void, pm_af_thr, pe_iload1, pe_sipush, pe_isub, pe_call3, pe_if_eq, pe_iload2, pe_goto, pe_goto_w, pe_aaload, pe_astore3, pe_astore4, pe_aload3, pe_iaload, pe_iadd, pe_aload4, pe_icmp_le, pe_icmp_gt, pe_istore5, pe_istore6, pe_iload5, pe_if_ne, pe_iload6, pm_prog_1, pm_ob_some, Nat.reduceDiv, Nat.reduceMod, Nat.reduceMul, Nat.reduceAdd, Int.reduceToNat, pm_kill_i, pm_kill_r, pm_kill_n, pm_kill_j, pm_kill_l, pm_kill_d, pm_cats_nil, pm_cats_i, pm_cats_r, pm_cats_n, pm_cats_l, pm_cats_d, sz_1, sz_2, sl_1, sl_2, lc_0, lc_lt, lc_le, li_ne, va_rf, wr_m1, we_m1, pm_kill_w, Int32.reduceOfInt, Int64.reduceOfInt, Int32.reduceOfNat, Int32.reduceLT, Int32.reduceLE, Prod.mk.injEq, Nat.reduceEqDiff, reduceCtorEq, and_true, true_and, and_false, false_and, and_self, ite_true, ite_false, ↓reduceIte, not_true_eq_false, not_false_eq_true, pe_ri, pe_rz, pe_rc, p_throw, t150, w_junk hA, Cs_g0_1 hP hA, Cs_g0_10 hP hA, Cs_g0_13 hP hA, Cs_g0_14 hP hA, Cs_g0_5 hP hA, Cs_g9_0 hP hA, Cs_g9_1 hP hA, Cs_r21 hP hA, Cs_r22 hP hA, Cs_r8 hP hA, z1]
  · dsimp only at e z1
    obtain ⟨v1, k2, e⟩ := Option.bind_eq_some_iff.mp e
    try dsimp only at e
    have z2 := fun h => x131 (D := D) (h := h) (by omega) k2
    by_cases k3 : v1 = 0
    · rw [if_pos k3] at e
      have k4 := y150_2 (h := h) hP hA hD e
      simp -implicitDefEqProofs (disch := first | assumption | exact Nat.le_of_ble_eq_true rfl | decide) only [b150_0, g150_1, b150_1, g150_3, b150_3, g150_4, b150_4, g150_6, b150_6, g150_7, b150_7, g150_9, b150_9, g150_10, b150_10, g150_11, b150_11, pe_aload0, pe_getfield, pe_call1, pm_af_ret, pm_af_void, pm_af_thr, pe_iload1, pe_sipush, pe_isub, pe_call3, pe_if_eq, pe_iload2, pe_goto, pe_goto_w, pe_aaload, pe_astore3, pe_astore4, pe_aload3, pe_iaload, pe_iadd, pe_aload4, pe_icmp_le, pe_icmp_gt, pe_istore5, pe_istore6, pe_iload5, pe_if_ne, pe_iload6, pm_prog_1, pm_ob_some, Nat.reduceDiv, Nat.reduceMod, Nat.reduceMul, Nat.reduceAdd, Int.reduceToNat, pm_kill_i, pm_kill_r, pm_kill_n, pm_kill_j, pm_kill_l, pm_kill_d, pm_cats_nil, pm_cats_i, pm_cats_r, pm_cats_n, pm_cats_l, pm_cats_d, sz_1, sz_2, sl_1, sl_2, lc_0, lc_lt, lc_le, li_ne, va_rf, wr_m1, we_m1, pm_kill_w, Int32.reduceOfInt, Int64.reduceOfInt, Int32.reduceOfNat, Int32.reduceLT, Int32.reduceLE, Prod.mk.injEq, Nat.reduceEqDiff, reduceCtorEq, and_true, true_and, and_false, false_and, and_self, ite_true, ite_false, ↓reduceIte, not_true_eq_false, not_false_eq_true, pe_ri, pe_rz, pe_rc, p_throw, t150, w_junk hA, Cs_g0_1 hP hA, Cs_g0_10 hP hA, Cs_g0_13 hP hA, Cs_g0_14 hP hA, Cs_g0_5 hP hA, Cs_g9_0 hP hA, Cs_g9_1 hP hA, Cs_r21 hP hA, Cs_r22 hP hA, Cs_r8 hP hA, z1, z2, eq_true k3, k4]
    · rw [if_neg k3] at e
      obtain ⟨v3, k5, e⟩ := Option.bind_eq_some_iff.mp e
      try dsimp only at e
      have z5 := fun h => x131 (D := D) (h := h) (by omega) k5
      by_cases k6 : v3 = 0
      · rw [if_pos k6] at e
        have k7 := y150_2 (h := h) hP hA hD e
        simp -implicitDefEqProofs (disch := first | assumption | exact Nat.le_of_ble_eq_true rfl | decide) only [b150_0, g150_1, b150_1, g150_3, b150_3, g150_4, b150_4, g150_6, b150_6, g150_7, b150_7, g150_9, b150_9, g150_10, b150_10, g150_11, b150_11, pe_aload0, pe_getfield, pe_call1, pm_af_ret, pm_af_void, pm_af_thr, pe_iload1, pe_sipush, pe_isub, pe_call3, pe_if_eq, pe_iload2, pe_goto, pe_goto_w, pe_aaload, pe_astore3, pe_astore4, pe_aload3, pe_iaload, pe_iadd, pe_aload4, pe_icmp_le, pe_icmp_gt, pe_istore5, pe_istore6, pe_iload5, pe_if_ne, pe_iload6, pm_prog_1, pm_ob_some, Nat.reduceDiv, Nat.reduceMod, Nat.reduceMul, Nat.reduceAdd, Int.reduceToNat, pm_kill_i, pm_kill_r, pm_kill_n, pm_kill_j, pm_kill_l, pm_kill_d, pm_cats_nil, pm_cats_i, pm_cats_r, pm_cats_n, pm_cats_l, pm_cats_d, sz_1, sz_2, sl_1, sl_2, lc_0, lc_lt, lc_le, li_ne, va_rf, wr_m1, we_m1, pm_kill_w, Int32.reduceOfInt, Int64.reduceOfInt, Int32.reduceOfNat, Int32.reduceLT, Int32.reduceLE, Prod.mk.injEq, Nat.reduceEqDiff, reduceCtorEq, and_true, true_and, and_false, false_and, and_self, ite_true, ite_false, ↓reduceIte, not_true_eq_false, not_false_eq_true, pe_ri, pe_rz, pe_rc, p_throw, t150, w_junk hA, Cs_g0_1 hP hA, Cs_g0_10 hP hA, Cs_g0_13 hP hA, Cs_g0_14 hP hA, Cs_g0_5 hP hA, Cs_g9_0 hP hA, Cs_g9_1 hP hA, Cs_r21 hP hA, Cs_r22 hP hA, Cs_r8 hP hA, z1, z2, eq_false k3, z5, eq_true k6, k7]
      · rw [if_neg k6] at e
        have k8 := y150_2 (h := h) hP hA hD e
        simp -implicitDefEqProofs (disch := first | assumption | exact Nat.le_of_ble_eq_true rfl | decide) only [b150_0, g150_1, b150_1, g150_3, b150_3, g150_4, b150_4, g150_6, b150_6, g150_7, b150_7, g150_9, b150_9, g150_10, b150_10, g150_11, b150_11, pe_aload0, pe_getfield, pe_call1, pm_af_ret, pm_af_void, pm_af_thr, pe_iload1, pe_sipush, pe_isub, pe_call3, pe_if_eq, pe_iload2, pe_goto, pe_goto_w, pe_aaload, pe_astore3, pe_astore4, pe_aload3, pe_iaload, pe_iadd, pe_aload4, pe_icmp_le, pe_icmp_gt, pe_istore5, pe_istore6, pe_iload5, pe_if_ne, pe_iload6, pm_prog_1, pm_ob_some, Nat.reduceDiv, Nat.reduceMod, Nat.reduceMul, Nat.reduceAdd, Int.reduceToNat, pm_kill_i, pm_kill_r, pm_kill_n, pm_kill_j, pm_kill_l, pm_kill_d, pm_cats_nil, pm_cats_i, pm_cats_r, pm_cats_n, pm_cats_l, pm_cats_d, sz_1, sz_2, sl_1, sl_2, lc_0, lc_lt, lc_le, li_ne, va_rf, wr_m1, we_m1, pm_kill_w, Int32.reduceOfInt, Int64.reduceOfInt, Int32.reduceOfNat, Int32.reduceLT, Int32.reduceLE, Prod.mk.injEq, Nat.reduceEqDiff, reduceCtorEq, and_true, true_and, and_false, false_and, and_self, ite_true, ite_false, ↓reduceIte, not_true_eq_false, not_false_eq_true, pe_ri, pe_rz, pe_rc, p_throw, t150, w_junk hA, Cs_g0_1 hP hA, Cs_g0_10 hP hA, Cs_g0_13 hP hA, Cs_g0_14 hP hA, Cs_g0_5 hP hA, Cs_g9_0 hP hA, Cs_g9_1 hP hA, Cs_r21 hP hA, Cs_r22 hP hA, Cs_r8 hP hA, z1, z2, eq_false k3, z5, eq_false k6, k8]
