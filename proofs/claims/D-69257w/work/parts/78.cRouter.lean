set_option maxRecDepth 100000
/-! TimberHouse$RouterPaths -/
def Cu_P (side : Int32) : Prop := 1 ≤ side ∧ side ≤ 20
def Cu_d (side : Int32) : wK → Option wD := fun k => match k.1 with
  | 0 => if k.2.1 = 0 ∧ k.2.2 = 0 then some (.inl (16, [(2, (1, 0, 0)), (2, (9, 0, 0)), (2, (11, 0, 0)), (2, (12, 0, 0)), (0, (0, 0, 0)), (0, (0, 0, 0)), (0, (0, 0, 0)), (0, (0, 0, 0)), (0, (0, 0, 0)), (0, (0, 0, 0)), (0, (0, 0, 0))])) else none
  | 1 => if k.2.1 = 0 ∧ k.2.2 = 0 then some (.inl (18, [(0, (0, 0, 0)), (2, (2, 0, 0)), (2, (4, 0, 0)), (2, (6, 0, 0)), (2, (7, 0, 0)), (2, (8, 0, 0)), (0, (0, 0, 0))])) else none
  | 2 => if k.2.1 = 0 ∧ k.2.2 = 0 then some (.inr (.inr ((.array .int), wn side, .inr (fun x => some (3, x, 0))))) else none
  | 3 => if (0 ≤ k.2.1 ∧ k.2.1 < side) ∧ k.2.2 = 0 then some (.inr (.inl (.int, wn side))) else none
  | 4 => if k.2.1 = 0 ∧ k.2.2 = 0 then some (.inr (.inr ((.array .int), wn side, .inr (fun x => some (5, x, 0))))) else none
  | 5 => if (0 ≤ k.2.1 ∧ k.2.1 < side) ∧ k.2.2 = 0 then some (.inr (.inl (.int, wn side))) else none
  | 6 => if k.2.1 = 0 ∧ k.2.2 = 0 then some (.inr (.inr ((.array .boolean), wn side, .inr (fun x => some (13, x, 0))))) else none
  | 13 => if (0 ≤ k.2.1 ∧ k.2.1 < side) ∧ k.2.2 = 0 then some (.inr (.inl (.boolean, wn side))) else none
  | 7 => if k.2.1 = 0 ∧ k.2.2 = 0 then some (.inr (.inl (.int, wn (side * side)))) else none
  | 8 => if k.2.1 = 0 ∧ k.2.2 = 0 then some (.inr (.inl (.boolean, wn (side * side)))) else none
  | 9 => if k.2.1 = 0 ∧ k.2.2 = 0 then some (.inr (.inr ((.object "TimberHouse$RouterPaths$Tool"), 4, .inr (fun x => some (10, x, 0))))) else none
  | 10 => if (0 ≤ k.2.1 ∧ k.2.1 < 4) ∧ k.2.2 = 0 then some (.inl (17, [(0, (0, 0, 0)), (0, (0, 0, 0))])) else none
  | 11 => if k.2.1 = 0 ∧ k.2.2 = 0 then some (.inl (19, [(2, (1, 0, 0)), (2, (9, 0, 0)), (0, (0, 0, 0)), (0, (0, 0, 0)), (0, (0, 0, 0)), (4, (10, 0, 0)), (0, (0, 0, 0)), (0, (0, 0, 0)), (0, (0, 0, 0))])) else none
  | 12 => if k.2.1 = 0 ∧ k.2.2 = 0 then some (.inr (.inl (.byte, 240))) else none
  | _ => none
section
variable {A : wK → Nat} {S : wS} {h : pm_H} {m : Nat} {i j x v : Int32} {u : Int64} {side : Int32}
theorem Cu_n0 (hP : Cu_P side) : Int32.ofNat (wn side) = side := wn_of (by have := hP.1; grind)
theorem Cu_n1 (hP : Cu_P side) : Int32.ofNat (wn (side * side)) = (side * side) := wn_of (by have := wsq hP.1 hP.2; grind)
theorem Cu_d0 {side : Int32} : (Cu_d side) (0, 0, 0) = some (.inl (16, [(2, (1, 0, 0)), (2, (9, 0, 0)), (2, (11, 0, 0)), (2, (12, 0, 0)), (0, (0, 0, 0)), (0, (0, 0, 0)), (0, (0, 0, 0)), (0, (0, 0, 0)), (0, (0, 0, 0)), (0, (0, 0, 0)), (0, (0, 0, 0))])) := rfl
theorem Cu_d1 {side : Int32} : (Cu_d side) (1, 0, 0) = some (.inl (18, [(0, (0, 0, 0)), (2, (2, 0, 0)), (2, (4, 0, 0)), (2, (6, 0, 0)), (2, (7, 0, 0)), (2, (8, 0, 0)), (0, (0, 0, 0))])) := rfl
theorem Cu_d2 {side : Int32} : (Cu_d side) (2, 0, 0) = some (.inr (.inr ((.array .int), wn side, .inr (fun x => some (3, x, 0))))) := rfl
theorem Cu_d3 {side : Int32} (h0 : 0 ≤ i ∧ i < side) : (Cu_d side) (3, i, 0) = some (.inr (.inl (.int, wn side))) := if_pos ⟨h0, rfl⟩
theorem Cu_d4 {side : Int32} : (Cu_d side) (4, 0, 0) = some (.inr (.inr ((.array .int), wn side, .inr (fun x => some (5, x, 0))))) := rfl
theorem Cu_d5 {side : Int32} (h0 : 0 ≤ i ∧ i < side) : (Cu_d side) (5, i, 0) = some (.inr (.inl (.int, wn side))) := if_pos ⟨h0, rfl⟩
theorem Cu_d6 {side : Int32} : (Cu_d side) (6, 0, 0) = some (.inr (.inr ((.array .boolean), wn side, .inr (fun x => some (13, x, 0))))) := rfl
theorem Cu_d13 {side : Int32} (h0 : 0 ≤ i ∧ i < side) : (Cu_d side) (13, i, 0) = some (.inr (.inl (.boolean, wn side))) := if_pos ⟨h0, rfl⟩
theorem Cu_d7 {side : Int32} : (Cu_d side) (7, 0, 0) = some (.inr (.inl (.int, wn (side * side)))) := rfl
theorem Cu_d8 {side : Int32} : (Cu_d side) (8, 0, 0) = some (.inr (.inl (.boolean, wn (side * side)))) := rfl
theorem Cu_d9 {side : Int32} : (Cu_d side) (9, 0, 0) = some (.inr (.inr ((.object "TimberHouse$RouterPaths$Tool"), 4, .inr (fun x => some (10, x, 0))))) := rfl
theorem Cu_d10 {side : Int32} (h0 : 0 ≤ i ∧ i < 4) : (Cu_d side) (10, i, 0) = some (.inl (17, [(0, (0, 0, 0)), (0, (0, 0, 0))])) := if_pos ⟨h0, rfl⟩
theorem Cu_d11 {side : Int32} : (Cu_d side) (11, 0, 0) = some (.inl (19, [(2, (1, 0, 0)), (2, (9, 0, 0)), (0, (0, 0, 0)), (0, (0, 0, 0)), (0, (0, 0, 0)), (4, (10, 0, 0)), (0, (0, 0, 0)), (0, (0, 0, 0)), (0, (0, 0, 0))])) := rfl
theorem Cu_d12 {side : Int32} : (Cu_d side) (12, 0, 0) = some (.inr (.inl (.byte, 240))) := rfl
theorem Cu_c0 (hP : Cu_P side) (hA : wok A (Cu_d side) m) : pm_cls (wput A (Cu_d side) S h) (A (0, 0, 0)) = some 16 := w_cls hA (Cu_d0)
theorem Cu_k0 {cl : pm_C} {k b c : Nat} {r : List Instr} {ls s : List Value} (hP : Cu_P side) (hA : wok A (Cu_d side) m) (h2 : pm_sub 16 c = true) : pm_ev pm_prog cl k b (.checkcast c :: r) ls (.ref (A (0, 0, 0)) :: s) (wput A (Cu_d side) S h) = pm_ev pm_prog cl k b r ls (.ref (A (0, 0, 0)) :: s) (wput A (Cu_d side) S h) := pe_checkcast (w_cls hA (Cu_d0)) h2
theorem Cu_g0_0 (hP : Cu_P side) (hA : wok A (Cu_d side) m) : pm_gf pm_tab (wput A (Cu_d side) S h) (A (0, 0, 0)) 16 0 = some (.ref (A (1, 0, 0))) := w_g (f := (2, (1, 0, 0))) hA (Cu_d0) rfl rfl
theorem Cu_g0_1 (hP : Cu_P side) (hA : wok A (Cu_d side) m) : pm_gf pm_tab (wput A (Cu_d side) S h) (A (0, 0, 0)) 16 1 = some (.ref (A (9, 0, 0))) := w_g (f := (2, (9, 0, 0))) hA (Cu_d0) rfl rfl
theorem Cu_g0_2 (hP : Cu_P side) (hA : wok A (Cu_d side) m) : pm_gf pm_tab (wput A (Cu_d side) S h) (A (0, 0, 0)) 16 2 = some (.ref (A (11, 0, 0))) := w_g (f := (2, (11, 0, 0))) hA (Cu_d0) rfl rfl
theorem Cu_g0_3 (hP : Cu_P side) (hA : wok A (Cu_d side) m) : pm_gf pm_tab (wput A (Cu_d side) S h) (A (0, 0, 0)) 16 3 = some (.ref (A (12, 0, 0))) := w_g (f := (2, (12, 0, 0))) hA (Cu_d0) rfl rfl
theorem Cu_g0_4 (hP : Cu_P side) (hA : wok A (Cu_d side) m) : pm_gf pm_tab (wput A (Cu_d side) S h) (A (0, 0, 0)) 16 4 = some (.int (S.1 (0, 0, 0) 4)) := w_g (f := (0, (0, 0, 0))) hA (Cu_d0) rfl rfl
theorem Cu_p0_4 (hP : Cu_P side) (hA : wok A (Cu_d side) m) : pm_pf pm_tab (wput A (Cu_d side) S h) (A (0, 0, 0)) 16 4 0 (.int v) = some (wput A (Cu_d side) (sz S (0, 0, 0) 4 v) h) := w_p0 (q := (0, 0, 0)) (t := 0) hA (Cu_d0) rfl rfl (Nat.le_of_ble_eq_true rfl)
theorem Cu_g0_5 (hP : Cu_P side) (hA : wok A (Cu_d side) m) : pm_gf pm_tab (wput A (Cu_d side) S h) (A (0, 0, 0)) 16 5 = some (.int (S.1 (0, 0, 0) 5)) := w_g (f := (0, (0, 0, 0))) hA (Cu_d0) rfl rfl
theorem Cu_p0_5 (hP : Cu_P side) (hA : wok A (Cu_d side) m) : pm_pf pm_tab (wput A (Cu_d side) S h) (A (0, 0, 0)) 16 5 0 (.int v) = some (wput A (Cu_d side) (sz S (0, 0, 0) 5 v) h) := w_p0 (q := (0, 0, 0)) (t := 0) hA (Cu_d0) rfl rfl (Nat.le_of_ble_eq_true rfl)
theorem Cu_g0_6 (hP : Cu_P side) (hA : wok A (Cu_d side) m) : pm_gf pm_tab (wput A (Cu_d side) S h) (A (0, 0, 0)) 16 6 = some (.int (S.1 (0, 0, 0) 6)) := w_g (f := (0, (0, 0, 0))) hA (Cu_d0) rfl rfl
theorem Cu_p0_6 (hP : Cu_P side) (hA : wok A (Cu_d side) m) : pm_pf pm_tab (wput A (Cu_d side) S h) (A (0, 0, 0)) 16 6 0 (.int v) = some (wput A (Cu_d side) (sz S (0, 0, 0) 6 v) h) := w_p0 (q := (0, 0, 0)) (t := 0) hA (Cu_d0) rfl rfl (Nat.le_of_ble_eq_true rfl)
theorem Cu_g0_9 (hP : Cu_P side) (hA : wok A (Cu_d side) m) : pm_gf pm_tab (wput A (Cu_d side) S h) (A (0, 0, 0)) 16 9 = some (.int (S.1 (0, 0, 0) 9)) := w_g (f := (0, (0, 0, 0))) hA (Cu_d0) rfl rfl
theorem Cu_p0_9 (hP : Cu_P side) (hA : wok A (Cu_d side) m) : pm_pf pm_tab (wput A (Cu_d side) S h) (A (0, 0, 0)) 16 9 0 (.int v) = some (wput A (Cu_d side) (sz S (0, 0, 0) 9 v) h) := w_p0 (q := (0, 0, 0)) (t := 0) hA (Cu_d0) rfl rfl (Nat.le_of_ble_eq_true rfl)
theorem Cu_g0_10 (hP : Cu_P side) (hA : wok A (Cu_d side) m) : pm_gf pm_tab (wput A (Cu_d side) S h) (A (0, 0, 0)) 16 10 = some (.int (S.1 (0, 0, 0) 10)) := w_g (f := (0, (0, 0, 0))) hA (Cu_d0) rfl rfl
theorem Cu_p0_10 (hP : Cu_P side) (hA : wok A (Cu_d side) m) : pm_pf pm_tab (wput A (Cu_d side) S h) (A (0, 0, 0)) 16 10 0 (.int v) = some (wput A (Cu_d side) (sz S (0, 0, 0) 10 v) h) := w_p0 (q := (0, 0, 0)) (t := 0) hA (Cu_d0) rfl rfl (Nat.le_of_ble_eq_true rfl)
theorem Cu_c1 (hP : Cu_P side) (hA : wok A (Cu_d side) m) : pm_cls (wput A (Cu_d side) S h) (A (1, 0, 0)) = some 18 := w_cls hA (Cu_d1)
theorem Cu_k1 {cl : pm_C} {k b c : Nat} {r : List Instr} {ls s : List Value} (hP : Cu_P side) (hA : wok A (Cu_d side) m) (h2 : pm_sub 18 c = true) : pm_ev pm_prog cl k b (.checkcast c :: r) ls (.ref (A (1, 0, 0)) :: s) (wput A (Cu_d side) S h) = pm_ev pm_prog cl k b r ls (.ref (A (1, 0, 0)) :: s) (wput A (Cu_d side) S h) := pe_checkcast (w_cls hA (Cu_d1)) h2
theorem Cu_g1_0 (hP : Cu_P side) (hA : wok A (Cu_d side) m) : pm_gf pm_tab (wput A (Cu_d side) S h) (A (1, 0, 0)) 18 0 = some (.int (S.1 (1, 0, 0) 0)) := w_g (f := (0, (0, 0, 0))) hA (Cu_d1) rfl rfl
theorem Cu_p1_0 (hP : Cu_P side) (hA : wok A (Cu_d side) m) : pm_pf pm_tab (wput A (Cu_d side) S h) (A (1, 0, 0)) 18 0 0 (.int v) = some (wput A (Cu_d side) (sz S (1, 0, 0) 0 v) h) := w_p0 (q := (0, 0, 0)) (t := 0) hA (Cu_d1) rfl rfl (Nat.le_of_ble_eq_true rfl)
theorem Cu_g1_1 (hP : Cu_P side) (hA : wok A (Cu_d side) m) : pm_gf pm_tab (wput A (Cu_d side) S h) (A (1, 0, 0)) 18 1 = some (.ref (A (2, 0, 0))) := w_g (f := (2, (2, 0, 0))) hA (Cu_d1) rfl rfl
theorem Cu_g1_2 (hP : Cu_P side) (hA : wok A (Cu_d side) m) : pm_gf pm_tab (wput A (Cu_d side) S h) (A (1, 0, 0)) 18 2 = some (.ref (A (4, 0, 0))) := w_g (f := (2, (4, 0, 0))) hA (Cu_d1) rfl rfl
theorem Cu_g1_3 (hP : Cu_P side) (hA : wok A (Cu_d side) m) : pm_gf pm_tab (wput A (Cu_d side) S h) (A (1, 0, 0)) 18 3 = some (.ref (A (6, 0, 0))) := w_g (f := (2, (6, 0, 0))) hA (Cu_d1) rfl rfl
theorem Cu_g1_4 (hP : Cu_P side) (hA : wok A (Cu_d side) m) : pm_gf pm_tab (wput A (Cu_d side) S h) (A (1, 0, 0)) 18 4 = some (.ref (A (7, 0, 0))) := w_g (f := (2, (7, 0, 0))) hA (Cu_d1) rfl rfl
theorem Cu_g1_5 (hP : Cu_P side) (hA : wok A (Cu_d side) m) : pm_gf pm_tab (wput A (Cu_d side) S h) (A (1, 0, 0)) 18 5 = some (.ref (A (8, 0, 0))) := w_g (f := (2, (8, 0, 0))) hA (Cu_d1) rfl rfl
theorem Cu_g1_6 (hP : Cu_P side) (hA : wok A (Cu_d side) m) : pm_gf pm_tab (wput A (Cu_d side) S h) (A (1, 0, 0)) 18 6 = some (.int (S.1 (1, 0, 0) 6)) := w_g (f := (0, (0, 0, 0))) hA (Cu_d1) rfl rfl
theorem Cu_p1_6 (hP : Cu_P side) (hA : wok A (Cu_d side) m) : pm_pf pm_tab (wput A (Cu_d side) S h) (A (1, 0, 0)) 18 6 0 (.int v) = some (wput A (Cu_d side) (sz S (1, 0, 0) 6 v) h) := w_p0 (q := (0, 0, 0)) (t := 0) hA (Cu_d1) rfl rfl (Nat.le_of_ble_eq_true rfl)
theorem Cu_l2 (hP : Cu_P side) (hA : wok A (Cu_d side) m) : pm_len (wput A (Cu_d side) S h) (A (2, 0, 0)) = some (wn side) := w_lenR hA (Cu_d2) (by decide)
theorem Cu_r2 (hP : Cu_P side) (hA : wok A (Cu_d side) m) (hx : 0 ≤ x ∧ x < side) : pm_rdR (wput A (Cu_d side) S h) (A (2, 0, 0)) x = some (some (A (3, x, 0))) := ((w_rdR hA (Cu_d2) rfl (wn_le _)).trans (if_pos (wn_in (by have := hP.1; grind) hx))).trans rfl
theorem Cu_l3 (hP : Cu_P side) (hA : wok A (Cu_d side) m) (h0 : 0 ≤ i ∧ i < side) : pm_len (wput A (Cu_d side) S h) (A (3, i, 0)) = some (wn side) := w_len hA (Cu_d3 h0) (by decide)
theorem Cu_r3 (hP : Cu_P side) (hA : wok A (Cu_d side) m) (h0 : 0 ≤ i ∧ i < side) (hx : 0 ≤ x ∧ x < side) : pm_rd pm_isI (wput A (Cu_d side) S h) (A (3, i, 0)) x = some (S.1 (3, i, 0) x) := (w_rd (t := .int) hA (Cu_d3 h0) rfl (by decide) (wn_le _)).trans (if_pos (wn_in (by have := hP.1; grind) hx))
theorem Cu_w3 (hP : Cu_P side) (hA : wok A (Cu_d side) m) (h0 : 0 ≤ i ∧ i < side) (hx : 0 ≤ x ∧ x < side) : pm_wr pm_wI (wput A (Cu_d side) S h) (A (3, i, 0)) x v = some (wput A (Cu_d side) (sz S (3, i, 0) x v) h) := (w_wr (t := .int) hA (Cu_d3 h0) rfl (by decide) (wn_le _)).trans (if_pos (wn_in (by have := hP.1; grind) hx))
theorem Cu_l4 (hP : Cu_P side) (hA : wok A (Cu_d side) m) : pm_len (wput A (Cu_d side) S h) (A (4, 0, 0)) = some (wn side) := w_lenR hA (Cu_d4) (by decide)
theorem Cu_r4 (hP : Cu_P side) (hA : wok A (Cu_d side) m) (hx : 0 ≤ x ∧ x < side) : pm_rdR (wput A (Cu_d side) S h) (A (4, 0, 0)) x = some (some (A (5, x, 0))) := ((w_rdR hA (Cu_d4) rfl (wn_le _)).trans (if_pos (wn_in (by have := hP.1; grind) hx))).trans rfl
theorem Cu_l5 (hP : Cu_P side) (hA : wok A (Cu_d side) m) (h0 : 0 ≤ i ∧ i < side) : pm_len (wput A (Cu_d side) S h) (A (5, i, 0)) = some (wn side) := w_len hA (Cu_d5 h0) (by decide)
theorem Cu_r5 (hP : Cu_P side) (hA : wok A (Cu_d side) m) (h0 : 0 ≤ i ∧ i < side) (hx : 0 ≤ x ∧ x < side) : pm_rd pm_isI (wput A (Cu_d side) S h) (A (5, i, 0)) x = some (S.1 (5, i, 0) x) := (w_rd (t := .int) hA (Cu_d5 h0) rfl (by decide) (wn_le _)).trans (if_pos (wn_in (by have := hP.1; grind) hx))
theorem Cu_w5 (hP : Cu_P side) (hA : wok A (Cu_d side) m) (h0 : 0 ≤ i ∧ i < side) (hx : 0 ≤ x ∧ x < side) : pm_wr pm_wI (wput A (Cu_d side) S h) (A (5, i, 0)) x v = some (wput A (Cu_d side) (sz S (5, i, 0) x v) h) := (w_wr (t := .int) hA (Cu_d5 h0) rfl (by decide) (wn_le _)).trans (if_pos (wn_in (by have := hP.1; grind) hx))
theorem Cu_l6 (hP : Cu_P side) (hA : wok A (Cu_d side) m) : pm_len (wput A (Cu_d side) S h) (A (6, 0, 0)) = some (wn side) := w_lenR hA (Cu_d6) (by decide)
theorem Cu_r6 (hP : Cu_P side) (hA : wok A (Cu_d side) m) (hx : 0 ≤ x ∧ x < side) : pm_rdR (wput A (Cu_d side) S h) (A (6, 0, 0)) x = some (some (A (13, x, 0))) := ((w_rdR hA (Cu_d6) rfl (wn_le _)).trans (if_pos (wn_in (by have := hP.1; grind) hx))).trans rfl
theorem Cu_l13 (hP : Cu_P side) (hA : wok A (Cu_d side) m) (h0 : 0 ≤ i ∧ i < side) : pm_len (wput A (Cu_d side) S h) (A (13, i, 0)) = some (wn side) := w_len hA (Cu_d13 h0) (by decide)
theorem Cu_r13 (hP : Cu_P side) (hA : wok A (Cu_d side) m) (h0 : 0 ≤ i ∧ i < side) (hx : 0 ≤ x ∧ x < side) : pm_rd pm_isB (wput A (Cu_d side) S h) (A (13, i, 0)) x = some (S.1 (13, i, 0) x) := (w_rd (t := .boolean) hA (Cu_d13 h0) rfl (by decide) (wn_le _)).trans (if_pos (wn_in (by have := hP.1; grind) hx))
theorem Cu_w13 (hP : Cu_P side) (hA : wok A (Cu_d side) m) (h0 : 0 ≤ i ∧ i < side) (hx : 0 ≤ x ∧ x < side) : pm_wr pm_wB (wput A (Cu_d side) S h) (A (13, i, 0)) x v = some (wput A (Cu_d side) (sz S (13, i, 0) x (vp_nar .boolean v)) h) := (w_wr (t := .boolean) hA (Cu_d13 h0) rfl (by decide) (wn_le _)).trans (if_pos (wn_in (by have := hP.1; grind) hx))
theorem Cu_l7 (hP : Cu_P side) (hA : wok A (Cu_d side) m) : pm_len (wput A (Cu_d side) S h) (A (7, 0, 0)) = some (wn (side * side)) := w_len hA (Cu_d7) (by decide)
theorem Cu_r7 (hP : Cu_P side) (hA : wok A (Cu_d side) m) (hx : 0 ≤ x ∧ x < (side * side)) : pm_rd pm_isI (wput A (Cu_d side) S h) (A (7, 0, 0)) x = some (S.1 (7, 0, 0) x) := (w_rd (t := .int) hA (Cu_d7) rfl (by decide) (wn_le _)).trans (if_pos (wn_in (by have := wsq hP.1 hP.2; grind) hx))
theorem Cu_w7 (hP : Cu_P side) (hA : wok A (Cu_d side) m) (hx : 0 ≤ x ∧ x < (side * side)) : pm_wr pm_wI (wput A (Cu_d side) S h) (A (7, 0, 0)) x v = some (wput A (Cu_d side) (sz S (7, 0, 0) x v) h) := (w_wr (t := .int) hA (Cu_d7) rfl (by decide) (wn_le _)).trans (if_pos (wn_in (by have := wsq hP.1 hP.2; grind) hx))
theorem Cu_l8 (hP : Cu_P side) (hA : wok A (Cu_d side) m) : pm_len (wput A (Cu_d side) S h) (A (8, 0, 0)) = some (wn (side * side)) := w_len hA (Cu_d8) (by decide)
theorem Cu_r8 (hP : Cu_P side) (hA : wok A (Cu_d side) m) (hx : 0 ≤ x ∧ x < (side * side)) : pm_rd pm_isB (wput A (Cu_d side) S h) (A (8, 0, 0)) x = some (S.1 (8, 0, 0) x) := (w_rd (t := .boolean) hA (Cu_d8) rfl (by decide) (wn_le _)).trans (if_pos (wn_in (by have := wsq hP.1 hP.2; grind) hx))
theorem Cu_w8 (hP : Cu_P side) (hA : wok A (Cu_d side) m) (hx : 0 ≤ x ∧ x < (side * side)) : pm_wr pm_wB (wput A (Cu_d side) S h) (A (8, 0, 0)) x v = some (wput A (Cu_d side) (sz S (8, 0, 0) x (vp_nar .boolean v)) h) := (w_wr (t := .boolean) hA (Cu_d8) rfl (by decide) (wn_le _)).trans (if_pos (wn_in (by have := wsq hP.1 hP.2; grind) hx))
theorem Cu_l9 (hP : Cu_P side) (hA : wok A (Cu_d side) m) : pm_len (wput A (Cu_d side) S h) (A (9, 0, 0)) = some 4 := w_lenR hA (Cu_d9) (by decide)
theorem Cu_r9 (hP : Cu_P side) (hA : wok A (Cu_d side) m) (hx : 0 ≤ x ∧ x < 4) : pm_rdR (wput A (Cu_d side) S h) (A (9, 0, 0)) x = some (some (A (10, x, 0))) := ((w_rdR hA (Cu_d9) rfl (by decide)).trans (if_pos hx)).trans rfl
theorem Cu_c10 (hP : Cu_P side) (hA : wok A (Cu_d side) m) (h0 : 0 ≤ i ∧ i < 4) : pm_cls (wput A (Cu_d side) S h) (A (10, i, 0)) = some 17 := w_cls hA (Cu_d10 h0)
theorem Cu_k10 {cl : pm_C} {k b c : Nat} {r : List Instr} {ls s : List Value} (hP : Cu_P side) (hA : wok A (Cu_d side) m) (h0 : 0 ≤ i ∧ i < 4) (h2 : pm_sub 17 c = true) : pm_ev pm_prog cl k b (.checkcast c :: r) ls (.ref (A (10, i, 0)) :: s) (wput A (Cu_d side) S h) = pm_ev pm_prog cl k b r ls (.ref (A (10, i, 0)) :: s) (wput A (Cu_d side) S h) := pe_checkcast (w_cls hA (Cu_d10 h0)) h2
theorem Cu_g10_0 (hP : Cu_P side) (hA : wok A (Cu_d side) m) (h0 : 0 ≤ i ∧ i < 4) : pm_gf pm_tab (wput A (Cu_d side) S h) (A (10, i, 0)) 17 0 = some (.int (S.1 (10, i, 0) 0)) := w_g (f := (0, (0, 0, 0))) hA (Cu_d10 h0) rfl rfl
theorem Cu_p10_0 (hP : Cu_P side) (hA : wok A (Cu_d side) m) (h0 : 0 ≤ i ∧ i < 4) : pm_pf pm_tab (wput A (Cu_d side) S h) (A (10, i, 0)) 17 0 0 (.int v) = some (wput A (Cu_d side) (sz S (10, i, 0) 0 v) h) := w_p0 (q := (0, 0, 0)) (t := 0) hA (Cu_d10 h0) rfl rfl (Nat.le_of_ble_eq_true rfl)
theorem Cu_g10_1 (hP : Cu_P side) (hA : wok A (Cu_d side) m) (h0 : 0 ≤ i ∧ i < 4) : pm_gf pm_tab (wput A (Cu_d side) S h) (A (10, i, 0)) 17 1 = some (.int (S.1 (10, i, 0) 1)) := w_g (f := (0, (0, 0, 0))) hA (Cu_d10 h0) rfl rfl
theorem Cu_p10_1 (hP : Cu_P side) (hA : wok A (Cu_d side) m) (h0 : 0 ≤ i ∧ i < 4) : pm_pf pm_tab (wput A (Cu_d side) S h) (A (10, i, 0)) 17 1 0 (.int v) = some (wput A (Cu_d side) (sz S (10, i, 0) 1 v) h) := w_p0 (q := (0, 0, 0)) (t := 0) hA (Cu_d10 h0) rfl rfl (Nat.le_of_ble_eq_true rfl)
theorem Cu_c11 (hP : Cu_P side) (hA : wok A (Cu_d side) m) : pm_cls (wput A (Cu_d side) S h) (A (11, 0, 0)) = some 19 := w_cls hA (Cu_d11)
theorem Cu_k11 {cl : pm_C} {k b c : Nat} {r : List Instr} {ls s : List Value} (hP : Cu_P side) (hA : wok A (Cu_d side) m) (h2 : pm_sub 19 c = true) : pm_ev pm_prog cl k b (.checkcast c :: r) ls (.ref (A (11, 0, 0)) :: s) (wput A (Cu_d side) S h) = pm_ev pm_prog cl k b r ls (.ref (A (11, 0, 0)) :: s) (wput A (Cu_d side) S h) := pe_checkcast (w_cls hA (Cu_d11)) h2
theorem Cu_g11_0 (hP : Cu_P side) (hA : wok A (Cu_d side) m) : pm_gf pm_tab (wput A (Cu_d side) S h) (A (11, 0, 0)) 19 0 = some (.ref (A (1, 0, 0))) := w_g (f := (2, (1, 0, 0))) hA (Cu_d11) rfl rfl
theorem Cu_g11_1 (hP : Cu_P side) (hA : wok A (Cu_d side) m) : pm_gf pm_tab (wput A (Cu_d side) S h) (A (11, 0, 0)) 19 1 = some (.ref (A (9, 0, 0))) := w_g (f := (2, (9, 0, 0))) hA (Cu_d11) rfl rfl
theorem Cu_g11_2 (hP : Cu_P side) (hA : wok A (Cu_d side) m) : pm_gf pm_tab (wput A (Cu_d side) S h) (A (11, 0, 0)) 19 2 = some (.int (S.1 (11, 0, 0) 2)) := w_g (f := (0, (0, 0, 0))) hA (Cu_d11) rfl rfl
theorem Cu_p11_2 (hP : Cu_P side) (hA : wok A (Cu_d side) m) : pm_pf pm_tab (wput A (Cu_d side) S h) (A (11, 0, 0)) 19 2 0 (.int v) = some (wput A (Cu_d side) (sz S (11, 0, 0) 2 v) h) := w_p0 (q := (0, 0, 0)) (t := 0) hA (Cu_d11) rfl rfl (Nat.le_of_ble_eq_true rfl)
theorem Cu_g11_3 (hP : Cu_P side) (hA : wok A (Cu_d side) m) : pm_gf pm_tab (wput A (Cu_d side) S h) (A (11, 0, 0)) 19 3 = some (.int (S.1 (11, 0, 0) 3)) := w_g (f := (0, (0, 0, 0))) hA (Cu_d11) rfl rfl
theorem Cu_p11_3 (hP : Cu_P side) (hA : wok A (Cu_d side) m) : pm_pf pm_tab (wput A (Cu_d side) S h) (A (11, 0, 0)) 19 3 0 (.int v) = some (wput A (Cu_d side) (sz S (11, 0, 0) 3 v) h) := w_p0 (q := (0, 0, 0)) (t := 0) hA (Cu_d11) rfl rfl (Nat.le_of_ble_eq_true rfl)
theorem Cu_g11_4 (hP : Cu_P side) (hA : wok A (Cu_d side) m) : pm_gf pm_tab (wput A (Cu_d side) S h) (A (11, 0, 0)) 19 4 = some (.int (S.1 (11, 0, 0) 4)) := w_g (f := (0, (0, 0, 0))) hA (Cu_d11) rfl rfl
theorem Cu_p11_4 (hP : Cu_P side) (hA : wok A (Cu_d side) m) : pm_pf pm_tab (wput A (Cu_d side) S h) (A (11, 0, 0)) 19 4 0 (.int v) = some (wput A (Cu_d side) (sz S (11, 0, 0) 4 v) h) := w_p0 (q := (0, 0, 0)) (t := 0) hA (Cu_d11) rfl rfl (Nat.le_of_ble_eq_true rfl)
theorem Cu_g11_5 (hP : Cu_P side) (hA : wok A (Cu_d side) m) : pm_gf pm_tab (wput A (Cu_d side) S h) (A (11, 0, 0)) 19 5 = some (wr A 10 (S.1 (11, 0, 0) 5)) := w_g (f := (4, (10, 0, 0))) hA (Cu_d11) rfl rfl
theorem Cu_p11_5 (hP : Cu_P side) (hA : wok A (Cu_d side) m) (hv : ¬ v < 0) : pm_pf pm_tab (wput A (Cu_d side) S h) (A (11, 0, 0)) 19 5 3 (.ref (A (10, v, 0))) = some (wput A (Cu_d side) (sz S (11, 0, 0) 5 v) h) := w_p4 (q := (10, 0, 0)) hA (Cu_d11) rfl rfl (Nat.le_of_ble_eq_true rfl) (wr_p hv)
theorem Cu_pN11_5 (hP : Cu_P side) (hA : wok A (Cu_d side) m) : pm_pf pm_tab (wput A (Cu_d side) S h) (A (11, 0, 0)) 19 5 3 .null = some (wput A (Cu_d side) (sz S (11, 0, 0) 5 (-1)) h) := w_p4 (q := (10, 0, 0)) hA (Cu_d11) rfl rfl (Nat.le_of_ble_eq_true rfl) wr_m1
theorem Cu_g11_6 (hP : Cu_P side) (hA : wok A (Cu_d side) m) : pm_gf pm_tab (wput A (Cu_d side) S h) (A (11, 0, 0)) 19 6 = some (.int (S.1 (11, 0, 0) 6)) := w_g (f := (0, (0, 0, 0))) hA (Cu_d11) rfl rfl
theorem Cu_p11_6 (hP : Cu_P side) (hA : wok A (Cu_d side) m) : pm_pf pm_tab (wput A (Cu_d side) S h) (A (11, 0, 0)) 19 6 0 (.int v) = some (wput A (Cu_d side) (sz S (11, 0, 0) 6 v) h) := w_p0 (q := (0, 0, 0)) (t := 0) hA (Cu_d11) rfl rfl (Nat.le_of_ble_eq_true rfl)
theorem Cu_g11_7 (hP : Cu_P side) (hA : wok A (Cu_d side) m) : pm_gf pm_tab (wput A (Cu_d side) S h) (A (11, 0, 0)) 19 7 = some (.int (S.1 (11, 0, 0) 7)) := w_g (f := (0, (0, 0, 0))) hA (Cu_d11) rfl rfl
theorem Cu_p11_7 (hP : Cu_P side) (hA : wok A (Cu_d side) m) : pm_pf pm_tab (wput A (Cu_d side) S h) (A (11, 0, 0)) 19 7 0 (.int v) = some (wput A (Cu_d side) (sz S (11, 0, 0) 7 v) h) := w_p0 (q := (0, 0, 0)) (t := 0) hA (Cu_d11) rfl rfl (Nat.le_of_ble_eq_true rfl)
theorem Cu_g11_8 (hP : Cu_P side) (hA : wok A (Cu_d side) m) : pm_gf pm_tab (wput A (Cu_d side) S h) (A (11, 0, 0)) 19 8 = some (.int (S.1 (11, 0, 0) 8)) := w_g (f := (0, (0, 0, 0))) hA (Cu_d11) rfl rfl
theorem Cu_p11_8 (hP : Cu_P side) (hA : wok A (Cu_d side) m) : pm_pf pm_tab (wput A (Cu_d side) S h) (A (11, 0, 0)) 19 8 0 (.int v) = some (wput A (Cu_d side) (sz S (11, 0, 0) 8 v) h) := w_p0 (q := (0, 0, 0)) (t := 0) hA (Cu_d11) rfl rfl (Nat.le_of_ble_eq_true rfl)
theorem Cu_l12 (hP : Cu_P side) (hA : wok A (Cu_d side) m) : pm_len (wput A (Cu_d side) S h) (A (12, 0, 0)) = some 240 := w_len hA (Cu_d12) (by decide)
theorem Cu_r12 (hP : Cu_P side) (hA : wok A (Cu_d side) m) (hx : 0 ≤ x ∧ x < 240) : pm_rd pm_isB (wput A (Cu_d side) S h) (A (12, 0, 0)) x = some (S.1 (12, 0, 0) x) := (w_rd (t := .byte) hA (Cu_d12) rfl (by decide) (by decide)).trans (if_pos hx)
theorem Cu_w12 (hP : Cu_P side) (hA : wok A (Cu_d side) m) (hx : 0 ≤ x ∧ x < 240) : pm_wr pm_wB (wput A (Cu_d side) S h) (A (12, 0, 0)) x v = some (wput A (Cu_d side) (sz S (12, 0, 0) x (vp_nar .byte v)) h) := (w_wr (t := .byte) hA (Cu_d12) rfl (by decide) (by decide)).trans (if_pos hx)
end
/-- TimberHouse$RouterPaths.isIn(III)Z -/
theorem c1026 {d : Nat} {h : pm_H} {x0 : Int32} {x1 : Int32} {x2 : Int32} : pm_call pm_prog (d + 1) 1026 [.int x0, .int x1, .int x2] h = pm_ev pm_prog (pm_call pm_prog d) 1026 0 b1026_0 [.int x0, .int x1, .int x2] [] h := pm_cal (pm_rc0 rfl) rfl rfl rfl
theorem g1026_1 {cl : pm_C} {ls st : List Value} {h : pm_H} : pm_go pm_prog cl 1026 1 ls st h = pm_ev pm_prog cl 1026 1 b1026_1 ls st h := pm_go_eq pm_prog cl 1026 1 ls st h
theorem g1026_2 {cl : pm_C} {ls st : List Value} {h : pm_H} : pm_go pm_prog cl 1026 2 ls st h = pm_ev pm_prog cl 1026 2 b1026_2 ls st h := pm_go_eq pm_prog cl 1026 2 ls st h
/-- TimberHouse$RouterPaths.isIn(III)Z -/
noncomputable def f1026 (x0 : Int32) (x1 : Int32) (x2 : Int32) : Option (Int32) :=
  if x0 < x1 then
    some 0
  else
    if x0 ≤ x2 then
      some 1
    else
      some 0
theorem x1026 {h : pm_H} {D : Nat} {x0 : Int32} {x1 : Int32} {x2 : Int32} {r : Int32} (hD : 1 ≤ D) (e : f1026 x0 x1 x2 = some r) : pm_call pm_prog D 1026 [.int x0, .int x1, .int x2] h = some (Outcome.returned (some (.int r)), h) := by
  obtain ⟨D, rfl⟩ : ∃ D', D = D' + 1 := ⟨D - 1, by omega⟩
  have hD : 0 ≤ D := by omega
  simp only [f1026] at e
  rw [c1026, b1026_0]
  by_cases k1 : x0 < x1
  · rw [if_pos k1] at e
    have e := Option.some.inj e; subst e
    simp -implicitDefEqProofs (disch := first | assumption | exact Nat.le_of_ble_eq_true rfl | decide) only [b1026_0, g1026_1, b1026_1, g1026_2, b1026_2, pe_iload0, pe_iload1, pe_icmp_lt, pe_iload2, pe_icmp_gt, pe_sipush, pe_goto, pe_goto_w, pm_prog_1, pm_ob_some, Nat.reduceDiv, Nat.reduceMod, Nat.reduceMul, Nat.reduceAdd, Int.reduceToNat, pm_kill_i, pm_kill_r, pm_kill_n, pm_kill_j, pm_kill_l, pm_kill_d, pm_cats_nil, pm_cats_i, pm_cats_r, pm_cats_n, pm_cats_l, pm_cats_d, sz_1, sz_2, sl_1, sl_2, lc_0, lc_lt, lc_le, li_ne, va_rf, wr_m1, we_m1, pm_kill_w, Int32.reduceOfInt, Int64.reduceOfInt, Int32.reduceOfNat, Int32.reduceLT, Int32.reduceLE, Prod.mk.injEq, Nat.reduceEqDiff, reduceCtorEq, and_true, true_and, and_false, false_and, and_self, ite_true, ite_false, ↓reduceIte, not_true_eq_false, not_false_eq_true, pe_ri, pe_rz, pe_rc, eq_true k1]
  · rw [if_neg k1] at e
    by_cases k2 : x0 ≤ x2
    · rw [if_pos k2] at e
      have e := Option.some.inj e; subst e
      simp -implicitDefEqProofs (disch := first | assumption | exact Nat.le_of_ble_eq_true rfl | decide) only [b1026_0, g1026_1, b1026_1, g1026_2, b1026_2, pe_iload0, pe_iload1, pe_icmp_lt, pe_iload2, pe_icmp_gt, pe_sipush, pe_goto, pe_goto_w, pm_prog_1, pm_ob_some, Nat.reduceDiv, Nat.reduceMod, Nat.reduceMul, Nat.reduceAdd, Int.reduceToNat, pm_kill_i, pm_kill_r, pm_kill_n, pm_kill_j, pm_kill_l, pm_kill_d, pm_cats_nil, pm_cats_i, pm_cats_r, pm_cats_n, pm_cats_l, pm_cats_d, sz_1, sz_2, sl_1, sl_2, lc_0, lc_lt, lc_le, li_ne, va_rf, wr_m1, we_m1, pm_kill_w, Int32.reduceOfInt, Int64.reduceOfInt, Int32.reduceOfNat, Int32.reduceLT, Int32.reduceLE, Prod.mk.injEq, Nat.reduceEqDiff, reduceCtorEq, and_true, true_and, and_false, false_and, and_self, ite_true, ite_false, ↓reduceIte, not_true_eq_false, not_false_eq_true, pe_ri, pe_rz, pe_rc, eq_false k1, eq_true k2]
    · rw [if_neg k2] at e
      have e := Option.some.inj e; subst e
      simp -implicitDefEqProofs (disch := first | assumption | exact Nat.le_of_ble_eq_true rfl | decide) only [b1026_0, g1026_1, b1026_1, g1026_2, b1026_2, pe_iload0, pe_iload1, pe_icmp_lt, pe_iload2, pe_icmp_gt, pe_sipush, pe_goto, pe_goto_w, pm_prog_1, pm_ob_some, Nat.reduceDiv, Nat.reduceMod, Nat.reduceMul, Nat.reduceAdd, Int.reduceToNat, pm_kill_i, pm_kill_r, pm_kill_n, pm_kill_j, pm_kill_l, pm_kill_d, pm_cats_nil, pm_cats_i, pm_cats_r, pm_cats_n, pm_cats_l, pm_cats_d, sz_1, sz_2, sl_1, sl_2, lc_0, lc_lt, lc_le, li_ne, va_rf, wr_m1, we_m1, pm_kill_w, Int32.reduceOfInt, Int64.reduceOfInt, Int32.reduceOfNat, Int32.reduceLT, Int32.reduceLE, Prod.mk.injEq, Nat.reduceEqDiff, reduceCtorEq, and_true, true_and, and_false, false_and, and_self, ite_true, ite_false, ↓reduceIte, not_true_eq_false, not_false_eq_true, pe_ri, pe_rz, pe_rc, eq_false k1, eq_false k2]
/-- TimberHouse$RouterPaths.unit(I)Z -/
theorem c1025 {d : Nat} {h : pm_H} {a : Nat} {x0 : Int32} (hc : pm_cls h a = some 16) : pm_call pm_prog (d + 1) 1025 [.ref a, .int x0] h = pm_ev pm_prog (pm_call pm_prog d) 1025 0 b1025_0 [.ref a, .int x0] [] h := pm_cal (pm_rc1 hc rfl) rfl rfl rfl
theorem g1025_1 {cl : pm_C} {ls st : List Value} {h : pm_H} : pm_go pm_prog cl 1025 1 ls st h = pm_ev pm_prog cl 1025 1 b1025_1 ls st h := pm_go_eq pm_prog cl 1025 1 ls st h
theorem g1025_2 {cl : pm_C} {ls st : List Value} {h : pm_H} : pm_go pm_prog cl 1025 2 ls st h = pm_ev pm_prog cl 1025 2 b1025_2 ls st h := pm_go_eq pm_prog cl 1025 2 ls st h
/-- TimberHouse$RouterPaths.unit(I)Z -/
noncomputable def f1025 (side : Int32) (S : wS) (x1 : Int32) : Option (Int32 × wS) :=
  (f1026 x1 32 126).bind fun v1 =>
  if v1 = 0 then
    some (0, S)
  else
    if (S.1 (0, 0, 0) 4) = 240 then
      some (0, S)
    else
      if 0 ≤ (S.1 (0, 0, 0) 4) ∧ (S.1 (0, 0, 0) 4) < 240 then
        some (1, (sz (sz S (0, 0, 0) 4 ((S.1 (0, 0, 0) 4) + 1)) (12, 0, 0) (S.1 (0, 0, 0) 4) (vp_nar .byte (Int8.toInt32 (Int32.toInt8 x1)))))
      else none
theorem x1025 {side : Int32} {A : wK → Nat} {h : pm_H} {D : Nat} {S : wS} {x1 : Int32} {r : Int32 × wS} (hP : Cu_P side) (hA : wok A (Cu_d side) h.1) (hD : 2 ≤ D) (e : f1025 side S x1 = some r) : pm_call pm_prog D 1025 [.ref (A (0, 0, 0)), .int x1] (wput A (Cu_d side) S h) = some (match (generalizing := false) r with | (w0, S1) => (Outcome.returned (some (.int w0)), (wput A (Cu_d side) S1 h))) := by
  obtain ⟨D, rfl⟩ : ∃ D', D = D' + 1 := ⟨D - 1, by omega⟩
  have hD : 1 ≤ D := by omega
  simp only [f1025] at e
  rw [c1025 (Cu_c0 hP hA), b1025_0]
  obtain ⟨v1, k1, e⟩ := Option.bind_eq_some_iff.mp e
  try dsimp only at e
  have z1 := fun h => x1026 (D := D) (h := h) (by omega) k1
  by_cases k2 : v1 = 0
  · rw [if_pos k2] at e
    have e := Option.some.inj e; subst e
    simp -implicitDefEqProofs (disch := first | assumption | exact Nat.le_of_ble_eq_true rfl | decide) only [b1025_0, g1025_1, b1025_1, g1025_2, b1025_2, pe_iload1, pe_sipush, pe_call3, pm_af_ret, pm_af_void, pm_af_thr, pe_if_eq, pe_aload0, pe_getfield, pe_icmp_ne, pe_goto_w, pe_dup_i, pe_dup_r, pe_dup_x1_ii, pe_dup_x1_ir, pe_dup_x1_ri, pe_dup_x1_rr, pe_iadd, pe_putfield, pe_i2b, pe_bastore, pm_prog_1, pm_ob_some, Nat.reduceDiv, Nat.reduceMod, Nat.reduceMul, Nat.reduceAdd, Int.reduceToNat, pm_kill_i, pm_kill_r, pm_kill_n, pm_kill_j, pm_kill_l, pm_kill_d, pm_cats_nil, pm_cats_i, pm_cats_r, pm_cats_n, pm_cats_l, pm_cats_d, sz_1, sz_2, sl_1, sl_2, lc_0, lc_lt, lc_le, li_ne, va_rf, wr_m1, we_m1, pm_kill_w, Int32.reduceOfInt, Int64.reduceOfInt, Int32.reduceOfNat, Int32.reduceLT, Int32.reduceLE, Prod.mk.injEq, Nat.reduceEqDiff, reduceCtorEq, and_true, true_and, and_false, false_and, and_self, ite_true, ite_false, ↓reduceIte, not_true_eq_false, not_false_eq_true, pe_ri, pe_rz, pe_rc, Cu_g0_3 hP hA, Cu_g0_4 hP hA, Cu_p0_4 hP hA, Cu_w12 hP hA, z1, eq_true k2]
  · rw [if_neg k2] at e
    by_cases k3 : (S.1 (0, 0, 0) 4) = 240
    · rw [if_pos k3] at e
      have e := Option.some.inj e; subst e
      simp -implicitDefEqProofs (disch := first | assumption | exact Nat.le_of_ble_eq_true rfl | decide) only [b1025_0, g1025_1, b1025_1, g1025_2, b1025_2, pe_iload1, pe_sipush, pe_call3, pm_af_ret, pm_af_void, pm_af_thr, pe_if_eq, pe_aload0, pe_getfield, pe_icmp_ne, pe_goto_w, pe_dup_i, pe_dup_r, pe_dup_x1_ii, pe_dup_x1_ir, pe_dup_x1_ri, pe_dup_x1_rr, pe_iadd, pe_putfield, pe_i2b, pe_bastore, pm_prog_1, pm_ob_some, Nat.reduceDiv, Nat.reduceMod, Nat.reduceMul, Nat.reduceAdd, Int.reduceToNat, pm_kill_i, pm_kill_r, pm_kill_n, pm_kill_j, pm_kill_l, pm_kill_d, pm_cats_nil, pm_cats_i, pm_cats_r, pm_cats_n, pm_cats_l, pm_cats_d, sz_1, sz_2, sl_1, sl_2, lc_0, lc_lt, lc_le, li_ne, va_rf, wr_m1, we_m1, pm_kill_w, Int32.reduceOfInt, Int64.reduceOfInt, Int32.reduceOfNat, Int32.reduceLT, Int32.reduceLE, Prod.mk.injEq, Nat.reduceEqDiff, reduceCtorEq, and_true, true_and, and_false, false_and, and_self, ite_true, ite_false, ↓reduceIte, not_true_eq_false, not_false_eq_true, pe_ri, pe_rz, pe_rc, Cu_g0_3 hP hA, Cu_g0_4 hP hA, Cu_p0_4 hP hA, Cu_w12 hP hA, z1, eq_false k2, eq_true k3]
    · rw [if_neg k3] at e
      by_cases k4 : 0 ≤ (S.1 (0, 0, 0) 4) ∧ (S.1 (0, 0, 0) 4) < 240
      · rw [if_pos k4] at e
        have e := Option.some.inj e; subst e
        simp -implicitDefEqProofs (disch := first | assumption | exact Nat.le_of_ble_eq_true rfl | decide) only [b1025_0, g1025_1, b1025_1, g1025_2, b1025_2, pe_iload1, pe_sipush, pe_call3, pm_af_ret, pm_af_void, pm_af_thr, pe_if_eq, pe_aload0, pe_getfield, pe_icmp_ne, pe_goto_w, pe_dup_i, pe_dup_r, pe_dup_x1_ii, pe_dup_x1_ir, pe_dup_x1_ri, pe_dup_x1_rr, pe_iadd, pe_putfield, pe_i2b, pe_bastore, pm_prog_1, pm_ob_some, Nat.reduceDiv, Nat.reduceMod, Nat.reduceMul, Nat.reduceAdd, Int.reduceToNat, pm_kill_i, pm_kill_r, pm_kill_n, pm_kill_j, pm_kill_l, pm_kill_d, pm_cats_nil, pm_cats_i, pm_cats_r, pm_cats_n, pm_cats_l, pm_cats_d, sz_1, sz_2, sl_1, sl_2, lc_0, lc_lt, lc_le, li_ne, va_rf, wr_m1, we_m1, pm_kill_w, Int32.reduceOfInt, Int64.reduceOfInt, Int32.reduceOfNat, Int32.reduceLT, Int32.reduceLE, Prod.mk.injEq, Nat.reduceEqDiff, reduceCtorEq, and_true, true_and, and_false, false_and, and_self, ite_true, ite_false, ↓reduceIte, not_true_eq_false, not_false_eq_true, pe_ri, pe_rz, pe_rc, Cu_g0_3 hP hA, Cu_g0_4 hP hA, Cu_p0_4 hP hA, Cu_w12 hP hA, z1, eq_false k2, eq_false k3]
      · rw [if_neg k4] at e; cases e
/-- TimberHouse$RouterPaths$Grid.has(II)Z -/
theorem c1155 {d : Nat} {h : pm_H} {a : Nat} {x0 : Int32} {x1 : Int32} (hc : pm_cls h a = some 18) : pm_call pm_prog (d + 1) 1155 [.ref a, .int x0, .int x1] h = pm_ev pm_prog (pm_call pm_prog d) 1155 0 b1155_0 [.ref a, .int x0, .int x1] [] h := pm_cal (pm_rc1 hc rfl) rfl rfl rfl
theorem g1155_1 {cl : pm_C} {ls st : List Value} {h : pm_H} : pm_go pm_prog cl 1155 1 ls st h = pm_ev pm_prog cl 1155 1 b1155_1 ls st h := pm_go_eq pm_prog cl 1155 1 ls st h
theorem g1155_2 {cl : pm_C} {ls st : List Value} {h : pm_H} : pm_go pm_prog cl 1155 2 ls st h = pm_ev pm_prog cl 1155 2 b1155_2 ls st h := pm_go_eq pm_prog cl 1155 2 ls st h
/-- TimberHouse$RouterPaths$Grid.has(II)Z -/
noncomputable def f1155 (side : Int32) (S : wS) (x1 : Int32) (x2 : Int32) : Option (Int32) :=
  if x1 < 0 then
    some 0
  else
    if x1 < (S.1 (1, 0, 0) 0) then
      if x2 < 0 then
        some 0
      else
        if x2 < (S.1 (1, 0, 0) 0) then
          some 1
        else
          some 0
    else
      some 0
theorem x1155 {side : Int32} {A : wK → Nat} {h : pm_H} {D : Nat} {S : wS} {x1 : Int32} {x2 : Int32} {r : Int32} (hP : Cu_P side) (hA : wok A (Cu_d side) h.1) (hD : 1 ≤ D) (e : f1155 side S x1 x2 = some r) : pm_call pm_prog D 1155 [.ref (A (1, 0, 0)), .int x1, .int x2] (wput A (Cu_d side) S h) = some (Outcome.returned (some (.int r)), (wput A (Cu_d side) S h)) := by
  obtain ⟨D, rfl⟩ : ∃ D', D = D' + 1 := ⟨D - 1, by omega⟩
  have hD : 0 ≤ D := by omega
  simp only [f1155] at e
  rw [c1155 (Cu_c1 hP hA), b1155_0]
  by_cases k1 : x1 < 0
  · rw [if_pos k1] at e
    have e := Option.some.inj e; subst e
    simp -implicitDefEqProofs (disch := first | assumption | exact Nat.le_of_ble_eq_true rfl | decide) only [b1155_0, g1155_1, b1155_1, g1155_2, b1155_2, pe_iload1, pe_if_lt, pe_aload0, pe_getfield, pe_icmp_ge, pe_iload2, pe_sipush, pe_goto, pe_goto_w, pm_prog_1, pm_ob_some, Nat.reduceDiv, Nat.reduceMod, Nat.reduceMul, Nat.reduceAdd, Int.reduceToNat, pm_kill_i, pm_kill_r, pm_kill_n, pm_kill_j, pm_kill_l, pm_kill_d, pm_cats_nil, pm_cats_i, pm_cats_r, pm_cats_n, pm_cats_l, pm_cats_d, sz_1, sz_2, sl_1, sl_2, lc_0, lc_lt, lc_le, li_ne, va_rf, wr_m1, we_m1, pm_kill_w, Int32.reduceOfInt, Int64.reduceOfInt, Int32.reduceOfNat, Int32.reduceLT, Int32.reduceLE, Prod.mk.injEq, Nat.reduceEqDiff, reduceCtorEq, and_true, true_and, and_false, false_and, and_self, ite_true, ite_false, ↓reduceIte, not_true_eq_false, not_false_eq_true, pe_ri, pe_rz, pe_rc, Cu_g1_0 hP hA, eq_true k1]
  · rw [if_neg k1] at e
    by_cases k2 : x1 < (S.1 (1, 0, 0) 0)
    · rw [if_pos k2] at e
      by_cases k3 : x2 < 0
      · rw [if_pos k3] at e
        have e := Option.some.inj e; subst e
        simp -implicitDefEqProofs (disch := first | assumption | exact Nat.le_of_ble_eq_true rfl | decide) only [b1155_0, g1155_1, b1155_1, g1155_2, b1155_2, pe_iload1, pe_if_lt, pe_aload0, pe_getfield, pe_icmp_ge, pe_iload2, pe_sipush, pe_goto, pe_goto_w, pm_prog_1, pm_ob_some, Nat.reduceDiv, Nat.reduceMod, Nat.reduceMul, Nat.reduceAdd, Int.reduceToNat, pm_kill_i, pm_kill_r, pm_kill_n, pm_kill_j, pm_kill_l, pm_kill_d, pm_cats_nil, pm_cats_i, pm_cats_r, pm_cats_n, pm_cats_l, pm_cats_d, sz_1, sz_2, sl_1, sl_2, lc_0, lc_lt, lc_le, li_ne, va_rf, wr_m1, we_m1, pm_kill_w, Int32.reduceOfInt, Int64.reduceOfInt, Int32.reduceOfNat, Int32.reduceLT, Int32.reduceLE, Prod.mk.injEq, Nat.reduceEqDiff, reduceCtorEq, and_true, true_and, and_false, false_and, and_self, ite_true, ite_false, ↓reduceIte, not_true_eq_false, not_false_eq_true, pe_ri, pe_rz, pe_rc, Cu_g1_0 hP hA, eq_false k1, eq_true k2, eq_true k3]
      · rw [if_neg k3] at e
        by_cases k4 : x2 < (S.1 (1, 0, 0) 0)
        · rw [if_pos k4] at e
          have e := Option.some.inj e; subst e
          simp -implicitDefEqProofs (disch := first | assumption | exact Nat.le_of_ble_eq_true rfl | decide) only [b1155_0, g1155_1, b1155_1, g1155_2, b1155_2, pe_iload1, pe_if_lt, pe_aload0, pe_getfield, pe_icmp_ge, pe_iload2, pe_sipush, pe_goto, pe_goto_w, pm_prog_1, pm_ob_some, Nat.reduceDiv, Nat.reduceMod, Nat.reduceMul, Nat.reduceAdd, Int.reduceToNat, pm_kill_i, pm_kill_r, pm_kill_n, pm_kill_j, pm_kill_l, pm_kill_d, pm_cats_nil, pm_cats_i, pm_cats_r, pm_cats_n, pm_cats_l, pm_cats_d, sz_1, sz_2, sl_1, sl_2, lc_0, lc_lt, lc_le, li_ne, va_rf, wr_m1, we_m1, pm_kill_w, Int32.reduceOfInt, Int64.reduceOfInt, Int32.reduceOfNat, Int32.reduceLT, Int32.reduceLE, Prod.mk.injEq, Nat.reduceEqDiff, reduceCtorEq, and_true, true_and, and_false, false_and, and_self, ite_true, ite_false, ↓reduceIte, not_true_eq_false, not_false_eq_true, pe_ri, pe_rz, pe_rc, Cu_g1_0 hP hA, eq_false k1, eq_true k2, eq_false k3, eq_true k4]
        · rw [if_neg k4] at e
          have e := Option.some.inj e; subst e
          simp -implicitDefEqProofs (disch := first | assumption | exact Nat.le_of_ble_eq_true rfl | decide) only [b1155_0, g1155_1, b1155_1, g1155_2, b1155_2, pe_iload1, pe_if_lt, pe_aload0, pe_getfield, pe_icmp_ge, pe_iload2, pe_sipush, pe_goto, pe_goto_w, pm_prog_1, pm_ob_some, Nat.reduceDiv, Nat.reduceMod, Nat.reduceMul, Nat.reduceAdd, Int.reduceToNat, pm_kill_i, pm_kill_r, pm_kill_n, pm_kill_j, pm_kill_l, pm_kill_d, pm_cats_nil, pm_cats_i, pm_cats_r, pm_cats_n, pm_cats_l, pm_cats_d, sz_1, sz_2, sl_1, sl_2, lc_0, lc_lt, lc_le, li_ne, va_rf, wr_m1, we_m1, pm_kill_w, Int32.reduceOfInt, Int64.reduceOfInt, Int32.reduceOfNat, Int32.reduceLT, Int32.reduceLE, Prod.mk.injEq, Nat.reduceEqDiff, reduceCtorEq, and_true, true_and, and_false, false_and, and_self, ite_true, ite_false, ↓reduceIte, not_true_eq_false, not_false_eq_true, pe_ri, pe_rz, pe_rc, Cu_g1_0 hP hA, eq_false k1, eq_true k2, eq_false k3, eq_false k4]
    · rw [if_neg k2] at e
      have e := Option.some.inj e; subst e
      simp -implicitDefEqProofs (disch := first | assumption | exact Nat.le_of_ble_eq_true rfl | decide) only [b1155_0, g1155_1, b1155_1, g1155_2, b1155_2, pe_iload1, pe_if_lt, pe_aload0, pe_getfield, pe_icmp_ge, pe_iload2, pe_sipush, pe_goto, pe_goto_w, pm_prog_1, pm_ob_some, Nat.reduceDiv, Nat.reduceMod, Nat.reduceMul, Nat.reduceAdd, Int.reduceToNat, pm_kill_i, pm_kill_r, pm_kill_n, pm_kill_j, pm_kill_l, pm_kill_d, pm_cats_nil, pm_cats_i, pm_cats_r, pm_cats_n, pm_cats_l, pm_cats_d, sz_1, sz_2, sl_1, sl_2, lc_0, lc_lt, lc_le, li_ne, va_rf, wr_m1, we_m1, pm_kill_w, Int32.reduceOfInt, Int64.reduceOfInt, Int32.reduceOfNat, Int32.reduceLT, Int32.reduceLE, Prod.mk.injEq, Nat.reduceEqDiff, reduceCtorEq, and_true, true_and, and_false, false_and, and_self, ite_true, ite_false, ↓reduceIte, not_true_eq_false, not_false_eq_true, pe_ri, pe_rz, pe_rc, Cu_g1_0 hP hA, eq_false k1, eq_false k2]
/-- TimberHouse$RouterPaths.there(Z)V -/
theorem c1028 {d : Nat} {h : pm_H} {x0 : Int32} : pm_call pm_prog (d + 1) 1028 [.int x0] h = pm_ev pm_prog (pm_call pm_prog d) 1028 0 b1028_0 [.int x0] [] h := pm_cal (pm_rc0 rfl) rfl rfl rfl
theorem g1028_1 {cl : pm_C} {ls st : List Value} {h : pm_H} : pm_go pm_prog cl 1028 1 ls st h = pm_ev pm_prog cl 1028 1 b1028_1 ls st h := pm_go_eq pm_prog cl 1028 1 ls st h
theorem t1028 {cl : pm_C} {j : Nat} {ls : List Value} {c : Nat} {h : pm_H} : pm_thr pm_prog cl 1028 j ls c h = some (.threw c, h) := rfl
/-- TimberHouse$RouterPaths.there(Z)V -/
noncomputable def f1028 (x0 : Int32) : Option (Nat ⊕ (Unit)) :=
  if x0 = 0 then
    some (.inl 67)
  else
    some (.inr ())
theorem x1028 {h : pm_H} {D : Nat} {x0 : Int32} {r : Nat ⊕ (Unit)} (hD : 1 ≤ D) (e : f1028 x0 = some r) : pm_call pm_prog D 1028 [.int x0] h = some (match (generalizing := false) r with | .inl c => (Outcome.threw c, (pm_new h 6 (.inr (c, [])))) | .inr _ => (Outcome.returned none, h)) := by
  obtain ⟨D, rfl⟩ : ∃ D', D = D' + 1 := ⟨D - 1, by omega⟩
  have hD : 0 ≤ D := by omega
  simp only [f1028] at e
  rw [c1028, b1028_0]
  by_cases k1 : x0 = 0
  · rw [if_pos k1] at e
    have e := Option.some.inj e; subst e
    simp -implicitDefEqProofs (disch := first | assumption | exact Nat.le_of_ble_eq_true rfl | decide) only [b1028_0, g1028_1, b1028_1, pe_iload0, pe_if_ne, pe_return, pm_prog_1, pm_ob_some, Nat.reduceDiv, Nat.reduceMod, Nat.reduceMul, Nat.reduceAdd, Int.reduceToNat, pm_kill_i, pm_kill_r, pm_kill_n, pm_kill_j, pm_kill_l, pm_kill_d, pm_cats_nil, pm_cats_i, pm_cats_r, pm_cats_n, pm_cats_l, pm_cats_d, sz_1, sz_2, sl_1, sl_2, lc_0, lc_lt, lc_le, li_ne, va_rf, wr_m1, we_m1, pm_kill_w, Int32.reduceOfInt, Int64.reduceOfInt, Int32.reduceOfNat, Int32.reduceLT, Int32.reduceLE, Prod.mk.injEq, Nat.reduceEqDiff, reduceCtorEq, and_true, true_and, and_false, false_and, and_self, ite_true, ite_false, ↓reduceIte, not_true_eq_false, not_false_eq_true, pe_ri, pe_rz, pe_rc, p_throw, t1028, eq_true k1]
  · rw [if_neg k1] at e
    have e := Option.some.inj e; subst e
    simp -implicitDefEqProofs (disch := first | assumption | exact Nat.le_of_ble_eq_true rfl | decide) only [b1028_0, g1028_1, b1028_1, pe_iload0, pe_if_ne, pe_return, pm_prog_1, pm_ob_some, Nat.reduceDiv, Nat.reduceMod, Nat.reduceMul, Nat.reduceAdd, Int.reduceToNat, pm_kill_i, pm_kill_r, pm_kill_n, pm_kill_j, pm_kill_l, pm_kill_d, pm_cats_nil, pm_cats_i, pm_cats_r, pm_cats_n, pm_cats_l, pm_cats_d, sz_1, sz_2, sl_1, sl_2, lc_0, lc_lt, lc_le, li_ne, va_rf, wr_m1, we_m1, pm_kill_w, Int32.reduceOfInt, Int64.reduceOfInt, Int32.reduceOfNat, Int32.reduceLT, Int32.reduceLE, Prod.mk.injEq, Nat.reduceEqDiff, reduceCtorEq, and_true, true_and, and_false, false_and, and_self, ite_true, ite_false, ↓reduceIte, not_true_eq_false, not_false_eq_true, pe_ri, pe_rz, pe_rc, p_throw, t1028, eq_false k1]
/-- TimberHouse$RouterPaths.proper(Z)V -/
theorem c1029 {d : Nat} {h : pm_H} {x0 : Int32} : pm_call pm_prog (d + 1) 1029 [.int x0] h = pm_ev pm_prog (pm_call pm_prog d) 1029 0 b1029_0 [.int x0] [] h := pm_cal (pm_rc0 rfl) rfl rfl rfl
theorem g1029_1 {cl : pm_C} {ls st : List Value} {h : pm_H} : pm_go pm_prog cl 1029 1 ls st h = pm_ev pm_prog cl 1029 1 b1029_1 ls st h := pm_go_eq pm_prog cl 1029 1 ls st h
theorem t1029 {cl : pm_C} {j : Nat} {ls : List Value} {c : Nat} {h : pm_H} : pm_thr pm_prog cl 1029 j ls c h = some (.threw c, h) := rfl
/-- TimberHouse$RouterPaths.proper(Z)V -/
noncomputable def f1029 (x0 : Int32) : Option (Nat ⊕ (Unit)) :=
  if x0 = 0 then
    some (.inl 70)
  else
    some (.inr ())
theorem x1029 {h : pm_H} {D : Nat} {x0 : Int32} {r : Nat ⊕ (Unit)} (hD : 1 ≤ D) (e : f1029 x0 = some r) : pm_call pm_prog D 1029 [.int x0] h = some (match (generalizing := false) r with | .inl c => (Outcome.threw c, (pm_new h 6 (.inr (c, [])))) | .inr _ => (Outcome.returned none, h)) := by
  obtain ⟨D, rfl⟩ : ∃ D', D = D' + 1 := ⟨D - 1, by omega⟩
  have hD : 0 ≤ D := by omega
  simp only [f1029] at e
  rw [c1029, b1029_0]
  by_cases k1 : x0 = 0
  · rw [if_pos k1] at e
    have e := Option.some.inj e; subst e
    simp -implicitDefEqProofs (disch := first | assumption | exact Nat.le_of_ble_eq_true rfl | decide) only [b1029_0, g1029_1, b1029_1, pe_iload0, pe_if_ne, pe_return, pm_prog_1, pm_ob_some, Nat.reduceDiv, Nat.reduceMod, Nat.reduceMul, Nat.reduceAdd, Int.reduceToNat, pm_kill_i, pm_kill_r, pm_kill_n, pm_kill_j, pm_kill_l, pm_kill_d, pm_cats_nil, pm_cats_i, pm_cats_r, pm_cats_n, pm_cats_l, pm_cats_d, sz_1, sz_2, sl_1, sl_2, lc_0, lc_lt, lc_le, li_ne, va_rf, wr_m1, we_m1, pm_kill_w, Int32.reduceOfInt, Int64.reduceOfInt, Int32.reduceOfNat, Int32.reduceLT, Int32.reduceLE, Prod.mk.injEq, Nat.reduceEqDiff, reduceCtorEq, and_true, true_and, and_false, false_and, and_self, ite_true, ite_false, ↓reduceIte, not_true_eq_false, not_false_eq_true, pe_ri, pe_rz, pe_rc, p_throw, t1029, eq_true k1]
  · rw [if_neg k1] at e
    have e := Option.some.inj e; subst e
    simp -implicitDefEqProofs (disch := first | assumption | exact Nat.le_of_ble_eq_true rfl | decide) only [b1029_0, g1029_1, b1029_1, pe_iload0, pe_if_ne, pe_return, pm_prog_1, pm_ob_some, Nat.reduceDiv, Nat.reduceMod, Nat.reduceMul, Nat.reduceAdd, Int.reduceToNat, pm_kill_i, pm_kill_r, pm_kill_n, pm_kill_j, pm_kill_l, pm_kill_d, pm_cats_nil, pm_cats_i, pm_cats_r, pm_cats_n, pm_cats_l, pm_cats_d, sz_1, sz_2, sl_1, sl_2, lc_0, lc_lt, lc_le, li_ne, va_rf, wr_m1, we_m1, pm_kill_w, Int32.reduceOfInt, Int64.reduceOfInt, Int32.reduceOfNat, Int32.reduceLT, Int32.reduceLE, Prod.mk.injEq, Nat.reduceEqDiff, reduceCtorEq, and_true, true_and, and_false, false_and, and_self, ite_true, ite_false, ↓reduceIte, not_true_eq_false, not_false_eq_true, pe_ri, pe_rz, pe_rc, p_throw, t1029, eq_false k1]
/-- TimberHouse$RouterPaths.target(IIIII)V -/
theorem c1027 {d : Nat} {h : pm_H} {a : Nat} {x0 : Int32} {x1 : Int32} {x2 : Int32} {x3 : Int32} {x4 : Int32} (hc : pm_cls h a = some 16) : pm_call pm_prog (d + 1) 1027 [.ref a, .int x0, .int x1, .int x2, .int x3, .int x4] h = pm_ev pm_prog (pm_call pm_prog d) 1027 0 b1027_0 [.ref a, .int x0, .int x1, .int x2, .int x3, .int x4, pm_junk, pm_junk] [] h := pm_cal (pm_rc1 hc rfl) rfl rfl rfl
theorem g1027_1 {cl : pm_C} {ls st : List Value} {h : pm_H} : pm_go pm_prog cl 1027 1 ls st h = pm_ev pm_prog cl 1027 1 b1027_1 ls st h := pm_go_eq pm_prog cl 1027 1 ls st h
theorem g1027_2 {cl : pm_C} {ls st : List Value} {h : pm_H} : pm_go pm_prog cl 1027 2 ls st h = pm_ev pm_prog cl 1027 2 b1027_2 ls st h := pm_go_eq pm_prog cl 1027 2 ls st h
theorem g1027_3 {cl : pm_C} {ls st : List Value} {h : pm_H} : pm_go pm_prog cl 1027 3 ls st h = pm_ev pm_prog cl 1027 3 b1027_3 ls st h := pm_go_eq pm_prog cl 1027 3 ls st h
theorem g1027_4 {cl : pm_C} {ls st : List Value} {h : pm_H} : pm_go pm_prog cl 1027 4 ls st h = pm_ev pm_prog cl 1027 4 b1027_4 ls st h := pm_go_eq pm_prog cl 1027 4 ls st h
theorem g1027_5 {cl : pm_C} {ls st : List Value} {h : pm_H} : pm_go pm_prog cl 1027 5 ls st h = pm_ev pm_prog cl 1027 5 b1027_5 ls st h := pm_go_eq pm_prog cl 1027 5 ls st h
theorem g1027_6 {cl : pm_C} {ls st : List Value} {h : pm_H} : pm_go pm_prog cl 1027 6 ls st h = pm_ev pm_prog cl 1027 6 b1027_6 ls st h := pm_go_eq pm_prog cl 1027 6 ls st h
theorem g1027_7 {cl : pm_C} {ls st : List Value} {h : pm_H} : pm_go pm_prog cl 1027 7 ls st h = pm_ev pm_prog cl 1027 7 b1027_7 ls st h := pm_go_eq pm_prog cl 1027 7 ls st h
theorem g1027_8 {cl : pm_C} {ls st : List Value} {h : pm_H} : pm_go pm_prog cl 1027 8 ls st h = pm_ev pm_prog cl 1027 8 b1027_8 ls st h := pm_go_eq pm_prog cl 1027 8 ls st h
theorem t1027 {cl : pm_C} {j : Nat} {ls : List Value} {c : Nat} {h : pm_H} : pm_thr pm_prog cl 1027 j ls c h = some (.threw c, h) := rfl
noncomputable def f1027_b6 (side : Int32) : Int32 × Int32 × Int32 × Int32 × Int32 × Int32 × wS → Option ((Int32 × Int32 × Int32 × Int32 × Int32 × Int32 × wS) ⊕ ((Int32 × Int32 × Int32 × Int32 × Int32 × wS))) := fun (x1, x3, x4, x5, x6, x7, S) =>
  if x7 ≤ x3 then
    if 0 ≤ x6 ∧ x6 < side then
      if 0 ≤ x7 ∧ x7 < side then
        some (.inl (x1, x3, x4, x5, x6, (x7 + 1), (sz S (5, x6, 0) x7 x5)))
      else none
    else none
  else
    some (.inr (x1, x3, x4, x5, x6, S))
noncomputable def f1027_b5 (side : Int32) : Int32 × Int32 × Int32 × Int32 × Int32 × wS → Option ((Int32 × Int32 × Int32 × Int32 × Int32 × wS) ⊕ ((wS))) := fun (x1, x3, x4, x5, x6, S) =>
  if x6 ≤ x4 then
    (lp (f1027_b6 side) FU (x1, x3, x4, x5, x6, x1, S)).bind fun (v5, v6, v7, v8, v9, S3) =>
    some (.inl (v5, v6, v7, v8, (v9 + 1), S3))
  else
    some (.inr S)
noncomputable def f1027_4 (side : Int32) (S : wS) (x1 : Int32) (x2 : Int32) (x3 : Int32) (x4 : Int32) (x5 : Int32) (y0 : Int32) : Option ((Nat × wS) ⊕ (wS)) :=
  (f1029 y0).bind fun r => match r with
  | .inl c11 =>
    some (.inl (c11, S))
  | .inr _ =>
  (lp (f1027_b5 side) FU (x1, x3, x4, x5, x2, S)).bind fun S10 =>
  some (.inr S10)
noncomputable def f1027_2 (side : Int32) (S : wS) (x1 : Int32) (x2 : Int32) (x3 : Int32) (x4 : Int32) (x5 : Int32) (y0 : Int32) : Option ((Nat × wS) ⊕ (wS)) :=
  (f1028 y0).bind fun r => match r with
  | .inl c12 =>
    some (.inl (c12, S))
  | .inr _ =>
  if x1 ≤ x3 then
    if x2 ≤ x4 then
      (f1026 x5 0 100).bind fun v2 =>
      if v2 = 0 then
        f1027_4 side S x1 x2 x3 x4 x5 0
      else
        f1027_4 side S x1 x2 x3 x4 x5 1
    else
      f1027_4 side S x1 x2 x3 x4 x5 0
  else
    f1027_4 side S x1 x2 x3 x4 x5 0
/-- TimberHouse$RouterPaths.target(IIIII)V -/
noncomputable def f1027 (side : Int32) (S : wS) (x1 : Int32) (x2 : Int32) (x3 : Int32) (x4 : Int32) (x5 : Int32) : Option ((Nat × wS) ⊕ (wS)) :=
  (f1155 side S x1 x2).bind fun v1 =>
  if v1 = 0 then
    f1027_2 side S x1 x2 x3 x4 x5 0
  else
    (f1155 side S x3 x4).bind fun v13 =>
    if v13 = 0 then
      f1027_2 side S x1 x2 x3 x4 x5 0
    else
      f1027_2 side S x1 x2 x3 x4 x5 1
def go1027_6 (side : Int32) (A : wK → Nat) (h : pm_H) (D : Nat) (R : Outcome × pm_H) : Int32 × Int32 × Int32 × Int32 × Int32 × Int32 × wS → Prop := fun (x1, x3, x4, x5, x6, x7, S) => ∀ q2 : Value, pm_go pm_prog (pm_call pm_prog D) 1027 6 [.ref (A (0, 0, 0)), .int x1, q2, .int x3, .int x4, .int x5, .int x6, .int x7] [] (wput A (Cu_d side) S h) = some R
def ex1027_6 (side : Int32) (A : wK → Nat) (h : pm_H) (D : Nat) (R : Outcome × pm_H) : (Int32 × Int32 × Int32 × Int32 × Int32 × wS) → Prop := fun (x1, x3, x4, x5, x6, S) => ∀ q2 q7 : Value, pm_go pm_prog (pm_call pm_prog D) 1027 7 [.ref (A (0, 0, 0)), .int x1, q2, .int x3, .int x4, .int x5, .int x6, q7] [] (wput A (Cu_d side) S h) = some R
theorem y1027_b6 {side : Int32} {A : wK → Nat} {h : pm_H} {D : Nat} {R : Outcome × pm_H} (hP : Cu_P side) (hA : wok A (Cu_d side) h.1) (hD : 1 ≤ D) (a : Int32 × Int32 × Int32 × Int32 × Int32 × Int32 × wS) (r : (Int32 × Int32 × Int32 × Int32 × Int32 × Int32 × wS) ⊕ ((Int32 × Int32 × Int32 × Int32 × Int32 × wS))) (e : f1027_b6 side a = some r) (hc : Sum.elim (go1027_6 side A h D R) (ex1027_6 side A h D R) r) : go1027_6 side A h D R a := by
  obtain ⟨x1, x3, x4, x5, x6, x7, S⟩ := a
  dsimp only [go1027_6]
  intro q2
  simp only [f1027_b6] at e
  rw [g1027_6, b1027_6]
  by_cases k1 : x7 ≤ x3
  · rw [if_pos k1] at e
    by_cases k2 : 0 ≤ x6 ∧ x6 < side
    · rw [if_pos k2] at e
      by_cases k3 : 0 ≤ x7 ∧ x7 < side
      · rw [if_pos k3] at e
        have e := Option.some.inj e; subst e
        dsimp only [Sum.elim_inl, go1027_6] at hc
        simp -implicitDefEqProofs (disch := first | assumption | exact Nat.le_of_ble_eq_true rfl | decide) only [b1027_0, g1027_1, b1027_1, g1027_3, b1027_3, g1027_7, b1027_7, g1027_8, b1027_8, pe_aload0, pe_getfield, pe_iload1, pe_iload2, pe_call3, pm_af_ret, pm_af_void, pm_af_thr, pe_if_eq, pe_iload3, pe_iload4, pe_sipush, pe_goto, pe_goto_w, pe_call1, pe_icmp_gt, pe_iload5, pe_istore6, pe_iload6, pe_istore7, pe_iload7, pe_aaload, pe_iastore, pe_iinc7, pe_iinc6, pe_return, pm_prog_1, pm_ob_some, Nat.reduceDiv, Nat.reduceMod, Nat.reduceMul, Nat.reduceAdd, Int.reduceToNat, pm_kill_i, pm_kill_r, pm_kill_n, pm_kill_j, pm_kill_l, pm_kill_d, pm_cats_nil, pm_cats_i, pm_cats_r, pm_cats_n, pm_cats_l, pm_cats_d, sz_1, sz_2, sl_1, sl_2, lc_0, lc_lt, lc_le, li_ne, va_rf, wr_m1, we_m1, pm_kill_w, Int32.reduceOfInt, Int64.reduceOfInt, Int32.reduceOfNat, Int32.reduceLT, Int32.reduceLE, Prod.mk.injEq, Nat.reduceEqDiff, reduceCtorEq, and_true, true_and, and_false, false_and, and_self, ite_true, ite_false, ↓reduceIte, not_true_eq_false, not_false_eq_true, pe_ri, pe_rz, pe_rc, p_throw, t1027, w_junk hA, Cu_g0_0 hP hA, Cu_g1_2 hP hA, Cu_r4 hP hA, Cu_w5 hP hA, eq_true k1, hc]
      · rw [if_neg k3] at e; cases e
    · rw [if_neg k2] at e; cases e
  · rw [if_neg k1] at e
    have e := Option.some.inj e; subst e
    dsimp only [Sum.elim_inr, ex1027_6] at hc
    simp -implicitDefEqProofs (disch := first | assumption | exact Nat.le_of_ble_eq_true rfl | decide) only [b1027_0, g1027_1, b1027_1, g1027_3, b1027_3, g1027_7, b1027_7, g1027_8, b1027_8, pe_aload0, pe_getfield, pe_iload1, pe_iload2, pe_call3, pm_af_ret, pm_af_void, pm_af_thr, pe_if_eq, pe_iload3, pe_iload4, pe_sipush, pe_goto, pe_goto_w, pe_call1, pe_icmp_gt, pe_iload5, pe_istore6, pe_iload6, pe_istore7, pe_iload7, pe_aaload, pe_iastore, pe_iinc7, pe_iinc6, pe_return, pm_prog_1, pm_ob_some, Nat.reduceDiv, Nat.reduceMod, Nat.reduceMul, Nat.reduceAdd, Int.reduceToNat, pm_kill_i, pm_kill_r, pm_kill_n, pm_kill_j, pm_kill_l, pm_kill_d, pm_cats_nil, pm_cats_i, pm_cats_r, pm_cats_n, pm_cats_l, pm_cats_d, sz_1, sz_2, sl_1, sl_2, lc_0, lc_lt, lc_le, li_ne, va_rf, wr_m1, we_m1, pm_kill_w, Int32.reduceOfInt, Int64.reduceOfInt, Int32.reduceOfNat, Int32.reduceLT, Int32.reduceLE, Prod.mk.injEq, Nat.reduceEqDiff, reduceCtorEq, and_true, true_and, and_false, false_and, and_self, ite_true, ite_false, ↓reduceIte, not_true_eq_false, not_false_eq_true, pe_ri, pe_rz, pe_rc, p_throw, t1027, w_junk hA, Cu_g0_0 hP hA, Cu_g1_2 hP hA, Cu_r4 hP hA, Cu_w5 hP hA, eq_false k1, hc]
theorem z1027_6 {side : Int32} {A : wK → Nat} {h : pm_H} {D : Nat} {R : Outcome × pm_H} (hP : Cu_P side) (hA : wok A (Cu_d side) h.1) (hD : 1 ≤ D) {n : Nat} {a : Int32 × Int32 × Int32 × Int32 × Int32 × Int32 × wS} {b : (Int32 × Int32 × Int32 × Int32 × Int32 × wS)} (e : lp (f1027_b6 side) n a = some b) (hx : ex1027_6 side A h D R b) : go1027_6 side A h D R a := lp_run (fun a r => y1027_b6 hP hA hD a r) n a b e hx
def go1027_5 (side : Int32) (A : wK → Nat) (h : pm_H) (D : Nat) (R : Outcome × pm_H) : Int32 × Int32 × Int32 × Int32 × Int32 × wS → Prop := fun (x1, x3, x4, x5, x6, S) => ∀ q2 q7 : Value, pm_go pm_prog (pm_call pm_prog D) 1027 5 [.ref (A (0, 0, 0)), .int x1, q2, .int x3, .int x4, .int x5, .int x6, q7] [] (wput A (Cu_d side) S h) = some R
def ex1027_5 (side : Int32) (A : wK → Nat) (h : pm_H) (D : Nat) (R : Outcome × pm_H) : (wS) → Prop := fun S => ∀ q0 q1 q2 q3 q4 q5 q6 q7 : Value, pm_go pm_prog (pm_call pm_prog D) 1027 8 [q0, q1, q2, q3, q4, q5, q6, q7] [] (wput A (Cu_d side) S h) = some R
theorem y1027_b5 {side : Int32} {A : wK → Nat} {h : pm_H} {D : Nat} {R : Outcome × pm_H} (hP : Cu_P side) (hA : wok A (Cu_d side) h.1) (hD : 1 ≤ D) (a : Int32 × Int32 × Int32 × Int32 × Int32 × wS) (r : (Int32 × Int32 × Int32 × Int32 × Int32 × wS) ⊕ ((wS))) (e : f1027_b5 side a = some r) (hc : Sum.elim (go1027_5 side A h D R) (ex1027_5 side A h D R) r) : go1027_5 side A h D R a := by
  obtain ⟨x1, x3, x4, x5, x6, S⟩ := a
  dsimp only [go1027_5]
  intro q2 q7
  simp only [f1027_b5] at e
  rw [g1027_5, b1027_5]
  by_cases k1 : x6 ≤ x4
  · rw [if_pos k1] at e
    obtain ⟨⟨v5, v6, v7, v8, v9, S3⟩, k2, e⟩ := Option.bind_eq_some_iff.mp e
    try dsimp only at e
    try simp -implicitDefEqProofs (disch := first | assumption | exact Nat.le_of_ble_eq_true rfl | decide) only [b1027_0, g1027_1, b1027_1, g1027_3, b1027_3, g1027_7, b1027_7, g1027_8, b1027_8, pe_aload0, pe_getfield, pe_iload1, pe_iload2, pe_call3, pm_af_ret, pm_af_void, pm_af_thr, pe_if_eq, pe_iload3, pe_iload4, pe_sipush, pe_goto, pe_goto_w, pe_call1, pe_icmp_gt, pe_iload5, pe_istore6, pe_iload6, pe_istore7, pe_iload7, pe_aaload, pe_iastore, pe_iinc7, pe_iinc6, pe_return, pm_prog_1, pm_ob_some, Nat.reduceDiv, Nat.reduceMod, Nat.reduceMul, Nat.reduceAdd, Int.reduceToNat, pm_kill_i, pm_kill_r, pm_kill_n, pm_kill_j, pm_kill_l, pm_kill_d, pm_cats_nil, pm_cats_i, pm_cats_r, pm_cats_n, pm_cats_l, pm_cats_d, sz_1, sz_2, sl_1, sl_2, lc_0, lc_lt, lc_le, li_ne, va_rf, wr_m1, we_m1, pm_kill_w, Int32.reduceOfInt, Int64.reduceOfInt, Int32.reduceOfNat, Int32.reduceLT, Int32.reduceLE, Prod.mk.injEq, Nat.reduceEqDiff, reduceCtorEq, and_true, true_and, and_false, false_and, and_self, ite_true, ite_false, ↓reduceIte, not_true_eq_false, not_false_eq_true, pe_ri, pe_rz, pe_rc, p_throw, t1027, w_junk hA, Cu_g0_0 hP hA, Cu_g1_2 hP hA, Cu_r4 hP hA, Cu_w5 hP hA, eq_true k1]
    refine z1027_6 hP hA hD k2 ?_ _
    dsimp only [ex1027_6]
    intro q2 q7
    have e := Option.some.inj e; subst e
    dsimp only [Sum.elim_inl, go1027_5] at hc
    simp -implicitDefEqProofs (disch := first | assumption | exact Nat.le_of_ble_eq_true rfl | decide) only [b1027_0, g1027_1, b1027_1, g1027_3, b1027_3, g1027_7, b1027_7, g1027_8, b1027_8, pe_aload0, pe_getfield, pe_iload1, pe_iload2, pe_call3, pm_af_ret, pm_af_void, pm_af_thr, pe_if_eq, pe_iload3, pe_iload4, pe_sipush, pe_goto, pe_goto_w, pe_call1, pe_icmp_gt, pe_iload5, pe_istore6, pe_iload6, pe_istore7, pe_iload7, pe_aaload, pe_iastore, pe_iinc7, pe_iinc6, pe_return, pm_prog_1, pm_ob_some, Nat.reduceDiv, Nat.reduceMod, Nat.reduceMul, Nat.reduceAdd, Int.reduceToNat, pm_kill_i, pm_kill_r, pm_kill_n, pm_kill_j, pm_kill_l, pm_kill_d, pm_cats_nil, pm_cats_i, pm_cats_r, pm_cats_n, pm_cats_l, pm_cats_d, sz_1, sz_2, sl_1, sl_2, lc_0, lc_lt, lc_le, li_ne, va_rf, wr_m1, we_m1, pm_kill_w, Int32.reduceOfInt, Int64.reduceOfInt, Int32.reduceOfNat, Int32.reduceLT, Int32.reduceLE, Prod.mk.injEq, Nat.reduceEqDiff, reduceCtorEq, and_true, true_and, and_false, false_and, and_self, ite_true, ite_false, ↓reduceIte, not_true_eq_false, not_false_eq_true, pe_ri, pe_rz, pe_rc, p_throw, t1027, w_junk hA, Cu_g0_0 hP hA, Cu_g1_2 hP hA, Cu_r4 hP hA, Cu_w5 hP hA, eq_true k1, hc]
  · rw [if_neg k1] at e
    have e := Option.some.inj e; subst e
    dsimp only [Sum.elim_inr, ex1027_5] at hc
    simp -implicitDefEqProofs (disch := first | assumption | exact Nat.le_of_ble_eq_true rfl | decide) only [b1027_0, g1027_1, b1027_1, g1027_3, b1027_3, g1027_7, b1027_7, g1027_8, b1027_8, pe_aload0, pe_getfield, pe_iload1, pe_iload2, pe_call3, pm_af_ret, pm_af_void, pm_af_thr, pe_if_eq, pe_iload3, pe_iload4, pe_sipush, pe_goto, pe_goto_w, pe_call1, pe_icmp_gt, pe_iload5, pe_istore6, pe_iload6, pe_istore7, pe_iload7, pe_aaload, pe_iastore, pe_iinc7, pe_iinc6, pe_return, pm_prog_1, pm_ob_some, Nat.reduceDiv, Nat.reduceMod, Nat.reduceMul, Nat.reduceAdd, Int.reduceToNat, pm_kill_i, pm_kill_r, pm_kill_n, pm_kill_j, pm_kill_l, pm_kill_d, pm_cats_nil, pm_cats_i, pm_cats_r, pm_cats_n, pm_cats_l, pm_cats_d, sz_1, sz_2, sl_1, sl_2, lc_0, lc_lt, lc_le, li_ne, va_rf, wr_m1, we_m1, pm_kill_w, Int32.reduceOfInt, Int64.reduceOfInt, Int32.reduceOfNat, Int32.reduceLT, Int32.reduceLE, Prod.mk.injEq, Nat.reduceEqDiff, reduceCtorEq, and_true, true_and, and_false, false_and, and_self, ite_true, ite_false, ↓reduceIte, not_true_eq_false, not_false_eq_true, pe_ri, pe_rz, pe_rc, p_throw, t1027, w_junk hA, Cu_g0_0 hP hA, Cu_g1_2 hP hA, Cu_r4 hP hA, Cu_w5 hP hA, eq_false k1, hc]
theorem z1027_5 {side : Int32} {A : wK → Nat} {h : pm_H} {D : Nat} {R : Outcome × pm_H} (hP : Cu_P side) (hA : wok A (Cu_d side) h.1) (hD : 1 ≤ D) {n : Nat} {a : Int32 × Int32 × Int32 × Int32 × Int32 × wS} {b : (wS)} (e : lp (f1027_b5 side) n a = some b) (hx : ex1027_5 side A h D R b) : go1027_5 side A h D R a := lp_run (fun a r => y1027_b5 hP hA hD a r) n a b e hx
theorem y1027_4 {side : Int32} {A : wK → Nat} {h : pm_H} {D : Nat} {S : wS} {x1 : Int32} {x2 : Int32} {x3 : Int32} {x4 : Int32} {x5 : Int32} {y0 : Int32} {r : (Nat × wS) ⊕ (wS)} (hP : Cu_P side) (hA : wok A (Cu_d side) h.1) (hD : 1 ≤ D) (e : f1027_4 side S x1 x2 x3 x4 x5 y0 = some r) : ∀ q6 q7 : Value, pm_go pm_prog (pm_call pm_prog D) 1027 4 [.ref (A (0, 0, 0)), .int x1, .int x2, .int x3, .int x4, .int x5, q6, q7] [.int y0] (wput A (Cu_d side) S h) = some (match (generalizing := false) r with | .inl (c, S1) => (Outcome.threw c, (wput A (Cu_d side) S1 (pm_new h 6 (.inr (c, []))))) | .inr S1 => (Outcome.returned none, (wput A (Cu_d side) S1 h))) := by
  intro q6 q7
  simp only [f1027_4] at e
  rw [g1027_4, b1027_4]
  obtain ⟨r, k1, e⟩ := Option.bind_eq_some_iff.mp e
  have z1 := fun h => x1029 (D := D) (h := h) (by omega) k1
  rcases r with c11 | _
  · dsimp only at e z1
    have e := Option.some.inj e; subst e
    simp -implicitDefEqProofs (disch := first | assumption | exact Nat.le_of_ble_eq_true rfl | decide) only [b1027_0, g1027_1, b1027_1, g1027_3, b1027_3, g1027_7, b1027_7, g1027_8, b1027_8, pe_aload0, pe_getfield, pe_iload1, pe_iload2, pe_call3, pm_af_ret, pm_af_void, pm_af_thr, pe_if_eq, pe_iload3, pe_iload4, pe_sipush, pe_goto, pe_goto_w, pe_call1, pe_icmp_gt, pe_iload5, pe_istore6, pe_iload6, pe_istore7, pe_iload7, pe_aaload, pe_iastore, pe_iinc7, pe_iinc6, pe_return, pm_prog_1, pm_ob_some, Nat.reduceDiv, Nat.reduceMod, Nat.reduceMul, Nat.reduceAdd, Int.reduceToNat, pm_kill_i, pm_kill_r, pm_kill_n, pm_kill_j, pm_kill_l, pm_kill_d, pm_cats_nil, pm_cats_i, pm_cats_r, pm_cats_n, pm_cats_l, pm_cats_d, sz_1, sz_2, sl_1, sl_2, lc_0, lc_lt, lc_le, li_ne, va_rf, wr_m1, we_m1, pm_kill_w, Int32.reduceOfInt, Int64.reduceOfInt, Int32.reduceOfNat, Int32.reduceLT, Int32.reduceLE, Prod.mk.injEq, Nat.reduceEqDiff, reduceCtorEq, and_true, true_and, and_false, false_and, and_self, ite_true, ite_false, ↓reduceIte, not_true_eq_false, not_false_eq_true, pe_ri, pe_rz, pe_rc, p_throw, t1027, w_junk hA, Cu_g0_0 hP hA, Cu_g1_2 hP hA, Cu_r4 hP hA, Cu_w5 hP hA, z1]
  · dsimp only at e z1
    obtain ⟨S10, k2, e⟩ := Option.bind_eq_some_iff.mp e
    try dsimp only at e
    try simp -implicitDefEqProofs (disch := first | assumption | exact Nat.le_of_ble_eq_true rfl | decide) only [b1027_0, g1027_1, b1027_1, g1027_3, b1027_3, g1027_7, b1027_7, g1027_8, b1027_8, pe_aload0, pe_getfield, pe_iload1, pe_iload2, pe_call3, pm_af_ret, pm_af_void, pm_af_thr, pe_if_eq, pe_iload3, pe_iload4, pe_sipush, pe_goto, pe_goto_w, pe_call1, pe_icmp_gt, pe_iload5, pe_istore6, pe_iload6, pe_istore7, pe_iload7, pe_aaload, pe_iastore, pe_iinc7, pe_iinc6, pe_return, pm_prog_1, pm_ob_some, Nat.reduceDiv, Nat.reduceMod, Nat.reduceMul, Nat.reduceAdd, Int.reduceToNat, pm_kill_i, pm_kill_r, pm_kill_n, pm_kill_j, pm_kill_l, pm_kill_d, pm_cats_nil, pm_cats_i, pm_cats_r, pm_cats_n, pm_cats_l, pm_cats_d, sz_1, sz_2, sl_1, sl_2, lc_0, lc_lt, lc_le, li_ne, va_rf, wr_m1, we_m1, pm_kill_w, Int32.reduceOfInt, Int64.reduceOfInt, Int32.reduceOfNat, Int32.reduceLT, Int32.reduceLE, Prod.mk.injEq, Nat.reduceEqDiff, reduceCtorEq, and_true, true_and, and_false, false_and, and_self, ite_true, ite_false, ↓reduceIte, not_true_eq_false, not_false_eq_true, pe_ri, pe_rz, pe_rc, p_throw, t1027, w_junk hA, Cu_g0_0 hP hA, Cu_g1_2 hP hA, Cu_r4 hP hA, Cu_w5 hP hA, z1]
    refine z1027_5 hP hA hD k2 ?_ _ _
    dsimp only [ex1027_5]
    intro q0 q1 q2 q3 q4 q5 q6 q7
    have e := Option.some.inj e; subst e
    simp -implicitDefEqProofs (disch := first | assumption | exact Nat.le_of_ble_eq_true rfl | decide) only [b1027_0, g1027_1, b1027_1, g1027_3, b1027_3, g1027_7, b1027_7, g1027_8, b1027_8, pe_aload0, pe_getfield, pe_iload1, pe_iload2, pe_call3, pm_af_ret, pm_af_void, pm_af_thr, pe_if_eq, pe_iload3, pe_iload4, pe_sipush, pe_goto, pe_goto_w, pe_call1, pe_icmp_gt, pe_iload5, pe_istore6, pe_iload6, pe_istore7, pe_iload7, pe_aaload, pe_iastore, pe_iinc7, pe_iinc6, pe_return, pm_prog_1, pm_ob_some, Nat.reduceDiv, Nat.reduceMod, Nat.reduceMul, Nat.reduceAdd, Int.reduceToNat, pm_kill_i, pm_kill_r, pm_kill_n, pm_kill_j, pm_kill_l, pm_kill_d, pm_cats_nil, pm_cats_i, pm_cats_r, pm_cats_n, pm_cats_l, pm_cats_d, sz_1, sz_2, sl_1, sl_2, lc_0, lc_lt, lc_le, li_ne, va_rf, wr_m1, we_m1, pm_kill_w, Int32.reduceOfInt, Int64.reduceOfInt, Int32.reduceOfNat, Int32.reduceLT, Int32.reduceLE, Prod.mk.injEq, Nat.reduceEqDiff, reduceCtorEq, and_true, true_and, and_false, false_and, and_self, ite_true, ite_false, ↓reduceIte, not_true_eq_false, not_false_eq_true, pe_ri, pe_rz, pe_rc, p_throw, t1027, w_junk hA, Cu_g0_0 hP hA, Cu_g1_2 hP hA, Cu_r4 hP hA, Cu_w5 hP hA, z1]
theorem y1027_2 {side : Int32} {A : wK → Nat} {h : pm_H} {D : Nat} {S : wS} {x1 : Int32} {x2 : Int32} {x3 : Int32} {x4 : Int32} {x5 : Int32} {y0 : Int32} {r : (Nat × wS) ⊕ (wS)} (hP : Cu_P side) (hA : wok A (Cu_d side) h.1) (hD : 1 ≤ D) (e : f1027_2 side S x1 x2 x3 x4 x5 y0 = some r) : ∀ q6 q7 : Value, pm_go pm_prog (pm_call pm_prog D) 1027 2 [.ref (A (0, 0, 0)), .int x1, .int x2, .int x3, .int x4, .int x5, q6, q7] [.int y0] (wput A (Cu_d side) S h) = some (match (generalizing := false) r with | .inl (c, S1) => (Outcome.threw c, (wput A (Cu_d side) S1 (pm_new h 6 (.inr (c, []))))) | .inr S1 => (Outcome.returned none, (wput A (Cu_d side) S1 h))) := by
  intro q6 q7
  simp only [f1027_2] at e
  rw [g1027_2, b1027_2]
  obtain ⟨r, k1, e⟩ := Option.bind_eq_some_iff.mp e
  have z1 := fun h => x1028 (D := D) (h := h) (by omega) k1
  rcases r with c12 | _
  · dsimp only at e z1
    have e := Option.some.inj e; subst e
    simp -implicitDefEqProofs (disch := first | assumption | exact Nat.le_of_ble_eq_true rfl | decide) only [b1027_0, g1027_1, b1027_1, g1027_3, b1027_3, g1027_7, b1027_7, g1027_8, b1027_8, pe_aload0, pe_getfield, pe_iload1, pe_iload2, pe_call3, pm_af_ret, pm_af_void, pm_af_thr, pe_if_eq, pe_iload3, pe_iload4, pe_sipush, pe_goto, pe_goto_w, pe_call1, pe_icmp_gt, pe_iload5, pe_istore6, pe_iload6, pe_istore7, pe_iload7, pe_aaload, pe_iastore, pe_iinc7, pe_iinc6, pe_return, pm_prog_1, pm_ob_some, Nat.reduceDiv, Nat.reduceMod, Nat.reduceMul, Nat.reduceAdd, Int.reduceToNat, pm_kill_i, pm_kill_r, pm_kill_n, pm_kill_j, pm_kill_l, pm_kill_d, pm_cats_nil, pm_cats_i, pm_cats_r, pm_cats_n, pm_cats_l, pm_cats_d, sz_1, sz_2, sl_1, sl_2, lc_0, lc_lt, lc_le, li_ne, va_rf, wr_m1, we_m1, pm_kill_w, Int32.reduceOfInt, Int64.reduceOfInt, Int32.reduceOfNat, Int32.reduceLT, Int32.reduceLE, Prod.mk.injEq, Nat.reduceEqDiff, reduceCtorEq, and_true, true_and, and_false, false_and, and_self, ite_true, ite_false, ↓reduceIte, not_true_eq_false, not_false_eq_true, pe_ri, pe_rz, pe_rc, p_throw, t1027, w_junk hA, Cu_g0_0 hP hA, Cu_g1_2 hP hA, Cu_r4 hP hA, Cu_w5 hP hA, z1]
  · dsimp only at e z1
    by_cases k2 : x1 ≤ x3
    · rw [if_pos k2] at e
      by_cases k3 : x2 ≤ x4
      · rw [if_pos k3] at e
        obtain ⟨v2, k4, e⟩ := Option.bind_eq_some_iff.mp e
        try dsimp only at e
        have z4 := fun h => x1026 (D := D) (h := h) (by omega) k4
        by_cases k5 : v2 = 0
        · rw [if_pos k5] at e
          have k6 := y1027_4 (h := h) hP hA hD e
          simp -implicitDefEqProofs (disch := first | assumption | exact Nat.le_of_ble_eq_true rfl | decide) only [b1027_0, g1027_1, b1027_1, g1027_3, b1027_3, g1027_7, b1027_7, g1027_8, b1027_8, pe_aload0, pe_getfield, pe_iload1, pe_iload2, pe_call3, pm_af_ret, pm_af_void, pm_af_thr, pe_if_eq, pe_iload3, pe_iload4, pe_sipush, pe_goto, pe_goto_w, pe_call1, pe_icmp_gt, pe_iload5, pe_istore6, pe_iload6, pe_istore7, pe_iload7, pe_aaload, pe_iastore, pe_iinc7, pe_iinc6, pe_return, pm_prog_1, pm_ob_some, Nat.reduceDiv, Nat.reduceMod, Nat.reduceMul, Nat.reduceAdd, Int.reduceToNat, pm_kill_i, pm_kill_r, pm_kill_n, pm_kill_j, pm_kill_l, pm_kill_d, pm_cats_nil, pm_cats_i, pm_cats_r, pm_cats_n, pm_cats_l, pm_cats_d, sz_1, sz_2, sl_1, sl_2, lc_0, lc_lt, lc_le, li_ne, va_rf, wr_m1, we_m1, pm_kill_w, Int32.reduceOfInt, Int64.reduceOfInt, Int32.reduceOfNat, Int32.reduceLT, Int32.reduceLE, Prod.mk.injEq, Nat.reduceEqDiff, reduceCtorEq, and_true, true_and, and_false, false_and, and_self, ite_true, ite_false, ↓reduceIte, not_true_eq_false, not_false_eq_true, pe_ri, pe_rz, pe_rc, p_throw, t1027, w_junk hA, Cu_g0_0 hP hA, Cu_g1_2 hP hA, Cu_r4 hP hA, Cu_w5 hP hA, z1, eq_true k2, eq_true k3, z4, eq_true k5, k6]
        · rw [if_neg k5] at e
          have k7 := y1027_4 (h := h) hP hA hD e
          simp -implicitDefEqProofs (disch := first | assumption | exact Nat.le_of_ble_eq_true rfl | decide) only [b1027_0, g1027_1, b1027_1, g1027_3, b1027_3, g1027_7, b1027_7, g1027_8, b1027_8, pe_aload0, pe_getfield, pe_iload1, pe_iload2, pe_call3, pm_af_ret, pm_af_void, pm_af_thr, pe_if_eq, pe_iload3, pe_iload4, pe_sipush, pe_goto, pe_goto_w, pe_call1, pe_icmp_gt, pe_iload5, pe_istore6, pe_iload6, pe_istore7, pe_iload7, pe_aaload, pe_iastore, pe_iinc7, pe_iinc6, pe_return, pm_prog_1, pm_ob_some, Nat.reduceDiv, Nat.reduceMod, Nat.reduceMul, Nat.reduceAdd, Int.reduceToNat, pm_kill_i, pm_kill_r, pm_kill_n, pm_kill_j, pm_kill_l, pm_kill_d, pm_cats_nil, pm_cats_i, pm_cats_r, pm_cats_n, pm_cats_l, pm_cats_d, sz_1, sz_2, sl_1, sl_2, lc_0, lc_lt, lc_le, li_ne, va_rf, wr_m1, we_m1, pm_kill_w, Int32.reduceOfInt, Int64.reduceOfInt, Int32.reduceOfNat, Int32.reduceLT, Int32.reduceLE, Prod.mk.injEq, Nat.reduceEqDiff, reduceCtorEq, and_true, true_and, and_false, false_and, and_self, ite_true, ite_false, ↓reduceIte, not_true_eq_false, not_false_eq_true, pe_ri, pe_rz, pe_rc, p_throw, t1027, w_junk hA, Cu_g0_0 hP hA, Cu_g1_2 hP hA, Cu_r4 hP hA, Cu_w5 hP hA, z1, eq_true k2, eq_true k3, z4, eq_false k5, k7]
      · rw [if_neg k3] at e
        have k8 := y1027_4 (h := h) hP hA hD e
        simp -implicitDefEqProofs (disch := first | assumption | exact Nat.le_of_ble_eq_true rfl | decide) only [b1027_0, g1027_1, b1027_1, g1027_3, b1027_3, g1027_7, b1027_7, g1027_8, b1027_8, pe_aload0, pe_getfield, pe_iload1, pe_iload2, pe_call3, pm_af_ret, pm_af_void, pm_af_thr, pe_if_eq, pe_iload3, pe_iload4, pe_sipush, pe_goto, pe_goto_w, pe_call1, pe_icmp_gt, pe_iload5, pe_istore6, pe_iload6, pe_istore7, pe_iload7, pe_aaload, pe_iastore, pe_iinc7, pe_iinc6, pe_return, pm_prog_1, pm_ob_some, Nat.reduceDiv, Nat.reduceMod, Nat.reduceMul, Nat.reduceAdd, Int.reduceToNat, pm_kill_i, pm_kill_r, pm_kill_n, pm_kill_j, pm_kill_l, pm_kill_d, pm_cats_nil, pm_cats_i, pm_cats_r, pm_cats_n, pm_cats_l, pm_cats_d, sz_1, sz_2, sl_1, sl_2, lc_0, lc_lt, lc_le, li_ne, va_rf, wr_m1, we_m1, pm_kill_w, Int32.reduceOfInt, Int64.reduceOfInt, Int32.reduceOfNat, Int32.reduceLT, Int32.reduceLE, Prod.mk.injEq, Nat.reduceEqDiff, reduceCtorEq, and_true, true_and, and_false, false_and, and_self, ite_true, ite_false, ↓reduceIte, not_true_eq_false, not_false_eq_true, pe_ri, pe_rz, pe_rc, p_throw, t1027, w_junk hA, Cu_g0_0 hP hA, Cu_g1_2 hP hA, Cu_r4 hP hA, Cu_w5 hP hA, z1, eq_true k2, eq_false k3, k8]
    · rw [if_neg k2] at e
      have k9 := y1027_4 (h := h) hP hA hD e
      simp -implicitDefEqProofs (disch := first | assumption | exact Nat.le_of_ble_eq_true rfl | decide) only [b1027_0, g1027_1, b1027_1, g1027_3, b1027_3, g1027_7, b1027_7, g1027_8, b1027_8, pe_aload0, pe_getfield, pe_iload1, pe_iload2, pe_call3, pm_af_ret, pm_af_void, pm_af_thr, pe_if_eq, pe_iload3, pe_iload4, pe_sipush, pe_goto, pe_goto_w, pe_call1, pe_icmp_gt, pe_iload5, pe_istore6, pe_iload6, pe_istore7, pe_iload7, pe_aaload, pe_iastore, pe_iinc7, pe_iinc6, pe_return, pm_prog_1, pm_ob_some, Nat.reduceDiv, Nat.reduceMod, Nat.reduceMul, Nat.reduceAdd, Int.reduceToNat, pm_kill_i, pm_kill_r, pm_kill_n, pm_kill_j, pm_kill_l, pm_kill_d, pm_cats_nil, pm_cats_i, pm_cats_r, pm_cats_n, pm_cats_l, pm_cats_d, sz_1, sz_2, sl_1, sl_2, lc_0, lc_lt, lc_le, li_ne, va_rf, wr_m1, we_m1, pm_kill_w, Int32.reduceOfInt, Int64.reduceOfInt, Int32.reduceOfNat, Int32.reduceLT, Int32.reduceLE, Prod.mk.injEq, Nat.reduceEqDiff, reduceCtorEq, and_true, true_and, and_false, false_and, and_self, ite_true, ite_false, ↓reduceIte, not_true_eq_false, not_false_eq_true, pe_ri, pe_rz, pe_rc, p_throw, t1027, w_junk hA, Cu_g0_0 hP hA, Cu_g1_2 hP hA, Cu_r4 hP hA, Cu_w5 hP hA, z1, eq_false k2, k9]
theorem x1027 {side : Int32} {A : wK → Nat} {h : pm_H} {D : Nat} {S : wS} {x1 : Int32} {x2 : Int32} {x3 : Int32} {x4 : Int32} {x5 : Int32} {r : (Nat × wS) ⊕ (wS)} (hP : Cu_P side) (hA : wok A (Cu_d side) h.1) (hD : 2 ≤ D) (e : f1027 side S x1 x2 x3 x4 x5 = some r) : pm_call pm_prog D 1027 [.ref (A (0, 0, 0)), .int x1, .int x2, .int x3, .int x4, .int x5] (wput A (Cu_d side) S h) = some (match (generalizing := false) r with | .inl (c, S1) => (Outcome.threw c, (wput A (Cu_d side) S1 (pm_new h 6 (.inr (c, []))))) | .inr S1 => (Outcome.returned none, (wput A (Cu_d side) S1 h))) := by
  obtain ⟨D, rfl⟩ : ∃ D', D = D' + 1 := ⟨D - 1, by omega⟩
  have hD : 1 ≤ D := by omega
  simp only [f1027] at e
  rw [c1027 (Cu_c0 hP hA), b1027_0]
  obtain ⟨v1, k1, e⟩ := Option.bind_eq_some_iff.mp e
  try dsimp only at e
  have z1 := x1155 (D := D) (h := h) hP hA (by omega) k1
  by_cases k2 : v1 = 0
  · rw [if_pos k2] at e
    have k3 := y1027_2 (h := h) hP hA hD e
    simp -implicitDefEqProofs (disch := first | assumption | exact Nat.le_of_ble_eq_true rfl | decide) only [b1027_0, g1027_1, b1027_1, g1027_3, b1027_3, g1027_7, b1027_7, g1027_8, b1027_8, pe_aload0, pe_getfield, pe_iload1, pe_iload2, pe_call3, pm_af_ret, pm_af_void, pm_af_thr, pe_if_eq, pe_iload3, pe_iload4, pe_sipush, pe_goto, pe_goto_w, pe_call1, pe_icmp_gt, pe_iload5, pe_istore6, pe_iload6, pe_istore7, pe_iload7, pe_aaload, pe_iastore, pe_iinc7, pe_iinc6, pe_return, pm_prog_1, pm_ob_some, Nat.reduceDiv, Nat.reduceMod, Nat.reduceMul, Nat.reduceAdd, Int.reduceToNat, pm_kill_i, pm_kill_r, pm_kill_n, pm_kill_j, pm_kill_l, pm_kill_d, pm_cats_nil, pm_cats_i, pm_cats_r, pm_cats_n, pm_cats_l, pm_cats_d, sz_1, sz_2, sl_1, sl_2, lc_0, lc_lt, lc_le, li_ne, va_rf, wr_m1, we_m1, pm_kill_w, Int32.reduceOfInt, Int64.reduceOfInt, Int32.reduceOfNat, Int32.reduceLT, Int32.reduceLE, Prod.mk.injEq, Nat.reduceEqDiff, reduceCtorEq, and_true, true_and, and_false, false_and, and_self, ite_true, ite_false, ↓reduceIte, not_true_eq_false, not_false_eq_true, pe_ri, pe_rz, pe_rc, p_throw, t1027, w_junk hA, Cu_g0_0 hP hA, Cu_g1_2 hP hA, Cu_r4 hP hA, Cu_w5 hP hA, z1, eq_true k2, k3]
  · rw [if_neg k2] at e
    obtain ⟨v13, k4, e⟩ := Option.bind_eq_some_iff.mp e
    try dsimp only at e
    have z4 := x1155 (D := D) (h := h) hP hA (by omega) k4
    by_cases k5 : v13 = 0
    · rw [if_pos k5] at e
      have k6 := y1027_2 (h := h) hP hA hD e
      simp -implicitDefEqProofs (disch := first | assumption | exact Nat.le_of_ble_eq_true rfl | decide) only [b1027_0, g1027_1, b1027_1, g1027_3, b1027_3, g1027_7, b1027_7, g1027_8, b1027_8, pe_aload0, pe_getfield, pe_iload1, pe_iload2, pe_call3, pm_af_ret, pm_af_void, pm_af_thr, pe_if_eq, pe_iload3, pe_iload4, pe_sipush, pe_goto, pe_goto_w, pe_call1, pe_icmp_gt, pe_iload5, pe_istore6, pe_iload6, pe_istore7, pe_iload7, pe_aaload, pe_iastore, pe_iinc7, pe_iinc6, pe_return, pm_prog_1, pm_ob_some, Nat.reduceDiv, Nat.reduceMod, Nat.reduceMul, Nat.reduceAdd, Int.reduceToNat, pm_kill_i, pm_kill_r, pm_kill_n, pm_kill_j, pm_kill_l, pm_kill_d, pm_cats_nil, pm_cats_i, pm_cats_r, pm_cats_n, pm_cats_l, pm_cats_d, sz_1, sz_2, sl_1, sl_2, lc_0, lc_lt, lc_le, li_ne, va_rf, wr_m1, we_m1, pm_kill_w, Int32.reduceOfInt, Int64.reduceOfInt, Int32.reduceOfNat, Int32.reduceLT, Int32.reduceLE, Prod.mk.injEq, Nat.reduceEqDiff, reduceCtorEq, and_true, true_and, and_false, false_and, and_self, ite_true, ite_false, ↓reduceIte, not_true_eq_false, not_false_eq_true, pe_ri, pe_rz, pe_rc, p_throw, t1027, w_junk hA, Cu_g0_0 hP hA, Cu_g1_2 hP hA, Cu_r4 hP hA, Cu_w5 hP hA, z1, eq_false k2, z4, eq_true k5, k6]
    · rw [if_neg k5] at e
      have k7 := y1027_2 (h := h) hP hA hD e
      simp -implicitDefEqProofs (disch := first | assumption | exact Nat.le_of_ble_eq_true rfl | decide) only [b1027_0, g1027_1, b1027_1, g1027_3, b1027_3, g1027_7, b1027_7, g1027_8, b1027_8, pe_aload0, pe_getfield, pe_iload1, pe_iload2, pe_call3, pm_af_ret, pm_af_void, pm_af_thr, pe_if_eq, pe_iload3, pe_iload4, pe_sipush, pe_goto, pe_goto_w, pe_call1, pe_icmp_gt, pe_iload5, pe_istore6, pe_iload6, pe_istore7, pe_iload7, pe_aaload, pe_iastore, pe_iinc7, pe_iinc6, pe_return, pm_prog_1, pm_ob_some, Nat.reduceDiv, Nat.reduceMod, Nat.reduceMul, Nat.reduceAdd, Int.reduceToNat, pm_kill_i, pm_kill_r, pm_kill_n, pm_kill_j, pm_kill_l, pm_kill_d, pm_cats_nil, pm_cats_i, pm_cats_r, pm_cats_n, pm_cats_l, pm_cats_d, sz_1, sz_2, sl_1, sl_2, lc_0, lc_lt, lc_le, li_ne, va_rf, wr_m1, we_m1, pm_kill_w, Int32.reduceOfInt, Int64.reduceOfInt, Int32.reduceOfNat, Int32.reduceLT, Int32.reduceLE, Prod.mk.injEq, Nat.reduceEqDiff, reduceCtorEq, and_true, true_and, and_false, false_and, and_self, ite_true, ite_false, ↓reduceIte, not_true_eq_false, not_false_eq_true, pe_ri, pe_rz, pe_rc, p_throw, t1027, w_junk hA, Cu_g0_0 hP hA, Cu_g1_2 hP hA, Cu_r4 hP hA, Cu_w5 hP hA, z1, eq_false k2, z4, eq_false k5, k7]
/-- TimberHouse$RouterPaths.keep(IIIIZ)V -/
theorem c1030 {d : Nat} {h : pm_H} {a : Nat} {x0 : Int32} {x1 : Int32} {x2 : Int32} {x3 : Int32} {x4 : Int32} (hc : pm_cls h a = some 16) : pm_call pm_prog (d + 1) 1030 [.ref a, .int x0, .int x1, .int x2, .int x3, .int x4] h = pm_ev pm_prog (pm_call pm_prog d) 1030 0 b1030_0 [.ref a, .int x0, .int x1, .int x2, .int x3, .int x4, pm_junk, pm_junk] [] h := pm_cal (pm_rc1 hc rfl) rfl rfl rfl
theorem g1030_1 {cl : pm_C} {ls st : List Value} {h : pm_H} : pm_go pm_prog cl 1030 1 ls st h = pm_ev pm_prog cl 1030 1 b1030_1 ls st h := pm_go_eq pm_prog cl 1030 1 ls st h
theorem g1030_2 {cl : pm_C} {ls st : List Value} {h : pm_H} : pm_go pm_prog cl 1030 2 ls st h = pm_ev pm_prog cl 1030 2 b1030_2 ls st h := pm_go_eq pm_prog cl 1030 2 ls st h
theorem g1030_3 {cl : pm_C} {ls st : List Value} {h : pm_H} : pm_go pm_prog cl 1030 3 ls st h = pm_ev pm_prog cl 1030 3 b1030_3 ls st h := pm_go_eq pm_prog cl 1030 3 ls st h
theorem g1030_4 {cl : pm_C} {ls st : List Value} {h : pm_H} : pm_go pm_prog cl 1030 4 ls st h = pm_ev pm_prog cl 1030 4 b1030_4 ls st h := pm_go_eq pm_prog cl 1030 4 ls st h
theorem g1030_5 {cl : pm_C} {ls st : List Value} {h : pm_H} : pm_go pm_prog cl 1030 5 ls st h = pm_ev pm_prog cl 1030 5 b1030_5 ls st h := pm_go_eq pm_prog cl 1030 5 ls st h
theorem g1030_6 {cl : pm_C} {ls st : List Value} {h : pm_H} : pm_go pm_prog cl 1030 6 ls st h = pm_ev pm_prog cl 1030 6 b1030_6 ls st h := pm_go_eq pm_prog cl 1030 6 ls st h
theorem g1030_7 {cl : pm_C} {ls st : List Value} {h : pm_H} : pm_go pm_prog cl 1030 7 ls st h = pm_ev pm_prog cl 1030 7 b1030_7 ls st h := pm_go_eq pm_prog cl 1030 7 ls st h
theorem g1030_8 {cl : pm_C} {ls st : List Value} {h : pm_H} : pm_go pm_prog cl 1030 8 ls st h = pm_ev pm_prog cl 1030 8 b1030_8 ls st h := pm_go_eq pm_prog cl 1030 8 ls st h
theorem t1030 {cl : pm_C} {j : Nat} {ls : List Value} {c : Nat} {h : pm_H} : pm_thr pm_prog cl 1030 j ls c h = some (.threw c, h) := rfl
noncomputable def f1030_b6 (side : Int32) : Int32 × Int32 × Int32 × Int32 × Int32 × Int32 × wS → Option ((Int32 × Int32 × Int32 × Int32 × Int32 × Int32 × wS) ⊕ ((Int32 × Int32 × Int32 × Int32 × Int32 × wS))) := fun (x1, x3, x4, x5, x6, x7, S) =>
  if x7 ≤ x3 then
    if 0 ≤ x6 ∧ x6 < side then
      if 0 ≤ x7 ∧ x7 < side then
        some (.inl (x1, x3, x4, x5, x6, (x7 + 1), (sz S (13, x6, 0) x7 (vp_nar .boolean x5))))
      else none
    else none
  else
    some (.inr (x1, x3, x4, x5, x6, S))
noncomputable def f1030_b5 (side : Int32) : Int32 × Int32 × Int32 × Int32 × Int32 × wS → Option ((Int32 × Int32 × Int32 × Int32 × Int32 × wS) ⊕ ((wS))) := fun (x1, x3, x4, x5, x6, S) =>
  if x6 ≤ x4 then
    (lp (f1030_b6 side) FU (x1, x3, x4, x5, x6, x1, S)).bind fun (v4, v5, v6, v7, v8, S2) =>
    some (.inl (v4, v5, v6, v7, (v8 + 1), S2))
  else
    some (.inr S)
noncomputable def f1030_4 (side : Int32) (S : wS) (x1 : Int32) (x2 : Int32) (x3 : Int32) (x4 : Int32) (x5 : Int32) (y0 : Int32) : Option ((Nat × wS) ⊕ (wS)) :=
  (f1029 y0).bind fun r => match r with
  | .inl c10 =>
    some (.inl (c10, S))
  | .inr _ =>
  (lp (f1030_b5 side) FU (x1, x3, x4, x5, x2, S)).bind fun S9 =>
  some (.inr S9)
noncomputable def f1030_2 (side : Int32) (S : wS) (x1 : Int32) (x2 : Int32) (x3 : Int32) (x4 : Int32) (x5 : Int32) (y0 : Int32) : Option ((Nat × wS) ⊕ (wS)) :=
  (f1028 y0).bind fun r => match r with
  | .inl c11 =>
    some (.inl (c11, S))
  | .inr _ =>
  if x1 ≤ x3 then
    if x2 ≤ x4 then
      f1030_4 side S x1 x2 x3 x4 x5 1
    else
      f1030_4 side S x1 x2 x3 x4 x5 0
  else
    f1030_4 side S x1 x2 x3 x4 x5 0
/-- TimberHouse$RouterPaths.keep(IIIIZ)V -/
noncomputable def f1030 (side : Int32) (S : wS) (x1 : Int32) (x2 : Int32) (x3 : Int32) (x4 : Int32) (x5 : Int32) : Option ((Nat × wS) ⊕ (wS)) :=
  (f1155 side S x1 x2).bind fun v1 =>
  if v1 = 0 then
    f1030_2 side S x1 x2 x3 x4 x5 0
  else
    (f1155 side S x3 x4).bind fun v12 =>
    if v12 = 0 then
      f1030_2 side S x1 x2 x3 x4 x5 0
    else
      f1030_2 side S x1 x2 x3 x4 x5 1
def go1030_6 (side : Int32) (A : wK → Nat) (h : pm_H) (D : Nat) (R : Outcome × pm_H) : Int32 × Int32 × Int32 × Int32 × Int32 × Int32 × wS → Prop := fun (x1, x3, x4, x5, x6, x7, S) => ∀ q2 : Value, pm_go pm_prog (pm_call pm_prog D) 1030 6 [.ref (A (0, 0, 0)), .int x1, q2, .int x3, .int x4, .int x5, .int x6, .int x7] [] (wput A (Cu_d side) S h) = some R
def ex1030_6 (side : Int32) (A : wK → Nat) (h : pm_H) (D : Nat) (R : Outcome × pm_H) : (Int32 × Int32 × Int32 × Int32 × Int32 × wS) → Prop := fun (x1, x3, x4, x5, x6, S) => ∀ q2 q7 : Value, pm_go pm_prog (pm_call pm_prog D) 1030 7 [.ref (A (0, 0, 0)), .int x1, q2, .int x3, .int x4, .int x5, .int x6, q7] [] (wput A (Cu_d side) S h) = some R
theorem y1030_b6 {side : Int32} {A : wK → Nat} {h : pm_H} {D : Nat} {R : Outcome × pm_H} (hP : Cu_P side) (hA : wok A (Cu_d side) h.1) (hD : 1 ≤ D) (a : Int32 × Int32 × Int32 × Int32 × Int32 × Int32 × wS) (r : (Int32 × Int32 × Int32 × Int32 × Int32 × Int32 × wS) ⊕ ((Int32 × Int32 × Int32 × Int32 × Int32 × wS))) (e : f1030_b6 side a = some r) (hc : Sum.elim (go1030_6 side A h D R) (ex1030_6 side A h D R) r) : go1030_6 side A h D R a := by
  obtain ⟨x1, x3, x4, x5, x6, x7, S⟩ := a
  dsimp only [go1030_6]
  intro q2
  simp only [f1030_b6] at e
  rw [g1030_6, b1030_6]
  by_cases k1 : x7 ≤ x3
  · rw [if_pos k1] at e
    by_cases k2 : 0 ≤ x6 ∧ x6 < side
    · rw [if_pos k2] at e
      by_cases k3 : 0 ≤ x7 ∧ x7 < side
      · rw [if_pos k3] at e
        have e := Option.some.inj e; subst e
        dsimp only [Sum.elim_inl, go1030_6] at hc
        simp -implicitDefEqProofs (disch := first | assumption | exact Nat.le_of_ble_eq_true rfl | decide) only [b1030_0, g1030_1, b1030_1, g1030_3, b1030_3, g1030_7, b1030_7, g1030_8, b1030_8, pe_aload0, pe_getfield, pe_iload1, pe_iload2, pe_call3, pm_af_ret, pm_af_void, pm_af_thr, pe_if_eq, pe_iload3, pe_iload4, pe_sipush, pe_goto, pe_goto_w, pe_call1, pe_icmp_gt, pe_istore6, pe_iload6, pe_istore7, pe_iload7, pe_aaload, pe_iload5, pe_bastore, pe_iinc7, pe_iinc6, pe_return, pm_prog_1, pm_ob_some, Nat.reduceDiv, Nat.reduceMod, Nat.reduceMul, Nat.reduceAdd, Int.reduceToNat, pm_kill_i, pm_kill_r, pm_kill_n, pm_kill_j, pm_kill_l, pm_kill_d, pm_cats_nil, pm_cats_i, pm_cats_r, pm_cats_n, pm_cats_l, pm_cats_d, sz_1, sz_2, sl_1, sl_2, lc_0, lc_lt, lc_le, li_ne, va_rf, wr_m1, we_m1, pm_kill_w, Int32.reduceOfInt, Int64.reduceOfInt, Int32.reduceOfNat, Int32.reduceLT, Int32.reduceLE, Prod.mk.injEq, Nat.reduceEqDiff, reduceCtorEq, and_true, true_and, and_false, false_and, and_self, ite_true, ite_false, ↓reduceIte, not_true_eq_false, not_false_eq_true, pe_ri, pe_rz, pe_rc, p_throw, t1030, w_junk hA, Cu_g0_0 hP hA, Cu_g1_3 hP hA, Cu_r6 hP hA, Cu_w13 hP hA, eq_true k1, hc]
      · rw [if_neg k3] at e; cases e
    · rw [if_neg k2] at e; cases e
  · rw [if_neg k1] at e
    have e := Option.some.inj e; subst e
    dsimp only [Sum.elim_inr, ex1030_6] at hc
    simp -implicitDefEqProofs (disch := first | assumption | exact Nat.le_of_ble_eq_true rfl | decide) only [b1030_0, g1030_1, b1030_1, g1030_3, b1030_3, g1030_7, b1030_7, g1030_8, b1030_8, pe_aload0, pe_getfield, pe_iload1, pe_iload2, pe_call3, pm_af_ret, pm_af_void, pm_af_thr, pe_if_eq, pe_iload3, pe_iload4, pe_sipush, pe_goto, pe_goto_w, pe_call1, pe_icmp_gt, pe_istore6, pe_iload6, pe_istore7, pe_iload7, pe_aaload, pe_iload5, pe_bastore, pe_iinc7, pe_iinc6, pe_return, pm_prog_1, pm_ob_some, Nat.reduceDiv, Nat.reduceMod, Nat.reduceMul, Nat.reduceAdd, Int.reduceToNat, pm_kill_i, pm_kill_r, pm_kill_n, pm_kill_j, pm_kill_l, pm_kill_d, pm_cats_nil, pm_cats_i, pm_cats_r, pm_cats_n, pm_cats_l, pm_cats_d, sz_1, sz_2, sl_1, sl_2, lc_0, lc_lt, lc_le, li_ne, va_rf, wr_m1, we_m1, pm_kill_w, Int32.reduceOfInt, Int64.reduceOfInt, Int32.reduceOfNat, Int32.reduceLT, Int32.reduceLE, Prod.mk.injEq, Nat.reduceEqDiff, reduceCtorEq, and_true, true_and, and_false, false_and, and_self, ite_true, ite_false, ↓reduceIte, not_true_eq_false, not_false_eq_true, pe_ri, pe_rz, pe_rc, p_throw, t1030, w_junk hA, Cu_g0_0 hP hA, Cu_g1_3 hP hA, Cu_r6 hP hA, Cu_w13 hP hA, eq_false k1, hc]
theorem z1030_6 {side : Int32} {A : wK → Nat} {h : pm_H} {D : Nat} {R : Outcome × pm_H} (hP : Cu_P side) (hA : wok A (Cu_d side) h.1) (hD : 1 ≤ D) {n : Nat} {a : Int32 × Int32 × Int32 × Int32 × Int32 × Int32 × wS} {b : (Int32 × Int32 × Int32 × Int32 × Int32 × wS)} (e : lp (f1030_b6 side) n a = some b) (hx : ex1030_6 side A h D R b) : go1030_6 side A h D R a := lp_run (fun a r => y1030_b6 hP hA hD a r) n a b e hx
def go1030_5 (side : Int32) (A : wK → Nat) (h : pm_H) (D : Nat) (R : Outcome × pm_H) : Int32 × Int32 × Int32 × Int32 × Int32 × wS → Prop := fun (x1, x3, x4, x5, x6, S) => ∀ q2 q7 : Value, pm_go pm_prog (pm_call pm_prog D) 1030 5 [.ref (A (0, 0, 0)), .int x1, q2, .int x3, .int x4, .int x5, .int x6, q7] [] (wput A (Cu_d side) S h) = some R
def ex1030_5 (side : Int32) (A : wK → Nat) (h : pm_H) (D : Nat) (R : Outcome × pm_H) : (wS) → Prop := fun S => ∀ q0 q1 q2 q3 q4 q5 q6 q7 : Value, pm_go pm_prog (pm_call pm_prog D) 1030 8 [q0, q1, q2, q3, q4, q5, q6, q7] [] (wput A (Cu_d side) S h) = some R
theorem y1030_b5 {side : Int32} {A : wK → Nat} {h : pm_H} {D : Nat} {R : Outcome × pm_H} (hP : Cu_P side) (hA : wok A (Cu_d side) h.1) (hD : 1 ≤ D) (a : Int32 × Int32 × Int32 × Int32 × Int32 × wS) (r : (Int32 × Int32 × Int32 × Int32 × Int32 × wS) ⊕ ((wS))) (e : f1030_b5 side a = some r) (hc : Sum.elim (go1030_5 side A h D R) (ex1030_5 side A h D R) r) : go1030_5 side A h D R a := by
  obtain ⟨x1, x3, x4, x5, x6, S⟩ := a
  dsimp only [go1030_5]
  intro q2 q7
  simp only [f1030_b5] at e
  rw [g1030_5, b1030_5]
  by_cases k1 : x6 ≤ x4
  · rw [if_pos k1] at e
    obtain ⟨⟨v4, v5, v6, v7, v8, S2⟩, k2, e⟩ := Option.bind_eq_some_iff.mp e
    try dsimp only at e
    try simp -implicitDefEqProofs (disch := first | assumption | exact Nat.le_of_ble_eq_true rfl | decide) only [b1030_0, g1030_1, b1030_1, g1030_3, b1030_3, g1030_7, b1030_7, g1030_8, b1030_8, pe_aload0, pe_getfield, pe_iload1, pe_iload2, pe_call3, pm_af_ret, pm_af_void, pm_af_thr, pe_if_eq, pe_iload3, pe_iload4, pe_sipush, pe_goto, pe_goto_w, pe_call1, pe_icmp_gt, pe_istore6, pe_iload6, pe_istore7, pe_iload7, pe_aaload, pe_iload5, pe_bastore, pe_iinc7, pe_iinc6, pe_return, pm_prog_1, pm_ob_some, Nat.reduceDiv, Nat.reduceMod, Nat.reduceMul, Nat.reduceAdd, Int.reduceToNat, pm_kill_i, pm_kill_r, pm_kill_n, pm_kill_j, pm_kill_l, pm_kill_d, pm_cats_nil, pm_cats_i, pm_cats_r, pm_cats_n, pm_cats_l, pm_cats_d, sz_1, sz_2, sl_1, sl_2, lc_0, lc_lt, lc_le, li_ne, va_rf, wr_m1, we_m1, pm_kill_w, Int32.reduceOfInt, Int64.reduceOfInt, Int32.reduceOfNat, Int32.reduceLT, Int32.reduceLE, Prod.mk.injEq, Nat.reduceEqDiff, reduceCtorEq, and_true, true_and, and_false, false_and, and_self, ite_true, ite_false, ↓reduceIte, not_true_eq_false, not_false_eq_true, pe_ri, pe_rz, pe_rc, p_throw, t1030, w_junk hA, Cu_g0_0 hP hA, Cu_g1_3 hP hA, Cu_r6 hP hA, Cu_w13 hP hA, eq_true k1]
    refine z1030_6 hP hA hD k2 ?_ _
    dsimp only [ex1030_6]
    intro q2 q7
    have e := Option.some.inj e; subst e
    dsimp only [Sum.elim_inl, go1030_5] at hc
    simp -implicitDefEqProofs (disch := first | assumption | exact Nat.le_of_ble_eq_true rfl | decide) only [b1030_0, g1030_1, b1030_1, g1030_3, b1030_3, g1030_7, b1030_7, g1030_8, b1030_8, pe_aload0, pe_getfield, pe_iload1, pe_iload2, pe_call3, pm_af_ret, pm_af_void, pm_af_thr, pe_if_eq, pe_iload3, pe_iload4, pe_sipush, pe_goto, pe_goto_w, pe_call1, pe_icmp_gt, pe_istore6, pe_iload6, pe_istore7, pe_iload7, pe_aaload, pe_iload5, pe_bastore, pe_iinc7, pe_iinc6, pe_return, pm_prog_1, pm_ob_some, Nat.reduceDiv, Nat.reduceMod, Nat.reduceMul, Nat.reduceAdd, Int.reduceToNat, pm_kill_i, pm_kill_r, pm_kill_n, pm_kill_j, pm_kill_l, pm_kill_d, pm_cats_nil, pm_cats_i, pm_cats_r, pm_cats_n, pm_cats_l, pm_cats_d, sz_1, sz_2, sl_1, sl_2, lc_0, lc_lt, lc_le, li_ne, va_rf, wr_m1, we_m1, pm_kill_w, Int32.reduceOfInt, Int64.reduceOfInt, Int32.reduceOfNat, Int32.reduceLT, Int32.reduceLE, Prod.mk.injEq, Nat.reduceEqDiff, reduceCtorEq, and_true, true_and, and_false, false_and, and_self, ite_true, ite_false, ↓reduceIte, not_true_eq_false, not_false_eq_true, pe_ri, pe_rz, pe_rc, p_throw, t1030, w_junk hA, Cu_g0_0 hP hA, Cu_g1_3 hP hA, Cu_r6 hP hA, Cu_w13 hP hA, eq_true k1, hc]
  · rw [if_neg k1] at e
    have e := Option.some.inj e; subst e
    dsimp only [Sum.elim_inr, ex1030_5] at hc
    simp -implicitDefEqProofs (disch := first | assumption | exact Nat.le_of_ble_eq_true rfl | decide) only [b1030_0, g1030_1, b1030_1, g1030_3, b1030_3, g1030_7, b1030_7, g1030_8, b1030_8, pe_aload0, pe_getfield, pe_iload1, pe_iload2, pe_call3, pm_af_ret, pm_af_void, pm_af_thr, pe_if_eq, pe_iload3, pe_iload4, pe_sipush, pe_goto, pe_goto_w, pe_call1, pe_icmp_gt, pe_istore6, pe_iload6, pe_istore7, pe_iload7, pe_aaload, pe_iload5, pe_bastore, pe_iinc7, pe_iinc6, pe_return, pm_prog_1, pm_ob_some, Nat.reduceDiv, Nat.reduceMod, Nat.reduceMul, Nat.reduceAdd, Int.reduceToNat, pm_kill_i, pm_kill_r, pm_kill_n, pm_kill_j, pm_kill_l, pm_kill_d, pm_cats_nil, pm_cats_i, pm_cats_r, pm_cats_n, pm_cats_l, pm_cats_d, sz_1, sz_2, sl_1, sl_2, lc_0, lc_lt, lc_le, li_ne, va_rf, wr_m1, we_m1, pm_kill_w, Int32.reduceOfInt, Int64.reduceOfInt, Int32.reduceOfNat, Int32.reduceLT, Int32.reduceLE, Prod.mk.injEq, Nat.reduceEqDiff, reduceCtorEq, and_true, true_and, and_false, false_and, and_self, ite_true, ite_false, ↓reduceIte, not_true_eq_false, not_false_eq_true, pe_ri, pe_rz, pe_rc, p_throw, t1030, w_junk hA, Cu_g0_0 hP hA, Cu_g1_3 hP hA, Cu_r6 hP hA, Cu_w13 hP hA, eq_false k1, hc]
theorem z1030_5 {side : Int32} {A : wK → Nat} {h : pm_H} {D : Nat} {R : Outcome × pm_H} (hP : Cu_P side) (hA : wok A (Cu_d side) h.1) (hD : 1 ≤ D) {n : Nat} {a : Int32 × Int32 × Int32 × Int32 × Int32 × wS} {b : (wS)} (e : lp (f1030_b5 side) n a = some b) (hx : ex1030_5 side A h D R b) : go1030_5 side A h D R a := lp_run (fun a r => y1030_b5 hP hA hD a r) n a b e hx
theorem y1030_4 {side : Int32} {A : wK → Nat} {h : pm_H} {D : Nat} {S : wS} {x1 : Int32} {x2 : Int32} {x3 : Int32} {x4 : Int32} {x5 : Int32} {y0 : Int32} {r : (Nat × wS) ⊕ (wS)} (hP : Cu_P side) (hA : wok A (Cu_d side) h.1) (hD : 1 ≤ D) (e : f1030_4 side S x1 x2 x3 x4 x5 y0 = some r) : ∀ q6 q7 : Value, pm_go pm_prog (pm_call pm_prog D) 1030 4 [.ref (A (0, 0, 0)), .int x1, .int x2, .int x3, .int x4, .int x5, q6, q7] [.int y0] (wput A (Cu_d side) S h) = some (match (generalizing := false) r with | .inl (c, S1) => (Outcome.threw c, (wput A (Cu_d side) S1 (pm_new h 6 (.inr (c, []))))) | .inr S1 => (Outcome.returned none, (wput A (Cu_d side) S1 h))) := by
  intro q6 q7
  simp only [f1030_4] at e
  rw [g1030_4, b1030_4]
  obtain ⟨r, k1, e⟩ := Option.bind_eq_some_iff.mp e
  have z1 := fun h => x1029 (D := D) (h := h) (by omega) k1
  rcases r with c10 | _
  · dsimp only at e z1
    have e := Option.some.inj e; subst e
    simp -implicitDefEqProofs (disch := first | assumption | exact Nat.le_of_ble_eq_true rfl | decide) only [b1030_0, g1030_1, b1030_1, g1030_3, b1030_3, g1030_7, b1030_7, g1030_8, b1030_8, pe_aload0, pe_getfield, pe_iload1, pe_iload2, pe_call3, pm_af_ret, pm_af_void, pm_af_thr, pe_if_eq, pe_iload3, pe_iload4, pe_sipush, pe_goto, pe_goto_w, pe_call1, pe_icmp_gt, pe_istore6, pe_iload6, pe_istore7, pe_iload7, pe_aaload, pe_iload5, pe_bastore, pe_iinc7, pe_iinc6, pe_return, pm_prog_1, pm_ob_some, Nat.reduceDiv, Nat.reduceMod, Nat.reduceMul, Nat.reduceAdd, Int.reduceToNat, pm_kill_i, pm_kill_r, pm_kill_n, pm_kill_j, pm_kill_l, pm_kill_d, pm_cats_nil, pm_cats_i, pm_cats_r, pm_cats_n, pm_cats_l, pm_cats_d, sz_1, sz_2, sl_1, sl_2, lc_0, lc_lt, lc_le, li_ne, va_rf, wr_m1, we_m1, pm_kill_w, Int32.reduceOfInt, Int64.reduceOfInt, Int32.reduceOfNat, Int32.reduceLT, Int32.reduceLE, Prod.mk.injEq, Nat.reduceEqDiff, reduceCtorEq, and_true, true_and, and_false, false_and, and_self, ite_true, ite_false, ↓reduceIte, not_true_eq_false, not_false_eq_true, pe_ri, pe_rz, pe_rc, p_throw, t1030, w_junk hA, Cu_g0_0 hP hA, Cu_g1_3 hP hA, Cu_r6 hP hA, Cu_w13 hP hA, z1]
  · dsimp only at e z1
    obtain ⟨S9, k2, e⟩ := Option.bind_eq_some_iff.mp e
    try dsimp only at e
    try simp -implicitDefEqProofs (disch := first | assumption | exact Nat.le_of_ble_eq_true rfl | decide) only [b1030_0, g1030_1, b1030_1, g1030_3, b1030_3, g1030_7, b1030_7, g1030_8, b1030_8, pe_aload0, pe_getfield, pe_iload1, pe_iload2, pe_call3, pm_af_ret, pm_af_void, pm_af_thr, pe_if_eq, pe_iload3, pe_iload4, pe_sipush, pe_goto, pe_goto_w, pe_call1, pe_icmp_gt, pe_istore6, pe_iload6, pe_istore7, pe_iload7, pe_aaload, pe_iload5, pe_bastore, pe_iinc7, pe_iinc6, pe_return, pm_prog_1, pm_ob_some, Nat.reduceDiv, Nat.reduceMod, Nat.reduceMul, Nat.reduceAdd, Int.reduceToNat, pm_kill_i, pm_kill_r, pm_kill_n, pm_kill_j, pm_kill_l, pm_kill_d, pm_cats_nil, pm_cats_i, pm_cats_r, pm_cats_n, pm_cats_l, pm_cats_d, sz_1, sz_2, sl_1, sl_2, lc_0, lc_lt, lc_le, li_ne, va_rf, wr_m1, we_m1, pm_kill_w, Int32.reduceOfInt, Int64.reduceOfInt, Int32.reduceOfNat, Int32.reduceLT, Int32.reduceLE, Prod.mk.injEq, Nat.reduceEqDiff, reduceCtorEq, and_true, true_and, and_false, false_and, and_self, ite_true, ite_false, ↓reduceIte, not_true_eq_false, not_false_eq_true, pe_ri, pe_rz, pe_rc, p_throw, t1030, w_junk hA, Cu_g0_0 hP hA, Cu_g1_3 hP hA, Cu_r6 hP hA, Cu_w13 hP hA, z1]
    refine z1030_5 hP hA hD k2 ?_ _ _
    dsimp only [ex1030_5]
    intro q0 q1 q2 q3 q4 q5 q6 q7
    have e := Option.some.inj e; subst e
    simp -implicitDefEqProofs (disch := first | assumption | exact Nat.le_of_ble_eq_true rfl | decide) only [b1030_0, g1030_1, b1030_1, g1030_3, b1030_3, g1030_7, b1030_7, g1030_8, b1030_8, pe_aload0, pe_getfield, pe_iload1, pe_iload2, pe_call3, pm_af_ret, pm_af_void, pm_af_thr, pe_if_eq, pe_iload3, pe_iload4, pe_sipush, pe_goto, pe_goto_w, pe_call1, pe_icmp_gt, pe_istore6, pe_iload6, pe_istore7, pe_iload7, pe_aaload, pe_iload5, pe_bastore, pe_iinc7, pe_iinc6, pe_return, pm_prog_1, pm_ob_some, Nat.reduceDiv, Nat.reduceMod, Nat.reduceMul, Nat.reduceAdd, Int.reduceToNat, pm_kill_i, pm_kill_r, pm_kill_n, pm_kill_j, pm_kill_l, pm_kill_d, pm_cats_nil, pm_cats_i, pm_cats_r, pm_cats_n, pm_cats_l, pm_cats_d, sz_1, sz_2, sl_1, sl_2, lc_0, lc_lt, lc_le, li_ne, va_rf, wr_m1, we_m1, pm_kill_w, Int32.reduceOfInt, Int64.reduceOfInt, Int32.reduceOfNat, Int32.reduceLT, Int32.reduceLE, Prod.mk.injEq, Nat.reduceEqDiff, reduceCtorEq, and_true, true_and, and_false, false_and, and_self, ite_true, ite_false, ↓reduceIte, not_true_eq_false, not_false_eq_true, pe_ri, pe_rz, pe_rc, p_throw, t1030, w_junk hA, Cu_g0_0 hP hA, Cu_g1_3 hP hA, Cu_r6 hP hA, Cu_w13 hP hA, z1]
theorem y1030_2 {side : Int32} {A : wK → Nat} {h : pm_H} {D : Nat} {S : wS} {x1 : Int32} {x2 : Int32} {x3 : Int32} {x4 : Int32} {x5 : Int32} {y0 : Int32} {r : (Nat × wS) ⊕ (wS)} (hP : Cu_P side) (hA : wok A (Cu_d side) h.1) (hD : 1 ≤ D) (e : f1030_2 side S x1 x2 x3 x4 x5 y0 = some r) : ∀ q6 q7 : Value, pm_go pm_prog (pm_call pm_prog D) 1030 2 [.ref (A (0, 0, 0)), .int x1, .int x2, .int x3, .int x4, .int x5, q6, q7] [.int y0] (wput A (Cu_d side) S h) = some (match (generalizing := false) r with | .inl (c, S1) => (Outcome.threw c, (wput A (Cu_d side) S1 (pm_new h 6 (.inr (c, []))))) | .inr S1 => (Outcome.returned none, (wput A (Cu_d side) S1 h))) := by
  intro q6 q7
  simp only [f1030_2] at e
  rw [g1030_2, b1030_2]
  obtain ⟨r, k1, e⟩ := Option.bind_eq_some_iff.mp e
  have z1 := fun h => x1028 (D := D) (h := h) (by omega) k1
  rcases r with c11 | _
  · dsimp only at e z1
    have e := Option.some.inj e; subst e
    simp -implicitDefEqProofs (disch := first | assumption | exact Nat.le_of_ble_eq_true rfl | decide) only [b1030_0, g1030_1, b1030_1, g1030_3, b1030_3, g1030_7, b1030_7, g1030_8, b1030_8, pe_aload0, pe_getfield, pe_iload1, pe_iload2, pe_call3, pm_af_ret, pm_af_void, pm_af_thr, pe_if_eq, pe_iload3, pe_iload4, pe_sipush, pe_goto, pe_goto_w, pe_call1, pe_icmp_gt, pe_istore6, pe_iload6, pe_istore7, pe_iload7, pe_aaload, pe_iload5, pe_bastore, pe_iinc7, pe_iinc6, pe_return, pm_prog_1, pm_ob_some, Nat.reduceDiv, Nat.reduceMod, Nat.reduceMul, Nat.reduceAdd, Int.reduceToNat, pm_kill_i, pm_kill_r, pm_kill_n, pm_kill_j, pm_kill_l, pm_kill_d, pm_cats_nil, pm_cats_i, pm_cats_r, pm_cats_n, pm_cats_l, pm_cats_d, sz_1, sz_2, sl_1, sl_2, lc_0, lc_lt, lc_le, li_ne, va_rf, wr_m1, we_m1, pm_kill_w, Int32.reduceOfInt, Int64.reduceOfInt, Int32.reduceOfNat, Int32.reduceLT, Int32.reduceLE, Prod.mk.injEq, Nat.reduceEqDiff, reduceCtorEq, and_true, true_and, and_false, false_and, and_self, ite_true, ite_false, ↓reduceIte, not_true_eq_false, not_false_eq_true, pe_ri, pe_rz, pe_rc, p_throw, t1030, w_junk hA, Cu_g0_0 hP hA, Cu_g1_3 hP hA, Cu_r6 hP hA, Cu_w13 hP hA, z1]
  · dsimp only at e z1
    by_cases k2 : x1 ≤ x3
    · rw [if_pos k2] at e
      by_cases k3 : x2 ≤ x4
      · rw [if_pos k3] at e
        have k4 := y1030_4 (h := h) hP hA hD e
        simp -implicitDefEqProofs (disch := first | assumption | exact Nat.le_of_ble_eq_true rfl | decide) only [b1030_0, g1030_1, b1030_1, g1030_3, b1030_3, g1030_7, b1030_7, g1030_8, b1030_8, pe_aload0, pe_getfield, pe_iload1, pe_iload2, pe_call3, pm_af_ret, pm_af_void, pm_af_thr, pe_if_eq, pe_iload3, pe_iload4, pe_sipush, pe_goto, pe_goto_w, pe_call1, pe_icmp_gt, pe_istore6, pe_iload6, pe_istore7, pe_iload7, pe_aaload, pe_iload5, pe_bastore, pe_iinc7, pe_iinc6, pe_return, pm_prog_1, pm_ob_some, Nat.reduceDiv, Nat.reduceMod, Nat.reduceMul, Nat.reduceAdd, Int.reduceToNat, pm_kill_i, pm_kill_r, pm_kill_n, pm_kill_j, pm_kill_l, pm_kill_d, pm_cats_nil, pm_cats_i, pm_cats_r, pm_cats_n, pm_cats_l, pm_cats_d, sz_1, sz_2, sl_1, sl_2, lc_0, lc_lt, lc_le, li_ne, va_rf, wr_m1, we_m1, pm_kill_w, Int32.reduceOfInt, Int64.reduceOfInt, Int32.reduceOfNat, Int32.reduceLT, Int32.reduceLE, Prod.mk.injEq, Nat.reduceEqDiff, reduceCtorEq, and_true, true_and, and_false, false_and, and_self, ite_true, ite_false, ↓reduceIte, not_true_eq_false, not_false_eq_true, pe_ri, pe_rz, pe_rc, p_throw, t1030, w_junk hA, Cu_g0_0 hP hA, Cu_g1_3 hP hA, Cu_r6 hP hA, Cu_w13 hP hA, z1, eq_true k2, eq_true k3, k4]
      · rw [if_neg k3] at e
        have k5 := y1030_4 (h := h) hP hA hD e
        simp -implicitDefEqProofs (disch := first | assumption | exact Nat.le_of_ble_eq_true rfl | decide) only [b1030_0, g1030_1, b1030_1, g1030_3, b1030_3, g1030_7, b1030_7, g1030_8, b1030_8, pe_aload0, pe_getfield, pe_iload1, pe_iload2, pe_call3, pm_af_ret, pm_af_void, pm_af_thr, pe_if_eq, pe_iload3, pe_iload4, pe_sipush, pe_goto, pe_goto_w, pe_call1, pe_icmp_gt, pe_istore6, pe_iload6, pe_istore7, pe_iload7, pe_aaload, pe_iload5, pe_bastore, pe_iinc7, pe_iinc6, pe_return, pm_prog_1, pm_ob_some, Nat.reduceDiv, Nat.reduceMod, Nat.reduceMul, Nat.reduceAdd, Int.reduceToNat, pm_kill_i, pm_kill_r, pm_kill_n, pm_kill_j, pm_kill_l, pm_kill_d, pm_cats_nil, pm_cats_i, pm_cats_r, pm_cats_n, pm_cats_l, pm_cats_d, sz_1, sz_2, sl_1, sl_2, lc_0, lc_lt, lc_le, li_ne, va_rf, wr_m1, we_m1, pm_kill_w, Int32.reduceOfInt, Int64.reduceOfInt, Int32.reduceOfNat, Int32.reduceLT, Int32.reduceLE, Prod.mk.injEq, Nat.reduceEqDiff, reduceCtorEq, and_true, true_and, and_false, false_and, and_self, ite_true, ite_false, ↓reduceIte, not_true_eq_false, not_false_eq_true, pe_ri, pe_rz, pe_rc, p_throw, t1030, w_junk hA, Cu_g0_0 hP hA, Cu_g1_3 hP hA, Cu_r6 hP hA, Cu_w13 hP hA, z1, eq_true k2, eq_false k3, k5]
    · rw [if_neg k2] at e
      have k6 := y1030_4 (h := h) hP hA hD e
      simp -implicitDefEqProofs (disch := first | assumption | exact Nat.le_of_ble_eq_true rfl | decide) only [b1030_0, g1030_1, b1030_1, g1030_3, b1030_3, g1030_7, b1030_7, g1030_8, b1030_8, pe_aload0, pe_getfield, pe_iload1, pe_iload2, pe_call3, pm_af_ret, pm_af_void, pm_af_thr, pe_if_eq, pe_iload3, pe_iload4, pe_sipush, pe_goto, pe_goto_w, pe_call1, pe_icmp_gt, pe_istore6, pe_iload6, pe_istore7, pe_iload7, pe_aaload, pe_iload5, pe_bastore, pe_iinc7, pe_iinc6, pe_return, pm_prog_1, pm_ob_some, Nat.reduceDiv, Nat.reduceMod, Nat.reduceMul, Nat.reduceAdd, Int.reduceToNat, pm_kill_i, pm_kill_r, pm_kill_n, pm_kill_j, pm_kill_l, pm_kill_d, pm_cats_nil, pm_cats_i, pm_cats_r, pm_cats_n, pm_cats_l, pm_cats_d, sz_1, sz_2, sl_1, sl_2, lc_0, lc_lt, lc_le, li_ne, va_rf, wr_m1, we_m1, pm_kill_w, Int32.reduceOfInt, Int64.reduceOfInt, Int32.reduceOfNat, Int32.reduceLT, Int32.reduceLE, Prod.mk.injEq, Nat.reduceEqDiff, reduceCtorEq, and_true, true_and, and_false, false_and, and_self, ite_true, ite_false, ↓reduceIte, not_true_eq_false, not_false_eq_true, pe_ri, pe_rz, pe_rc, p_throw, t1030, w_junk hA, Cu_g0_0 hP hA, Cu_g1_3 hP hA, Cu_r6 hP hA, Cu_w13 hP hA, z1, eq_false k2, k6]
theorem x1030 {side : Int32} {A : wK → Nat} {h : pm_H} {D : Nat} {S : wS} {x1 : Int32} {x2 : Int32} {x3 : Int32} {x4 : Int32} {x5 : Int32} {r : (Nat × wS) ⊕ (wS)} (hP : Cu_P side) (hA : wok A (Cu_d side) h.1) (hD : 2 ≤ D) (e : f1030 side S x1 x2 x3 x4 x5 = some r) : pm_call pm_prog D 1030 [.ref (A (0, 0, 0)), .int x1, .int x2, .int x3, .int x4, .int x5] (wput A (Cu_d side) S h) = some (match (generalizing := false) r with | .inl (c, S1) => (Outcome.threw c, (wput A (Cu_d side) S1 (pm_new h 6 (.inr (c, []))))) | .inr S1 => (Outcome.returned none, (wput A (Cu_d side) S1 h))) := by
  obtain ⟨D, rfl⟩ : ∃ D', D = D' + 1 := ⟨D - 1, by omega⟩
  have hD : 1 ≤ D := by omega
  simp only [f1030] at e
  rw [c1030 (Cu_c0 hP hA), b1030_0]
  obtain ⟨v1, k1, e⟩ := Option.bind_eq_some_iff.mp e
  try dsimp only at e
  have z1 := x1155 (D := D) (h := h) hP hA (by omega) k1
  by_cases k2 : v1 = 0
  · rw [if_pos k2] at e
    have k3 := y1030_2 (h := h) hP hA hD e
    simp -implicitDefEqProofs (disch := first | assumption | exact Nat.le_of_ble_eq_true rfl | decide) only [b1030_0, g1030_1, b1030_1, g1030_3, b1030_3, g1030_7, b1030_7, g1030_8, b1030_8, pe_aload0, pe_getfield, pe_iload1, pe_iload2, pe_call3, pm_af_ret, pm_af_void, pm_af_thr, pe_if_eq, pe_iload3, pe_iload4, pe_sipush, pe_goto, pe_goto_w, pe_call1, pe_icmp_gt, pe_istore6, pe_iload6, pe_istore7, pe_iload7, pe_aaload, pe_iload5, pe_bastore, pe_iinc7, pe_iinc6, pe_return, pm_prog_1, pm_ob_some, Nat.reduceDiv, Nat.reduceMod, Nat.reduceMul, Nat.reduceAdd, Int.reduceToNat, pm_kill_i, pm_kill_r, pm_kill_n, pm_kill_j, pm_kill_l, pm_kill_d, pm_cats_nil, pm_cats_i, pm_cats_r, pm_cats_n, pm_cats_l, pm_cats_d, sz_1, sz_2, sl_1, sl_2, lc_0, lc_lt, lc_le, li_ne, va_rf, wr_m1, we_m1, pm_kill_w, Int32.reduceOfInt, Int64.reduceOfInt, Int32.reduceOfNat, Int32.reduceLT, Int32.reduceLE, Prod.mk.injEq, Nat.reduceEqDiff, reduceCtorEq, and_true, true_and, and_false, false_and, and_self, ite_true, ite_false, ↓reduceIte, not_true_eq_false, not_false_eq_true, pe_ri, pe_rz, pe_rc, p_throw, t1030, w_junk hA, Cu_g0_0 hP hA, Cu_g1_3 hP hA, Cu_r6 hP hA, Cu_w13 hP hA, z1, eq_true k2, k3]
  · rw [if_neg k2] at e
    obtain ⟨v12, k4, e⟩ := Option.bind_eq_some_iff.mp e
    try dsimp only at e
    have z4 := x1155 (D := D) (h := h) hP hA (by omega) k4
    by_cases k5 : v12 = 0
    · rw [if_pos k5] at e
      have k6 := y1030_2 (h := h) hP hA hD e
      simp -implicitDefEqProofs (disch := first | assumption | exact Nat.le_of_ble_eq_true rfl | decide) only [b1030_0, g1030_1, b1030_1, g1030_3, b1030_3, g1030_7, b1030_7, g1030_8, b1030_8, pe_aload0, pe_getfield, pe_iload1, pe_iload2, pe_call3, pm_af_ret, pm_af_void, pm_af_thr, pe_if_eq, pe_iload3, pe_iload4, pe_sipush, pe_goto, pe_goto_w, pe_call1, pe_icmp_gt, pe_istore6, pe_iload6, pe_istore7, pe_iload7, pe_aaload, pe_iload5, pe_bastore, pe_iinc7, pe_iinc6, pe_return, pm_prog_1, pm_ob_some, Nat.reduceDiv, Nat.reduceMod, Nat.reduceMul, Nat.reduceAdd, Int.reduceToNat, pm_kill_i, pm_kill_r, pm_kill_n, pm_kill_j, pm_kill_l, pm_kill_d, pm_cats_nil, pm_cats_i, pm_cats_r, pm_cats_n, pm_cats_l, pm_cats_d, sz_1, sz_2, sl_1, sl_2, lc_0, lc_lt, lc_le, li_ne, va_rf, wr_m1, we_m1, pm_kill_w, Int32.reduceOfInt, Int64.reduceOfInt, Int32.reduceOfNat, Int32.reduceLT, Int32.reduceLE, Prod.mk.injEq, Nat.reduceEqDiff, reduceCtorEq, and_true, true_and, and_false, false_and, and_self, ite_true, ite_false, ↓reduceIte, not_true_eq_false, not_false_eq_true, pe_ri, pe_rz, pe_rc, p_throw, t1030, w_junk hA, Cu_g0_0 hP hA, Cu_g1_3 hP hA, Cu_r6 hP hA, Cu_w13 hP hA, z1, eq_false k2, z4, eq_true k5, k6]
    · rw [if_neg k5] at e
      have k7 := y1030_2 (h := h) hP hA hD e
      simp -implicitDefEqProofs (disch := first | assumption | exact Nat.le_of_ble_eq_true rfl | decide) only [b1030_0, g1030_1, b1030_1, g1030_3, b1030_3, g1030_7, b1030_7, g1030_8, b1030_8, pe_aload0, pe_getfield, pe_iload1, pe_iload2, pe_call3, pm_af_ret, pm_af_void, pm_af_thr, pe_if_eq, pe_iload3, pe_iload4, pe_sipush, pe_goto, pe_goto_w, pe_call1, pe_icmp_gt, pe_istore6, pe_iload6, pe_istore7, pe_iload7, pe_aaload, pe_iload5, pe_bastore, pe_iinc7, pe_iinc6, pe_return, pm_prog_1, pm_ob_some, Nat.reduceDiv, Nat.reduceMod, Nat.reduceMul, Nat.reduceAdd, Int.reduceToNat, pm_kill_i, pm_kill_r, pm_kill_n, pm_kill_j, pm_kill_l, pm_kill_d, pm_cats_nil, pm_cats_i, pm_cats_r, pm_cats_n, pm_cats_l, pm_cats_d, sz_1, sz_2, sl_1, sl_2, lc_0, lc_lt, lc_le, li_ne, va_rf, wr_m1, we_m1, pm_kill_w, Int32.reduceOfInt, Int64.reduceOfInt, Int32.reduceOfNat, Int32.reduceLT, Int32.reduceLE, Prod.mk.injEq, Nat.reduceEqDiff, reduceCtorEq, and_true, true_and, and_false, false_and, and_self, ite_true, ite_false, ↓reduceIte, not_true_eq_false, not_false_eq_true, pe_ri, pe_rz, pe_rc, p_throw, t1030, w_junk hA, Cu_g0_0 hP hA, Cu_g1_3 hP hA, Cu_r6 hP hA, Cu_w13 hP hA, z1, eq_false k2, z4, eq_false k5, k7]
/-- TimberHouse$RouterPaths.tool(III)V -/
theorem c1031 {d : Nat} {h : pm_H} {a : Nat} {x0 : Int32} {x1 : Int32} {x2 : Int32} (hc : pm_cls h a = some 16) : pm_call pm_prog (d + 1) 1031 [.ref a, .int x0, .int x1, .int x2] h = pm_ev pm_prog (pm_call pm_prog d) 1031 0 b1031_0 [.ref a, .int x0, .int x1, .int x2] [] h := pm_cal (pm_rc1 hc rfl) rfl rfl rfl
theorem g1031_1 {cl : pm_C} {ls st : List Value} {h : pm_H} : pm_go pm_prog cl 1031 1 ls st h = pm_ev pm_prog cl 1031 1 b1031_1 ls st h := pm_go_eq pm_prog cl 1031 1 ls st h
theorem g1031_2 {cl : pm_C} {ls st : List Value} {h : pm_H} : pm_go pm_prog cl 1031 2 ls st h = pm_ev pm_prog cl 1031 2 b1031_2 ls st h := pm_go_eq pm_prog cl 1031 2 ls st h
theorem t1031 {cl : pm_C} {j : Nat} {ls : List Value} {c : Nat} {h : pm_H} : pm_thr pm_prog cl 1031 j ls c h = some (.threw c, h) := rfl
noncomputable def f1031_2 (side : Int32) (S : wS) (x1 : Int32) (x2 : Int32) (x3 : Int32) (y0 : Int32) : Option ((Nat × wS) ⊕ (wS)) :=
  (f1029 y0).bind fun r => match r with
  | .inl c3 =>
    some (.inl (c3, S))
  | .inr _ =>
  if 0 ≤ x1 ∧ x1 < 4 then
    some (.inr (sz (sz S (10, x1, 0) 0 x2) (10, x1, 0) 1 x3))
  else none
/-- TimberHouse$RouterPaths.tool(III)V -/
noncomputable def f1031 (side : Int32) (S : wS) (x1 : Int32) (x2 : Int32) (x3 : Int32) : Option ((Nat × wS) ⊕ (wS)) :=
  (f1026 x1 0 3).bind fun v1 =>
  (f1028 v1).bind fun r => match r with
  | .inl c5 =>
    some (.inl (c5, S))
  | .inr _ =>
  (f1026 x2 0 6).bind fun v2 =>
  if v2 = 0 then
    f1031_2 side S x1 x2 x3 0
  else
    (f1026 x3 1 10).bind fun v4 =>
    if v4 = 0 then
      f1031_2 side S x1 x2 x3 0
    else
      f1031_2 side S x1 x2 x3 1
theorem y1031_2 {side : Int32} {A : wK → Nat} {h : pm_H} {D : Nat} {S : wS} {x1 : Int32} {x2 : Int32} {x3 : Int32} {y0 : Int32} {r : (Nat × wS) ⊕ (wS)} (hP : Cu_P side) (hA : wok A (Cu_d side) h.1) (hD : 1 ≤ D) (e : f1031_2 side S x1 x2 x3 y0 = some r) : pm_go pm_prog (pm_call pm_prog D) 1031 2 [.ref (A (0, 0, 0)), .int x1, .int x2, .int x3] [.int y0] (wput A (Cu_d side) S h) = some (match (generalizing := false) r with | .inl (c, S1) => (Outcome.threw c, (wput A (Cu_d side) S1 (pm_new h 6 (.inr (c, []))))) | .inr S1 => (Outcome.returned none, (wput A (Cu_d side) S1 h))) := by
  simp only [f1031_2] at e
  rw [g1031_2, b1031_2]
  obtain ⟨r, k1, e⟩ := Option.bind_eq_some_iff.mp e
  have z1 := fun h => x1029 (D := D) (h := h) (by omega) k1
  rcases r with c3 | _
  · dsimp only at e z1
    have e := Option.some.inj e; subst e
    simp -implicitDefEqProofs (disch := first | assumption | exact Nat.le_of_ble_eq_true rfl | decide) only [b1031_0, g1031_1, b1031_1, pe_iload1, pe_sipush, pe_call3, pm_af_ret, pm_af_void, pm_af_thr, pe_call1, pe_iload2, pe_if_eq, pe_iload3, pe_goto, pe_goto_w, pe_aload0, pe_getfield, pe_aaload, pe_putfield, pe_return, pm_prog_1, pm_ob_some, Nat.reduceDiv, Nat.reduceMod, Nat.reduceMul, Nat.reduceAdd, Int.reduceToNat, pm_kill_i, pm_kill_r, pm_kill_n, pm_kill_j, pm_kill_l, pm_kill_d, pm_cats_nil, pm_cats_i, pm_cats_r, pm_cats_n, pm_cats_l, pm_cats_d, sz_1, sz_2, sl_1, sl_2, lc_0, lc_lt, lc_le, li_ne, va_rf, wr_m1, we_m1, pm_kill_w, Int32.reduceOfInt, Int64.reduceOfInt, Int32.reduceOfNat, Int32.reduceLT, Int32.reduceLE, Prod.mk.injEq, Nat.reduceEqDiff, reduceCtorEq, and_true, true_and, and_false, false_and, and_self, ite_true, ite_false, ↓reduceIte, not_true_eq_false, not_false_eq_true, pe_ri, pe_rz, pe_rc, p_throw, t1031, w_junk hA, Cu_g0_1 hP hA, Cu_p10_0 hP hA, Cu_p10_1 hP hA, Cu_r9 hP hA, z1]
  · dsimp only at e z1
    by_cases k2 : 0 ≤ x1 ∧ x1 < 4
    · rw [if_pos k2] at e
      have e := Option.some.inj e; subst e
      simp -implicitDefEqProofs (disch := first | assumption | exact Nat.le_of_ble_eq_true rfl | decide) only [b1031_0, g1031_1, b1031_1, pe_iload1, pe_sipush, pe_call3, pm_af_ret, pm_af_void, pm_af_thr, pe_call1, pe_iload2, pe_if_eq, pe_iload3, pe_goto, pe_goto_w, pe_aload0, pe_getfield, pe_aaload, pe_putfield, pe_return, pm_prog_1, pm_ob_some, Nat.reduceDiv, Nat.reduceMod, Nat.reduceMul, Nat.reduceAdd, Int.reduceToNat, pm_kill_i, pm_kill_r, pm_kill_n, pm_kill_j, pm_kill_l, pm_kill_d, pm_cats_nil, pm_cats_i, pm_cats_r, pm_cats_n, pm_cats_l, pm_cats_d, sz_1, sz_2, sl_1, sl_2, lc_0, lc_lt, lc_le, li_ne, va_rf, wr_m1, we_m1, pm_kill_w, Int32.reduceOfInt, Int64.reduceOfInt, Int32.reduceOfNat, Int32.reduceLT, Int32.reduceLE, Prod.mk.injEq, Nat.reduceEqDiff, reduceCtorEq, and_true, true_and, and_false, false_and, and_self, ite_true, ite_false, ↓reduceIte, not_true_eq_false, not_false_eq_true, pe_ri, pe_rz, pe_rc, p_throw, t1031, w_junk hA, Cu_g0_1 hP hA, Cu_p10_0 hP hA, Cu_p10_1 hP hA, Cu_r9 hP hA, z1]
    · rw [if_neg k2] at e; cases e
theorem x1031 {side : Int32} {A : wK → Nat} {h : pm_H} {D : Nat} {S : wS} {x1 : Int32} {x2 : Int32} {x3 : Int32} {r : (Nat × wS) ⊕ (wS)} (hP : Cu_P side) (hA : wok A (Cu_d side) h.1) (hD : 2 ≤ D) (e : f1031 side S x1 x2 x3 = some r) : pm_call pm_prog D 1031 [.ref (A (0, 0, 0)), .int x1, .int x2, .int x3] (wput A (Cu_d side) S h) = some (match (generalizing := false) r with | .inl (c, S1) => (Outcome.threw c, (wput A (Cu_d side) S1 (pm_new h 6 (.inr (c, []))))) | .inr S1 => (Outcome.returned none, (wput A (Cu_d side) S1 h))) := by
  obtain ⟨D, rfl⟩ : ∃ D', D = D' + 1 := ⟨D - 1, by omega⟩
  have hD : 1 ≤ D := by omega
  simp only [f1031] at e
  rw [c1031 (Cu_c0 hP hA), b1031_0]
  obtain ⟨v1, k1, e⟩ := Option.bind_eq_some_iff.mp e
  try dsimp only at e
  have z1 := fun h => x1026 (D := D) (h := h) (by omega) k1
  obtain ⟨r, k2, e⟩ := Option.bind_eq_some_iff.mp e
  have z2 := fun h => x1028 (D := D) (h := h) (by omega) k2
  rcases r with c5 | _
  · dsimp only at e z2
    have e := Option.some.inj e; subst e
    simp -implicitDefEqProofs (disch := first | assumption | exact Nat.le_of_ble_eq_true rfl | decide) only [b1031_0, g1031_1, b1031_1, pe_iload1, pe_sipush, pe_call3, pm_af_ret, pm_af_void, pm_af_thr, pe_call1, pe_iload2, pe_if_eq, pe_iload3, pe_goto, pe_goto_w, pe_aload0, pe_getfield, pe_aaload, pe_putfield, pe_return, pm_prog_1, pm_ob_some, Nat.reduceDiv, Nat.reduceMod, Nat.reduceMul, Nat.reduceAdd, Int.reduceToNat, pm_kill_i, pm_kill_r, pm_kill_n, pm_kill_j, pm_kill_l, pm_kill_d, pm_cats_nil, pm_cats_i, pm_cats_r, pm_cats_n, pm_cats_l, pm_cats_d, sz_1, sz_2, sl_1, sl_2, lc_0, lc_lt, lc_le, li_ne, va_rf, wr_m1, we_m1, pm_kill_w, Int32.reduceOfInt, Int64.reduceOfInt, Int32.reduceOfNat, Int32.reduceLT, Int32.reduceLE, Prod.mk.injEq, Nat.reduceEqDiff, reduceCtorEq, and_true, true_and, and_false, false_and, and_self, ite_true, ite_false, ↓reduceIte, not_true_eq_false, not_false_eq_true, pe_ri, pe_rz, pe_rc, p_throw, t1031, w_junk hA, Cu_g0_1 hP hA, Cu_p10_0 hP hA, Cu_p10_1 hP hA, Cu_r9 hP hA, z1, z2]
  · dsimp only at e z2
    obtain ⟨v2, k3, e⟩ := Option.bind_eq_some_iff.mp e
    try dsimp only at e
    have z3 := fun h => x1026 (D := D) (h := h) (by omega) k3
    by_cases k4 : v2 = 0
    · rw [if_pos k4] at e
      have k5 := y1031_2 (h := h) hP hA hD e
      simp -implicitDefEqProofs (disch := first | assumption | exact Nat.le_of_ble_eq_true rfl | decide) only [b1031_0, g1031_1, b1031_1, pe_iload1, pe_sipush, pe_call3, pm_af_ret, pm_af_void, pm_af_thr, pe_call1, pe_iload2, pe_if_eq, pe_iload3, pe_goto, pe_goto_w, pe_aload0, pe_getfield, pe_aaload, pe_putfield, pe_return, pm_prog_1, pm_ob_some, Nat.reduceDiv, Nat.reduceMod, Nat.reduceMul, Nat.reduceAdd, Int.reduceToNat, pm_kill_i, pm_kill_r, pm_kill_n, pm_kill_j, pm_kill_l, pm_kill_d, pm_cats_nil, pm_cats_i, pm_cats_r, pm_cats_n, pm_cats_l, pm_cats_d, sz_1, sz_2, sl_1, sl_2, lc_0, lc_lt, lc_le, li_ne, va_rf, wr_m1, we_m1, pm_kill_w, Int32.reduceOfInt, Int64.reduceOfInt, Int32.reduceOfNat, Int32.reduceLT, Int32.reduceLE, Prod.mk.injEq, Nat.reduceEqDiff, reduceCtorEq, and_true, true_and, and_false, false_and, and_self, ite_true, ite_false, ↓reduceIte, not_true_eq_false, not_false_eq_true, pe_ri, pe_rz, pe_rc, p_throw, t1031, w_junk hA, Cu_g0_1 hP hA, Cu_p10_0 hP hA, Cu_p10_1 hP hA, Cu_r9 hP hA, z1, z2, z3, eq_true k4, k5]
    · rw [if_neg k4] at e
      obtain ⟨v4, k6, e⟩ := Option.bind_eq_some_iff.mp e
      try dsimp only at e
      have z6 := fun h => x1026 (D := D) (h := h) (by omega) k6
      by_cases k7 : v4 = 0
      · rw [if_pos k7] at e
        have k8 := y1031_2 (h := h) hP hA hD e
        simp -implicitDefEqProofs (disch := first | assumption | exact Nat.le_of_ble_eq_true rfl | decide) only [b1031_0, g1031_1, b1031_1, pe_iload1, pe_sipush, pe_call3, pm_af_ret, pm_af_void, pm_af_thr, pe_call1, pe_iload2, pe_if_eq, pe_iload3, pe_goto, pe_goto_w, pe_aload0, pe_getfield, pe_aaload, pe_putfield, pe_return, pm_prog_1, pm_ob_some, Nat.reduceDiv, Nat.reduceMod, Nat.reduceMul, Nat.reduceAdd, Int.reduceToNat, pm_kill_i, pm_kill_r, pm_kill_n, pm_kill_j, pm_kill_l, pm_kill_d, pm_cats_nil, pm_cats_i, pm_cats_r, pm_cats_n, pm_cats_l, pm_cats_d, sz_1, sz_2, sl_1, sl_2, lc_0, lc_lt, lc_le, li_ne, va_rf, wr_m1, we_m1, pm_kill_w, Int32.reduceOfInt, Int64.reduceOfInt, Int32.reduceOfNat, Int32.reduceLT, Int32.reduceLE, Prod.mk.injEq, Nat.reduceEqDiff, reduceCtorEq, and_true, true_and, and_false, false_and, and_self, ite_true, ite_false, ↓reduceIte, not_true_eq_false, not_false_eq_true, pe_ri, pe_rz, pe_rc, p_throw, t1031, w_junk hA, Cu_g0_1 hP hA, Cu_p10_0 hP hA, Cu_p10_1 hP hA, Cu_r9 hP hA, z1, z2, z3, eq_false k4, z6, eq_true k7, k8]
      · rw [if_neg k7] at e
        have k9 := y1031_2 (h := h) hP hA hD e
        simp -implicitDefEqProofs (disch := first | assumption | exact Nat.le_of_ble_eq_true rfl | decide) only [b1031_0, g1031_1, b1031_1, pe_iload1, pe_sipush, pe_call3, pm_af_ret, pm_af_void, pm_af_thr, pe_call1, pe_iload2, pe_if_eq, pe_iload3, pe_goto, pe_goto_w, pe_aload0, pe_getfield, pe_aaload, pe_putfield, pe_return, pm_prog_1, pm_ob_some, Nat.reduceDiv, Nat.reduceMod, Nat.reduceMul, Nat.reduceAdd, Int.reduceToNat, pm_kill_i, pm_kill_r, pm_kill_n, pm_kill_j, pm_kill_l, pm_kill_d, pm_cats_nil, pm_cats_i, pm_cats_r, pm_cats_n, pm_cats_l, pm_cats_d, sz_1, sz_2, sl_1, sl_2, lc_0, lc_lt, lc_le, li_ne, va_rf, wr_m1, we_m1, pm_kill_w, Int32.reduceOfInt, Int64.reduceOfInt, Int32.reduceOfNat, Int32.reduceLT, Int32.reduceLE, Prod.mk.injEq, Nat.reduceEqDiff, reduceCtorEq, and_true, true_and, and_false, false_and, and_self, ite_true, ite_false, ↓reduceIte, not_true_eq_false, not_false_eq_true, pe_ri, pe_rz, pe_rc, p_throw, t1031, w_junk hA, Cu_g0_1 hP hA, Cu_p10_0 hP hA, Cu_p10_1 hP hA, Cu_r9 hP hA, z1, z2, z3, eq_false k4, z6, eq_false k7, k9]
/-- TimberHouse$RouterPaths.need(ZI)V -/
theorem c1033 {d : Nat} {h : pm_H} {a : Nat} {x0 : Int32} {x1 : Int32} (hc : pm_cls h a = some 16) : pm_call pm_prog (d + 1) 1033 [.ref a, .int x0, .int x1] h = pm_ev pm_prog (pm_call pm_prog d) 1033 0 b1033_0 [.ref a, .int x0, .int x1] [] h := pm_cal (pm_rc1 hc rfl) rfl rfl rfl
theorem g1033_1 {cl : pm_C} {ls st : List Value} {h : pm_H} : pm_go pm_prog cl 1033 1 ls st h = pm_ev pm_prog cl 1033 1 b1033_1 ls st h := pm_go_eq pm_prog cl 1033 1 ls st h
theorem t1033 {cl : pm_C} {j : Nat} {ls : List Value} {c : Nat} {h : pm_H} : pm_thr pm_prog cl 1033 j ls c h = some (.threw c, h) := rfl
/-- TimberHouse$RouterPaths.need(ZI)V -/
noncomputable def f1033 (side : Int32) (S : wS) (x1 : Int32) (x2 : Int32) : Option ((Nat × wS) ⊕ (wS)) :=
  if x1 = 0 then
    some (.inl (71, (sz S (0, 0, 0) 6 x2)))
  else
    some (.inr S)
theorem x1033 {side : Int32} {A : wK → Nat} {h : pm_H} {D : Nat} {S : wS} {x1 : Int32} {x2 : Int32} {r : (Nat × wS) ⊕ (wS)} (hP : Cu_P side) (hA : wok A (Cu_d side) h.1) (hD : 1 ≤ D) (e : f1033 side S x1 x2 = some r) : pm_call pm_prog D 1033 [.ref (A (0, 0, 0)), .int x1, .int x2] (wput A (Cu_d side) S h) = some (match (generalizing := false) r with | .inl (c, S1) => (Outcome.threw c, (wput A (Cu_d side) S1 (pm_new h 6 (.inr (c, []))))) | .inr S1 => (Outcome.returned none, (wput A (Cu_d side) S1 h))) := by
  obtain ⟨D, rfl⟩ : ∃ D', D = D' + 1 := ⟨D - 1, by omega⟩
  have hD : 0 ≤ D := by omega
  simp only [f1033] at e
  rw [c1033 (Cu_c0 hP hA), b1033_0]
  by_cases k1 : x1 = 0
  · rw [if_pos k1] at e
    have e := Option.some.inj e; subst e
    simp -implicitDefEqProofs (disch := first | assumption | exact Nat.le_of_ble_eq_true rfl | decide) only [b1033_0, g1033_1, b1033_1, pe_iload1, pe_if_ne, pe_aload0, pe_iload2, pe_putfield, pe_return, pm_prog_1, pm_ob_some, Nat.reduceDiv, Nat.reduceMod, Nat.reduceMul, Nat.reduceAdd, Int.reduceToNat, pm_kill_i, pm_kill_r, pm_kill_n, pm_kill_j, pm_kill_l, pm_kill_d, pm_cats_nil, pm_cats_i, pm_cats_r, pm_cats_n, pm_cats_l, pm_cats_d, sz_1, sz_2, sl_1, sl_2, lc_0, lc_lt, lc_le, li_ne, va_rf, wr_m1, we_m1, pm_kill_w, Int32.reduceOfInt, Int64.reduceOfInt, Int32.reduceOfNat, Int32.reduceLT, Int32.reduceLE, Prod.mk.injEq, Nat.reduceEqDiff, reduceCtorEq, and_true, true_and, and_false, false_and, and_self, ite_true, ite_false, ↓reduceIte, not_true_eq_false, not_false_eq_true, pe_ri, pe_rz, pe_rc, p_throw, t1033, w_junk hA, Cu_p0_6 hP hA, eq_true k1]
  · rw [if_neg k1] at e
    have e := Option.some.inj e; subst e
    simp -implicitDefEqProofs (disch := first | assumption | exact Nat.le_of_ble_eq_true rfl | decide) only [b1033_0, g1033_1, b1033_1, pe_iload1, pe_if_ne, pe_aload0, pe_iload2, pe_putfield, pe_return, pm_prog_1, pm_ob_some, Nat.reduceDiv, Nat.reduceMod, Nat.reduceMul, Nat.reduceAdd, Int.reduceToNat, pm_kill_i, pm_kill_r, pm_kill_n, pm_kill_j, pm_kill_l, pm_kill_d, pm_cats_nil, pm_cats_i, pm_cats_r, pm_cats_n, pm_cats_l, pm_cats_d, sz_1, sz_2, sl_1, sl_2, lc_0, lc_lt, lc_le, li_ne, va_rf, wr_m1, we_m1, pm_kill_w, Int32.reduceOfInt, Int64.reduceOfInt, Int32.reduceOfNat, Int32.reduceLT, Int32.reduceLE, Prod.mk.injEq, Nat.reduceEqDiff, reduceCtorEq, and_true, true_and, and_false, false_and, and_self, ite_true, ite_false, ↓reduceIte, not_true_eq_false, not_false_eq_true, pe_ri, pe_rz, pe_rc, p_throw, t1033, w_junk hA, Cu_p0_6 hP hA, eq_false k1]
/-- TimberHouse$RouterPaths.look()C -/
theorem c1036 {d : Nat} {h : pm_H} {a : Nat} (hc : pm_cls h a = some 16) : pm_call pm_prog (d + 1) 1036 [.ref a] h = pm_ev pm_prog (pm_call pm_prog d) 1036 0 b1036_0 [.ref a] [] h := pm_cal (pm_rc1 hc rfl) rfl rfl rfl
theorem g1036_1 {cl : pm_C} {ls st : List Value} {h : pm_H} : pm_go pm_prog cl 1036 1 ls st h = pm_ev pm_prog cl 1036 1 b1036_1 ls st h := pm_go_eq pm_prog cl 1036 1 ls st h
theorem g1036_2 {cl : pm_C} {ls st : List Value} {h : pm_H} : pm_go pm_prog cl 1036 2 ls st h = pm_ev pm_prog cl 1036 2 b1036_2 ls st h := pm_go_eq pm_prog cl 1036 2 ls st h
/-- TimberHouse$RouterPaths.look()C -/
noncomputable def f1036 (side : Int32) (S : wS) : Option (Int32) :=
  if (S.1 (0, 0, 0) 5) < (S.1 (0, 0, 0) 4) then
    if 0 ≤ (S.1 (0, 0, 0) 5) ∧ (S.1 (0, 0, 0) 5) < 240 then
      if 0 ≤ (UInt32.toInt32 (Int32.toUInt32 (S.1 (12, 0, 0) (S.1 (0, 0, 0) 5)) % 65536)) ∧ (UInt32.toInt32 (Int32.toUInt32 (S.1 (12, 0, 0) (S.1 (0, 0, 0) 5)) % 65536)) ≤ 65535 then
        some (UInt32.toInt32 (Int32.toUInt32 (S.1 (12, 0, 0) (S.1 (0, 0, 0) 5)) % 65536))
      else none
    else none
  else
    some 0
theorem x1036 {side : Int32} {A : wK → Nat} {h : pm_H} {D : Nat} {S : wS} {r : Int32} (hP : Cu_P side) (hA : wok A (Cu_d side) h.1) (hD : 1 ≤ D) (e : f1036 side S = some r) : pm_call pm_prog D 1036 [.ref (A (0, 0, 0))] (wput A (Cu_d side) S h) = some (Outcome.returned (some (.int r)), (wput A (Cu_d side) S h)) := by
  obtain ⟨D, rfl⟩ : ∃ D', D = D' + 1 := ⟨D - 1, by omega⟩
  have hD : 0 ≤ D := by omega
  simp only [f1036] at e
  rw [c1036 (Cu_c0 hP hA), b1036_0]
  by_cases k1 : (S.1 (0, 0, 0) 5) < (S.1 (0, 0, 0) 4)
  · rw [if_pos k1] at e
    by_cases k2 : 0 ≤ (S.1 (0, 0, 0) 5) ∧ (S.1 (0, 0, 0) 5) < 240
    · rw [if_pos k2] at e
      by_cases k3 : 0 ≤ (UInt32.toInt32 (Int32.toUInt32 (S.1 (12, 0, 0) (S.1 (0, 0, 0) 5)) % 65536)) ∧ (UInt32.toInt32 (Int32.toUInt32 (S.1 (12, 0, 0) (S.1 (0, 0, 0) 5)) % 65536)) ≤ 65535
      · rw [if_pos k3] at e
        have e := Option.some.inj e; subst e
        simp -implicitDefEqProofs (disch := first | assumption | exact Nat.le_of_ble_eq_true rfl | decide) only [b1036_0, g1036_1, b1036_1, g1036_2, b1036_2, pe_aload0, pe_getfield, pe_icmp_ge, pe_baload, pe_i2c, pe_goto, pe_sipush, pe_goto_w, pm_prog_1, pm_ob_some, Nat.reduceDiv, Nat.reduceMod, Nat.reduceMul, Nat.reduceAdd, Int.reduceToNat, pm_kill_i, pm_kill_r, pm_kill_n, pm_kill_j, pm_kill_l, pm_kill_d, pm_cats_nil, pm_cats_i, pm_cats_r, pm_cats_n, pm_cats_l, pm_cats_d, sz_1, sz_2, sl_1, sl_2, lc_0, lc_lt, lc_le, li_ne, va_rf, wr_m1, we_m1, pm_kill_w, Int32.reduceOfInt, Int64.reduceOfInt, Int32.reduceOfNat, Int32.reduceLT, Int32.reduceLE, Prod.mk.injEq, Nat.reduceEqDiff, reduceCtorEq, and_true, true_and, and_false, false_and, and_self, ite_true, ite_false, ↓reduceIte, not_true_eq_false, not_false_eq_true, pe_ri, pe_rz, pe_rc, Cu_g0_3 hP hA, Cu_g0_4 hP hA, Cu_g0_5 hP hA, Cu_r12 hP hA, eq_true k1]
      · rw [if_neg k3] at e; cases e
    · rw [if_neg k2] at e; cases e
  · rw [if_neg k1] at e
    have e := Option.some.inj e; subst e
    simp -implicitDefEqProofs (disch := first | assumption | exact Nat.le_of_ble_eq_true rfl | decide) only [b1036_0, g1036_1, b1036_1, g1036_2, b1036_2, pe_aload0, pe_getfield, pe_icmp_ge, pe_baload, pe_i2c, pe_goto, pe_sipush, pe_goto_w, pm_prog_1, pm_ob_some, Nat.reduceDiv, Nat.reduceMod, Nat.reduceMul, Nat.reduceAdd, Int.reduceToNat, pm_kill_i, pm_kill_r, pm_kill_n, pm_kill_j, pm_kill_l, pm_kill_d, pm_cats_nil, pm_cats_i, pm_cats_r, pm_cats_n, pm_cats_l, pm_cats_d, sz_1, sz_2, sl_1, sl_2, lc_0, lc_lt, lc_le, li_ne, va_rf, wr_m1, we_m1, pm_kill_w, Int32.reduceOfInt, Int64.reduceOfInt, Int32.reduceOfNat, Int32.reduceLT, Int32.reduceLE, Prod.mk.injEq, Nat.reduceEqDiff, reduceCtorEq, and_true, true_and, and_false, false_and, and_self, ite_true, ite_false, ↓reduceIte, not_true_eq_false, not_false_eq_true, pe_ri, pe_rz, pe_rc, Cu_g0_3 hP hA, Cu_g0_4 hP hA, Cu_g0_5 hP hA, Cu_r12 hP hA, eq_false k1]
/-- TimberHouse$RouterPaths.lookBehindSpaces()C -/
theorem c1035 {d : Nat} {h : pm_H} {a : Nat} (hc : pm_cls h a = some 16) : pm_call pm_prog (d + 1) 1035 [.ref a] h = pm_ev pm_prog (pm_call pm_prog d) 1035 0 b1035_0 [.ref a] [] h := pm_cal (pm_rc1 hc rfl) rfl rfl rfl
theorem g1035_1 {cl : pm_C} {ls st : List Value} {h : pm_H} : pm_go pm_prog cl 1035 1 ls st h = pm_ev pm_prog cl 1035 1 b1035_1 ls st h := pm_go_eq pm_prog cl 1035 1 ls st h
noncomputable def f1035_b0 (side : Int32) : wS → Option ((wS) ⊕ ((wS))) := fun S =>
  (f1036 side S).bind fun v1 =>
  if v1 = 32 then
    some (.inl (sz S (0, 0, 0) 5 ((S.1 (0, 0, 0) 5) + 1)))
  else
    some (.inr S)
/-- TimberHouse$RouterPaths.lookBehindSpaces()C -/
noncomputable def f1035 (side : Int32) (S : wS) : Option (Int32 × wS) :=
  (lp (f1035_b0 side) FU S).bind fun S2 =>
  (f1036 side S2).bind fun v4 =>
  if 0 ≤ v4 ∧ v4 ≤ 65535 then
    some (v4, S2)
  else none
theorem g1035_0 {cl : pm_C} {ls st : List Value} {h : pm_H} : pm_go pm_prog cl 1035 0 ls st h = pm_ev pm_prog cl 1035 0 b1035_0 ls st h := pm_go_eq pm_prog cl 1035 0 ls st h
def go1035_0 (side : Int32) (A : wK → Nat) (h : pm_H) (D : Nat) (R : Outcome × pm_H) : wS → Prop := fun S => pm_go pm_prog (pm_call pm_prog D) 1035 0 [.ref (A (0, 0, 0))] [] (wput A (Cu_d side) S h) = some R
def ex1035_0 (side : Int32) (A : wK → Nat) (h : pm_H) (D : Nat) (R : Outcome × pm_H) : (wS) → Prop := fun S => pm_go pm_prog (pm_call pm_prog D) 1035 1 [.ref (A (0, 0, 0))] [] (wput A (Cu_d side) S h) = some R
theorem y1035_b0 {side : Int32} {A : wK → Nat} {h : pm_H} {D : Nat} {R : Outcome × pm_H} (hP : Cu_P side) (hA : wok A (Cu_d side) h.1) (hD : 1 ≤ D) (S : wS) (r : (wS) ⊕ ((wS))) (e : f1035_b0 side S = some r) (hc : Sum.elim (go1035_0 side A h D R) (ex1035_0 side A h D R) r) : go1035_0 side A h D R S := by
  dsimp only [go1035_0]
  simp only [f1035_b0] at e
  rw [g1035_0, b1035_0]
  obtain ⟨v1, k1, e⟩ := Option.bind_eq_some_iff.mp e
  try dsimp only at e
  have z1 := x1036 (D := D) (h := h) hP hA (by omega) k1
  by_cases k2 : v1 = 32
  · rw [if_pos k2] at e
    have e := Option.some.inj e; subst e
    dsimp only [Sum.elim_inl, go1035_0] at hc
    simp -implicitDefEqProofs (disch := first | assumption | exact Nat.le_of_ble_eq_true rfl | decide) only [g1035_1, b1035_1, pe_aload0, pe_call1, pm_af_ret, pm_af_void, pm_af_thr, pe_sipush, pe_icmp_ne, pe_dup_i, pe_dup_r, pe_getfield, pe_iadd, pe_putfield, pe_goto, pm_prog_1, pm_ob_some, Nat.reduceDiv, Nat.reduceMod, Nat.reduceMul, Nat.reduceAdd, Int.reduceToNat, pm_kill_i, pm_kill_r, pm_kill_n, pm_kill_j, pm_kill_l, pm_kill_d, pm_cats_nil, pm_cats_i, pm_cats_r, pm_cats_n, pm_cats_l, pm_cats_d, sz_1, sz_2, sl_1, sl_2, lc_0, lc_lt, lc_le, li_ne, va_rf, wr_m1, we_m1, pm_kill_w, Int32.reduceOfInt, Int64.reduceOfInt, Int32.reduceOfNat, Int32.reduceLT, Int32.reduceLE, Prod.mk.injEq, Nat.reduceEqDiff, reduceCtorEq, and_true, true_and, and_false, false_and, and_self, ite_true, ite_false, ↓reduceIte, not_true_eq_false, not_false_eq_true, pe_ri, pe_rz, pe_rc, Cu_g0_5 hP hA, Cu_p0_5 hP hA, z1, eq_true k2, hc]
  · rw [if_neg k2] at e
    have e := Option.some.inj e; subst e
    dsimp only [Sum.elim_inr, ex1035_0] at hc
    simp -implicitDefEqProofs (disch := first | assumption | exact Nat.le_of_ble_eq_true rfl | decide) only [g1035_1, b1035_1, pe_aload0, pe_call1, pm_af_ret, pm_af_void, pm_af_thr, pe_sipush, pe_icmp_ne, pe_dup_i, pe_dup_r, pe_getfield, pe_iadd, pe_putfield, pe_goto, pm_prog_1, pm_ob_some, Nat.reduceDiv, Nat.reduceMod, Nat.reduceMul, Nat.reduceAdd, Int.reduceToNat, pm_kill_i, pm_kill_r, pm_kill_n, pm_kill_j, pm_kill_l, pm_kill_d, pm_cats_nil, pm_cats_i, pm_cats_r, pm_cats_n, pm_cats_l, pm_cats_d, sz_1, sz_2, sl_1, sl_2, lc_0, lc_lt, lc_le, li_ne, va_rf, wr_m1, we_m1, pm_kill_w, Int32.reduceOfInt, Int64.reduceOfInt, Int32.reduceOfNat, Int32.reduceLT, Int32.reduceLE, Prod.mk.injEq, Nat.reduceEqDiff, reduceCtorEq, and_true, true_and, and_false, false_and, and_self, ite_true, ite_false, ↓reduceIte, not_true_eq_false, not_false_eq_true, pe_ri, pe_rz, pe_rc, Cu_g0_5 hP hA, Cu_p0_5 hP hA, z1, eq_false k2, hc]
theorem z1035_0 {side : Int32} {A : wK → Nat} {h : pm_H} {D : Nat} {R : Outcome × pm_H} (hP : Cu_P side) (hA : wok A (Cu_d side) h.1) (hD : 1 ≤ D) {n : Nat} {a : wS} {b : (wS)} (e : lp (f1035_b0 side) n a = some b) (hx : ex1035_0 side A h D R b) : go1035_0 side A h D R a := lp_run (fun a r => y1035_b0 hP hA hD a r) n a b e hx
theorem x1035 {side : Int32} {A : wK → Nat} {h : pm_H} {D : Nat} {S : wS} {r : Int32 × wS} (hP : Cu_P side) (hA : wok A (Cu_d side) h.1) (hD : 2 ≤ D) (e : f1035 side S = some r) : pm_call pm_prog D 1035 [.ref (A (0, 0, 0))] (wput A (Cu_d side) S h) = some (match (generalizing := false) r with | (w0, S1) => (Outcome.returned (some (.int w0)), (wput A (Cu_d side) S1 h))) := by
  obtain ⟨D, rfl⟩ : ∃ D', D = D' + 1 := ⟨D - 1, by omega⟩
  have hD : 1 ≤ D := by omega
  simp only [f1035] at e
  rw [c1035 (Cu_c0 hP hA), ← g1035_0]
  obtain ⟨S2, k1, e⟩ := Option.bind_eq_some_iff.mp e
  try dsimp only at e
  try simp -implicitDefEqProofs (disch := first | assumption | exact Nat.le_of_ble_eq_true rfl | decide) only [g1035_1, b1035_1, pe_aload0, pe_call1, pm_af_ret, pm_af_void, pm_af_thr, pe_sipush, pe_icmp_ne, pe_dup_i, pe_dup_r, pe_getfield, pe_iadd, pe_putfield, pe_goto, pm_prog_1, pm_ob_some, Nat.reduceDiv, Nat.reduceMod, Nat.reduceMul, Nat.reduceAdd, Int.reduceToNat, pm_kill_i, pm_kill_r, pm_kill_n, pm_kill_j, pm_kill_l, pm_kill_d, pm_cats_nil, pm_cats_i, pm_cats_r, pm_cats_n, pm_cats_l, pm_cats_d, sz_1, sz_2, sl_1, sl_2, lc_0, lc_lt, lc_le, li_ne, va_rf, wr_m1, we_m1, pm_kill_w, Int32.reduceOfInt, Int64.reduceOfInt, Int32.reduceOfNat, Int32.reduceLT, Int32.reduceLE, Prod.mk.injEq, Nat.reduceEqDiff, reduceCtorEq, and_true, true_and, and_false, false_and, and_self, ite_true, ite_false, ↓reduceIte, not_true_eq_false, not_false_eq_true, pe_ri, pe_rz, pe_rc, Cu_g0_5 hP hA, Cu_p0_5 hP hA]
  refine z1035_0 hP hA hD k1 ?_
  dsimp only [ex1035_0]
  obtain ⟨v4, k2, e⟩ := Option.bind_eq_some_iff.mp e
  try dsimp only at e
  have z2 := x1036 (D := D) (h := h) hP hA (by omega) k2
  by_cases k3 : 0 ≤ v4 ∧ v4 ≤ 65535
  · rw [if_pos k3] at e
    have e := Option.some.inj e; subst e
    simp -implicitDefEqProofs (disch := first | assumption | exact Nat.le_of_ble_eq_true rfl | decide) only [g1035_1, b1035_1, pe_aload0, pe_call1, pm_af_ret, pm_af_void, pm_af_thr, pe_sipush, pe_icmp_ne, pe_dup_i, pe_dup_r, pe_getfield, pe_iadd, pe_putfield, pe_goto, pm_prog_1, pm_ob_some, Nat.reduceDiv, Nat.reduceMod, Nat.reduceMul, Nat.reduceAdd, Int.reduceToNat, pm_kill_i, pm_kill_r, pm_kill_n, pm_kill_j, pm_kill_l, pm_kill_d, pm_cats_nil, pm_cats_i, pm_cats_r, pm_cats_n, pm_cats_l, pm_cats_d, sz_1, sz_2, sl_1, sl_2, lc_0, lc_lt, lc_le, li_ne, va_rf, wr_m1, we_m1, pm_kill_w, Int32.reduceOfInt, Int64.reduceOfInt, Int32.reduceOfNat, Int32.reduceLT, Int32.reduceLE, Prod.mk.injEq, Nat.reduceEqDiff, reduceCtorEq, and_true, true_and, and_false, false_and, and_self, ite_true, ite_false, ↓reduceIte, not_true_eq_false, not_false_eq_true, pe_ri, pe_rz, pe_rc, Cu_g0_5 hP hA, Cu_p0_5 hP hA, z2]
  · rw [if_neg k3] at e; cases e
/-- TimberHouse$RouterPaths.digit(I)I -/
theorem c1037 {d : Nat} {h : pm_H} {a : Nat} {x0 : Int32} (hc : pm_cls h a = some 16) : pm_call pm_prog (d + 1) 1037 [.ref a, .int x0] h = pm_ev pm_prog (pm_call pm_prog d) 1037 0 b1037_0 [.ref a, .int x0, pm_junk] [] h := pm_cal (pm_rc1 hc rfl) rfl rfl rfl
theorem g1037_1 {cl : pm_C} {ls st : List Value} {h : pm_H} : pm_go pm_prog cl 1037 1 ls st h = pm_ev pm_prog cl 1037 1 b1037_1 ls st h := pm_go_eq pm_prog cl 1037 1 ls st h
theorem g1037_2 {cl : pm_C} {ls st : List Value} {h : pm_H} : pm_go pm_prog cl 1037 2 ls st h = pm_ev pm_prog cl 1037 2 b1037_2 ls st h := pm_go_eq pm_prog cl 1037 2 ls st h
theorem t1037 {cl : pm_C} {j : Nat} {ls : List Value} {c : Nat} {h : pm_H} : pm_thr pm_prog cl 1037 j ls c h = some (.threw c, h) := rfl
noncomputable def f1037_2 (side : Int32) (S : wS) (x2 : Int32) (y1 : Int32) : Option ((Nat × wS) ⊕ (Int32 × wS)) :=
  (f1033 side S y1 (S.1 (0, 0, 0) 5)).bind fun r => match r with
  | .inl (c3, S4) =>
    some (.inl (c3, S4))
  | .inr S2 =>
  some (.inr ((x2 - 48), (sz S2 (0, 0, 0) 5 ((S2.1 (0, 0, 0) 5) + 1))))
/-- TimberHouse$RouterPaths.digit(I)I -/
noncomputable def f1037 (side : Int32) (S : wS) (x1 : Int32) : Option ((Nat × wS) ⊕ (Int32 × wS)) :=
  (f1036 side S).bind fun v1 =>
  if v1 < 48 then
    f1037_2 side S v1 0
  else
    if v1 ≤ (48 + x1) then
      f1037_2 side S v1 1
    else
      f1037_2 side S v1 0
theorem y1037_2 {side : Int32} {A : wK → Nat} {h : pm_H} {D : Nat} {S : wS} {x2 : Int32} {y1 : Int32} {r : (Nat × wS) ⊕ (Int32 × wS)} (hP : Cu_P side) (hA : wok A (Cu_d side) h.1) (hD : 1 ≤ D) (e : f1037_2 side S x2 y1 = some r) : ∀ q1 : Value, pm_go pm_prog (pm_call pm_prog D) 1037 2 [.ref (A (0, 0, 0)), q1, .int x2] [.int y1, .ref (A (0, 0, 0))] (wput A (Cu_d side) S h) = some (match (generalizing := false) r with | .inl (c, S1) => (Outcome.threw c, (wput A (Cu_d side) S1 (pm_new h 6 (.inr (c, []))))) | .inr (w0, S1) => (Outcome.returned (some (.int w0)), (wput A (Cu_d side) S1 h))) := by
  intro q1
  simp only [f1037_2] at e
  rw [g1037_2, b1037_2]
  obtain ⟨r, k1, e⟩ := Option.bind_eq_some_iff.mp e
  have z1 := x1033 (D := D) (h := h) hP hA (by omega) k1
  rcases r with ⟨c3, S4⟩ | S2
  · dsimp only at e z1
    have e := Option.some.inj e; subst e
    simp -implicitDefEqProofs (disch := first | assumption | exact Nat.le_of_ble_eq_true rfl | decide) only [b1037_0, g1037_1, b1037_1, pe_aload0, pe_call1, pm_af_ret, pm_af_void, pm_af_thr, pe_istore2, pe_iload2, pe_sipush, pe_icmp_lt, pe_iload1, pe_iadd, pe_icmp_gt, pe_goto, pe_goto_w, pe_getfield, pe_call3, pe_dup_i, pe_dup_r, pe_putfield, pe_isub, pm_prog_1, pm_ob_some, Nat.reduceDiv, Nat.reduceMod, Nat.reduceMul, Nat.reduceAdd, Int.reduceToNat, pm_kill_i, pm_kill_r, pm_kill_n, pm_kill_j, pm_kill_l, pm_kill_d, pm_cats_nil, pm_cats_i, pm_cats_r, pm_cats_n, pm_cats_l, pm_cats_d, sz_1, sz_2, sl_1, sl_2, lc_0, lc_lt, lc_le, li_ne, va_rf, wr_m1, we_m1, pm_kill_w, Int32.reduceOfInt, Int64.reduceOfInt, Int32.reduceOfNat, Int32.reduceLT, Int32.reduceLE, Prod.mk.injEq, Nat.reduceEqDiff, reduceCtorEq, and_true, true_and, and_false, false_and, and_self, ite_true, ite_false, ↓reduceIte, not_true_eq_false, not_false_eq_true, pe_ri, pe_rz, pe_rc, p_throw, t1037, w_junk hA, Cu_g0_5 hP hA, Cu_p0_5 hP hA, z1]
  · dsimp only at e z1
    have e := Option.some.inj e; subst e
    simp -implicitDefEqProofs (disch := first | assumption | exact Nat.le_of_ble_eq_true rfl | decide) only [b1037_0, g1037_1, b1037_1, pe_aload0, pe_call1, pm_af_ret, pm_af_void, pm_af_thr, pe_istore2, pe_iload2, pe_sipush, pe_icmp_lt, pe_iload1, pe_iadd, pe_icmp_gt, pe_goto, pe_goto_w, pe_getfield, pe_call3, pe_dup_i, pe_dup_r, pe_putfield, pe_isub, pm_prog_1, pm_ob_some, Nat.reduceDiv, Nat.reduceMod, Nat.reduceMul, Nat.reduceAdd, Int.reduceToNat, pm_kill_i, pm_kill_r, pm_kill_n, pm_kill_j, pm_kill_l, pm_kill_d, pm_cats_nil, pm_cats_i, pm_cats_r, pm_cats_n, pm_cats_l, pm_cats_d, sz_1, sz_2, sl_1, sl_2, lc_0, lc_lt, lc_le, li_ne, va_rf, wr_m1, we_m1, pm_kill_w, Int32.reduceOfInt, Int64.reduceOfInt, Int32.reduceOfNat, Int32.reduceLT, Int32.reduceLE, Prod.mk.injEq, Nat.reduceEqDiff, reduceCtorEq, and_true, true_and, and_false, false_and, and_self, ite_true, ite_false, ↓reduceIte, not_true_eq_false, not_false_eq_true, pe_ri, pe_rz, pe_rc, p_throw, t1037, w_junk hA, Cu_g0_5 hP hA, Cu_p0_5 hP hA, z1]
theorem x1037 {side : Int32} {A : wK → Nat} {h : pm_H} {D : Nat} {S : wS} {x1 : Int32} {r : (Nat × wS) ⊕ (Int32 × wS)} (hP : Cu_P side) (hA : wok A (Cu_d side) h.1) (hD : 2 ≤ D) (e : f1037 side S x1 = some r) : pm_call pm_prog D 1037 [.ref (A (0, 0, 0)), .int x1] (wput A (Cu_d side) S h) = some (match (generalizing := false) r with | .inl (c, S1) => (Outcome.threw c, (wput A (Cu_d side) S1 (pm_new h 6 (.inr (c, []))))) | .inr (w0, S1) => (Outcome.returned (some (.int w0)), (wput A (Cu_d side) S1 h))) := by
  obtain ⟨D, rfl⟩ : ∃ D', D = D' + 1 := ⟨D - 1, by omega⟩
  have hD : 1 ≤ D := by omega
  simp only [f1037] at e
  rw [c1037 (Cu_c0 hP hA), b1037_0]
  obtain ⟨v1, k1, e⟩ := Option.bind_eq_some_iff.mp e
  try dsimp only at e
  have z1 := x1036 (D := D) (h := h) hP hA (by omega) k1
  by_cases k2 : v1 < 48
  · rw [if_pos k2] at e
    have k3 := y1037_2 (h := h) hP hA hD e
    simp -implicitDefEqProofs (disch := first | assumption | exact Nat.le_of_ble_eq_true rfl | decide) only [b1037_0, g1037_1, b1037_1, pe_aload0, pe_call1, pm_af_ret, pm_af_void, pm_af_thr, pe_istore2, pe_iload2, pe_sipush, pe_icmp_lt, pe_iload1, pe_iadd, pe_icmp_gt, pe_goto, pe_goto_w, pe_getfield, pe_call3, pe_dup_i, pe_dup_r, pe_putfield, pe_isub, pm_prog_1, pm_ob_some, Nat.reduceDiv, Nat.reduceMod, Nat.reduceMul, Nat.reduceAdd, Int.reduceToNat, pm_kill_i, pm_kill_r, pm_kill_n, pm_kill_j, pm_kill_l, pm_kill_d, pm_cats_nil, pm_cats_i, pm_cats_r, pm_cats_n, pm_cats_l, pm_cats_d, sz_1, sz_2, sl_1, sl_2, lc_0, lc_lt, lc_le, li_ne, va_rf, wr_m1, we_m1, pm_kill_w, Int32.reduceOfInt, Int64.reduceOfInt, Int32.reduceOfNat, Int32.reduceLT, Int32.reduceLE, Prod.mk.injEq, Nat.reduceEqDiff, reduceCtorEq, and_true, true_and, and_false, false_and, and_self, ite_true, ite_false, ↓reduceIte, not_true_eq_false, not_false_eq_true, pe_ri, pe_rz, pe_rc, p_throw, t1037, w_junk hA, Cu_g0_5 hP hA, Cu_p0_5 hP hA, z1, eq_true k2, k3]
  · rw [if_neg k2] at e
    by_cases k4 : v1 ≤ (48 + x1)
    · rw [if_pos k4] at e
      have k5 := y1037_2 (h := h) hP hA hD e
      simp -implicitDefEqProofs (disch := first | assumption | exact Nat.le_of_ble_eq_true rfl | decide) only [b1037_0, g1037_1, b1037_1, pe_aload0, pe_call1, pm_af_ret, pm_af_void, pm_af_thr, pe_istore2, pe_iload2, pe_sipush, pe_icmp_lt, pe_iload1, pe_iadd, pe_icmp_gt, pe_goto, pe_goto_w, pe_getfield, pe_call3, pe_dup_i, pe_dup_r, pe_putfield, pe_isub, pm_prog_1, pm_ob_some, Nat.reduceDiv, Nat.reduceMod, Nat.reduceMul, Nat.reduceAdd, Int.reduceToNat, pm_kill_i, pm_kill_r, pm_kill_n, pm_kill_j, pm_kill_l, pm_kill_d, pm_cats_nil, pm_cats_i, pm_cats_r, pm_cats_n, pm_cats_l, pm_cats_d, sz_1, sz_2, sl_1, sl_2, lc_0, lc_lt, lc_le, li_ne, va_rf, wr_m1, we_m1, pm_kill_w, Int32.reduceOfInt, Int64.reduceOfInt, Int32.reduceOfNat, Int32.reduceLT, Int32.reduceLE, Prod.mk.injEq, Nat.reduceEqDiff, reduceCtorEq, and_true, true_and, and_false, false_and, and_self, ite_true, ite_false, ↓reduceIte, not_true_eq_false, not_false_eq_true, pe_ri, pe_rz, pe_rc, p_throw, t1037, w_junk hA, Cu_g0_5 hP hA, Cu_p0_5 hP hA, z1, eq_false k2, eq_true k4, k5]
    · rw [if_neg k4] at e
      have k6 := y1037_2 (h := h) hP hA hD e
      simp -implicitDefEqProofs (disch := first | assumption | exact Nat.le_of_ble_eq_true rfl | decide) only [b1037_0, g1037_1, b1037_1, pe_aload0, pe_call1, pm_af_ret, pm_af_void, pm_af_thr, pe_istore2, pe_iload2, pe_sipush, pe_icmp_lt, pe_iload1, pe_iadd, pe_icmp_gt, pe_goto, pe_goto_w, pe_getfield, pe_call3, pe_dup_i, pe_dup_r, pe_putfield, pe_isub, pm_prog_1, pm_ob_some, Nat.reduceDiv, Nat.reduceMod, Nat.reduceMul, Nat.reduceAdd, Int.reduceToNat, pm_kill_i, pm_kill_r, pm_kill_n, pm_kill_j, pm_kill_l, pm_kill_d, pm_cats_nil, pm_cats_i, pm_cats_r, pm_cats_n, pm_cats_l, pm_cats_d, sz_1, sz_2, sl_1, sl_2, lc_0, lc_lt, lc_le, li_ne, va_rf, wr_m1, we_m1, pm_kill_w, Int32.reduceOfInt, Int64.reduceOfInt, Int32.reduceOfNat, Int32.reduceLT, Int32.reduceLE, Prod.mk.injEq, Nat.reduceEqDiff, reduceCtorEq, and_true, true_and, and_false, false_and, and_self, ite_true, ite_false, ↓reduceIte, not_true_eq_false, not_false_eq_true, pe_ri, pe_rz, pe_rc, p_throw, t1037, w_junk hA, Cu_g0_5 hP hA, Cu_p0_5 hP hA, z1, eq_false k2, eq_false k4, k6]
/-- TimberHouse$RouterPaths.number(I)I -/
theorem c1038 {d : Nat} {h : pm_H} {a : Nat} {x0 : Int32} (hc : pm_cls h a = some 16) : pm_call pm_prog (d + 1) 1038 [.ref a, .int x0] h = pm_ev pm_prog (pm_call pm_prog d) 1038 0 b1038_0 [.ref a, .int x0, pm_junk, pm_junk, pm_junk] [] h := pm_cal (pm_rc1 hc rfl) rfl rfl rfl
theorem g1038_1 {cl : pm_C} {ls st : List Value} {h : pm_H} : pm_go pm_prog cl 1038 1 ls st h = pm_ev pm_prog cl 1038 1 b1038_1 ls st h := pm_go_eq pm_prog cl 1038 1 ls st h
theorem g1038_2 {cl : pm_C} {ls st : List Value} {h : pm_H} : pm_go pm_prog cl 1038 2 ls st h = pm_ev pm_prog cl 1038 2 b1038_2 ls st h := pm_go_eq pm_prog cl 1038 2 ls st h
theorem g1038_3 {cl : pm_C} {ls st : List Value} {h : pm_H} : pm_go pm_prog cl 1038 3 ls st h = pm_ev pm_prog cl 1038 3 b1038_3 ls st h := pm_go_eq pm_prog cl 1038 3 ls st h
theorem g1038_4 {cl : pm_C} {ls st : List Value} {h : pm_H} : pm_go pm_prog cl 1038 4 ls st h = pm_ev pm_prog cl 1038 4 b1038_4 ls st h := pm_go_eq pm_prog cl 1038 4 ls st h
theorem t1038 {cl : pm_C} {j : Nat} {ls : List Value} {c : Nat} {h : pm_H} : pm_thr pm_prog cl 1038 j ls c h = some (.threw c, h) := rfl
noncomputable def f1038_b1 (side : Int32) : Int32 × Int32 × Int32 × Int32 × wS → Option ((Int32 × Int32 × Int32 × Int32 × wS) ⊕ ((Int32 × Int32 × Int32 × wS) ⊕ (Nat × wS))) := fun (x1, x2, x3, x4, S) =>
  if x4 < 2 then
    (f1036 side S).bind fun v3 =>
    if v3 < 48 then
      some (.inr (.inl (x1, x2, x3, S)))
    else
      if v3 ≤ 57 then
        (f1037 side S 9).bind fun r => match r with
        | .inl (c6, S7) =>
          some (.inr (.inr ((c6, S7))))
        | .inr (v4, S5) =>
        some (.inl (x1, x2, ((10 * x3) + v4), (x4 + 1), S5))
      else
        some (.inr (.inl (x1, x2, x3, S)))
  else
    some (.inr (.inl (x1, x2, x3, S)))
noncomputable def f1038_4 (side : Int32) (S : wS) (x2 : Int32) (x3 : Int32) (y1 : Int32) : Option ((Nat × wS) ⊕ (Int32 × wS)) :=
  (f1033 side S y1 x2).bind fun r => match r with
  | .inl (c14, S15) =>
    some (.inl (c14, S15))
  | .inr S13 =>
  some (.inr (x3, S13))
noncomputable def f1038_2 (side : Int32) (S : wS) (x1 : Int32) (x2 : Int32) (x3 : Int32) : Option ((Nat × wS) ⊕ (Int32 × wS)) :=
  if x3 ≤ x1 then
    f1038_4 side S x2 x3 1
  else
    f1038_4 side S x2 x3 0
/-- TimberHouse$RouterPaths.number(I)I -/
noncomputable def f1038 (side : Int32) (S : wS) (x1 : Int32) : Option ((Nat × wS) ⊕ (Int32 × wS)) :=
  (f1037 side S 9).bind fun r => match r with
  | .inl (c18, S19) =>
    some (.inl (c18, S19))
  | .inr (v1, S2) =>
  (lp (f1038_b1 side) FU (x1, (S.1 (0, 0, 0) 5), v1, 0, S2)).bind fun b => match b with
  | (.inl (v10, v11, v12, S8)) =>
    f1038_2 side S8 v10 v11 v12
  | (.inr ((c17, S16))) =>
    some (.inl (c17, S16))
def go1038_1 (side : Int32) (A : wK → Nat) (h : pm_H) (D : Nat) (R : Outcome × pm_H) : Int32 × Int32 × Int32 × Int32 × wS → Prop := fun (x1, x2, x3, x4, S) => pm_go pm_prog (pm_call pm_prog D) 1038 1 [.ref (A (0, 0, 0)), .int x1, .int x2, .int x3, .int x4] [] (wput A (Cu_d side) S h) = some R
def ex1038_1 (side : Int32) (A : wK → Nat) (h : pm_H) (D : Nat) (R : Outcome × pm_H) : (Int32 × Int32 × Int32 × wS) ⊕ (Nat × wS) → Prop := fun b => match b with
  | (.inl (x1, x2, x3, S)) => ∀ q4 : Value, pm_go pm_prog (pm_call pm_prog D) 1038 2 [.ref (A (0, 0, 0)), .int x1, .int x2, .int x3, q4] [] (wput A (Cu_d side) S h) = some R
  | (.inr ((xc, S))) => some (Outcome.threw xc, (wput A (Cu_d side) S (pm_new h 6 (.inr (xc, []))))) = some R
theorem y1038_b1 {side : Int32} {A : wK → Nat} {h : pm_H} {D : Nat} {R : Outcome × pm_H} (hP : Cu_P side) (hA : wok A (Cu_d side) h.1) (hD : 2 ≤ D) (a : Int32 × Int32 × Int32 × Int32 × wS) (r : (Int32 × Int32 × Int32 × Int32 × wS) ⊕ ((Int32 × Int32 × Int32 × wS) ⊕ (Nat × wS))) (e : f1038_b1 side a = some r) (hc : Sum.elim (go1038_1 side A h D R) (ex1038_1 side A h D R) r) : go1038_1 side A h D R a := by
  obtain ⟨x1, x2, x3, x4, S⟩ := a
  dsimp only [go1038_1]
  simp only [f1038_b1] at e
  rw [g1038_1, b1038_1]
  by_cases k1 : x4 < 2
  · rw [if_pos k1] at e
    obtain ⟨v3, k2, e⟩ := Option.bind_eq_some_iff.mp e
    try dsimp only at e
    have z2 := x1036 (D := D) (h := h) hP hA (by omega) k2
    by_cases k3 : v3 < 48
    · rw [if_pos k3] at e
      have e := Option.some.inj e; subst e
      dsimp only [Sum.elim_inr, ex1038_1] at hc
      simp -implicitDefEqProofs (disch := first | assumption | exact Nat.le_of_ble_eq_true rfl | decide) only [b1038_0, g1038_3, b1038_3, pe_aload0, pe_getfield, pe_istore2, pe_sipush, pe_call2, pm_af_ret, pm_af_void, pm_af_thr, pe_istore3, pe_istore4, pe_goto_w, pe_iload4, pe_icmp_ge, pe_call1, pe_icmp_lt, pe_icmp_gt, pe_iload3, pe_imul, pe_iadd, pe_iinc4, pe_goto, pe_iload1, pe_iload2, pe_call3, pm_prog_1, pm_ob_some, Nat.reduceDiv, Nat.reduceMod, Nat.reduceMul, Nat.reduceAdd, Int.reduceToNat, pm_kill_i, pm_kill_r, pm_kill_n, pm_kill_j, pm_kill_l, pm_kill_d, pm_cats_nil, pm_cats_i, pm_cats_r, pm_cats_n, pm_cats_l, pm_cats_d, sz_1, sz_2, sl_1, sl_2, lc_0, lc_lt, lc_le, li_ne, va_rf, wr_m1, we_m1, pm_kill_w, Int32.reduceOfInt, Int64.reduceOfInt, Int32.reduceOfNat, Int32.reduceLT, Int32.reduceLE, Prod.mk.injEq, Nat.reduceEqDiff, reduceCtorEq, and_true, true_and, and_false, false_and, and_self, ite_true, ite_false, ↓reduceIte, not_true_eq_false, not_false_eq_true, pe_ri, pe_rz, pe_rc, p_throw, t1038, w_junk hA, Cu_g0_5 hP hA, eq_true k1, z2, eq_true k3, hc]
    · rw [if_neg k3] at e
      by_cases k4 : v3 ≤ 57
      · rw [if_pos k4] at e
        obtain ⟨r, k5, e⟩ := Option.bind_eq_some_iff.mp e
        have z5 := x1037 (D := D) (h := h) hP hA (by omega) k5
        rcases r with ⟨c6, S7⟩ | ⟨v4, S5⟩
        · dsimp only at e z5
          have e := Option.some.inj e; subst e
          dsimp only [Sum.elim_inr, ex1038_1] at hc
          have hc := Option.some.inj hc; subst hc
          simp -implicitDefEqProofs (disch := first | assumption | exact Nat.le_of_ble_eq_true rfl | decide) only [b1038_0, g1038_3, b1038_3, pe_aload0, pe_getfield, pe_istore2, pe_sipush, pe_call2, pm_af_ret, pm_af_void, pm_af_thr, pe_istore3, pe_istore4, pe_goto_w, pe_iload4, pe_icmp_ge, pe_call1, pe_icmp_lt, pe_icmp_gt, pe_iload3, pe_imul, pe_iadd, pe_iinc4, pe_goto, pe_iload1, pe_iload2, pe_call3, pm_prog_1, pm_ob_some, Nat.reduceDiv, Nat.reduceMod, Nat.reduceMul, Nat.reduceAdd, Int.reduceToNat, pm_kill_i, pm_kill_r, pm_kill_n, pm_kill_j, pm_kill_l, pm_kill_d, pm_cats_nil, pm_cats_i, pm_cats_r, pm_cats_n, pm_cats_l, pm_cats_d, sz_1, sz_2, sl_1, sl_2, lc_0, lc_lt, lc_le, li_ne, va_rf, wr_m1, we_m1, pm_kill_w, Int32.reduceOfInt, Int64.reduceOfInt, Int32.reduceOfNat, Int32.reduceLT, Int32.reduceLE, Prod.mk.injEq, Nat.reduceEqDiff, reduceCtorEq, and_true, true_and, and_false, false_and, and_self, ite_true, ite_false, ↓reduceIte, not_true_eq_false, not_false_eq_true, pe_ri, pe_rz, pe_rc, p_throw, t1038, w_junk hA, Cu_g0_5 hP hA, eq_true k1, z2, eq_false k3, eq_true k4, z5]
        · dsimp only at e z5
          have e := Option.some.inj e; subst e
          dsimp only [Sum.elim_inl, go1038_1] at hc
          simp -implicitDefEqProofs (disch := first | assumption | exact Nat.le_of_ble_eq_true rfl | decide) only [b1038_0, g1038_3, b1038_3, pe_aload0, pe_getfield, pe_istore2, pe_sipush, pe_call2, pm_af_ret, pm_af_void, pm_af_thr, pe_istore3, pe_istore4, pe_goto_w, pe_iload4, pe_icmp_ge, pe_call1, pe_icmp_lt, pe_icmp_gt, pe_iload3, pe_imul, pe_iadd, pe_iinc4, pe_goto, pe_iload1, pe_iload2, pe_call3, pm_prog_1, pm_ob_some, Nat.reduceDiv, Nat.reduceMod, Nat.reduceMul, Nat.reduceAdd, Int.reduceToNat, pm_kill_i, pm_kill_r, pm_kill_n, pm_kill_j, pm_kill_l, pm_kill_d, pm_cats_nil, pm_cats_i, pm_cats_r, pm_cats_n, pm_cats_l, pm_cats_d, sz_1, sz_2, sl_1, sl_2, lc_0, lc_lt, lc_le, li_ne, va_rf, wr_m1, we_m1, pm_kill_w, Int32.reduceOfInt, Int64.reduceOfInt, Int32.reduceOfNat, Int32.reduceLT, Int32.reduceLE, Prod.mk.injEq, Nat.reduceEqDiff, reduceCtorEq, and_true, true_and, and_false, false_and, and_self, ite_true, ite_false, ↓reduceIte, not_true_eq_false, not_false_eq_true, pe_ri, pe_rz, pe_rc, p_throw, t1038, w_junk hA, Cu_g0_5 hP hA, eq_true k1, z2, eq_false k3, eq_true k4, z5, hc]
      · rw [if_neg k4] at e
        have e := Option.some.inj e; subst e
        dsimp only [Sum.elim_inr, ex1038_1] at hc
        simp -implicitDefEqProofs (disch := first | assumption | exact Nat.le_of_ble_eq_true rfl | decide) only [b1038_0, g1038_3, b1038_3, pe_aload0, pe_getfield, pe_istore2, pe_sipush, pe_call2, pm_af_ret, pm_af_void, pm_af_thr, pe_istore3, pe_istore4, pe_goto_w, pe_iload4, pe_icmp_ge, pe_call1, pe_icmp_lt, pe_icmp_gt, pe_iload3, pe_imul, pe_iadd, pe_iinc4, pe_goto, pe_iload1, pe_iload2, pe_call3, pm_prog_1, pm_ob_some, Nat.reduceDiv, Nat.reduceMod, Nat.reduceMul, Nat.reduceAdd, Int.reduceToNat, pm_kill_i, pm_kill_r, pm_kill_n, pm_kill_j, pm_kill_l, pm_kill_d, pm_cats_nil, pm_cats_i, pm_cats_r, pm_cats_n, pm_cats_l, pm_cats_d, sz_1, sz_2, sl_1, sl_2, lc_0, lc_lt, lc_le, li_ne, va_rf, wr_m1, we_m1, pm_kill_w, Int32.reduceOfInt, Int64.reduceOfInt, Int32.reduceOfNat, Int32.reduceLT, Int32.reduceLE, Prod.mk.injEq, Nat.reduceEqDiff, reduceCtorEq, and_true, true_and, and_false, false_and, and_self, ite_true, ite_false, ↓reduceIte, not_true_eq_false, not_false_eq_true, pe_ri, pe_rz, pe_rc, p_throw, t1038, w_junk hA, Cu_g0_5 hP hA, eq_true k1, z2, eq_false k3, eq_false k4, hc]
  · rw [if_neg k1] at e
    have e := Option.some.inj e; subst e
    dsimp only [Sum.elim_inr, ex1038_1] at hc
    simp -implicitDefEqProofs (disch := first | assumption | exact Nat.le_of_ble_eq_true rfl | decide) only [b1038_0, g1038_3, b1038_3, pe_aload0, pe_getfield, pe_istore2, pe_sipush, pe_call2, pm_af_ret, pm_af_void, pm_af_thr, pe_istore3, pe_istore4, pe_goto_w, pe_iload4, pe_icmp_ge, pe_call1, pe_icmp_lt, pe_icmp_gt, pe_iload3, pe_imul, pe_iadd, pe_iinc4, pe_goto, pe_iload1, pe_iload2, pe_call3, pm_prog_1, pm_ob_some, Nat.reduceDiv, Nat.reduceMod, Nat.reduceMul, Nat.reduceAdd, Int.reduceToNat, pm_kill_i, pm_kill_r, pm_kill_n, pm_kill_j, pm_kill_l, pm_kill_d, pm_cats_nil, pm_cats_i, pm_cats_r, pm_cats_n, pm_cats_l, pm_cats_d, sz_1, sz_2, sl_1, sl_2, lc_0, lc_lt, lc_le, li_ne, va_rf, wr_m1, we_m1, pm_kill_w, Int32.reduceOfInt, Int64.reduceOfInt, Int32.reduceOfNat, Int32.reduceLT, Int32.reduceLE, Prod.mk.injEq, Nat.reduceEqDiff, reduceCtorEq, and_true, true_and, and_false, false_and, and_self, ite_true, ite_false, ↓reduceIte, not_true_eq_false, not_false_eq_true, pe_ri, pe_rz, pe_rc, p_throw, t1038, w_junk hA, Cu_g0_5 hP hA, eq_false k1, hc]
theorem z1038_1 {side : Int32} {A : wK → Nat} {h : pm_H} {D : Nat} {R : Outcome × pm_H} (hP : Cu_P side) (hA : wok A (Cu_d side) h.1) (hD : 2 ≤ D) {n : Nat} {a : Int32 × Int32 × Int32 × Int32 × wS} {b : (Int32 × Int32 × Int32 × wS) ⊕ (Nat × wS)} (e : lp (f1038_b1 side) n a = some b) (hx : ex1038_1 side A h D R b) : go1038_1 side A h D R a := lp_run (fun a r => y1038_b1 hP hA hD a r) n a b e hx
theorem y1038_4 {side : Int32} {A : wK → Nat} {h : pm_H} {D : Nat} {S : wS} {x2 : Int32} {x3 : Int32} {y1 : Int32} {r : (Nat × wS) ⊕ (Int32 × wS)} (hP : Cu_P side) (hA : wok A (Cu_d side) h.1) (hD : 2 ≤ D) (e : f1038_4 side S x2 x3 y1 = some r) : ∀ q0 q1 q4 : Value, pm_go pm_prog (pm_call pm_prog D) 1038 4 [q0, q1, .int x2, .int x3, q4] [.int y1, .ref (A (0, 0, 0))] (wput A (Cu_d side) S h) = some (match (generalizing := false) r with | .inl (c, S1) => (Outcome.threw c, (wput A (Cu_d side) S1 (pm_new h 6 (.inr (c, []))))) | .inr (w0, S1) => (Outcome.returned (some (.int w0)), (wput A (Cu_d side) S1 h))) := by
  intro q0 q1 q4
  simp only [f1038_4] at e
  rw [g1038_4, b1038_4]
  obtain ⟨r, k1, e⟩ := Option.bind_eq_some_iff.mp e
  have z1 := x1033 (D := D) (h := h) hP hA (by omega) k1
  rcases r with ⟨c14, S15⟩ | S13
  · dsimp only at e z1
    have e := Option.some.inj e; subst e
    simp -implicitDefEqProofs (disch := first | assumption | exact Nat.le_of_ble_eq_true rfl | decide) only [b1038_0, g1038_3, b1038_3, pe_aload0, pe_getfield, pe_istore2, pe_sipush, pe_call2, pm_af_ret, pm_af_void, pm_af_thr, pe_istore3, pe_istore4, pe_goto_w, pe_iload4, pe_icmp_ge, pe_call1, pe_icmp_lt, pe_icmp_gt, pe_iload3, pe_imul, pe_iadd, pe_iinc4, pe_goto, pe_iload1, pe_iload2, pe_call3, pm_prog_1, pm_ob_some, Nat.reduceDiv, Nat.reduceMod, Nat.reduceMul, Nat.reduceAdd, Int.reduceToNat, pm_kill_i, pm_kill_r, pm_kill_n, pm_kill_j, pm_kill_l, pm_kill_d, pm_cats_nil, pm_cats_i, pm_cats_r, pm_cats_n, pm_cats_l, pm_cats_d, sz_1, sz_2, sl_1, sl_2, lc_0, lc_lt, lc_le, li_ne, va_rf, wr_m1, we_m1, pm_kill_w, Int32.reduceOfInt, Int64.reduceOfInt, Int32.reduceOfNat, Int32.reduceLT, Int32.reduceLE, Prod.mk.injEq, Nat.reduceEqDiff, reduceCtorEq, and_true, true_and, and_false, false_and, and_self, ite_true, ite_false, ↓reduceIte, not_true_eq_false, not_false_eq_true, pe_ri, pe_rz, pe_rc, p_throw, t1038, w_junk hA, Cu_g0_5 hP hA, z1]
  · dsimp only at e z1
    have e := Option.some.inj e; subst e
    simp -implicitDefEqProofs (disch := first | assumption | exact Nat.le_of_ble_eq_true rfl | decide) only [b1038_0, g1038_3, b1038_3, pe_aload0, pe_getfield, pe_istore2, pe_sipush, pe_call2, pm_af_ret, pm_af_void, pm_af_thr, pe_istore3, pe_istore4, pe_goto_w, pe_iload4, pe_icmp_ge, pe_call1, pe_icmp_lt, pe_icmp_gt, pe_iload3, pe_imul, pe_iadd, pe_iinc4, pe_goto, pe_iload1, pe_iload2, pe_call3, pm_prog_1, pm_ob_some, Nat.reduceDiv, Nat.reduceMod, Nat.reduceMul, Nat.reduceAdd, Int.reduceToNat, pm_kill_i, pm_kill_r, pm_kill_n, pm_kill_j, pm_kill_l, pm_kill_d, pm_cats_nil, pm_cats_i, pm_cats_r, pm_cats_n, pm_cats_l, pm_cats_d, sz_1, sz_2, sl_1, sl_2, lc_0, lc_lt, lc_le, li_ne, va_rf, wr_m1, we_m1, pm_kill_w, Int32.reduceOfInt, Int64.reduceOfInt, Int32.reduceOfNat, Int32.reduceLT, Int32.reduceLE, Prod.mk.injEq, Nat.reduceEqDiff, reduceCtorEq, and_true, true_and, and_false, false_and, and_self, ite_true, ite_false, ↓reduceIte, not_true_eq_false, not_false_eq_true, pe_ri, pe_rz, pe_rc, p_throw, t1038, w_junk hA, Cu_g0_5 hP hA, z1]
theorem y1038_2 {side : Int32} {A : wK → Nat} {h : pm_H} {D : Nat} {S : wS} {x1 : Int32} {x2 : Int32} {x3 : Int32} {r : (Nat × wS) ⊕ (Int32 × wS)} (hP : Cu_P side) (hA : wok A (Cu_d side) h.1) (hD : 2 ≤ D) (e : f1038_2 side S x1 x2 x3 = some r) : ∀ q4 : Value, pm_go pm_prog (pm_call pm_prog D) 1038 2 [.ref (A (0, 0, 0)), .int x1, .int x2, .int x3, q4] [] (wput A (Cu_d side) S h) = some (match (generalizing := false) r with | .inl (c, S1) => (Outcome.threw c, (wput A (Cu_d side) S1 (pm_new h 6 (.inr (c, []))))) | .inr (w0, S1) => (Outcome.returned (some (.int w0)), (wput A (Cu_d side) S1 h))) := by
  intro q4
  simp only [f1038_2] at e
  rw [g1038_2, b1038_2]
  by_cases k1 : x3 ≤ x1
  · rw [if_pos k1] at e
    have k2 := y1038_4 (h := h) hP hA hD e
    simp -implicitDefEqProofs (disch := first | assumption | exact Nat.le_of_ble_eq_true rfl | decide) only [b1038_0, g1038_3, b1038_3, pe_aload0, pe_getfield, pe_istore2, pe_sipush, pe_call2, pm_af_ret, pm_af_void, pm_af_thr, pe_istore3, pe_istore4, pe_goto_w, pe_iload4, pe_icmp_ge, pe_call1, pe_icmp_lt, pe_icmp_gt, pe_iload3, pe_imul, pe_iadd, pe_iinc4, pe_goto, pe_iload1, pe_iload2, pe_call3, pm_prog_1, pm_ob_some, Nat.reduceDiv, Nat.reduceMod, Nat.reduceMul, Nat.reduceAdd, Int.reduceToNat, pm_kill_i, pm_kill_r, pm_kill_n, pm_kill_j, pm_kill_l, pm_kill_d, pm_cats_nil, pm_cats_i, pm_cats_r, pm_cats_n, pm_cats_l, pm_cats_d, sz_1, sz_2, sl_1, sl_2, lc_0, lc_lt, lc_le, li_ne, va_rf, wr_m1, we_m1, pm_kill_w, Int32.reduceOfInt, Int64.reduceOfInt, Int32.reduceOfNat, Int32.reduceLT, Int32.reduceLE, Prod.mk.injEq, Nat.reduceEqDiff, reduceCtorEq, and_true, true_and, and_false, false_and, and_self, ite_true, ite_false, ↓reduceIte, not_true_eq_false, not_false_eq_true, pe_ri, pe_rz, pe_rc, p_throw, t1038, w_junk hA, Cu_g0_5 hP hA, eq_true k1, k2]
  · rw [if_neg k1] at e
    have k3 := y1038_4 (h := h) hP hA hD e
    simp -implicitDefEqProofs (disch := first | assumption | exact Nat.le_of_ble_eq_true rfl | decide) only [b1038_0, g1038_3, b1038_3, pe_aload0, pe_getfield, pe_istore2, pe_sipush, pe_call2, pm_af_ret, pm_af_void, pm_af_thr, pe_istore3, pe_istore4, pe_goto_w, pe_iload4, pe_icmp_ge, pe_call1, pe_icmp_lt, pe_icmp_gt, pe_iload3, pe_imul, pe_iadd, pe_iinc4, pe_goto, pe_iload1, pe_iload2, pe_call3, pm_prog_1, pm_ob_some, Nat.reduceDiv, Nat.reduceMod, Nat.reduceMul, Nat.reduceAdd, Int.reduceToNat, pm_kill_i, pm_kill_r, pm_kill_n, pm_kill_j, pm_kill_l, pm_kill_d, pm_cats_nil, pm_cats_i, pm_cats_r, pm_cats_n, pm_cats_l, pm_cats_d, sz_1, sz_2, sl_1, sl_2, lc_0, lc_lt, lc_le, li_ne, va_rf, wr_m1, we_m1, pm_kill_w, Int32.reduceOfInt, Int64.reduceOfInt, Int32.reduceOfNat, Int32.reduceLT, Int32.reduceLE, Prod.mk.injEq, Nat.reduceEqDiff, reduceCtorEq, and_true, true_and, and_false, false_and, and_self, ite_true, ite_false, ↓reduceIte, not_true_eq_false, not_false_eq_true, pe_ri, pe_rz, pe_rc, p_throw, t1038, w_junk hA, Cu_g0_5 hP hA, eq_false k1, k3]
theorem x1038 {side : Int32} {A : wK → Nat} {h : pm_H} {D : Nat} {S : wS} {x1 : Int32} {r : (Nat × wS) ⊕ (Int32 × wS)} (hP : Cu_P side) (hA : wok A (Cu_d side) h.1) (hD : 3 ≤ D) (e : f1038 side S x1 = some r) : pm_call pm_prog D 1038 [.ref (A (0, 0, 0)), .int x1] (wput A (Cu_d side) S h) = some (match (generalizing := false) r with | .inl (c, S1) => (Outcome.threw c, (wput A (Cu_d side) S1 (pm_new h 6 (.inr (c, []))))) | .inr (w0, S1) => (Outcome.returned (some (.int w0)), (wput A (Cu_d side) S1 h))) := by
  obtain ⟨D, rfl⟩ : ∃ D', D = D' + 1 := ⟨D - 1, by omega⟩
  have hD : 2 ≤ D := by omega
  simp only [f1038] at e
  rw [c1038 (Cu_c0 hP hA), b1038_0]
  obtain ⟨r, k1, e⟩ := Option.bind_eq_some_iff.mp e
  have z1 := x1037 (D := D) (h := h) hP hA (by omega) k1
  rcases r with ⟨c18, S19⟩ | ⟨v1, S2⟩
  · dsimp only at e z1
    have e := Option.some.inj e; subst e
    simp -implicitDefEqProofs (disch := first | assumption | exact Nat.le_of_ble_eq_true rfl | decide) only [b1038_0, g1038_3, b1038_3, pe_aload0, pe_getfield, pe_istore2, pe_sipush, pe_call2, pm_af_ret, pm_af_void, pm_af_thr, pe_istore3, pe_istore4, pe_goto_w, pe_iload4, pe_icmp_ge, pe_call1, pe_icmp_lt, pe_icmp_gt, pe_iload3, pe_imul, pe_iadd, pe_iinc4, pe_goto, pe_iload1, pe_iload2, pe_call3, pm_prog_1, pm_ob_some, Nat.reduceDiv, Nat.reduceMod, Nat.reduceMul, Nat.reduceAdd, Int.reduceToNat, pm_kill_i, pm_kill_r, pm_kill_n, pm_kill_j, pm_kill_l, pm_kill_d, pm_cats_nil, pm_cats_i, pm_cats_r, pm_cats_n, pm_cats_l, pm_cats_d, sz_1, sz_2, sl_1, sl_2, lc_0, lc_lt, lc_le, li_ne, va_rf, wr_m1, we_m1, pm_kill_w, Int32.reduceOfInt, Int64.reduceOfInt, Int32.reduceOfNat, Int32.reduceLT, Int32.reduceLE, Prod.mk.injEq, Nat.reduceEqDiff, reduceCtorEq, and_true, true_and, and_false, false_and, and_self, ite_true, ite_false, ↓reduceIte, not_true_eq_false, not_false_eq_true, pe_ri, pe_rz, pe_rc, p_throw, t1038, w_junk hA, Cu_g0_5 hP hA, z1]
  · dsimp only at e z1
    obtain ⟨b, k2, e⟩ := Option.bind_eq_some_iff.mp e
    rcases b with ⟨v10, v11, v12, S8⟩ | ⟨c17, S16⟩
    ·
      try dsimp only at e
      try simp -implicitDefEqProofs (disch := first | assumption | exact Nat.le_of_ble_eq_true rfl | decide) only [b1038_0, g1038_3, b1038_3, pe_aload0, pe_getfield, pe_istore2, pe_sipush, pe_call2, pm_af_ret, pm_af_void, pm_af_thr, pe_istore3, pe_istore4, pe_goto_w, pe_iload4, pe_icmp_ge, pe_call1, pe_icmp_lt, pe_icmp_gt, pe_iload3, pe_imul, pe_iadd, pe_iinc4, pe_goto, pe_iload1, pe_iload2, pe_call3, pm_prog_1, pm_ob_some, Nat.reduceDiv, Nat.reduceMod, Nat.reduceMul, Nat.reduceAdd, Int.reduceToNat, pm_kill_i, pm_kill_r, pm_kill_n, pm_kill_j, pm_kill_l, pm_kill_d, pm_cats_nil, pm_cats_i, pm_cats_r, pm_cats_n, pm_cats_l, pm_cats_d, sz_1, sz_2, sl_1, sl_2, lc_0, lc_lt, lc_le, li_ne, va_rf, wr_m1, we_m1, pm_kill_w, Int32.reduceOfInt, Int64.reduceOfInt, Int32.reduceOfNat, Int32.reduceLT, Int32.reduceLE, Prod.mk.injEq, Nat.reduceEqDiff, reduceCtorEq, and_true, true_and, and_false, false_and, and_self, ite_true, ite_false, ↓reduceIte, not_true_eq_false, not_false_eq_true, pe_ri, pe_rz, pe_rc, p_throw, t1038, w_junk hA, Cu_g0_5 hP hA, z1]
      refine z1038_1 hP hA hD k2 ?_
      dsimp only [ex1038_1]
      intro q4
      have k3 := y1038_2 (h := h) hP hA hD e
      simp -implicitDefEqProofs (disch := first | assumption | exact Nat.le_of_ble_eq_true rfl | decide) only [b1038_0, g1038_3, b1038_3, pe_aload0, pe_getfield, pe_istore2, pe_sipush, pe_call2, pm_af_ret, pm_af_void, pm_af_thr, pe_istore3, pe_istore4, pe_goto_w, pe_iload4, pe_icmp_ge, pe_call1, pe_icmp_lt, pe_icmp_gt, pe_iload3, pe_imul, pe_iadd, pe_iinc4, pe_goto, pe_iload1, pe_iload2, pe_call3, pm_prog_1, pm_ob_some, Nat.reduceDiv, Nat.reduceMod, Nat.reduceMul, Nat.reduceAdd, Int.reduceToNat, pm_kill_i, pm_kill_r, pm_kill_n, pm_kill_j, pm_kill_l, pm_kill_d, pm_cats_nil, pm_cats_i, pm_cats_r, pm_cats_n, pm_cats_l, pm_cats_d, sz_1, sz_2, sl_1, sl_2, lc_0, lc_lt, lc_le, li_ne, va_rf, wr_m1, we_m1, pm_kill_w, Int32.reduceOfInt, Int64.reduceOfInt, Int32.reduceOfNat, Int32.reduceLT, Int32.reduceLE, Prod.mk.injEq, Nat.reduceEqDiff, reduceCtorEq, and_true, true_and, and_false, false_and, and_self, ite_true, ite_false, ↓reduceIte, not_true_eq_false, not_false_eq_true, pe_ri, pe_rz, pe_rc, p_throw, t1038, w_junk hA, Cu_g0_5 hP hA, z1, k3]
    ·
      try dsimp only at e
      try simp -implicitDefEqProofs (disch := first | assumption | exact Nat.le_of_ble_eq_true rfl | decide) only [b1038_0, g1038_3, b1038_3, pe_aload0, pe_getfield, pe_istore2, pe_sipush, pe_call2, pm_af_ret, pm_af_void, pm_af_thr, pe_istore3, pe_istore4, pe_goto_w, pe_iload4, pe_icmp_ge, pe_call1, pe_icmp_lt, pe_icmp_gt, pe_iload3, pe_imul, pe_iadd, pe_iinc4, pe_goto, pe_iload1, pe_iload2, pe_call3, pm_prog_1, pm_ob_some, Nat.reduceDiv, Nat.reduceMod, Nat.reduceMul, Nat.reduceAdd, Int.reduceToNat, pm_kill_i, pm_kill_r, pm_kill_n, pm_kill_j, pm_kill_l, pm_kill_d, pm_cats_nil, pm_cats_i, pm_cats_r, pm_cats_n, pm_cats_l, pm_cats_d, sz_1, sz_2, sl_1, sl_2, lc_0, lc_lt, lc_le, li_ne, va_rf, wr_m1, we_m1, pm_kill_w, Int32.reduceOfInt, Int64.reduceOfInt, Int32.reduceOfNat, Int32.reduceLT, Int32.reduceLE, Prod.mk.injEq, Nat.reduceEqDiff, reduceCtorEq, and_true, true_and, and_false, false_and, and_self, ite_true, ite_false, ↓reduceIte, not_true_eq_false, not_false_eq_true, pe_ri, pe_rz, pe_rc, p_throw, t1038, w_junk hA, Cu_g0_5 hP hA, z1]
      refine z1038_1 hP hA hD k2 ?_
      dsimp only [ex1038_1]
      have e := Option.some.inj e; subst e
      simp -implicitDefEqProofs (disch := first | assumption | exact Nat.le_of_ble_eq_true rfl | decide) only [b1038_0, g1038_3, b1038_3, pe_aload0, pe_getfield, pe_istore2, pe_sipush, pe_call2, pm_af_ret, pm_af_void, pm_af_thr, pe_istore3, pe_istore4, pe_goto_w, pe_iload4, pe_icmp_ge, pe_call1, pe_icmp_lt, pe_icmp_gt, pe_iload3, pe_imul, pe_iadd, pe_iinc4, pe_goto, pe_iload1, pe_iload2, pe_call3, pm_prog_1, pm_ob_some, Nat.reduceDiv, Nat.reduceMod, Nat.reduceMul, Nat.reduceAdd, Int.reduceToNat, pm_kill_i, pm_kill_r, pm_kill_n, pm_kill_j, pm_kill_l, pm_kill_d, pm_cats_nil, pm_cats_i, pm_cats_r, pm_cats_n, pm_cats_l, pm_cats_d, sz_1, sz_2, sl_1, sl_2, lc_0, lc_lt, lc_le, li_ne, va_rf, wr_m1, we_m1, pm_kill_w, Int32.reduceOfInt, Int64.reduceOfInt, Int32.reduceOfNat, Int32.reduceLT, Int32.reduceLE, Prod.mk.injEq, Nat.reduceEqDiff, reduceCtorEq, and_true, true_and, and_false, false_and, and_self, ite_true, ite_false, ↓reduceIte, not_true_eq_false, not_false_eq_true, pe_ri, pe_rz, pe_rc, p_throw, t1038, w_junk hA, Cu_g0_5 hP hA, z1]
/-- TimberHouse$RouterPaths.can(Z)V -/
theorem c1040 {d : Nat} {h : pm_H} {x0 : Int32} : pm_call pm_prog (d + 1) 1040 [.int x0] h = pm_ev pm_prog (pm_call pm_prog d) 1040 0 b1040_0 [.int x0] [] h := pm_cal (pm_rc0 rfl) rfl rfl rfl
theorem g1040_1 {cl : pm_C} {ls st : List Value} {h : pm_H} : pm_go pm_prog cl 1040 1 ls st h = pm_ev pm_prog cl 1040 1 b1040_1 ls st h := pm_go_eq pm_prog cl 1040 1 ls st h
theorem t1040 {cl : pm_C} {j : Nat} {ls : List Value} {c : Nat} {h : pm_H} : pm_thr pm_prog cl 1040 j ls c h = some (.threw c, h) := rfl
/-- TimberHouse$RouterPaths.can(Z)V -/
noncomputable def f1040 (x0 : Int32) : Option (Nat ⊕ (Unit)) :=
  if x0 = 0 then
    some (.inl 71)
  else
    some (.inr ())
theorem x1040 {h : pm_H} {D : Nat} {x0 : Int32} {r : Nat ⊕ (Unit)} (hD : 1 ≤ D) (e : f1040 x0 = some r) : pm_call pm_prog D 1040 [.int x0] h = some (match (generalizing := false) r with | .inl c => (Outcome.threw c, (pm_new h 6 (.inr (c, [])))) | .inr _ => (Outcome.returned none, h)) := by
  obtain ⟨D, rfl⟩ : ∃ D', D = D' + 1 := ⟨D - 1, by omega⟩
  have hD : 0 ≤ D := by omega
  simp only [f1040] at e
  rw [c1040, b1040_0]
  by_cases k1 : x0 = 0
  · rw [if_pos k1] at e
    have e := Option.some.inj e; subst e
    simp -implicitDefEqProofs (disch := first | assumption | exact Nat.le_of_ble_eq_true rfl | decide) only [b1040_0, g1040_1, b1040_1, pe_iload0, pe_if_ne, pe_return, pm_prog_1, pm_ob_some, Nat.reduceDiv, Nat.reduceMod, Nat.reduceMul, Nat.reduceAdd, Int.reduceToNat, pm_kill_i, pm_kill_r, pm_kill_n, pm_kill_j, pm_kill_l, pm_kill_d, pm_cats_nil, pm_cats_i, pm_cats_r, pm_cats_n, pm_cats_l, pm_cats_d, sz_1, sz_2, sl_1, sl_2, lc_0, lc_lt, lc_le, li_ne, va_rf, wr_m1, we_m1, pm_kill_w, Int32.reduceOfInt, Int64.reduceOfInt, Int32.reduceOfNat, Int32.reduceLT, Int32.reduceLE, Prod.mk.injEq, Nat.reduceEqDiff, reduceCtorEq, and_true, true_and, and_false, false_and, and_self, ite_true, ite_false, ↓reduceIte, not_true_eq_false, not_false_eq_true, pe_ri, pe_rz, pe_rc, p_throw, t1040, eq_true k1]
  · rw [if_neg k1] at e
    have e := Option.some.inj e; subst e
    simp -implicitDefEqProofs (disch := first | assumption | exact Nat.le_of_ble_eq_true rfl | decide) only [b1040_0, g1040_1, b1040_1, pe_iload0, pe_if_ne, pe_return, pm_prog_1, pm_ob_some, Nat.reduceDiv, Nat.reduceMod, Nat.reduceMul, Nat.reduceAdd, Int.reduceToNat, pm_kill_i, pm_kill_r, pm_kill_n, pm_kill_j, pm_kill_l, pm_kill_d, pm_cats_nil, pm_cats_i, pm_cats_r, pm_cats_n, pm_cats_l, pm_cats_d, sz_1, sz_2, sl_1, sl_2, lc_0, lc_lt, lc_le, li_ne, va_rf, wr_m1, we_m1, pm_kill_w, Int32.reduceOfInt, Int64.reduceOfInt, Int32.reduceOfNat, Int32.reduceLT, Int32.reduceLE, Prod.mk.injEq, Nat.reduceEqDiff, reduceCtorEq, and_true, true_and, and_false, false_and, and_self, ite_true, ite_false, ↓reduceIte, not_true_eq_false, not_false_eq_true, pe_ri, pe_rz, pe_rc, p_throw, t1040, eq_false k1]
/-- TimberHouse$RouterPaths.about(I)I -/
theorem c1041 {d : Nat} {h : pm_H} {a : Nat} {x0 : Int32} (hc : pm_cls h a = some 16) : pm_call pm_prog (d + 1) 1041 [.ref a, .int x0] h = pm_ev pm_prog (pm_call pm_prog d) 1041 0 b1041_0 [.ref a, .int x0] [] h := pm_cal (pm_rc1 hc rfl) rfl rfl rfl
theorem g1041_1 {cl : pm_C} {ls st : List Value} {h : pm_H} : pm_go pm_prog cl 1041 1 ls st h = pm_ev pm_prog cl 1041 1 b1041_1 ls st h := pm_go_eq pm_prog cl 1041 1 ls st h
theorem g1041_2 {cl : pm_C} {ls st : List Value} {h : pm_H} : pm_go pm_prog cl 1041 2 ls st h = pm_ev pm_prog cl 1041 2 b1041_2 ls st h := pm_go_eq pm_prog cl 1041 2 ls st h
theorem g1041_3 {cl : pm_C} {ls st : List Value} {h : pm_H} : pm_go pm_prog cl 1041 3 ls st h = pm_ev pm_prog cl 1041 3 b1041_3 ls st h := pm_go_eq pm_prog cl 1041 3 ls st h
theorem g1041_4 {cl : pm_C} {ls st : List Value} {h : pm_H} : pm_go pm_prog cl 1041 4 ls st h = pm_ev pm_prog cl 1041 4 b1041_4 ls st h := pm_go_eq pm_prog cl 1041 4 ls st h
theorem g1041_5 {cl : pm_C} {ls st : List Value} {h : pm_H} : pm_go pm_prog cl 1041 5 ls st h = pm_ev pm_prog cl 1041 5 b1041_5 ls st h := pm_go_eq pm_prog cl 1041 5 ls st h
theorem g1041_6 {cl : pm_C} {ls st : List Value} {h : pm_H} : pm_go pm_prog cl 1041 6 ls st h = pm_ev pm_prog cl 1041 6 b1041_6 ls st h := pm_go_eq pm_prog cl 1041 6 ls st h
theorem g1041_7 {cl : pm_C} {ls st : List Value} {h : pm_H} : pm_go pm_prog cl 1041 7 ls st h = pm_ev pm_prog cl 1041 7 b1041_7 ls st h := pm_go_eq pm_prog cl 1041 7 ls st h
theorem g1041_8 {cl : pm_C} {ls st : List Value} {h : pm_H} : pm_go pm_prog cl 1041 8 ls st h = pm_ev pm_prog cl 1041 8 b1041_8 ls st h := pm_go_eq pm_prog cl 1041 8 ls st h
theorem g1041_9 {cl : pm_C} {ls st : List Value} {h : pm_H} : pm_go pm_prog cl 1041 9 ls st h = pm_ev pm_prog cl 1041 9 b1041_9 ls st h := pm_go_eq pm_prog cl 1041 9 ls st h
theorem t1041 {cl : pm_C} {j : Nat} {ls : List Value} {c : Nat} {h : pm_H} : pm_thr pm_prog cl 1041 j ls c h = some (.threw c, h) := rfl
noncomputable def f1041_2 (side : Int32) (S : wS) (x1 : Int32) (y0 : Int32) : Option (Nat ⊕ (Int32)) :=
  (f1040 y0).bind fun r => match r with
  | .inl c2 =>
    some (.inl c2)
  | .inr _ =>
  if x1 = 0 then
    some (.inr (S.1 (11, 0, 0) 6))
  else
    if x1 = 1 then
      some (.inr (S.1 (0, 0, 0) 10))
    else
      if x1 = 2 then
        some (.inr (S.1 (11, 0, 0) 2))
      else
        if x1 = 3 then
          some (.inr (S.1 (11, 0, 0) 3))
        else
          if x1 = 4 then
            some (.inr (S.1 (11, 0, 0) 4))
          else
            some (.inr (S.1 (11, 0, 0) 7))
/-- TimberHouse$RouterPaths.about(I)I -/
noncomputable def f1041 (side : Int32) (S : wS) (x1 : Int32) : Option (Nat ⊕ (Int32)) :=
  (f1026 x1 0 5).bind fun v1 =>
  (f1028 v1).bind fun r => match r with
  | .inl c3 =>
    some (.inl c3)
  | .inr _ =>
  if (S.1 (0, 0, 0) 10) = (-1) then
    f1041_2 side S x1 0
  else
    f1041_2 side S x1 1
theorem sw1041_2 {x : Int32} : pm_sw 8 0 4 [3, 4, 5, 6, 7] x = if x = 0 then 3 else if x = 1 then 4 else if x = 2 then 5 else if x = 3 then 6 else if x = 4 then 7 else 8 := by
  by_cases k0 : x = 0
  · subst k0; rfl
  rw [if_neg k0]
  by_cases k1 : x = 1
  · subst k1; rfl
  rw [if_neg k1]
  by_cases k2 : x = 2
  · subst k2; rfl
  rw [if_neg k2]
  by_cases k3 : x = 3
  · subst k3; rfl
  rw [if_neg k3]
  by_cases k4 : x = 4
  · subst k4; rfl
  rw [if_neg k4]
  by_cases q : x.toInt < 0 ∨ 4 < x.toInt
  · exact if_pos q
  have q : x.toInt = 0 ∨ x.toInt = 1 ∨ x.toInt = 2 ∨ x.toInt = 3 ∨ x.toInt = 4 := by omega
  rcases q with q | q | q | q | q
  · exact absurd (Int32.toInt_inj.mp (q.trans (by decide : (0 : Int) = (0 : Int32).toInt))) k0
  · exact absurd (Int32.toInt_inj.mp (q.trans (by decide : (1 : Int) = (1 : Int32).toInt))) k1
  · exact absurd (Int32.toInt_inj.mp (q.trans (by decide : (2 : Int) = (2 : Int32).toInt))) k2
  · exact absurd (Int32.toInt_inj.mp (q.trans (by decide : (3 : Int) = (3 : Int32).toInt))) k3
  · exact absurd (Int32.toInt_inj.mp (q.trans (by decide : (4 : Int) = (4 : Int32).toInt))) k4
theorem y1041_2 {side : Int32} {A : wK → Nat} {h : pm_H} {D : Nat} {S : wS} {x1 : Int32} {y0 : Int32} {r : Nat ⊕ (Int32)} (hP : Cu_P side) (hA : wok A (Cu_d side) h.1) (hD : 1 ≤ D) (e : f1041_2 side S x1 y0 = some r) : pm_go pm_prog (pm_call pm_prog D) 1041 2 [.ref (A (0, 0, 0)), .int x1] [.int y0] (wput A (Cu_d side) S h) = some (match (generalizing := false) r with | .inl c => (Outcome.threw c, (wput A (Cu_d side) S (pm_new h 6 (.inr (c, []))))) | .inr w0 => (Outcome.returned (some (.int w0)), (wput A (Cu_d side) S h))) := by
  simp only [f1041_2] at e
  rw [g1041_2, b1041_2]
  obtain ⟨r, k1, e⟩ := Option.bind_eq_some_iff.mp e
  have z1 := fun h => x1040 (D := D) (h := h) (by omega) k1
  rcases r with c2 | _
  · dsimp only at e z1
    have e := Option.some.inj e; subst e
    simp -implicitDefEqProofs (disch := first | assumption | exact Nat.le_of_ble_eq_true rfl | decide) only [b1041_0, g1041_1, b1041_1, g1041_3, b1041_3, g1041_4, b1041_4, g1041_5, b1041_5, g1041_6, b1041_6, g1041_7, b1041_7, g1041_8, b1041_8, g1041_9, b1041_9, pe_iload1, pe_sipush, pe_call3, pm_af_ret, pm_af_void, pm_af_thr, pe_call1, pe_aload0, pe_getfield, pe_icmp_eq, pe_goto, pe_goto_w, pe_tableswitch, pm_prog_1, pm_ob_some, Nat.reduceDiv, Nat.reduceMod, Nat.reduceMul, Nat.reduceAdd, Int.reduceToNat, pm_kill_i, pm_kill_r, pm_kill_n, pm_kill_j, pm_kill_l, pm_kill_d, pm_cats_nil, pm_cats_i, pm_cats_r, pm_cats_n, pm_cats_l, pm_cats_d, sz_1, sz_2, sl_1, sl_2, lc_0, lc_lt, lc_le, li_ne, va_rf, wr_m1, we_m1, pm_kill_w, Int32.reduceOfInt, Int64.reduceOfInt, Int32.reduceOfNat, Int32.reduceLT, Int32.reduceLE, Prod.mk.injEq, Nat.reduceEqDiff, reduceCtorEq, and_true, true_and, and_false, false_and, and_self, ite_true, ite_false, ↓reduceIte, not_true_eq_false, not_false_eq_true, pe_ri, pe_rz, pe_rc, p_throw, t1041, w_junk hA, sw1041_2, Cu_g0_10 hP hA, Cu_g0_2 hP hA, Cu_g11_2 hP hA, Cu_g11_3 hP hA, Cu_g11_4 hP hA, Cu_g11_6 hP hA, Cu_g11_7 hP hA, z1]
  · dsimp only at e z1
    by_cases k2 : x1 = 0
    · rw [if_pos k2] at e
      have e := Option.some.inj e; subst e
      simp -implicitDefEqProofs (disch := first | assumption | exact Nat.le_of_ble_eq_true rfl | decide) only [b1041_0, g1041_1, b1041_1, g1041_3, b1041_3, g1041_4, b1041_4, g1041_5, b1041_5, g1041_6, b1041_6, g1041_7, b1041_7, g1041_8, b1041_8, g1041_9, b1041_9, pe_iload1, pe_sipush, pe_call3, pm_af_ret, pm_af_void, pm_af_thr, pe_call1, pe_aload0, pe_getfield, pe_icmp_eq, pe_goto, pe_goto_w, pe_tableswitch, pm_prog_1, pm_ob_some, Nat.reduceDiv, Nat.reduceMod, Nat.reduceMul, Nat.reduceAdd, Int.reduceToNat, pm_kill_i, pm_kill_r, pm_kill_n, pm_kill_j, pm_kill_l, pm_kill_d, pm_cats_nil, pm_cats_i, pm_cats_r, pm_cats_n, pm_cats_l, pm_cats_d, sz_1, sz_2, sl_1, sl_2, lc_0, lc_lt, lc_le, li_ne, va_rf, wr_m1, we_m1, pm_kill_w, Int32.reduceOfInt, Int64.reduceOfInt, Int32.reduceOfNat, Int32.reduceLT, Int32.reduceLE, Prod.mk.injEq, Nat.reduceEqDiff, reduceCtorEq, and_true, true_and, and_false, false_and, and_self, ite_true, ite_false, ↓reduceIte, not_true_eq_false, not_false_eq_true, pe_ri, pe_rz, pe_rc, p_throw, t1041, w_junk hA, sw1041_2, Cu_g0_10 hP hA, Cu_g0_2 hP hA, Cu_g11_2 hP hA, Cu_g11_3 hP hA, Cu_g11_4 hP hA, Cu_g11_6 hP hA, Cu_g11_7 hP hA, z1, eq_true k2]
    · rw [if_neg k2] at e
      by_cases k3 : x1 = 1
      · rw [if_pos k3] at e
        have e := Option.some.inj e; subst e
        simp -implicitDefEqProofs (disch := first | assumption | exact Nat.le_of_ble_eq_true rfl | decide) only [b1041_0, g1041_1, b1041_1, g1041_3, b1041_3, g1041_4, b1041_4, g1041_5, b1041_5, g1041_6, b1041_6, g1041_7, b1041_7, g1041_8, b1041_8, g1041_9, b1041_9, pe_iload1, pe_sipush, pe_call3, pm_af_ret, pm_af_void, pm_af_thr, pe_call1, pe_aload0, pe_getfield, pe_icmp_eq, pe_goto, pe_goto_w, pe_tableswitch, pm_prog_1, pm_ob_some, Nat.reduceDiv, Nat.reduceMod, Nat.reduceMul, Nat.reduceAdd, Int.reduceToNat, pm_kill_i, pm_kill_r, pm_kill_n, pm_kill_j, pm_kill_l, pm_kill_d, pm_cats_nil, pm_cats_i, pm_cats_r, pm_cats_n, pm_cats_l, pm_cats_d, sz_1, sz_2, sl_1, sl_2, lc_0, lc_lt, lc_le, li_ne, va_rf, wr_m1, we_m1, pm_kill_w, Int32.reduceOfInt, Int64.reduceOfInt, Int32.reduceOfNat, Int32.reduceLT, Int32.reduceLE, Prod.mk.injEq, Nat.reduceEqDiff, reduceCtorEq, and_true, true_and, and_false, false_and, and_self, ite_true, ite_false, ↓reduceIte, not_true_eq_false, not_false_eq_true, pe_ri, pe_rz, pe_rc, p_throw, t1041, w_junk hA, sw1041_2, Cu_g0_10 hP hA, Cu_g0_2 hP hA, Cu_g11_2 hP hA, Cu_g11_3 hP hA, Cu_g11_4 hP hA, Cu_g11_6 hP hA, Cu_g11_7 hP hA, z1, eq_false k2, eq_true k3]
      · rw [if_neg k3] at e
        by_cases k4 : x1 = 2
        · rw [if_pos k4] at e
          have e := Option.some.inj e; subst e
          simp -implicitDefEqProofs (disch := first | assumption | exact Nat.le_of_ble_eq_true rfl | decide) only [b1041_0, g1041_1, b1041_1, g1041_3, b1041_3, g1041_4, b1041_4, g1041_5, b1041_5, g1041_6, b1041_6, g1041_7, b1041_7, g1041_8, b1041_8, g1041_9, b1041_9, pe_iload1, pe_sipush, pe_call3, pm_af_ret, pm_af_void, pm_af_thr, pe_call1, pe_aload0, pe_getfield, pe_icmp_eq, pe_goto, pe_goto_w, pe_tableswitch, pm_prog_1, pm_ob_some, Nat.reduceDiv, Nat.reduceMod, Nat.reduceMul, Nat.reduceAdd, Int.reduceToNat, pm_kill_i, pm_kill_r, pm_kill_n, pm_kill_j, pm_kill_l, pm_kill_d, pm_cats_nil, pm_cats_i, pm_cats_r, pm_cats_n, pm_cats_l, pm_cats_d, sz_1, sz_2, sl_1, sl_2, lc_0, lc_lt, lc_le, li_ne, va_rf, wr_m1, we_m1, pm_kill_w, Int32.reduceOfInt, Int64.reduceOfInt, Int32.reduceOfNat, Int32.reduceLT, Int32.reduceLE, Prod.mk.injEq, Nat.reduceEqDiff, reduceCtorEq, and_true, true_and, and_false, false_and, and_self, ite_true, ite_false, ↓reduceIte, not_true_eq_false, not_false_eq_true, pe_ri, pe_rz, pe_rc, p_throw, t1041, w_junk hA, sw1041_2, Cu_g0_10 hP hA, Cu_g0_2 hP hA, Cu_g11_2 hP hA, Cu_g11_3 hP hA, Cu_g11_4 hP hA, Cu_g11_6 hP hA, Cu_g11_7 hP hA, z1, eq_false k2, eq_false k3, eq_true k4]
        · rw [if_neg k4] at e
          by_cases k5 : x1 = 3
          · rw [if_pos k5] at e
            have e := Option.some.inj e; subst e
            simp -implicitDefEqProofs (disch := first | assumption | exact Nat.le_of_ble_eq_true rfl | decide) only [b1041_0, g1041_1, b1041_1, g1041_3, b1041_3, g1041_4, b1041_4, g1041_5, b1041_5, g1041_6, b1041_6, g1041_7, b1041_7, g1041_8, b1041_8, g1041_9, b1041_9, pe_iload1, pe_sipush, pe_call3, pm_af_ret, pm_af_void, pm_af_thr, pe_call1, pe_aload0, pe_getfield, pe_icmp_eq, pe_goto, pe_goto_w, pe_tableswitch, pm_prog_1, pm_ob_some, Nat.reduceDiv, Nat.reduceMod, Nat.reduceMul, Nat.reduceAdd, Int.reduceToNat, pm_kill_i, pm_kill_r, pm_kill_n, pm_kill_j, pm_kill_l, pm_kill_d, pm_cats_nil, pm_cats_i, pm_cats_r, pm_cats_n, pm_cats_l, pm_cats_d, sz_1, sz_2, sl_1, sl_2, lc_0, lc_lt, lc_le, li_ne, va_rf, wr_m1, we_m1, pm_kill_w, Int32.reduceOfInt, Int64.reduceOfInt, Int32.reduceOfNat, Int32.reduceLT, Int32.reduceLE, Prod.mk.injEq, Nat.reduceEqDiff, reduceCtorEq, and_true, true_and, and_false, false_and, and_self, ite_true, ite_false, ↓reduceIte, not_true_eq_false, not_false_eq_true, pe_ri, pe_rz, pe_rc, p_throw, t1041, w_junk hA, sw1041_2, Cu_g0_10 hP hA, Cu_g0_2 hP hA, Cu_g11_2 hP hA, Cu_g11_3 hP hA, Cu_g11_4 hP hA, Cu_g11_6 hP hA, Cu_g11_7 hP hA, z1, eq_false k2, eq_false k3, eq_false k4, eq_true k5]
          · rw [if_neg k5] at e
            by_cases k6 : x1 = 4
            · rw [if_pos k6] at e
              have e := Option.some.inj e; subst e
              simp -implicitDefEqProofs (disch := first | assumption | exact Nat.le_of_ble_eq_true rfl | decide) only [b1041_0, g1041_1, b1041_1, g1041_3, b1041_3, g1041_4, b1041_4, g1041_5, b1041_5, g1041_6, b1041_6, g1041_7, b1041_7, g1041_8, b1041_8, g1041_9, b1041_9, pe_iload1, pe_sipush, pe_call3, pm_af_ret, pm_af_void, pm_af_thr, pe_call1, pe_aload0, pe_getfield, pe_icmp_eq, pe_goto, pe_goto_w, pe_tableswitch, pm_prog_1, pm_ob_some, Nat.reduceDiv, Nat.reduceMod, Nat.reduceMul, Nat.reduceAdd, Int.reduceToNat, pm_kill_i, pm_kill_r, pm_kill_n, pm_kill_j, pm_kill_l, pm_kill_d, pm_cats_nil, pm_cats_i, pm_cats_r, pm_cats_n, pm_cats_l, pm_cats_d, sz_1, sz_2, sl_1, sl_2, lc_0, lc_lt, lc_le, li_ne, va_rf, wr_m1, we_m1, pm_kill_w, Int32.reduceOfInt, Int64.reduceOfInt, Int32.reduceOfNat, Int32.reduceLT, Int32.reduceLE, Prod.mk.injEq, Nat.reduceEqDiff, reduceCtorEq, and_true, true_and, and_false, false_and, and_self, ite_true, ite_false, ↓reduceIte, not_true_eq_false, not_false_eq_true, pe_ri, pe_rz, pe_rc, p_throw, t1041, w_junk hA, sw1041_2, Cu_g0_10 hP hA, Cu_g0_2 hP hA, Cu_g11_2 hP hA, Cu_g11_3 hP hA, Cu_g11_4 hP hA, Cu_g11_6 hP hA, Cu_g11_7 hP hA, z1, eq_false k2, eq_false k3, eq_false k4, eq_false k5, eq_true k6]
            · rw [if_neg k6] at e
              have e := Option.some.inj e; subst e
              simp -implicitDefEqProofs (disch := first | assumption | exact Nat.le_of_ble_eq_true rfl | decide) only [b1041_0, g1041_1, b1041_1, g1041_3, b1041_3, g1041_4, b1041_4, g1041_5, b1041_5, g1041_6, b1041_6, g1041_7, b1041_7, g1041_8, b1041_8, g1041_9, b1041_9, pe_iload1, pe_sipush, pe_call3, pm_af_ret, pm_af_void, pm_af_thr, pe_call1, pe_aload0, pe_getfield, pe_icmp_eq, pe_goto, pe_goto_w, pe_tableswitch, pm_prog_1, pm_ob_some, Nat.reduceDiv, Nat.reduceMod, Nat.reduceMul, Nat.reduceAdd, Int.reduceToNat, pm_kill_i, pm_kill_r, pm_kill_n, pm_kill_j, pm_kill_l, pm_kill_d, pm_cats_nil, pm_cats_i, pm_cats_r, pm_cats_n, pm_cats_l, pm_cats_d, sz_1, sz_2, sl_1, sl_2, lc_0, lc_lt, lc_le, li_ne, va_rf, wr_m1, we_m1, pm_kill_w, Int32.reduceOfInt, Int64.reduceOfInt, Int32.reduceOfNat, Int32.reduceLT, Int32.reduceLE, Prod.mk.injEq, Nat.reduceEqDiff, reduceCtorEq, and_true, true_and, and_false, false_and, and_self, ite_true, ite_false, ↓reduceIte, not_true_eq_false, not_false_eq_true, pe_ri, pe_rz, pe_rc, p_throw, t1041, w_junk hA, sw1041_2, Cu_g0_10 hP hA, Cu_g0_2 hP hA, Cu_g11_2 hP hA, Cu_g11_3 hP hA, Cu_g11_4 hP hA, Cu_g11_6 hP hA, Cu_g11_7 hP hA, z1, eq_false k2, eq_false k3, eq_false k4, eq_false k5, eq_false k6]
theorem x1041 {side : Int32} {A : wK → Nat} {h : pm_H} {D : Nat} {S : wS} {x1 : Int32} {r : Nat ⊕ (Int32)} (hP : Cu_P side) (hA : wok A (Cu_d side) h.1) (hD : 2 ≤ D) (e : f1041 side S x1 = some r) : pm_call pm_prog D 1041 [.ref (A (0, 0, 0)), .int x1] (wput A (Cu_d side) S h) = some (match (generalizing := false) r with | .inl c => (Outcome.threw c, (wput A (Cu_d side) S (pm_new h 6 (.inr (c, []))))) | .inr w0 => (Outcome.returned (some (.int w0)), (wput A (Cu_d side) S h))) := by
  obtain ⟨D, rfl⟩ : ∃ D', D = D' + 1 := ⟨D - 1, by omega⟩
  have hD : 1 ≤ D := by omega
  simp only [f1041] at e
  rw [c1041 (Cu_c0 hP hA), b1041_0]
  obtain ⟨v1, k1, e⟩ := Option.bind_eq_some_iff.mp e
  try dsimp only at e
  have z1 := fun h => x1026 (D := D) (h := h) (by omega) k1
  obtain ⟨r, k2, e⟩ := Option.bind_eq_some_iff.mp e
  have z2 := fun h => x1028 (D := D) (h := h) (by omega) k2
  rcases r with c3 | _
  · dsimp only at e z2
    have e := Option.some.inj e; subst e
    simp -implicitDefEqProofs (disch := first | assumption | exact Nat.le_of_ble_eq_true rfl | decide) only [b1041_0, g1041_1, b1041_1, g1041_3, b1041_3, g1041_4, b1041_4, g1041_5, b1041_5, g1041_6, b1041_6, g1041_7, b1041_7, g1041_8, b1041_8, g1041_9, b1041_9, pe_iload1, pe_sipush, pe_call3, pm_af_ret, pm_af_void, pm_af_thr, pe_call1, pe_aload0, pe_getfield, pe_icmp_eq, pe_goto, pe_goto_w, pe_tableswitch, pm_prog_1, pm_ob_some, Nat.reduceDiv, Nat.reduceMod, Nat.reduceMul, Nat.reduceAdd, Int.reduceToNat, pm_kill_i, pm_kill_r, pm_kill_n, pm_kill_j, pm_kill_l, pm_kill_d, pm_cats_nil, pm_cats_i, pm_cats_r, pm_cats_n, pm_cats_l, pm_cats_d, sz_1, sz_2, sl_1, sl_2, lc_0, lc_lt, lc_le, li_ne, va_rf, wr_m1, we_m1, pm_kill_w, Int32.reduceOfInt, Int64.reduceOfInt, Int32.reduceOfNat, Int32.reduceLT, Int32.reduceLE, Prod.mk.injEq, Nat.reduceEqDiff, reduceCtorEq, and_true, true_and, and_false, false_and, and_self, ite_true, ite_false, ↓reduceIte, not_true_eq_false, not_false_eq_true, pe_ri, pe_rz, pe_rc, p_throw, t1041, w_junk hA, sw1041_2, Cu_g0_10 hP hA, Cu_g0_2 hP hA, Cu_g11_2 hP hA, Cu_g11_3 hP hA, Cu_g11_4 hP hA, Cu_g11_6 hP hA, Cu_g11_7 hP hA, z1, z2]
  · dsimp only at e z2
    by_cases k3 : (S.1 (0, 0, 0) 10) = (-1)
    · rw [if_pos k3] at e
      have k4 := y1041_2 (h := h) hP hA hD e
      simp -implicitDefEqProofs (disch := first | assumption | exact Nat.le_of_ble_eq_true rfl | decide) only [b1041_0, g1041_1, b1041_1, g1041_3, b1041_3, g1041_4, b1041_4, g1041_5, b1041_5, g1041_6, b1041_6, g1041_7, b1041_7, g1041_8, b1041_8, g1041_9, b1041_9, pe_iload1, pe_sipush, pe_call3, pm_af_ret, pm_af_void, pm_af_thr, pe_call1, pe_aload0, pe_getfield, pe_icmp_eq, pe_goto, pe_goto_w, pe_tableswitch, pm_prog_1, pm_ob_some, Nat.reduceDiv, Nat.reduceMod, Nat.reduceMul, Nat.reduceAdd, Int.reduceToNat, pm_kill_i, pm_kill_r, pm_kill_n, pm_kill_j, pm_kill_l, pm_kill_d, pm_cats_nil, pm_cats_i, pm_cats_r, pm_cats_n, pm_cats_l, pm_cats_d, sz_1, sz_2, sl_1, sl_2, lc_0, lc_lt, lc_le, li_ne, va_rf, wr_m1, we_m1, pm_kill_w, Int32.reduceOfInt, Int64.reduceOfInt, Int32.reduceOfNat, Int32.reduceLT, Int32.reduceLE, Prod.mk.injEq, Nat.reduceEqDiff, reduceCtorEq, and_true, true_and, and_false, false_and, and_self, ite_true, ite_false, ↓reduceIte, not_true_eq_false, not_false_eq_true, pe_ri, pe_rz, pe_rc, p_throw, t1041, w_junk hA, sw1041_2, Cu_g0_10 hP hA, Cu_g0_2 hP hA, Cu_g11_2 hP hA, Cu_g11_3 hP hA, Cu_g11_4 hP hA, Cu_g11_6 hP hA, Cu_g11_7 hP hA, z1, z2, eq_true k3, k4]
    · rw [if_neg k3] at e
      have k5 := y1041_2 (h := h) hP hA hD e
      simp -implicitDefEqProofs (disch := first | assumption | exact Nat.le_of_ble_eq_true rfl | decide) only [b1041_0, g1041_1, b1041_1, g1041_3, b1041_3, g1041_4, b1041_4, g1041_5, b1041_5, g1041_6, b1041_6, g1041_7, b1041_7, g1041_8, b1041_8, g1041_9, b1041_9, pe_iload1, pe_sipush, pe_call3, pm_af_ret, pm_af_void, pm_af_thr, pe_call1, pe_aload0, pe_getfield, pe_icmp_eq, pe_goto, pe_goto_w, pe_tableswitch, pm_prog_1, pm_ob_some, Nat.reduceDiv, Nat.reduceMod, Nat.reduceMul, Nat.reduceAdd, Int.reduceToNat, pm_kill_i, pm_kill_r, pm_kill_n, pm_kill_j, pm_kill_l, pm_kill_d, pm_cats_nil, pm_cats_i, pm_cats_r, pm_cats_n, pm_cats_l, pm_cats_d, sz_1, sz_2, sl_1, sl_2, lc_0, lc_lt, lc_le, li_ne, va_rf, wr_m1, we_m1, pm_kill_w, Int32.reduceOfInt, Int64.reduceOfInt, Int32.reduceOfNat, Int32.reduceLT, Int32.reduceLE, Prod.mk.injEq, Nat.reduceEqDiff, reduceCtorEq, and_true, true_and, and_false, false_and, and_self, ite_true, ite_false, ↓reduceIte, not_true_eq_false, not_false_eq_true, pe_ri, pe_rz, pe_rc, p_throw, t1041, w_junk hA, sw1041_2, Cu_g0_10 hP hA, Cu_g0_2 hP hA, Cu_g11_2 hP hA, Cu_g11_3 hP hA, Cu_g11_4 hP hA, Cu_g11_6 hP hA, Cu_g11_7 hP hA, z1, z2, eq_false k3, k5]
/-- TimberHouse$RouterPaths.cell(III)I -/
theorem c1042 {d : Nat} {h : pm_H} {a : Nat} {x0 : Int32} {x1 : Int32} {x2 : Int32} (hc : pm_cls h a = some 16) : pm_call pm_prog (d + 1) 1042 [.ref a, .int x0, .int x1, .int x2] h = pm_ev pm_prog (pm_call pm_prog d) 1042 0 b1042_0 [.ref a, .int x0, .int x1, .int x2] [] h := pm_cal (pm_rc1 hc rfl) rfl rfl rfl
theorem g1042_1 {cl : pm_C} {ls st : List Value} {h : pm_H} : pm_go pm_prog cl 1042 1 ls st h = pm_ev pm_prog cl 1042 1 b1042_1 ls st h := pm_go_eq pm_prog cl 1042 1 ls st h
theorem g1042_2 {cl : pm_C} {ls st : List Value} {h : pm_H} : pm_go pm_prog cl 1042 2 ls st h = pm_ev pm_prog cl 1042 2 b1042_2 ls st h := pm_go_eq pm_prog cl 1042 2 ls st h
theorem g1042_3 {cl : pm_C} {ls st : List Value} {h : pm_H} : pm_go pm_prog cl 1042 3 ls st h = pm_ev pm_prog cl 1042 3 b1042_3 ls st h := pm_go_eq pm_prog cl 1042 3 ls st h
theorem g1042_4 {cl : pm_C} {ls st : List Value} {h : pm_H} : pm_go pm_prog cl 1042 4 ls st h = pm_ev pm_prog cl 1042 4 b1042_4 ls st h := pm_go_eq pm_prog cl 1042 4 ls st h
theorem g1042_5 {cl : pm_C} {ls st : List Value} {h : pm_H} : pm_go pm_prog cl 1042 5 ls st h = pm_ev pm_prog cl 1042 5 b1042_5 ls st h := pm_go_eq pm_prog cl 1042 5 ls st h
theorem g1042_6 {cl : pm_C} {ls st : List Value} {h : pm_H} : pm_go pm_prog cl 1042 6 ls st h = pm_ev pm_prog cl 1042 6 b1042_6 ls st h := pm_go_eq pm_prog cl 1042 6 ls st h
theorem t1042 {cl : pm_C} {j : Nat} {ls : List Value} {c : Nat} {h : pm_H} : pm_thr pm_prog cl 1042 j ls c h = some (.threw c, h) := rfl
noncomputable def f1042_2 (side : Int32) (S : wS) (x1 : Int32) (x2 : Int32) (x3 : Int32) (y0 : Int32) : Option (Nat ⊕ (Int32)) :=
  (f1028 y0).bind fun r => match r with
  | .inl c2 =>
    some (.inl c2)
  | .inr _ =>
  if x3 = 0 then
    if 0 ≤ x2 ∧ x2 < side then
      if 0 ≤ x1 ∧ x1 < side then
        some (.inr (S.1 (3, x2, 0) x1))
      else none
    else none
  else
    if x3 = 1 then
      if 0 ≤ x2 ∧ x2 < side then
        if 0 ≤ x1 ∧ x1 < side then
          some (.inr (S.1 (5, x2, 0) x1))
        else none
      else none
    else
      if 0 ≤ x2 ∧ x2 < side then
        if 0 ≤ x1 ∧ x1 < side then
          if (S.1 (13, x2, 0) x1) = 0 then
            some (.inr 0)
          else
            some (.inr 1)
        else none
      else none
/-- TimberHouse$RouterPaths.cell(III)I -/
noncomputable def f1042 (side : Int32) (S : wS) (x1 : Int32) (x2 : Int32) (x3 : Int32) : Option (Nat ⊕ (Int32)) :=
  (f1155 side S x1 x2).bind fun v1 =>
  if v1 = 0 then
    f1042_2 side S x1 x2 x3 0
  else
    (f1026 x3 0 2).bind fun v3 =>
    if v3 = 0 then
      f1042_2 side S x1 x2 x3 0
    else
      f1042_2 side S x1 x2 x3 1
theorem y1042_2 {side : Int32} {A : wK → Nat} {h : pm_H} {D : Nat} {S : wS} {x1 : Int32} {x2 : Int32} {x3 : Int32} {y0 : Int32} {r : Nat ⊕ (Int32)} (hP : Cu_P side) (hA : wok A (Cu_d side) h.1) (hD : 1 ≤ D) (e : f1042_2 side S x1 x2 x3 y0 = some r) : pm_go pm_prog (pm_call pm_prog D) 1042 2 [.ref (A (0, 0, 0)), .int x1, .int x2, .int x3] [.int y0] (wput A (Cu_d side) S h) = some (match (generalizing := false) r with | .inl c => (Outcome.threw c, (wput A (Cu_d side) S (pm_new h 6 (.inr (c, []))))) | .inr w0 => (Outcome.returned (some (.int w0)), (wput A (Cu_d side) S h))) := by
  simp only [f1042_2] at e
  rw [g1042_2, b1042_2]
  obtain ⟨r, k1, e⟩ := Option.bind_eq_some_iff.mp e
  have z1 := fun h => x1028 (D := D) (h := h) (by omega) k1
  rcases r with c2 | _
  · dsimp only at e z1
    have e := Option.some.inj e; subst e
    simp -implicitDefEqProofs (disch := first | assumption | exact Nat.le_of_ble_eq_true rfl | decide) only [b1042_0, g1042_1, b1042_1, g1042_3, b1042_3, g1042_4, b1042_4, g1042_5, b1042_5, g1042_6, b1042_6, pe_aload0, pe_getfield, pe_iload1, pe_iload2, pe_call3, pm_af_ret, pm_af_void, pm_af_thr, pe_if_eq, pe_iload3, pe_sipush, pe_goto, pe_goto_w, pe_call1, pe_if_ne, pe_aaload, pe_iaload, pe_icmp_ne, pe_baload, pm_prog_1, pm_ob_some, Nat.reduceDiv, Nat.reduceMod, Nat.reduceMul, Nat.reduceAdd, Int.reduceToNat, pm_kill_i, pm_kill_r, pm_kill_n, pm_kill_j, pm_kill_l, pm_kill_d, pm_cats_nil, pm_cats_i, pm_cats_r, pm_cats_n, pm_cats_l, pm_cats_d, sz_1, sz_2, sl_1, sl_2, lc_0, lc_lt, lc_le, li_ne, va_rf, wr_m1, we_m1, pm_kill_w, Int32.reduceOfInt, Int64.reduceOfInt, Int32.reduceOfNat, Int32.reduceLT, Int32.reduceLE, Prod.mk.injEq, Nat.reduceEqDiff, reduceCtorEq, and_true, true_and, and_false, false_and, and_self, ite_true, ite_false, ↓reduceIte, not_true_eq_false, not_false_eq_true, pe_ri, pe_rz, pe_rc, p_throw, t1042, w_junk hA, Cu_g0_0 hP hA, Cu_g1_1 hP hA, Cu_g1_2 hP hA, Cu_g1_3 hP hA, Cu_r13 hP hA, Cu_r2 hP hA, Cu_r3 hP hA, Cu_r4 hP hA, Cu_r5 hP hA, Cu_r6 hP hA, z1]
  · dsimp only at e z1
    by_cases k2 : x3 = 0
    · rw [if_pos k2] at e
      by_cases k3 : 0 ≤ x2 ∧ x2 < side
      · rw [if_pos k3] at e
        by_cases k4 : 0 ≤ x1 ∧ x1 < side
        · rw [if_pos k4] at e
          have e := Option.some.inj e; subst e
          simp -implicitDefEqProofs (disch := first | assumption | exact Nat.le_of_ble_eq_true rfl | decide) only [b1042_0, g1042_1, b1042_1, g1042_3, b1042_3, g1042_4, b1042_4, g1042_5, b1042_5, g1042_6, b1042_6, pe_aload0, pe_getfield, pe_iload1, pe_iload2, pe_call3, pm_af_ret, pm_af_void, pm_af_thr, pe_if_eq, pe_iload3, pe_sipush, pe_goto, pe_goto_w, pe_call1, pe_if_ne, pe_aaload, pe_iaload, pe_icmp_ne, pe_baload, pm_prog_1, pm_ob_some, Nat.reduceDiv, Nat.reduceMod, Nat.reduceMul, Nat.reduceAdd, Int.reduceToNat, pm_kill_i, pm_kill_r, pm_kill_n, pm_kill_j, pm_kill_l, pm_kill_d, pm_cats_nil, pm_cats_i, pm_cats_r, pm_cats_n, pm_cats_l, pm_cats_d, sz_1, sz_2, sl_1, sl_2, lc_0, lc_lt, lc_le, li_ne, va_rf, wr_m1, we_m1, pm_kill_w, Int32.reduceOfInt, Int64.reduceOfInt, Int32.reduceOfNat, Int32.reduceLT, Int32.reduceLE, Prod.mk.injEq, Nat.reduceEqDiff, reduceCtorEq, and_true, true_and, and_false, false_and, and_self, ite_true, ite_false, ↓reduceIte, not_true_eq_false, not_false_eq_true, pe_ri, pe_rz, pe_rc, p_throw, t1042, w_junk hA, Cu_g0_0 hP hA, Cu_g1_1 hP hA, Cu_g1_2 hP hA, Cu_g1_3 hP hA, Cu_r13 hP hA, Cu_r2 hP hA, Cu_r3 hP hA, Cu_r4 hP hA, Cu_r5 hP hA, Cu_r6 hP hA, z1, eq_true k2]
        · rw [if_neg k4] at e; cases e
      · rw [if_neg k3] at e; cases e
    · rw [if_neg k2] at e
      by_cases k5 : x3 = 1
      · rw [if_pos k5] at e
        by_cases k6 : 0 ≤ x2 ∧ x2 < side
        · rw [if_pos k6] at e
          by_cases k7 : 0 ≤ x1 ∧ x1 < side
          · rw [if_pos k7] at e
            have e := Option.some.inj e; subst e
            simp -implicitDefEqProofs (disch := first | assumption | exact Nat.le_of_ble_eq_true rfl | decide) only [b1042_0, g1042_1, b1042_1, g1042_3, b1042_3, g1042_4, b1042_4, g1042_5, b1042_5, g1042_6, b1042_6, pe_aload0, pe_getfield, pe_iload1, pe_iload2, pe_call3, pm_af_ret, pm_af_void, pm_af_thr, pe_if_eq, pe_iload3, pe_sipush, pe_goto, pe_goto_w, pe_call1, pe_if_ne, pe_aaload, pe_iaload, pe_icmp_ne, pe_baload, pm_prog_1, pm_ob_some, Nat.reduceDiv, Nat.reduceMod, Nat.reduceMul, Nat.reduceAdd, Int.reduceToNat, pm_kill_i, pm_kill_r, pm_kill_n, pm_kill_j, pm_kill_l, pm_kill_d, pm_cats_nil, pm_cats_i, pm_cats_r, pm_cats_n, pm_cats_l, pm_cats_d, sz_1, sz_2, sl_1, sl_2, lc_0, lc_lt, lc_le, li_ne, va_rf, wr_m1, we_m1, pm_kill_w, Int32.reduceOfInt, Int64.reduceOfInt, Int32.reduceOfNat, Int32.reduceLT, Int32.reduceLE, Prod.mk.injEq, Nat.reduceEqDiff, reduceCtorEq, and_true, true_and, and_false, false_and, and_self, ite_true, ite_false, ↓reduceIte, not_true_eq_false, not_false_eq_true, pe_ri, pe_rz, pe_rc, p_throw, t1042, w_junk hA, Cu_g0_0 hP hA, Cu_g1_1 hP hA, Cu_g1_2 hP hA, Cu_g1_3 hP hA, Cu_r13 hP hA, Cu_r2 hP hA, Cu_r3 hP hA, Cu_r4 hP hA, Cu_r5 hP hA, Cu_r6 hP hA, z1, eq_false k2, eq_true k5]
          · rw [if_neg k7] at e; cases e
        · rw [if_neg k6] at e; cases e
      · rw [if_neg k5] at e
        by_cases k8 : 0 ≤ x2 ∧ x2 < side
        · rw [if_pos k8] at e
          by_cases k9 : 0 ≤ x1 ∧ x1 < side
          · rw [if_pos k9] at e
            by_cases k10 : (S.1 (13, x2, 0) x1) = 0
            · rw [if_pos k10] at e
              have e := Option.some.inj e; subst e
              simp -implicitDefEqProofs (disch := first | assumption | exact Nat.le_of_ble_eq_true rfl | decide) only [b1042_0, g1042_1, b1042_1, g1042_3, b1042_3, g1042_4, b1042_4, g1042_5, b1042_5, g1042_6, b1042_6, pe_aload0, pe_getfield, pe_iload1, pe_iload2, pe_call3, pm_af_ret, pm_af_void, pm_af_thr, pe_if_eq, pe_iload3, pe_sipush, pe_goto, pe_goto_w, pe_call1, pe_if_ne, pe_aaload, pe_iaload, pe_icmp_ne, pe_baload, pm_prog_1, pm_ob_some, Nat.reduceDiv, Nat.reduceMod, Nat.reduceMul, Nat.reduceAdd, Int.reduceToNat, pm_kill_i, pm_kill_r, pm_kill_n, pm_kill_j, pm_kill_l, pm_kill_d, pm_cats_nil, pm_cats_i, pm_cats_r, pm_cats_n, pm_cats_l, pm_cats_d, sz_1, sz_2, sl_1, sl_2, lc_0, lc_lt, lc_le, li_ne, va_rf, wr_m1, we_m1, pm_kill_w, Int32.reduceOfInt, Int64.reduceOfInt, Int32.reduceOfNat, Int32.reduceLT, Int32.reduceLE, Prod.mk.injEq, Nat.reduceEqDiff, reduceCtorEq, and_true, true_and, and_false, false_and, and_self, ite_true, ite_false, ↓reduceIte, not_true_eq_false, not_false_eq_true, pe_ri, pe_rz, pe_rc, p_throw, t1042, w_junk hA, Cu_g0_0 hP hA, Cu_g1_1 hP hA, Cu_g1_2 hP hA, Cu_g1_3 hP hA, Cu_r13 hP hA, Cu_r2 hP hA, Cu_r3 hP hA, Cu_r4 hP hA, Cu_r5 hP hA, Cu_r6 hP hA, z1, eq_false k2, eq_false k5, eq_true k10]
            · rw [if_neg k10] at e
              have e := Option.some.inj e; subst e
              simp -implicitDefEqProofs (disch := first | assumption | exact Nat.le_of_ble_eq_true rfl | decide) only [b1042_0, g1042_1, b1042_1, g1042_3, b1042_3, g1042_4, b1042_4, g1042_5, b1042_5, g1042_6, b1042_6, pe_aload0, pe_getfield, pe_iload1, pe_iload2, pe_call3, pm_af_ret, pm_af_void, pm_af_thr, pe_if_eq, pe_iload3, pe_sipush, pe_goto, pe_goto_w, pe_call1, pe_if_ne, pe_aaload, pe_iaload, pe_icmp_ne, pe_baload, pm_prog_1, pm_ob_some, Nat.reduceDiv, Nat.reduceMod, Nat.reduceMul, Nat.reduceAdd, Int.reduceToNat, pm_kill_i, pm_kill_r, pm_kill_n, pm_kill_j, pm_kill_l, pm_kill_d, pm_cats_nil, pm_cats_i, pm_cats_r, pm_cats_n, pm_cats_l, pm_cats_d, sz_1, sz_2, sl_1, sl_2, lc_0, lc_lt, lc_le, li_ne, va_rf, wr_m1, we_m1, pm_kill_w, Int32.reduceOfInt, Int64.reduceOfInt, Int32.reduceOfNat, Int32.reduceLT, Int32.reduceLE, Prod.mk.injEq, Nat.reduceEqDiff, reduceCtorEq, and_true, true_and, and_false, false_and, and_self, ite_true, ite_false, ↓reduceIte, not_true_eq_false, not_false_eq_true, pe_ri, pe_rz, pe_rc, p_throw, t1042, w_junk hA, Cu_g0_0 hP hA, Cu_g1_1 hP hA, Cu_g1_2 hP hA, Cu_g1_3 hP hA, Cu_r13 hP hA, Cu_r2 hP hA, Cu_r3 hP hA, Cu_r4 hP hA, Cu_r5 hP hA, Cu_r6 hP hA, z1, eq_false k2, eq_false k5, eq_false k10]
          · rw [if_neg k9] at e; cases e
        · rw [if_neg k8] at e; cases e
theorem x1042 {side : Int32} {A : wK → Nat} {h : pm_H} {D : Nat} {S : wS} {x1 : Int32} {x2 : Int32} {x3 : Int32} {r : Nat ⊕ (Int32)} (hP : Cu_P side) (hA : wok A (Cu_d side) h.1) (hD : 2 ≤ D) (e : f1042 side S x1 x2 x3 = some r) : pm_call pm_prog D 1042 [.ref (A (0, 0, 0)), .int x1, .int x2, .int x3] (wput A (Cu_d side) S h) = some (match (generalizing := false) r with | .inl c => (Outcome.threw c, (wput A (Cu_d side) S (pm_new h 6 (.inr (c, []))))) | .inr w0 => (Outcome.returned (some (.int w0)), (wput A (Cu_d side) S h))) := by
  obtain ⟨D, rfl⟩ : ∃ D', D = D' + 1 := ⟨D - 1, by omega⟩
  have hD : 1 ≤ D := by omega
  simp only [f1042] at e
  rw [c1042 (Cu_c0 hP hA), b1042_0]
  obtain ⟨v1, k1, e⟩ := Option.bind_eq_some_iff.mp e
  try dsimp only at e
  have z1 := x1155 (D := D) (h := h) hP hA (by omega) k1
  by_cases k2 : v1 = 0
  · rw [if_pos k2] at e
    have k3 := y1042_2 (h := h) hP hA hD e
    simp -implicitDefEqProofs (disch := first | assumption | exact Nat.le_of_ble_eq_true rfl | decide) only [b1042_0, g1042_1, b1042_1, g1042_3, b1042_3, g1042_4, b1042_4, g1042_5, b1042_5, g1042_6, b1042_6, pe_aload0, pe_getfield, pe_iload1, pe_iload2, pe_call3, pm_af_ret, pm_af_void, pm_af_thr, pe_if_eq, pe_iload3, pe_sipush, pe_goto, pe_goto_w, pe_call1, pe_if_ne, pe_aaload, pe_iaload, pe_icmp_ne, pe_baload, pm_prog_1, pm_ob_some, Nat.reduceDiv, Nat.reduceMod, Nat.reduceMul, Nat.reduceAdd, Int.reduceToNat, pm_kill_i, pm_kill_r, pm_kill_n, pm_kill_j, pm_kill_l, pm_kill_d, pm_cats_nil, pm_cats_i, pm_cats_r, pm_cats_n, pm_cats_l, pm_cats_d, sz_1, sz_2, sl_1, sl_2, lc_0, lc_lt, lc_le, li_ne, va_rf, wr_m1, we_m1, pm_kill_w, Int32.reduceOfInt, Int64.reduceOfInt, Int32.reduceOfNat, Int32.reduceLT, Int32.reduceLE, Prod.mk.injEq, Nat.reduceEqDiff, reduceCtorEq, and_true, true_and, and_false, false_and, and_self, ite_true, ite_false, ↓reduceIte, not_true_eq_false, not_false_eq_true, pe_ri, pe_rz, pe_rc, p_throw, t1042, w_junk hA, Cu_g0_0 hP hA, Cu_g1_1 hP hA, Cu_g1_2 hP hA, Cu_g1_3 hP hA, Cu_r13 hP hA, Cu_r2 hP hA, Cu_r3 hP hA, Cu_r4 hP hA, Cu_r5 hP hA, Cu_r6 hP hA, z1, eq_true k2, k3]
  · rw [if_neg k2] at e
    obtain ⟨v3, k4, e⟩ := Option.bind_eq_some_iff.mp e
    try dsimp only at e
    have z4 := fun h => x1026 (D := D) (h := h) (by omega) k4
    by_cases k5 : v3 = 0
    · rw [if_pos k5] at e
      have k6 := y1042_2 (h := h) hP hA hD e
      simp -implicitDefEqProofs (disch := first | assumption | exact Nat.le_of_ble_eq_true rfl | decide) only [b1042_0, g1042_1, b1042_1, g1042_3, b1042_3, g1042_4, b1042_4, g1042_5, b1042_5, g1042_6, b1042_6, pe_aload0, pe_getfield, pe_iload1, pe_iload2, pe_call3, pm_af_ret, pm_af_void, pm_af_thr, pe_if_eq, pe_iload3, pe_sipush, pe_goto, pe_goto_w, pe_call1, pe_if_ne, pe_aaload, pe_iaload, pe_icmp_ne, pe_baload, pm_prog_1, pm_ob_some, Nat.reduceDiv, Nat.reduceMod, Nat.reduceMul, Nat.reduceAdd, Int.reduceToNat, pm_kill_i, pm_kill_r, pm_kill_n, pm_kill_j, pm_kill_l, pm_kill_d, pm_cats_nil, pm_cats_i, pm_cats_r, pm_cats_n, pm_cats_l, pm_cats_d, sz_1, sz_2, sl_1, sl_2, lc_0, lc_lt, lc_le, li_ne, va_rf, wr_m1, we_m1, pm_kill_w, Int32.reduceOfInt, Int64.reduceOfInt, Int32.reduceOfNat, Int32.reduceLT, Int32.reduceLE, Prod.mk.injEq, Nat.reduceEqDiff, reduceCtorEq, and_true, true_and, and_false, false_and, and_self, ite_true, ite_false, ↓reduceIte, not_true_eq_false, not_false_eq_true, pe_ri, pe_rz, pe_rc, p_throw, t1042, w_junk hA, Cu_g0_0 hP hA, Cu_g1_1 hP hA, Cu_g1_2 hP hA, Cu_g1_3 hP hA, Cu_r13 hP hA, Cu_r2 hP hA, Cu_r3 hP hA, Cu_r4 hP hA, Cu_r5 hP hA, Cu_r6 hP hA, z1, eq_false k2, z4, eq_true k5, k6]
    · rw [if_neg k5] at e
      have k7 := y1042_2 (h := h) hP hA hD e
      simp -implicitDefEqProofs (disch := first | assumption | exact Nat.le_of_ble_eq_true rfl | decide) only [b1042_0, g1042_1, b1042_1, g1042_3, b1042_3, g1042_4, b1042_4, g1042_5, b1042_5, g1042_6, b1042_6, pe_aload0, pe_getfield, pe_iload1, pe_iload2, pe_call3, pm_af_ret, pm_af_void, pm_af_thr, pe_if_eq, pe_iload3, pe_sipush, pe_goto, pe_goto_w, pe_call1, pe_if_ne, pe_aaload, pe_iaload, pe_icmp_ne, pe_baload, pm_prog_1, pm_ob_some, Nat.reduceDiv, Nat.reduceMod, Nat.reduceMul, Nat.reduceAdd, Int.reduceToNat, pm_kill_i, pm_kill_r, pm_kill_n, pm_kill_j, pm_kill_l, pm_kill_d, pm_cats_nil, pm_cats_i, pm_cats_r, pm_cats_n, pm_cats_l, pm_cats_d, sz_1, sz_2, sl_1, sl_2, lc_0, lc_lt, lc_le, li_ne, va_rf, wr_m1, we_m1, pm_kill_w, Int32.reduceOfInt, Int64.reduceOfInt, Int32.reduceOfNat, Int32.reduceLT, Int32.reduceLE, Prod.mk.injEq, Nat.reduceEqDiff, reduceCtorEq, and_true, true_and, and_false, false_and, and_self, ite_true, ite_false, ↓reduceIte, not_true_eq_false, not_false_eq_true, pe_ri, pe_rz, pe_rc, p_throw, t1042, w_junk hA, Cu_g0_0 hP hA, Cu_g1_1 hP hA, Cu_g1_2 hP hA, Cu_g1_3 hP hA, Cu_r13 hP hA, Cu_r2 hP hA, Cu_r3 hP hA, Cu_r4 hP hA, Cu_r5 hP hA, Cu_r6 hP hA, z1, eq_false k2, z4, eq_false k5, k7]
/-- TimberHouse$RouterPaths.check(I)I -/
theorem c1043 {d : Nat} {h : pm_H} {a : Nat} {x0 : Int32} (hc : pm_cls h a = some 16) : pm_call pm_prog (d + 1) 1043 [.ref a, .int x0] h = pm_ev pm_prog (pm_call pm_prog d) 1043 0 b1043_0 [.ref a, .int x0, pm_junk, pm_junk, pm_junk, pm_junk, pm_junk] [] h := pm_cal (pm_rc1 hc rfl) rfl rfl rfl
theorem g1043_1 {cl : pm_C} {ls st : List Value} {h : pm_H} : pm_go pm_prog cl 1043 1 ls st h = pm_ev pm_prog cl 1043 1 b1043_1 ls st h := pm_go_eq pm_prog cl 1043 1 ls st h
theorem g1043_2 {cl : pm_C} {ls st : List Value} {h : pm_H} : pm_go pm_prog cl 1043 2 ls st h = pm_ev pm_prog cl 1043 2 b1043_2 ls st h := pm_go_eq pm_prog cl 1043 2 ls st h
theorem g1043_3 {cl : pm_C} {ls st : List Value} {h : pm_H} : pm_go pm_prog cl 1043 3 ls st h = pm_ev pm_prog cl 1043 3 b1043_3 ls st h := pm_go_eq pm_prog cl 1043 3 ls st h
theorem g1043_4 {cl : pm_C} {ls st : List Value} {h : pm_H} : pm_go pm_prog cl 1043 4 ls st h = pm_ev pm_prog cl 1043 4 b1043_4 ls st h := pm_go_eq pm_prog cl 1043 4 ls st h
theorem g1043_5 {cl : pm_C} {ls st : List Value} {h : pm_H} : pm_go pm_prog cl 1043 5 ls st h = pm_ev pm_prog cl 1043 5 b1043_5 ls st h := pm_go_eq pm_prog cl 1043 5 ls st h
theorem g1043_6 {cl : pm_C} {ls st : List Value} {h : pm_H} : pm_go pm_prog cl 1043 6 ls st h = pm_ev pm_prog cl 1043 6 b1043_6 ls st h := pm_go_eq pm_prog cl 1043 6 ls st h
theorem g1043_7 {cl : pm_C} {ls st : List Value} {h : pm_H} : pm_go pm_prog cl 1043 7 ls st h = pm_ev pm_prog cl 1043 7 b1043_7 ls st h := pm_go_eq pm_prog cl 1043 7 ls st h
theorem g1043_8 {cl : pm_C} {ls st : List Value} {h : pm_H} : pm_go pm_prog cl 1043 8 ls st h = pm_ev pm_prog cl 1043 8 b1043_8 ls st h := pm_go_eq pm_prog cl 1043 8 ls st h
theorem g1043_9 {cl : pm_C} {ls st : List Value} {h : pm_H} : pm_go pm_prog cl 1043 9 ls st h = pm_ev pm_prog cl 1043 9 b1043_9 ls st h := pm_go_eq pm_prog cl 1043 9 ls st h
theorem g1043_10 {cl : pm_C} {ls st : List Value} {h : pm_H} : pm_go pm_prog cl 1043 10 ls st h = pm_ev pm_prog cl 1043 10 b1043_10 ls st h := pm_go_eq pm_prog cl 1043 10 ls st h
theorem g1043_11 {cl : pm_C} {ls st : List Value} {h : pm_H} : pm_go pm_prog cl 1043 11 ls st h = pm_ev pm_prog cl 1043 11 b1043_11 ls st h := pm_go_eq pm_prog cl 1043 11 ls st h
theorem g1043_12 {cl : pm_C} {ls st : List Value} {h : pm_H} : pm_go pm_prog cl 1043 12 ls st h = pm_ev pm_prog cl 1043 12 b1043_12 ls st h := pm_go_eq pm_prog cl 1043 12 ls st h
theorem t1043 {cl : pm_C} {j : Nat} {ls : List Value} {c : Nat} {h : pm_H} : pm_thr pm_prog cl 1043 j ls c h = some (.threw c, h) := rfl
noncomputable def f1043_7_1 (side : Int32) (S : wS) (x1 : Int32) (x3 : Int32) (x4 : Int32) (x6 : Int32) (y0 : Int32) (y1 : Int32) : Option ((Int32 × Int32 × Int32 × Int32) ⊕ ((Int32 × Int32 × Int32))) :=
  if x6 = 0 then
    some (.inl (x1, (y0 + y1), x3, (x4 + (-1))))
  else
    some (.inl (x1, (y0 + y1), x4, (x4 + (-1))))
noncomputable def f1043_5_1 (side : Int32) (S : wS) (x1 : Int32) (x2 : Int32) (x3 : Int32) (x4 : Int32) (y0 : Int32) : Option ((Int32 × Int32 × Int32 × Int32) ⊕ ((Int32 × Int32 × Int32))) :=
  if y0 = 0 then
    f1043_7_1 side S x1 x3 x4 y0 x2 0
  else
    f1043_7_1 side S x1 x3 x4 y0 x2 1
noncomputable def f1043_b1 (side : Int32) (S : wS) : Int32 × Int32 × Int32 × Int32 → Option ((Int32 × Int32 × Int32 × Int32) ⊕ ((Int32 × Int32 × Int32))) := fun (x1, x2, x3, x4) =>
  if x4 < 0 then
    some (.inr (x1, x2, x3))
  else
    if ¬ (S.1 (1, 0, 0) 0) = 0 then
      if 0 ≤ (x4 / (S.1 (1, 0, 0) 0)) ∧ (x4 / (S.1 (1, 0, 0) 0)) < side then
        if 0 ≤ (x4 - x4 / (S.1 (1, 0, 0) 0) * (S.1 (1, 0, 0) 0)) ∧ (x4 - x4 / (S.1 (1, 0, 0) 0) * (S.1 (1, 0, 0) 0)) < side then
          if (x1 &&& 1) = 0 then
            if ((S.1 (3, (x4 / (S.1 (1, 0, 0) 0)), 0) (x4 - x4 / (S.1 (1, 0, 0) 0) * (S.1 (1, 0, 0) 0))) - (S.1 (5, (x4 / (S.1 (1, 0, 0) 0)), 0) (x4 - x4 / (S.1 (1, 0, 0) 0) * (S.1 (1, 0, 0) 0)))) ≤ 0 then
              f1043_5_1 side S x1 x2 x3 x4 0
            else
              f1043_5_1 side S x1 x2 x3 x4 1
          else
            if ((S.1 (3, (x4 / (S.1 (1, 0, 0) 0)), 0) (x4 - x4 / (S.1 (1, 0, 0) 0) * (S.1 (1, 0, 0) 0))) - (S.1 (5, (x4 / (S.1 (1, 0, 0) 0)), 0) (x4 - x4 / (S.1 (1, 0, 0) 0) * (S.1 (1, 0, 0) 0)))) < 0 then
              f1043_5_1 side S x1 x2 x3 x4 1
            else
              f1043_5_1 side S x1 x2 x3 x4 0
        else none
      else none
    else none
/-- TimberHouse$RouterPaths.check(I)I -/
noncomputable def f1043 (side : Int32) (S : wS) (x1 : Int32) : Option (Nat ⊕ (Int32)) :=
  (f1026 x1 0 3).bind fun v1 =>
  (f1028 v1).bind fun r => match r with
  | .inl c5 =>
    some (.inl c5)
  | .inr _ =>
  (lp (f1043_b1 side S) FU (x1, 0, (-1), (((S.1 (1, 0, 0) 0) * (S.1 (1, 0, 0) 0)) - 1))).bind fun (v2, v3, v4) =>
  if v2 < 2 then
    some (.inr v3)
  else
    some (.inr v4)
def go1043_1 (side : Int32) (A : wK → Nat) (h : pm_H) (D : Nat) (R : Outcome × pm_H) (S : wS) : Int32 × Int32 × Int32 × Int32 → Prop := fun (x1, x2, x3, x4) => ∀ q5 q6 : Value, pm_go pm_prog (pm_call pm_prog D) 1043 1 [.ref (A (0, 0, 0)), .int x1, .int x2, .int x3, .int x4, q5, q6] [] (wput A (Cu_d side) S h) = some R
def ex1043_1 (side : Int32) (A : wK → Nat) (h : pm_H) (D : Nat) (R : Outcome × pm_H) (S : wS) : (Int32 × Int32 × Int32) → Prop := fun (x1, x2, x3) => ∀ q0 q4 q5 q6 : Value, pm_go pm_prog (pm_call pm_prog D) 1043 10 [q0, .int x1, .int x2, .int x3, q4, q5, q6] [] (wput A (Cu_d side) S h) = some R
theorem y1043_7_1 {side : Int32} {A : wK → Nat} {h : pm_H} {D : Nat} {R : Outcome × pm_H} {S : wS} {x1 : Int32} {x3 : Int32} {x4 : Int32} {x6 : Int32} {y0 : Int32} {y1 : Int32} {r : (Int32 × Int32 × Int32 × Int32) ⊕ ((Int32 × Int32 × Int32))} (hP : Cu_P side) (hA : wok A (Cu_d side) h.1) (hD : 1 ≤ D) (e : f1043_7_1 side S x1 x3 x4 x6 y0 y1 = some r) (hc : Sum.elim (go1043_1 side A h D R S) (ex1043_1 side A h D R S) r) : ∀ q2 q5 : Value, pm_go pm_prog (pm_call pm_prog D) 1043 7 [.ref (A (0, 0, 0)), .int x1, q2, .int x3, .int x4, q5, .int x6] [.int y1, .int y0] (wput A (Cu_d side) S h) = some R := by
  intro q2 q5
  simp only [f1043_7_1] at e
  rw [g1043_7, b1043_7]
  by_cases k1 : x6 = 0
  · rw [if_pos k1] at e
    have e := Option.some.inj e; subst e
    dsimp only [Sum.elim_inl, go1043_1] at hc
    simp -implicitDefEqProofs (disch := first | assumption | exact Nat.le_of_ble_eq_true rfl | decide) only [b1043_0, g1043_2, b1043_2, g1043_3, b1043_3, g1043_4, b1043_4, g1043_6, b1043_6, g1043_8, b1043_8, g1043_9, b1043_9, g1043_10, b1043_10, g1043_11, b1043_11, g1043_12, b1043_12, pe_iload1, pe_sipush, pe_call3, pm_af_ret, pm_af_void, pm_af_thr, pe_call1, pe_istore2, pe_istore3, pe_aload0, pe_getfield, pe_imul, pe_isub, pe_istore4, pe_goto_w, pe_iload4, pe_if_lt, pe_idiv, pe_aaload, pe_irem, pe_iaload, pe_istore5, pe_iand, pe_if_ne, pe_iload5, pe_if_le, pe_goto, pe_if_ge, pe_istore6, pe_iload2, pe_iload6, pe_if_eq, pe_iadd, pe_iload3, pe_iinc4, pe_icmp_ge, pm_prog_1, pm_ob_some, Nat.reduceDiv, Nat.reduceMod, Nat.reduceMul, Nat.reduceAdd, Int.reduceToNat, pm_kill_i, pm_kill_r, pm_kill_n, pm_kill_j, pm_kill_l, pm_kill_d, pm_cats_nil, pm_cats_i, pm_cats_r, pm_cats_n, pm_cats_l, pm_cats_d, sz_1, sz_2, sl_1, sl_2, lc_0, lc_lt, lc_le, li_ne, va_rf, wr_m1, we_m1, pm_kill_w, Int32.reduceOfInt, Int64.reduceOfInt, Int32.reduceOfNat, Int32.reduceLT, Int32.reduceLE, Prod.mk.injEq, Nat.reduceEqDiff, reduceCtorEq, and_true, true_and, and_false, false_and, and_self, ite_true, ite_false, ↓reduceIte, not_true_eq_false, not_false_eq_true, pe_ri, pe_rz, pe_rc, p_throw, t1043, w_junk hA, Cu_g0_0 hP hA, Cu_g1_0 hP hA, Cu_g1_1 hP hA, Cu_g1_2 hP hA, Cu_r2 hP hA, Cu_r3 hP hA, Cu_r4 hP hA, Cu_r5 hP hA, eq_true k1, hc]
  · rw [if_neg k1] at e
    have e := Option.some.inj e; subst e
    dsimp only [Sum.elim_inl, go1043_1] at hc
    simp -implicitDefEqProofs (disch := first | assumption | exact Nat.le_of_ble_eq_true rfl | decide) only [b1043_0, g1043_2, b1043_2, g1043_3, b1043_3, g1043_4, b1043_4, g1043_6, b1043_6, g1043_8, b1043_8, g1043_9, b1043_9, g1043_10, b1043_10, g1043_11, b1043_11, g1043_12, b1043_12, pe_iload1, pe_sipush, pe_call3, pm_af_ret, pm_af_void, pm_af_thr, pe_call1, pe_istore2, pe_istore3, pe_aload0, pe_getfield, pe_imul, pe_isub, pe_istore4, pe_goto_w, pe_iload4, pe_if_lt, pe_idiv, pe_aaload, pe_irem, pe_iaload, pe_istore5, pe_iand, pe_if_ne, pe_iload5, pe_if_le, pe_goto, pe_if_ge, pe_istore6, pe_iload2, pe_iload6, pe_if_eq, pe_iadd, pe_iload3, pe_iinc4, pe_icmp_ge, pm_prog_1, pm_ob_some, Nat.reduceDiv, Nat.reduceMod, Nat.reduceMul, Nat.reduceAdd, Int.reduceToNat, pm_kill_i, pm_kill_r, pm_kill_n, pm_kill_j, pm_kill_l, pm_kill_d, pm_cats_nil, pm_cats_i, pm_cats_r, pm_cats_n, pm_cats_l, pm_cats_d, sz_1, sz_2, sl_1, sl_2, lc_0, lc_lt, lc_le, li_ne, va_rf, wr_m1, we_m1, pm_kill_w, Int32.reduceOfInt, Int64.reduceOfInt, Int32.reduceOfNat, Int32.reduceLT, Int32.reduceLE, Prod.mk.injEq, Nat.reduceEqDiff, reduceCtorEq, and_true, true_and, and_false, false_and, and_self, ite_true, ite_false, ↓reduceIte, not_true_eq_false, not_false_eq_true, pe_ri, pe_rz, pe_rc, p_throw, t1043, w_junk hA, Cu_g0_0 hP hA, Cu_g1_0 hP hA, Cu_g1_1 hP hA, Cu_g1_2 hP hA, Cu_r2 hP hA, Cu_r3 hP hA, Cu_r4 hP hA, Cu_r5 hP hA, eq_false k1, hc]
theorem y1043_5_1 {side : Int32} {A : wK → Nat} {h : pm_H} {D : Nat} {R : Outcome × pm_H} {S : wS} {x1 : Int32} {x2 : Int32} {x3 : Int32} {x4 : Int32} {y0 : Int32} {r : (Int32 × Int32 × Int32 × Int32) ⊕ ((Int32 × Int32 × Int32))} (hP : Cu_P side) (hA : wok A (Cu_d side) h.1) (hD : 1 ≤ D) (e : f1043_5_1 side S x1 x2 x3 x4 y0 = some r) (hc : Sum.elim (go1043_1 side A h D R S) (ex1043_1 side A h D R S) r) : ∀ q5 q6 : Value, pm_go pm_prog (pm_call pm_prog D) 1043 5 [.ref (A (0, 0, 0)), .int x1, .int x2, .int x3, .int x4, q5, q6] [.int y0] (wput A (Cu_d side) S h) = some R := by
  intro q5 q6
  simp only [f1043_5_1] at e
  rw [g1043_5, b1043_5]
  by_cases k1 : y0 = 0
  · rw [if_pos k1] at e
    have k2 := y1043_7_1 (h := h) hP hA hD e hc
    simp -implicitDefEqProofs (disch := first | assumption | exact Nat.le_of_ble_eq_true rfl | decide) only [b1043_0, g1043_2, b1043_2, g1043_3, b1043_3, g1043_4, b1043_4, g1043_6, b1043_6, g1043_8, b1043_8, g1043_9, b1043_9, g1043_10, b1043_10, g1043_11, b1043_11, g1043_12, b1043_12, pe_iload1, pe_sipush, pe_call3, pm_af_ret, pm_af_void, pm_af_thr, pe_call1, pe_istore2, pe_istore3, pe_aload0, pe_getfield, pe_imul, pe_isub, pe_istore4, pe_goto_w, pe_iload4, pe_if_lt, pe_idiv, pe_aaload, pe_irem, pe_iaload, pe_istore5, pe_iand, pe_if_ne, pe_iload5, pe_if_le, pe_goto, pe_if_ge, pe_istore6, pe_iload2, pe_iload6, pe_if_eq, pe_iadd, pe_iload3, pe_iinc4, pe_icmp_ge, pm_prog_1, pm_ob_some, Nat.reduceDiv, Nat.reduceMod, Nat.reduceMul, Nat.reduceAdd, Int.reduceToNat, pm_kill_i, pm_kill_r, pm_kill_n, pm_kill_j, pm_kill_l, pm_kill_d, pm_cats_nil, pm_cats_i, pm_cats_r, pm_cats_n, pm_cats_l, pm_cats_d, sz_1, sz_2, sl_1, sl_2, lc_0, lc_lt, lc_le, li_ne, va_rf, wr_m1, we_m1, pm_kill_w, Int32.reduceOfInt, Int64.reduceOfInt, Int32.reduceOfNat, Int32.reduceLT, Int32.reduceLE, Prod.mk.injEq, Nat.reduceEqDiff, reduceCtorEq, and_true, true_and, and_false, false_and, and_self, ite_true, ite_false, ↓reduceIte, not_true_eq_false, not_false_eq_true, pe_ri, pe_rz, pe_rc, p_throw, t1043, w_junk hA, Cu_g0_0 hP hA, Cu_g1_0 hP hA, Cu_g1_1 hP hA, Cu_g1_2 hP hA, Cu_r2 hP hA, Cu_r3 hP hA, Cu_r4 hP hA, Cu_r5 hP hA, eq_true k1, k2]
  · rw [if_neg k1] at e
    have k3 := y1043_7_1 (h := h) hP hA hD e hc
    simp -implicitDefEqProofs (disch := first | assumption | exact Nat.le_of_ble_eq_true rfl | decide) only [b1043_0, g1043_2, b1043_2, g1043_3, b1043_3, g1043_4, b1043_4, g1043_6, b1043_6, g1043_8, b1043_8, g1043_9, b1043_9, g1043_10, b1043_10, g1043_11, b1043_11, g1043_12, b1043_12, pe_iload1, pe_sipush, pe_call3, pm_af_ret, pm_af_void, pm_af_thr, pe_call1, pe_istore2, pe_istore3, pe_aload0, pe_getfield, pe_imul, pe_isub, pe_istore4, pe_goto_w, pe_iload4, pe_if_lt, pe_idiv, pe_aaload, pe_irem, pe_iaload, pe_istore5, pe_iand, pe_if_ne, pe_iload5, pe_if_le, pe_goto, pe_if_ge, pe_istore6, pe_iload2, pe_iload6, pe_if_eq, pe_iadd, pe_iload3, pe_iinc4, pe_icmp_ge, pm_prog_1, pm_ob_some, Nat.reduceDiv, Nat.reduceMod, Nat.reduceMul, Nat.reduceAdd, Int.reduceToNat, pm_kill_i, pm_kill_r, pm_kill_n, pm_kill_j, pm_kill_l, pm_kill_d, pm_cats_nil, pm_cats_i, pm_cats_r, pm_cats_n, pm_cats_l, pm_cats_d, sz_1, sz_2, sl_1, sl_2, lc_0, lc_lt, lc_le, li_ne, va_rf, wr_m1, we_m1, pm_kill_w, Int32.reduceOfInt, Int64.reduceOfInt, Int32.reduceOfNat, Int32.reduceLT, Int32.reduceLE, Prod.mk.injEq, Nat.reduceEqDiff, reduceCtorEq, and_true, true_and, and_false, false_and, and_self, ite_true, ite_false, ↓reduceIte, not_true_eq_false, not_false_eq_true, pe_ri, pe_rz, pe_rc, p_throw, t1043, w_junk hA, Cu_g0_0 hP hA, Cu_g1_0 hP hA, Cu_g1_1 hP hA, Cu_g1_2 hP hA, Cu_r2 hP hA, Cu_r3 hP hA, Cu_r4 hP hA, Cu_r5 hP hA, eq_false k1, k3]
theorem y1043_b1 {side : Int32} {A : wK → Nat} {h : pm_H} {D : Nat} {R : Outcome × pm_H} {S : wS} (hP : Cu_P side) (hA : wok A (Cu_d side) h.1) (hD : 1 ≤ D) (a : Int32 × Int32 × Int32 × Int32) (r : (Int32 × Int32 × Int32 × Int32) ⊕ ((Int32 × Int32 × Int32))) (e : f1043_b1 side S a = some r) (hc : Sum.elim (go1043_1 side A h D R S) (ex1043_1 side A h D R S) r) : go1043_1 side A h D R S a := by
  obtain ⟨x1, x2, x3, x4⟩ := a
  dsimp only [go1043_1]
  intro q5 q6
  simp only [f1043_b1] at e
  rw [g1043_1, b1043_1]
  by_cases k1 : x4 < 0
  · rw [if_pos k1] at e
    have e := Option.some.inj e; subst e
    dsimp only [Sum.elim_inr, ex1043_1] at hc
    simp -implicitDefEqProofs (disch := first | assumption | exact Nat.le_of_ble_eq_true rfl | decide) only [b1043_0, g1043_2, b1043_2, g1043_3, b1043_3, g1043_4, b1043_4, g1043_6, b1043_6, g1043_8, b1043_8, g1043_9, b1043_9, g1043_10, b1043_10, g1043_11, b1043_11, g1043_12, b1043_12, pe_iload1, pe_sipush, pe_call3, pm_af_ret, pm_af_void, pm_af_thr, pe_call1, pe_istore2, pe_istore3, pe_aload0, pe_getfield, pe_imul, pe_isub, pe_istore4, pe_goto_w, pe_iload4, pe_if_lt, pe_idiv, pe_aaload, pe_irem, pe_iaload, pe_istore5, pe_iand, pe_if_ne, pe_iload5, pe_if_le, pe_goto, pe_if_ge, pe_istore6, pe_iload2, pe_iload6, pe_if_eq, pe_iadd, pe_iload3, pe_iinc4, pe_icmp_ge, pm_prog_1, pm_ob_some, Nat.reduceDiv, Nat.reduceMod, Nat.reduceMul, Nat.reduceAdd, Int.reduceToNat, pm_kill_i, pm_kill_r, pm_kill_n, pm_kill_j, pm_kill_l, pm_kill_d, pm_cats_nil, pm_cats_i, pm_cats_r, pm_cats_n, pm_cats_l, pm_cats_d, sz_1, sz_2, sl_1, sl_2, lc_0, lc_lt, lc_le, li_ne, va_rf, wr_m1, we_m1, pm_kill_w, Int32.reduceOfInt, Int64.reduceOfInt, Int32.reduceOfNat, Int32.reduceLT, Int32.reduceLE, Prod.mk.injEq, Nat.reduceEqDiff, reduceCtorEq, and_true, true_and, and_false, false_and, and_self, ite_true, ite_false, ↓reduceIte, not_true_eq_false, not_false_eq_true, pe_ri, pe_rz, pe_rc, p_throw, t1043, w_junk hA, Cu_g0_0 hP hA, Cu_g1_0 hP hA, Cu_g1_1 hP hA, Cu_g1_2 hP hA, Cu_r2 hP hA, Cu_r3 hP hA, Cu_r4 hP hA, Cu_r5 hP hA, eq_true k1, hc]
  · rw [if_neg k1] at e
    by_cases k2 : ¬ (S.1 (1, 0, 0) 0) = 0
    · rw [if_pos k2] at e
      by_cases k3 : 0 ≤ (x4 / (S.1 (1, 0, 0) 0)) ∧ (x4 / (S.1 (1, 0, 0) 0)) < side
      · rw [if_pos k3] at e
        by_cases k4 : 0 ≤ (x4 - x4 / (S.1 (1, 0, 0) 0) * (S.1 (1, 0, 0) 0)) ∧ (x4 - x4 / (S.1 (1, 0, 0) 0) * (S.1 (1, 0, 0) 0)) < side
        · rw [if_pos k4] at e
          by_cases k5 : (x1 &&& 1) = 0
          · rw [if_pos k5] at e
            by_cases k6 : ((S.1 (3, (x4 / (S.1 (1, 0, 0) 0)), 0) (x4 - x4 / (S.1 (1, 0, 0) 0) * (S.1 (1, 0, 0) 0))) - (S.1 (5, (x4 / (S.1 (1, 0, 0) 0)), 0) (x4 - x4 / (S.1 (1, 0, 0) 0) * (S.1 (1, 0, 0) 0)))) ≤ 0
            · rw [if_pos k6] at e
              have k7 := y1043_5_1 (h := h) hP hA hD e hc
              simp -implicitDefEqProofs (disch := first | assumption | exact Nat.le_of_ble_eq_true rfl | decide) only [b1043_0, g1043_2, b1043_2, g1043_3, b1043_3, g1043_4, b1043_4, g1043_6, b1043_6, g1043_8, b1043_8, g1043_9, b1043_9, g1043_10, b1043_10, g1043_11, b1043_11, g1043_12, b1043_12, pe_iload1, pe_sipush, pe_call3, pm_af_ret, pm_af_void, pm_af_thr, pe_call1, pe_istore2, pe_istore3, pe_aload0, pe_getfield, pe_imul, pe_isub, pe_istore4, pe_goto_w, pe_iload4, pe_if_lt, pe_idiv, pe_aaload, pe_irem, pe_iaload, pe_istore5, pe_iand, pe_if_ne, pe_iload5, pe_if_le, pe_goto, pe_if_ge, pe_istore6, pe_iload2, pe_iload6, pe_if_eq, pe_iadd, pe_iload3, pe_iinc4, pe_icmp_ge, pm_prog_1, pm_ob_some, Nat.reduceDiv, Nat.reduceMod, Nat.reduceMul, Nat.reduceAdd, Int.reduceToNat, pm_kill_i, pm_kill_r, pm_kill_n, pm_kill_j, pm_kill_l, pm_kill_d, pm_cats_nil, pm_cats_i, pm_cats_r, pm_cats_n, pm_cats_l, pm_cats_d, sz_1, sz_2, sl_1, sl_2, lc_0, lc_lt, lc_le, li_ne, va_rf, wr_m1, we_m1, pm_kill_w, Int32.reduceOfInt, Int64.reduceOfInt, Int32.reduceOfNat, Int32.reduceLT, Int32.reduceLE, Prod.mk.injEq, Nat.reduceEqDiff, reduceCtorEq, and_true, true_and, and_false, false_and, and_self, ite_true, ite_false, ↓reduceIte, not_true_eq_false, not_false_eq_true, pe_ri, pe_rz, pe_rc, p_throw, t1043, w_junk hA, Cu_g0_0 hP hA, Cu_g1_0 hP hA, Cu_g1_1 hP hA, Cu_g1_2 hP hA, Cu_r2 hP hA, Cu_r3 hP hA, Cu_r4 hP hA, Cu_r5 hP hA, eq_false k1, eq_true k5, eq_true k6, k7]
            · rw [if_neg k6] at e
              have k8 := y1043_5_1 (h := h) hP hA hD e hc
              simp -implicitDefEqProofs (disch := first | assumption | exact Nat.le_of_ble_eq_true rfl | decide) only [b1043_0, g1043_2, b1043_2, g1043_3, b1043_3, g1043_4, b1043_4, g1043_6, b1043_6, g1043_8, b1043_8, g1043_9, b1043_9, g1043_10, b1043_10, g1043_11, b1043_11, g1043_12, b1043_12, pe_iload1, pe_sipush, pe_call3, pm_af_ret, pm_af_void, pm_af_thr, pe_call1, pe_istore2, pe_istore3, pe_aload0, pe_getfield, pe_imul, pe_isub, pe_istore4, pe_goto_w, pe_iload4, pe_if_lt, pe_idiv, pe_aaload, pe_irem, pe_iaload, pe_istore5, pe_iand, pe_if_ne, pe_iload5, pe_if_le, pe_goto, pe_if_ge, pe_istore6, pe_iload2, pe_iload6, pe_if_eq, pe_iadd, pe_iload3, pe_iinc4, pe_icmp_ge, pm_prog_1, pm_ob_some, Nat.reduceDiv, Nat.reduceMod, Nat.reduceMul, Nat.reduceAdd, Int.reduceToNat, pm_kill_i, pm_kill_r, pm_kill_n, pm_kill_j, pm_kill_l, pm_kill_d, pm_cats_nil, pm_cats_i, pm_cats_r, pm_cats_n, pm_cats_l, pm_cats_d, sz_1, sz_2, sl_1, sl_2, lc_0, lc_lt, lc_le, li_ne, va_rf, wr_m1, we_m1, pm_kill_w, Int32.reduceOfInt, Int64.reduceOfInt, Int32.reduceOfNat, Int32.reduceLT, Int32.reduceLE, Prod.mk.injEq, Nat.reduceEqDiff, reduceCtorEq, and_true, true_and, and_false, false_and, and_self, ite_true, ite_false, ↓reduceIte, not_true_eq_false, not_false_eq_true, pe_ri, pe_rz, pe_rc, p_throw, t1043, w_junk hA, Cu_g0_0 hP hA, Cu_g1_0 hP hA, Cu_g1_1 hP hA, Cu_g1_2 hP hA, Cu_r2 hP hA, Cu_r3 hP hA, Cu_r4 hP hA, Cu_r5 hP hA, eq_false k1, eq_true k5, eq_false k6, k8]
          · rw [if_neg k5] at e
            by_cases k9 : ((S.1 (3, (x4 / (S.1 (1, 0, 0) 0)), 0) (x4 - x4 / (S.1 (1, 0, 0) 0) * (S.1 (1, 0, 0) 0))) - (S.1 (5, (x4 / (S.1 (1, 0, 0) 0)), 0) (x4 - x4 / (S.1 (1, 0, 0) 0) * (S.1 (1, 0, 0) 0)))) < 0
            · rw [if_pos k9] at e
              have k10 := y1043_5_1 (h := h) hP hA hD e hc
              simp -implicitDefEqProofs (disch := first | assumption | exact Nat.le_of_ble_eq_true rfl | decide) only [b1043_0, g1043_2, b1043_2, g1043_3, b1043_3, g1043_4, b1043_4, g1043_6, b1043_6, g1043_8, b1043_8, g1043_9, b1043_9, g1043_10, b1043_10, g1043_11, b1043_11, g1043_12, b1043_12, pe_iload1, pe_sipush, pe_call3, pm_af_ret, pm_af_void, pm_af_thr, pe_call1, pe_istore2, pe_istore3, pe_aload0, pe_getfield, pe_imul, pe_isub, pe_istore4, pe_goto_w, pe_iload4, pe_if_lt, pe_idiv, pe_aaload, pe_irem, pe_iaload, pe_istore5, pe_iand, pe_if_ne, pe_iload5, pe_if_le, pe_goto, pe_if_ge, pe_istore6, pe_iload2, pe_iload6, pe_if_eq, pe_iadd, pe_iload3, pe_iinc4, pe_icmp_ge, pm_prog_1, pm_ob_some, Nat.reduceDiv, Nat.reduceMod, Nat.reduceMul, Nat.reduceAdd, Int.reduceToNat, pm_kill_i, pm_kill_r, pm_kill_n, pm_kill_j, pm_kill_l, pm_kill_d, pm_cats_nil, pm_cats_i, pm_cats_r, pm_cats_n, pm_cats_l, pm_cats_d, sz_1, sz_2, sl_1, sl_2, lc_0, lc_lt, lc_le, li_ne, va_rf, wr_m1, we_m1, pm_kill_w, Int32.reduceOfInt, Int64.reduceOfInt, Int32.reduceOfNat, Int32.reduceLT, Int32.reduceLE, Prod.mk.injEq, Nat.reduceEqDiff, reduceCtorEq, and_true, true_and, and_false, false_and, and_self, ite_true, ite_false, ↓reduceIte, not_true_eq_false, not_false_eq_true, pe_ri, pe_rz, pe_rc, p_throw, t1043, w_junk hA, Cu_g0_0 hP hA, Cu_g1_0 hP hA, Cu_g1_1 hP hA, Cu_g1_2 hP hA, Cu_r2 hP hA, Cu_r3 hP hA, Cu_r4 hP hA, Cu_r5 hP hA, eq_false k1, eq_false k5, eq_true k9, k10]
            · rw [if_neg k9] at e
              have k11 := y1043_5_1 (h := h) hP hA hD e hc
              simp -implicitDefEqProofs (disch := first | assumption | exact Nat.le_of_ble_eq_true rfl | decide) only [b1043_0, g1043_2, b1043_2, g1043_3, b1043_3, g1043_4, b1043_4, g1043_6, b1043_6, g1043_8, b1043_8, g1043_9, b1043_9, g1043_10, b1043_10, g1043_11, b1043_11, g1043_12, b1043_12, pe_iload1, pe_sipush, pe_call3, pm_af_ret, pm_af_void, pm_af_thr, pe_call1, pe_istore2, pe_istore3, pe_aload0, pe_getfield, pe_imul, pe_isub, pe_istore4, pe_goto_w, pe_iload4, pe_if_lt, pe_idiv, pe_aaload, pe_irem, pe_iaload, pe_istore5, pe_iand, pe_if_ne, pe_iload5, pe_if_le, pe_goto, pe_if_ge, pe_istore6, pe_iload2, pe_iload6, pe_if_eq, pe_iadd, pe_iload3, pe_iinc4, pe_icmp_ge, pm_prog_1, pm_ob_some, Nat.reduceDiv, Nat.reduceMod, Nat.reduceMul, Nat.reduceAdd, Int.reduceToNat, pm_kill_i, pm_kill_r, pm_kill_n, pm_kill_j, pm_kill_l, pm_kill_d, pm_cats_nil, pm_cats_i, pm_cats_r, pm_cats_n, pm_cats_l, pm_cats_d, sz_1, sz_2, sl_1, sl_2, lc_0, lc_lt, lc_le, li_ne, va_rf, wr_m1, we_m1, pm_kill_w, Int32.reduceOfInt, Int64.reduceOfInt, Int32.reduceOfNat, Int32.reduceLT, Int32.reduceLE, Prod.mk.injEq, Nat.reduceEqDiff, reduceCtorEq, and_true, true_and, and_false, false_and, and_self, ite_true, ite_false, ↓reduceIte, not_true_eq_false, not_false_eq_true, pe_ri, pe_rz, pe_rc, p_throw, t1043, w_junk hA, Cu_g0_0 hP hA, Cu_g1_0 hP hA, Cu_g1_1 hP hA, Cu_g1_2 hP hA, Cu_r2 hP hA, Cu_r3 hP hA, Cu_r4 hP hA, Cu_r5 hP hA, eq_false k1, eq_false k5, eq_false k9, k11]
        · rw [if_neg k4] at e; cases e
      · rw [if_neg k3] at e; cases e
    · rw [if_neg k2] at e; cases e
theorem z1043_1 {side : Int32} {A : wK → Nat} {h : pm_H} {D : Nat} {R : Outcome × pm_H} {S : wS} (hP : Cu_P side) (hA : wok A (Cu_d side) h.1) (hD : 1 ≤ D) {n : Nat} {a : Int32 × Int32 × Int32 × Int32} {b : (Int32 × Int32 × Int32)} (e : lp (f1043_b1 side S) n a = some b) (hx : ex1043_1 side A h D R S b) : go1043_1 side A h D R S a := lp_run (fun a r => y1043_b1 hP hA hD a r) n a b e hx
theorem x1043 {side : Int32} {A : wK → Nat} {h : pm_H} {D : Nat} {S : wS} {x1 : Int32} {r : Nat ⊕ (Int32)} (hP : Cu_P side) (hA : wok A (Cu_d side) h.1) (hD : 2 ≤ D) (e : f1043 side S x1 = some r) : pm_call pm_prog D 1043 [.ref (A (0, 0, 0)), .int x1] (wput A (Cu_d side) S h) = some (match (generalizing := false) r with | .inl c => (Outcome.threw c, (wput A (Cu_d side) S (pm_new h 6 (.inr (c, []))))) | .inr w0 => (Outcome.returned (some (.int w0)), (wput A (Cu_d side) S h))) := by
  obtain ⟨D, rfl⟩ : ∃ D', D = D' + 1 := ⟨D - 1, by omega⟩
  have hD : 1 ≤ D := by omega
  simp only [f1043] at e
  rw [c1043 (Cu_c0 hP hA), b1043_0]
  obtain ⟨v1, k1, e⟩ := Option.bind_eq_some_iff.mp e
  try dsimp only at e
  have z1 := fun h => x1026 (D := D) (h := h) (by omega) k1
  obtain ⟨r, k2, e⟩ := Option.bind_eq_some_iff.mp e
  have z2 := fun h => x1028 (D := D) (h := h) (by omega) k2
  rcases r with c5 | _
  · dsimp only at e z2
    have e := Option.some.inj e; subst e
    simp -implicitDefEqProofs (disch := first | assumption | exact Nat.le_of_ble_eq_true rfl | decide) only [b1043_0, g1043_2, b1043_2, g1043_3, b1043_3, g1043_4, b1043_4, g1043_6, b1043_6, g1043_8, b1043_8, g1043_9, b1043_9, g1043_10, b1043_10, g1043_11, b1043_11, g1043_12, b1043_12, pe_iload1, pe_sipush, pe_call3, pm_af_ret, pm_af_void, pm_af_thr, pe_call1, pe_istore2, pe_istore3, pe_aload0, pe_getfield, pe_imul, pe_isub, pe_istore4, pe_goto_w, pe_iload4, pe_if_lt, pe_idiv, pe_aaload, pe_irem, pe_iaload, pe_istore5, pe_iand, pe_if_ne, pe_iload5, pe_if_le, pe_goto, pe_if_ge, pe_istore6, pe_iload2, pe_iload6, pe_if_eq, pe_iadd, pe_iload3, pe_iinc4, pe_icmp_ge, pm_prog_1, pm_ob_some, Nat.reduceDiv, Nat.reduceMod, Nat.reduceMul, Nat.reduceAdd, Int.reduceToNat, pm_kill_i, pm_kill_r, pm_kill_n, pm_kill_j, pm_kill_l, pm_kill_d, pm_cats_nil, pm_cats_i, pm_cats_r, pm_cats_n, pm_cats_l, pm_cats_d, sz_1, sz_2, sl_1, sl_2, lc_0, lc_lt, lc_le, li_ne, va_rf, wr_m1, we_m1, pm_kill_w, Int32.reduceOfInt, Int64.reduceOfInt, Int32.reduceOfNat, Int32.reduceLT, Int32.reduceLE, Prod.mk.injEq, Nat.reduceEqDiff, reduceCtorEq, and_true, true_and, and_false, false_and, and_self, ite_true, ite_false, ↓reduceIte, not_true_eq_false, not_false_eq_true, pe_ri, pe_rz, pe_rc, p_throw, t1043, w_junk hA, Cu_g0_0 hP hA, Cu_g1_0 hP hA, Cu_g1_1 hP hA, Cu_g1_2 hP hA, Cu_r2 hP hA, Cu_r3 hP hA, Cu_r4 hP hA, Cu_r5 hP hA, z1, z2]
  · dsimp only at e z2
    obtain ⟨⟨v2, v3, v4⟩, k3, e⟩ := Option.bind_eq_some_iff.mp e
    try dsimp only at e
    try simp -implicitDefEqProofs (disch := first | assumption | exact Nat.le_of_ble_eq_true rfl | decide) only [b1043_0, g1043_2, b1043_2, g1043_3, b1043_3, g1043_4, b1043_4, g1043_6, b1043_6, g1043_8, b1043_8, g1043_9, b1043_9, g1043_10, b1043_10, g1043_11, b1043_11, g1043_12, b1043_12, pe_iload1, pe_sipush, pe_call3, pm_af_ret, pm_af_void, pm_af_thr, pe_call1, pe_istore2, pe_istore3, pe_aload0, pe_getfield, pe_imul, pe_isub, pe_istore4, pe_goto_w, pe_iload4, pe_if_lt, pe_idiv, pe_aaload, pe_irem, pe_iaload, pe_istore5, pe_iand, pe_if_ne, pe_iload5, pe_if_le, pe_goto, pe_if_ge, pe_istore6, pe_iload2, pe_iload6, pe_if_eq, pe_iadd, pe_iload3, pe_iinc4, pe_icmp_ge, pm_prog_1, pm_ob_some, Nat.reduceDiv, Nat.reduceMod, Nat.reduceMul, Nat.reduceAdd, Int.reduceToNat, pm_kill_i, pm_kill_r, pm_kill_n, pm_kill_j, pm_kill_l, pm_kill_d, pm_cats_nil, pm_cats_i, pm_cats_r, pm_cats_n, pm_cats_l, pm_cats_d, sz_1, sz_2, sl_1, sl_2, lc_0, lc_lt, lc_le, li_ne, va_rf, wr_m1, we_m1, pm_kill_w, Int32.reduceOfInt, Int64.reduceOfInt, Int32.reduceOfNat, Int32.reduceLT, Int32.reduceLE, Prod.mk.injEq, Nat.reduceEqDiff, reduceCtorEq, and_true, true_and, and_false, false_and, and_self, ite_true, ite_false, ↓reduceIte, not_true_eq_false, not_false_eq_true, pe_ri, pe_rz, pe_rc, p_throw, t1043, w_junk hA, Cu_g0_0 hP hA, Cu_g1_0 hP hA, Cu_g1_1 hP hA, Cu_g1_2 hP hA, Cu_r2 hP hA, Cu_r3 hP hA, Cu_r4 hP hA, Cu_r5 hP hA, z1, z2]
    refine z1043_1 hP hA hD k3 ?_ _ _
    dsimp only [ex1043_1]
    intro q0 q4 q5 q6
    by_cases k4 : v2 < 2
    · rw [if_pos k4] at e
      have e := Option.some.inj e; subst e
      simp -implicitDefEqProofs (disch := first | assumption | exact Nat.le_of_ble_eq_true rfl | decide) only [b1043_0, g1043_2, b1043_2, g1043_3, b1043_3, g1043_4, b1043_4, g1043_6, b1043_6, g1043_8, b1043_8, g1043_9, b1043_9, g1043_10, b1043_10, g1043_11, b1043_11, g1043_12, b1043_12, pe_iload1, pe_sipush, pe_call3, pm_af_ret, pm_af_void, pm_af_thr, pe_call1, pe_istore2, pe_istore3, pe_aload0, pe_getfield, pe_imul, pe_isub, pe_istore4, pe_goto_w, pe_iload4, pe_if_lt, pe_idiv, pe_aaload, pe_irem, pe_iaload, pe_istore5, pe_iand, pe_if_ne, pe_iload5, pe_if_le, pe_goto, pe_if_ge, pe_istore6, pe_iload2, pe_iload6, pe_if_eq, pe_iadd, pe_iload3, pe_iinc4, pe_icmp_ge, pm_prog_1, pm_ob_some, Nat.reduceDiv, Nat.reduceMod, Nat.reduceMul, Nat.reduceAdd, Int.reduceToNat, pm_kill_i, pm_kill_r, pm_kill_n, pm_kill_j, pm_kill_l, pm_kill_d, pm_cats_nil, pm_cats_i, pm_cats_r, pm_cats_n, pm_cats_l, pm_cats_d, sz_1, sz_2, sl_1, sl_2, lc_0, lc_lt, lc_le, li_ne, va_rf, wr_m1, we_m1, pm_kill_w, Int32.reduceOfInt, Int64.reduceOfInt, Int32.reduceOfNat, Int32.reduceLT, Int32.reduceLE, Prod.mk.injEq, Nat.reduceEqDiff, reduceCtorEq, and_true, true_and, and_false, false_and, and_self, ite_true, ite_false, ↓reduceIte, not_true_eq_false, not_false_eq_true, pe_ri, pe_rz, pe_rc, p_throw, t1043, w_junk hA, Cu_g0_0 hP hA, Cu_g1_0 hP hA, Cu_g1_1 hP hA, Cu_g1_2 hP hA, Cu_r2 hP hA, Cu_r3 hP hA, Cu_r4 hP hA, Cu_r5 hP hA, z1, z2, eq_true k4]
    · rw [if_neg k4] at e
      have e := Option.some.inj e; subst e
      simp -implicitDefEqProofs (disch := first | assumption | exact Nat.le_of_ble_eq_true rfl | decide) only [b1043_0, g1043_2, b1043_2, g1043_3, b1043_3, g1043_4, b1043_4, g1043_6, b1043_6, g1043_8, b1043_8, g1043_9, b1043_9, g1043_10, b1043_10, g1043_11, b1043_11, g1043_12, b1043_12, pe_iload1, pe_sipush, pe_call3, pm_af_ret, pm_af_void, pm_af_thr, pe_call1, pe_istore2, pe_istore3, pe_aload0, pe_getfield, pe_imul, pe_isub, pe_istore4, pe_goto_w, pe_iload4, pe_if_lt, pe_idiv, pe_aaload, pe_irem, pe_iaload, pe_istore5, pe_iand, pe_if_ne, pe_iload5, pe_if_le, pe_goto, pe_if_ge, pe_istore6, pe_iload2, pe_iload6, pe_if_eq, pe_iadd, pe_iload3, pe_iinc4, pe_icmp_ge, pm_prog_1, pm_ob_some, Nat.reduceDiv, Nat.reduceMod, Nat.reduceMul, Nat.reduceAdd, Int.reduceToNat, pm_kill_i, pm_kill_r, pm_kill_n, pm_kill_j, pm_kill_l, pm_kill_d, pm_cats_nil, pm_cats_i, pm_cats_r, pm_cats_n, pm_cats_l, pm_cats_d, sz_1, sz_2, sl_1, sl_2, lc_0, lc_lt, lc_le, li_ne, va_rf, wr_m1, we_m1, pm_kill_w, Int32.reduceOfInt, Int64.reduceOfInt, Int32.reduceOfNat, Int32.reduceLT, Int32.reduceLE, Prod.mk.injEq, Nat.reduceEqDiff, reduceCtorEq, and_true, true_and, and_false, false_and, and_self, ite_true, ite_false, ↓reduceIte, not_true_eq_false, not_false_eq_true, pe_ri, pe_rz, pe_rc, p_throw, t1043, w_junk hA, Cu_g0_0 hP hA, Cu_g1_0 hP hA, Cu_g1_1 hP hA, Cu_g1_2 hP hA, Cu_r2 hP hA, Cu_r3 hP hA, Cu_r4 hP hA, Cu_r5 hP hA, z1, z2, eq_false k4]
/-- TimberHouse$RouterPaths$Tool.covers(II)Z -/
theorem c1089 {d : Nat} {h : pm_H} {a : Nat} {x0 : Int32} {x1 : Int32} (hc : pm_cls h a = some 17) : pm_call pm_prog (d + 1) 1089 [.ref a, .int x0, .int x1] h = pm_ev pm_prog (pm_call pm_prog d) 1089 0 b1089_0 [.ref a, .int x0, .int x1] [] h := pm_cal (pm_rc1 hc rfl) rfl rfl rfl
theorem g1089_1 {cl : pm_C} {ls st : List Value} {h : pm_H} : pm_go pm_prog cl 1089 1 ls st h = pm_ev pm_prog cl 1089 1 b1089_1 ls st h := pm_go_eq pm_prog cl 1089 1 ls st h
theorem g1089_2 {cl : pm_C} {ls st : List Value} {h : pm_H} : pm_go pm_prog cl 1089 2 ls st h = pm_ev pm_prog cl 1089 2 b1089_2 ls st h := pm_go_eq pm_prog cl 1089 2 ls st h
/-- TimberHouse$RouterPaths$Tool.covers(II)Z -/
noncomputable def f1089 (side : Int32) (S : wS) (x0i : Int32) (x1 : Int32) (x2 : Int32) : Option (Int32) :=
  if 0 ≤ x0i ∧ x0i < 4 then
    if ((x1 * x1) + (x2 * x2)) ≤ ((S.1 (10, x0i, 0) 0) * (S.1 (10, x0i, 0) 0)) then
      some 1
    else
      some 0
  else none
theorem x1089 {side : Int32} {A : wK → Nat} {h : pm_H} {D : Nat} {S : wS} {x0i : Int32} {x1 : Int32} {x2 : Int32} {r : Int32} (hP : Cu_P side) (hA : wok A (Cu_d side) h.1) (hD : 1 ≤ D) (e : f1089 side S x0i x1 x2 = some r) : pm_call pm_prog D 1089 [.ref (A (10, x0i, 0)), .int x1, .int x2] (wput A (Cu_d side) S h) = some (Outcome.returned (some (.int r)), (wput A (Cu_d side) S h)) := by
  obtain ⟨D, rfl⟩ : ∃ D', D = D' + 1 := ⟨D - 1, by omega⟩
  have hD : 0 ≤ D := by omega
  simp only [f1089] at e
  have k1 : 0 ≤ x0i ∧ x0i < 4 := by
    by_cases q : 0 ≤ x0i ∧ x0i < 4
    · exact q
    · rw [if_neg q] at e; cases e
  rw [if_pos k1] at e
  rw [c1089 (Cu_c10 hP hA k1), b1089_0]
  by_cases k2 : ((x1 * x1) + (x2 * x2)) ≤ ((S.1 (10, x0i, 0) 0) * (S.1 (10, x0i, 0) 0))
  · rw [if_pos k2] at e
    have e := Option.some.inj e; subst e
    simp -implicitDefEqProofs (disch := first | assumption | exact Nat.le_of_ble_eq_true rfl | decide) only [b1089_0, g1089_1, b1089_1, g1089_2, b1089_2, pe_iload1, pe_imul, pe_iload2, pe_iadd, pe_aload0, pe_getfield, pe_icmp_gt, pe_sipush, pe_goto, pe_goto_w, pm_prog_1, pm_ob_some, Nat.reduceDiv, Nat.reduceMod, Nat.reduceMul, Nat.reduceAdd, Int.reduceToNat, pm_kill_i, pm_kill_r, pm_kill_n, pm_kill_j, pm_kill_l, pm_kill_d, pm_cats_nil, pm_cats_i, pm_cats_r, pm_cats_n, pm_cats_l, pm_cats_d, sz_1, sz_2, sl_1, sl_2, lc_0, lc_lt, lc_le, li_ne, va_rf, wr_m1, we_m1, pm_kill_w, Int32.reduceOfInt, Int64.reduceOfInt, Int32.reduceOfNat, Int32.reduceLT, Int32.reduceLE, Prod.mk.injEq, Nat.reduceEqDiff, reduceCtorEq, and_true, true_and, and_false, false_and, and_self, ite_true, ite_false, ↓reduceIte, not_true_eq_false, not_false_eq_true, pe_ri, pe_rz, pe_rc, Cu_g10_0 hP hA, eq_true k2]
  · rw [if_neg k2] at e
    have e := Option.some.inj e; subst e
    simp -implicitDefEqProofs (disch := first | assumption | exact Nat.le_of_ble_eq_true rfl | decide) only [b1089_0, g1089_1, b1089_1, g1089_2, b1089_2, pe_iload1, pe_imul, pe_iload2, pe_iadd, pe_aload0, pe_getfield, pe_icmp_gt, pe_sipush, pe_goto, pe_goto_w, pm_prog_1, pm_ob_some, Nat.reduceDiv, Nat.reduceMod, Nat.reduceMul, Nat.reduceAdd, Int.reduceToNat, pm_kill_i, pm_kill_r, pm_kill_n, pm_kill_j, pm_kill_l, pm_kill_d, pm_cats_nil, pm_cats_i, pm_cats_r, pm_cats_n, pm_cats_l, pm_cats_d, sz_1, sz_2, sl_1, sl_2, lc_0, lc_lt, lc_le, li_ne, va_rf, wr_m1, we_m1, pm_kill_w, Int32.reduceOfInt, Int64.reduceOfInt, Int32.reduceOfNat, Int32.reduceLT, Int32.reduceLE, Prod.mk.injEq, Nat.reduceEqDiff, reduceCtorEq, and_true, true_and, and_false, false_and, and_self, ite_true, ite_false, ↓reduceIte, not_true_eq_false, not_false_eq_true, pe_ri, pe_rz, pe_rc, Cu_g10_0 hP hA, eq_false k2]
/-- TimberHouse$RouterPaths$Grid.allows(LTimberHouse$RouterPaths$Tool;III)Z -/
theorem c1157 {d : Nat} {h : pm_H} {a : Nat} {r0 : Nat} {x1 : Int32} {x2 : Int32} {x3 : Int32} (hc : pm_cls h a = some 18) : pm_call pm_prog (d + 1) 1157 [.ref a, .ref r0, .int x1, .int x2, .int x3] h = pm_ev pm_prog (pm_call pm_prog d) 1157 0 b1157_0 [.ref a, .ref r0, .int x1, .int x2, .int x3, pm_junk, pm_junk] [] h := pm_cal (pm_rc1 hc rfl) rfl rfl rfl
theorem g1157_1 {cl : pm_C} {ls st : List Value} {h : pm_H} : pm_go pm_prog cl 1157 1 ls st h = pm_ev pm_prog cl 1157 1 b1157_1 ls st h := pm_go_eq pm_prog cl 1157 1 ls st h
theorem g1157_2 {cl : pm_C} {ls st : List Value} {h : pm_H} : pm_go pm_prog cl 1157 2 ls st h = pm_ev pm_prog cl 1157 2 b1157_2 ls st h := pm_go_eq pm_prog cl 1157 2 ls st h
theorem g1157_3 {cl : pm_C} {ls st : List Value} {h : pm_H} : pm_go pm_prog cl 1157 3 ls st h = pm_ev pm_prog cl 1157 3 b1157_3 ls st h := pm_go_eq pm_prog cl 1157 3 ls st h
theorem g1157_4 {cl : pm_C} {ls st : List Value} {h : pm_H} : pm_go pm_prog cl 1157 4 ls st h = pm_ev pm_prog cl 1157 4 b1157_4 ls st h := pm_go_eq pm_prog cl 1157 4 ls st h
theorem g1157_5 {cl : pm_C} {ls st : List Value} {h : pm_H} : pm_go pm_prog cl 1157 5 ls st h = pm_ev pm_prog cl 1157 5 b1157_5 ls st h := pm_go_eq pm_prog cl 1157 5 ls st h
theorem g1157_6 {cl : pm_C} {ls st : List Value} {h : pm_H} : pm_go pm_prog cl 1157 6 ls st h = pm_ev pm_prog cl 1157 6 b1157_6 ls st h := pm_go_eq pm_prog cl 1157 6 ls st h
theorem g1157_7 {cl : pm_C} {ls st : List Value} {h : pm_H} : pm_go pm_prog cl 1157 7 ls st h = pm_ev pm_prog cl 1157 7 b1157_7 ls st h := pm_go_eq pm_prog cl 1157 7 ls st h
noncomputable def f1157_b2 (side : Int32) (S : wS) : Int32 × Int32 × Int32 × Int32 × Int32 × Int32 → Option ((Int32 × Int32 × Int32 × Int32 × Int32 × Int32) ⊕ ((Unit) ⊕ (Int32 × Int32 × Int32 × Int32 × Int32))) := fun (x1i, x2, x3, x4, x5, x6) =>
  if 0 ≤ x1i ∧ x1i < 4 then
    if x6 ≤ (S.1 (10, x1i, 0) 0) then
      (f1089 side S x1i x6 x5).bind fun v1 =>
      if v1 = 0 then
        some (.inl (x1i, x2, x3, x4, x5, (x6 + 1)))
      else
        (f1155 side S (x2 + x6) (x3 + x5)).bind fun v2 =>
        if v2 = 0 then
          some (.inl (x1i, x2, x3, x4, x5, (x6 + 1)))
        else
          if 0 ≤ (x3 + x5) ∧ (x3 + x5) < side then
            if 0 ≤ (x2 + x6) ∧ (x2 + x6) < side then
              if (S.1 (5, (x3 + x5), 0) (x2 + x6)) ≤ x4 then
                if (S.1 (13, (x3 + x5), 0) (x2 + x6)) = 0 then
                  some (.inl (x1i, x2, x3, x4, x5, (x6 + 1)))
                else
                  some (.inr (.inl ()))
              else
                some (.inr (.inl ()))
            else none
          else none
    else
      some (.inr (.inr ((x1i, x2, x3, x4, x5))))
  else none
noncomputable def f1157_b1 (side : Int32) (S : wS) : Int32 × Int32 × Int32 × Int32 × Int32 → Option ((Int32 × Int32 × Int32 × Int32 × Int32) ⊕ ((Unit) ⊕ (Unit))) := fun (x1i, x2, x3, x4, x5) =>
  if 0 ≤ x1i ∧ x1i < 4 then
    if x5 ≤ (S.1 (10, x1i, 0) 0) then
      (lp (f1157_b2 side S) FU (x1i, x2, x3, x4, x5, (-(S.1 (10, x1i, 0) 0)))).bind fun b => match b with
      | (.inl ()) =>
        some (.inr (.inl ()))
      | (.inr ((v4i, v5, v6, v7, v8))) =>
        if 0 ≤ v4i ∧ v4i < 4 then
          some (.inl (v4i, v5, v6, v7, (v8 + 1)))
        else none
    else
      some (.inr (.inr (())))
  else none
/-- TimberHouse$RouterPaths$Grid.allows(LTimberHouse$RouterPaths$Tool;III)Z -/
noncomputable def f1157 (side : Int32) (S : wS) (x1i : Int32) (x2 : Int32) (x3 : Int32) (x4 : Int32) : Option (Int32) :=
  if 0 ≤ x1i ∧ x1i < 4 then
    (lp (f1157_b1 side S) FU (x1i, x2, x3, x4, (-(S.1 (10, x1i, 0) 0)))).bind fun b => match b with
    | (.inl ()) =>
      some 0
    | (.inr (())) =>
      some 1
  else none
def go1157_2 (side : Int32) (A : wK → Nat) (h : pm_H) (D : Nat) (R : Outcome × pm_H) (S : wS) : Int32 × Int32 × Int32 × Int32 × Int32 × Int32 → Prop := fun (x1i, x2, x3, x4, x5, x6) => pm_go pm_prog (pm_call pm_prog D) 1157 2 [.ref (A (1, 0, 0)), .ref (A (10, x1i, 0)), .int x2, .int x3, .int x4, .int x5, .int x6] [] (wput A (Cu_d side) S h) = some R
def ex1157_2 (side : Int32) (A : wK → Nat) (h : pm_H) (D : Nat) (R : Outcome × pm_H) (S : wS) : (Unit) ⊕ (Int32 × Int32 × Int32 × Int32 × Int32) → Prop := fun b => match b with
  | (.inl _) => ∀ q0 q1 q2 q3 q4 q5 q6 : Value, pm_go pm_prog (pm_call pm_prog D) 1157 4 [q0, q1, q2, q3, q4, q5, q6] [] (wput A (Cu_d side) S h) = some R
  | (.inr ((x1i, x2, x3, x4, x5))) => ∀ q6 : Value, pm_go pm_prog (pm_call pm_prog D) 1157 6 [.ref (A (1, 0, 0)), .ref (A (10, x1i, 0)), .int x2, .int x3, .int x4, .int x5, q6] [] (wput A (Cu_d side) S h) = some R
theorem y1157_b2 {side : Int32} {A : wK → Nat} {h : pm_H} {D : Nat} {R : Outcome × pm_H} {S : wS} (hP : Cu_P side) (hA : wok A (Cu_d side) h.1) (hD : 1 ≤ D) (a : Int32 × Int32 × Int32 × Int32 × Int32 × Int32) (r : (Int32 × Int32 × Int32 × Int32 × Int32 × Int32) ⊕ ((Unit) ⊕ (Int32 × Int32 × Int32 × Int32 × Int32))) (e : f1157_b2 side S a = some r) (hc : Sum.elim (go1157_2 side A h D R S) (ex1157_2 side A h D R S) r) : go1157_2 side A h D R S a := by
  obtain ⟨x1i, x2, x3, x4, x5, x6⟩ := a
  dsimp only [go1157_2]
  simp only [f1157_b2] at e
  rw [g1157_2, b1157_2]
  by_cases k1 : 0 ≤ x1i ∧ x1i < 4
  · rw [if_pos k1] at e
    by_cases k2 : x6 ≤ (S.1 (10, x1i, 0) 0)
    · rw [if_pos k2] at e
      obtain ⟨v1, k3, e⟩ := Option.bind_eq_some_iff.mp e
      try dsimp only at e
      have z3 := x1089 (D := D) (h := h) hP hA (by omega) k3
      by_cases k4 : v1 = 0
      · rw [if_pos k4] at e
        have e := Option.some.inj e; subst e
        dsimp only [Sum.elim_inl, go1157_2] at hc
        simp -implicitDefEqProofs (disch := first | assumption | exact Nat.le_of_ble_eq_true rfl | decide) only [b1157_0, g1157_3, b1157_3, g1157_4, b1157_4, g1157_5, b1157_5, g1157_6, b1157_6, g1157_7, b1157_7, pe_aload1, pe_getfield, pe_ineg, pe_istore5, pe_goto_w, pe_iload5, pe_icmp_gt, pe_istore6, pe_iload6, pe_call3, pm_af_ret, pm_af_void, pm_af_thr, pe_if_eq, pe_aload0, pe_iload2, pe_iadd, pe_iload3, pe_if_ne, pe_goto, pe_aaload, pe_iaload, pe_iload4, pe_baload, pe_sipush, pe_iinc6, pe_iinc5, pm_prog_1, pm_ob_some, Nat.reduceDiv, Nat.reduceMod, Nat.reduceMul, Nat.reduceAdd, Int.reduceToNat, pm_kill_i, pm_kill_r, pm_kill_n, pm_kill_j, pm_kill_l, pm_kill_d, pm_cats_nil, pm_cats_i, pm_cats_r, pm_cats_n, pm_cats_l, pm_cats_d, sz_1, sz_2, sl_1, sl_2, lc_0, lc_lt, lc_le, li_ne, va_rf, wr_m1, we_m1, pm_kill_w, Int32.reduceOfInt, Int64.reduceOfInt, Int32.reduceOfNat, Int32.reduceLT, Int32.reduceLE, Prod.mk.injEq, Nat.reduceEqDiff, reduceCtorEq, and_true, true_and, and_false, false_and, and_self, ite_true, ite_false, ↓reduceIte, not_true_eq_false, not_false_eq_true, pe_ri, pe_rz, pe_rc, Cu_g1_2 hP hA, Cu_g1_3 hP hA, Cu_g10_0 hP hA, Cu_r13 hP hA, Cu_r4 hP hA, Cu_r5 hP hA, Cu_r6 hP hA, eq_true k2, z3, eq_true k4, hc]
      · rw [if_neg k4] at e
        obtain ⟨v2, k5, e⟩ := Option.bind_eq_some_iff.mp e
        try dsimp only at e
        have z5 := x1155 (D := D) (h := h) hP hA (by omega) k5
        by_cases k6 : v2 = 0
        · rw [if_pos k6] at e
          have e := Option.some.inj e; subst e
          dsimp only [Sum.elim_inl, go1157_2] at hc
          simp -implicitDefEqProofs (disch := first | assumption | exact Nat.le_of_ble_eq_true rfl | decide) only [b1157_0, g1157_3, b1157_3, g1157_4, b1157_4, g1157_5, b1157_5, g1157_6, b1157_6, g1157_7, b1157_7, pe_aload1, pe_getfield, pe_ineg, pe_istore5, pe_goto_w, pe_iload5, pe_icmp_gt, pe_istore6, pe_iload6, pe_call3, pm_af_ret, pm_af_void, pm_af_thr, pe_if_eq, pe_aload0, pe_iload2, pe_iadd, pe_iload3, pe_if_ne, pe_goto, pe_aaload, pe_iaload, pe_iload4, pe_baload, pe_sipush, pe_iinc6, pe_iinc5, pm_prog_1, pm_ob_some, Nat.reduceDiv, Nat.reduceMod, Nat.reduceMul, Nat.reduceAdd, Int.reduceToNat, pm_kill_i, pm_kill_r, pm_kill_n, pm_kill_j, pm_kill_l, pm_kill_d, pm_cats_nil, pm_cats_i, pm_cats_r, pm_cats_n, pm_cats_l, pm_cats_d, sz_1, sz_2, sl_1, sl_2, lc_0, lc_lt, lc_le, li_ne, va_rf, wr_m1, we_m1, pm_kill_w, Int32.reduceOfInt, Int64.reduceOfInt, Int32.reduceOfNat, Int32.reduceLT, Int32.reduceLE, Prod.mk.injEq, Nat.reduceEqDiff, reduceCtorEq, and_true, true_and, and_false, false_and, and_self, ite_true, ite_false, ↓reduceIte, not_true_eq_false, not_false_eq_true, pe_ri, pe_rz, pe_rc, Cu_g1_2 hP hA, Cu_g1_3 hP hA, Cu_g10_0 hP hA, Cu_r13 hP hA, Cu_r4 hP hA, Cu_r5 hP hA, Cu_r6 hP hA, eq_true k2, z3, eq_false k4, z5, eq_true k6, hc]
        · rw [if_neg k6] at e
          by_cases k7 : 0 ≤ (x3 + x5) ∧ (x3 + x5) < side
          · rw [if_pos k7] at e
            by_cases k8 : 0 ≤ (x2 + x6) ∧ (x2 + x6) < side
            · rw [if_pos k8] at e
              by_cases k9 : (S.1 (5, (x3 + x5), 0) (x2 + x6)) ≤ x4
              · rw [if_pos k9] at e
                by_cases k10 : (S.1 (13, (x3 + x5), 0) (x2 + x6)) = 0
                · rw [if_pos k10] at e
                  have e := Option.some.inj e; subst e
                  dsimp only [Sum.elim_inl, go1157_2] at hc
                  simp -implicitDefEqProofs (disch := first | assumption | exact Nat.le_of_ble_eq_true rfl | decide) only [b1157_0, g1157_3, b1157_3, g1157_4, b1157_4, g1157_5, b1157_5, g1157_6, b1157_6, g1157_7, b1157_7, pe_aload1, pe_getfield, pe_ineg, pe_istore5, pe_goto_w, pe_iload5, pe_icmp_gt, pe_istore6, pe_iload6, pe_call3, pm_af_ret, pm_af_void, pm_af_thr, pe_if_eq, pe_aload0, pe_iload2, pe_iadd, pe_iload3, pe_if_ne, pe_goto, pe_aaload, pe_iaload, pe_iload4, pe_baload, pe_sipush, pe_iinc6, pe_iinc5, pm_prog_1, pm_ob_some, Nat.reduceDiv, Nat.reduceMod, Nat.reduceMul, Nat.reduceAdd, Int.reduceToNat, pm_kill_i, pm_kill_r, pm_kill_n, pm_kill_j, pm_kill_l, pm_kill_d, pm_cats_nil, pm_cats_i, pm_cats_r, pm_cats_n, pm_cats_l, pm_cats_d, sz_1, sz_2, sl_1, sl_2, lc_0, lc_lt, lc_le, li_ne, va_rf, wr_m1, we_m1, pm_kill_w, Int32.reduceOfInt, Int64.reduceOfInt, Int32.reduceOfNat, Int32.reduceLT, Int32.reduceLE, Prod.mk.injEq, Nat.reduceEqDiff, reduceCtorEq, and_true, true_and, and_false, false_and, and_self, ite_true, ite_false, ↓reduceIte, not_true_eq_false, not_false_eq_true, pe_ri, pe_rz, pe_rc, Cu_g1_2 hP hA, Cu_g1_3 hP hA, Cu_g10_0 hP hA, Cu_r13 hP hA, Cu_r4 hP hA, Cu_r5 hP hA, Cu_r6 hP hA, eq_true k2, z3, eq_false k4, z5, eq_false k6, eq_true k9, eq_true k10, hc]
                · rw [if_neg k10] at e
                  have e := Option.some.inj e; subst e
                  dsimp only [Sum.elim_inr, ex1157_2] at hc
                  simp -implicitDefEqProofs (disch := first | assumption | exact Nat.le_of_ble_eq_true rfl | decide) only [b1157_0, g1157_3, b1157_3, g1157_4, b1157_4, g1157_5, b1157_5, g1157_6, b1157_6, g1157_7, b1157_7, pe_aload1, pe_getfield, pe_ineg, pe_istore5, pe_goto_w, pe_iload5, pe_icmp_gt, pe_istore6, pe_iload6, pe_call3, pm_af_ret, pm_af_void, pm_af_thr, pe_if_eq, pe_aload0, pe_iload2, pe_iadd, pe_iload3, pe_if_ne, pe_goto, pe_aaload, pe_iaload, pe_iload4, pe_baload, pe_sipush, pe_iinc6, pe_iinc5, pm_prog_1, pm_ob_some, Nat.reduceDiv, Nat.reduceMod, Nat.reduceMul, Nat.reduceAdd, Int.reduceToNat, pm_kill_i, pm_kill_r, pm_kill_n, pm_kill_j, pm_kill_l, pm_kill_d, pm_cats_nil, pm_cats_i, pm_cats_r, pm_cats_n, pm_cats_l, pm_cats_d, sz_1, sz_2, sl_1, sl_2, lc_0, lc_lt, lc_le, li_ne, va_rf, wr_m1, we_m1, pm_kill_w, Int32.reduceOfInt, Int64.reduceOfInt, Int32.reduceOfNat, Int32.reduceLT, Int32.reduceLE, Prod.mk.injEq, Nat.reduceEqDiff, reduceCtorEq, and_true, true_and, and_false, false_and, and_self, ite_true, ite_false, ↓reduceIte, not_true_eq_false, not_false_eq_true, pe_ri, pe_rz, pe_rc, Cu_g1_2 hP hA, Cu_g1_3 hP hA, Cu_g10_0 hP hA, Cu_r13 hP hA, Cu_r4 hP hA, Cu_r5 hP hA, Cu_r6 hP hA, eq_true k2, z3, eq_false k4, z5, eq_false k6, eq_true k9, eq_false k10, hc]
              · rw [if_neg k9] at e
                have e := Option.some.inj e; subst e
                dsimp only [Sum.elim_inr, ex1157_2] at hc
                simp -implicitDefEqProofs (disch := first | assumption | exact Nat.le_of_ble_eq_true rfl | decide) only [b1157_0, g1157_3, b1157_3, g1157_4, b1157_4, g1157_5, b1157_5, g1157_6, b1157_6, g1157_7, b1157_7, pe_aload1, pe_getfield, pe_ineg, pe_istore5, pe_goto_w, pe_iload5, pe_icmp_gt, pe_istore6, pe_iload6, pe_call3, pm_af_ret, pm_af_void, pm_af_thr, pe_if_eq, pe_aload0, pe_iload2, pe_iadd, pe_iload3, pe_if_ne, pe_goto, pe_aaload, pe_iaload, pe_iload4, pe_baload, pe_sipush, pe_iinc6, pe_iinc5, pm_prog_1, pm_ob_some, Nat.reduceDiv, Nat.reduceMod, Nat.reduceMul, Nat.reduceAdd, Int.reduceToNat, pm_kill_i, pm_kill_r, pm_kill_n, pm_kill_j, pm_kill_l, pm_kill_d, pm_cats_nil, pm_cats_i, pm_cats_r, pm_cats_n, pm_cats_l, pm_cats_d, sz_1, sz_2, sl_1, sl_2, lc_0, lc_lt, lc_le, li_ne, va_rf, wr_m1, we_m1, pm_kill_w, Int32.reduceOfInt, Int64.reduceOfInt, Int32.reduceOfNat, Int32.reduceLT, Int32.reduceLE, Prod.mk.injEq, Nat.reduceEqDiff, reduceCtorEq, and_true, true_and, and_false, false_and, and_self, ite_true, ite_false, ↓reduceIte, not_true_eq_false, not_false_eq_true, pe_ri, pe_rz, pe_rc, Cu_g1_2 hP hA, Cu_g1_3 hP hA, Cu_g10_0 hP hA, Cu_r13 hP hA, Cu_r4 hP hA, Cu_r5 hP hA, Cu_r6 hP hA, eq_true k2, z3, eq_false k4, z5, eq_false k6, eq_false k9, hc]
            · rw [if_neg k8] at e; cases e
          · rw [if_neg k7] at e; cases e
    · rw [if_neg k2] at e
      have e := Option.some.inj e; subst e
      dsimp only [Sum.elim_inr, ex1157_2] at hc
      simp -implicitDefEqProofs (disch := first | assumption | exact Nat.le_of_ble_eq_true rfl | decide) only [b1157_0, g1157_3, b1157_3, g1157_4, b1157_4, g1157_5, b1157_5, g1157_6, b1157_6, g1157_7, b1157_7, pe_aload1, pe_getfield, pe_ineg, pe_istore5, pe_goto_w, pe_iload5, pe_icmp_gt, pe_istore6, pe_iload6, pe_call3, pm_af_ret, pm_af_void, pm_af_thr, pe_if_eq, pe_aload0, pe_iload2, pe_iadd, pe_iload3, pe_if_ne, pe_goto, pe_aaload, pe_iaload, pe_iload4, pe_baload, pe_sipush, pe_iinc6, pe_iinc5, pm_prog_1, pm_ob_some, Nat.reduceDiv, Nat.reduceMod, Nat.reduceMul, Nat.reduceAdd, Int.reduceToNat, pm_kill_i, pm_kill_r, pm_kill_n, pm_kill_j, pm_kill_l, pm_kill_d, pm_cats_nil, pm_cats_i, pm_cats_r, pm_cats_n, pm_cats_l, pm_cats_d, sz_1, sz_2, sl_1, sl_2, lc_0, lc_lt, lc_le, li_ne, va_rf, wr_m1, we_m1, pm_kill_w, Int32.reduceOfInt, Int64.reduceOfInt, Int32.reduceOfNat, Int32.reduceLT, Int32.reduceLE, Prod.mk.injEq, Nat.reduceEqDiff, reduceCtorEq, and_true, true_and, and_false, false_and, and_self, ite_true, ite_false, ↓reduceIte, not_true_eq_false, not_false_eq_true, pe_ri, pe_rz, pe_rc, Cu_g1_2 hP hA, Cu_g1_3 hP hA, Cu_g10_0 hP hA, Cu_r13 hP hA, Cu_r4 hP hA, Cu_r5 hP hA, Cu_r6 hP hA, eq_false k2, hc]
  · rw [if_neg k1] at e; cases e
theorem z1157_2 {side : Int32} {A : wK → Nat} {h : pm_H} {D : Nat} {R : Outcome × pm_H} {S : wS} (hP : Cu_P side) (hA : wok A (Cu_d side) h.1) (hD : 1 ≤ D) {n : Nat} {a : Int32 × Int32 × Int32 × Int32 × Int32 × Int32} {b : (Unit) ⊕ (Int32 × Int32 × Int32 × Int32 × Int32)} (e : lp (f1157_b2 side S) n a = some b) (hx : ex1157_2 side A h D R S b) : go1157_2 side A h D R S a := lp_run (fun a r => y1157_b2 hP hA hD a r) n a b e hx
def go1157_1 (side : Int32) (A : wK → Nat) (h : pm_H) (D : Nat) (R : Outcome × pm_H) (S : wS) : Int32 × Int32 × Int32 × Int32 × Int32 → Prop := fun (x1i, x2, x3, x4, x5) => ∀ q6 : Value, pm_go pm_prog (pm_call pm_prog D) 1157 1 [.ref (A (1, 0, 0)), .ref (A (10, x1i, 0)), .int x2, .int x3, .int x4, .int x5, q6] [] (wput A (Cu_d side) S h) = some R
def ex1157_1 (side : Int32) (A : wK → Nat) (h : pm_H) (D : Nat) (R : Outcome × pm_H) (S : wS) : (Unit) ⊕ (Unit) → Prop := fun b => match b with
  | (.inl _) => ∀ q0 q1 q2 q3 q4 q5 q6 : Value, pm_go pm_prog (pm_call pm_prog D) 1157 4 [q0, q1, q2, q3, q4, q5, q6] [] (wput A (Cu_d side) S h) = some R
  | (.inr (_)) => ∀ q0 q1 q2 q3 q4 q5 q6 : Value, pm_go pm_prog (pm_call pm_prog D) 1157 7 [q0, q1, q2, q3, q4, q5, q6] [] (wput A (Cu_d side) S h) = some R
theorem y1157_b1 {side : Int32} {A : wK → Nat} {h : pm_H} {D : Nat} {R : Outcome × pm_H} {S : wS} (hP : Cu_P side) (hA : wok A (Cu_d side) h.1) (hD : 1 ≤ D) (a : Int32 × Int32 × Int32 × Int32 × Int32) (r : (Int32 × Int32 × Int32 × Int32 × Int32) ⊕ ((Unit) ⊕ (Unit))) (e : f1157_b1 side S a = some r) (hc : Sum.elim (go1157_1 side A h D R S) (ex1157_1 side A h D R S) r) : go1157_1 side A h D R S a := by
  obtain ⟨x1i, x2, x3, x4, x5⟩ := a
  dsimp only [go1157_1]
  intro q6
  simp only [f1157_b1] at e
  rw [g1157_1, b1157_1]
  by_cases k1 : 0 ≤ x1i ∧ x1i < 4
  · rw [if_pos k1] at e
    by_cases k2 : x5 ≤ (S.1 (10, x1i, 0) 0)
    · rw [if_pos k2] at e
      obtain ⟨b, k3, e⟩ := Option.bind_eq_some_iff.mp e
      rcases b with _ | ⟨v4i, v5, v6, v7, v8⟩
      ·
        try dsimp only at e
        try simp -implicitDefEqProofs (disch := first | assumption | exact Nat.le_of_ble_eq_true rfl | decide) only [b1157_0, g1157_3, b1157_3, g1157_4, b1157_4, g1157_5, b1157_5, g1157_6, b1157_6, g1157_7, b1157_7, pe_aload1, pe_getfield, pe_ineg, pe_istore5, pe_goto_w, pe_iload5, pe_icmp_gt, pe_istore6, pe_iload6, pe_call3, pm_af_ret, pm_af_void, pm_af_thr, pe_if_eq, pe_aload0, pe_iload2, pe_iadd, pe_iload3, pe_if_ne, pe_goto, pe_aaload, pe_iaload, pe_iload4, pe_baload, pe_sipush, pe_iinc6, pe_iinc5, pm_prog_1, pm_ob_some, Nat.reduceDiv, Nat.reduceMod, Nat.reduceMul, Nat.reduceAdd, Int.reduceToNat, pm_kill_i, pm_kill_r, pm_kill_n, pm_kill_j, pm_kill_l, pm_kill_d, pm_cats_nil, pm_cats_i, pm_cats_r, pm_cats_n, pm_cats_l, pm_cats_d, sz_1, sz_2, sl_1, sl_2, lc_0, lc_lt, lc_le, li_ne, va_rf, wr_m1, we_m1, pm_kill_w, Int32.reduceOfInt, Int64.reduceOfInt, Int32.reduceOfNat, Int32.reduceLT, Int32.reduceLE, Prod.mk.injEq, Nat.reduceEqDiff, reduceCtorEq, and_true, true_and, and_false, false_and, and_self, ite_true, ite_false, ↓reduceIte, not_true_eq_false, not_false_eq_true, pe_ri, pe_rz, pe_rc, Cu_g1_2 hP hA, Cu_g1_3 hP hA, Cu_g10_0 hP hA, Cu_r13 hP hA, Cu_r4 hP hA, Cu_r5 hP hA, Cu_r6 hP hA, eq_true k2]
        refine z1157_2 hP hA hD k3 ?_
        dsimp only [ex1157_2]
        intro q0 q1 q2 q3 q4 q5 q6
        have e := Option.some.inj e; subst e
        dsimp only [Sum.elim_inr, ex1157_1] at hc
        simp -implicitDefEqProofs (disch := first | assumption | exact Nat.le_of_ble_eq_true rfl | decide) only [b1157_0, g1157_3, b1157_3, g1157_4, b1157_4, g1157_5, b1157_5, g1157_6, b1157_6, g1157_7, b1157_7, pe_aload1, pe_getfield, pe_ineg, pe_istore5, pe_goto_w, pe_iload5, pe_icmp_gt, pe_istore6, pe_iload6, pe_call3, pm_af_ret, pm_af_void, pm_af_thr, pe_if_eq, pe_aload0, pe_iload2, pe_iadd, pe_iload3, pe_if_ne, pe_goto, pe_aaload, pe_iaload, pe_iload4, pe_baload, pe_sipush, pe_iinc6, pe_iinc5, pm_prog_1, pm_ob_some, Nat.reduceDiv, Nat.reduceMod, Nat.reduceMul, Nat.reduceAdd, Int.reduceToNat, pm_kill_i, pm_kill_r, pm_kill_n, pm_kill_j, pm_kill_l, pm_kill_d, pm_cats_nil, pm_cats_i, pm_cats_r, pm_cats_n, pm_cats_l, pm_cats_d, sz_1, sz_2, sl_1, sl_2, lc_0, lc_lt, lc_le, li_ne, va_rf, wr_m1, we_m1, pm_kill_w, Int32.reduceOfInt, Int64.reduceOfInt, Int32.reduceOfNat, Int32.reduceLT, Int32.reduceLE, Prod.mk.injEq, Nat.reduceEqDiff, reduceCtorEq, and_true, true_and, and_false, false_and, and_self, ite_true, ite_false, ↓reduceIte, not_true_eq_false, not_false_eq_true, pe_ri, pe_rz, pe_rc, Cu_g1_2 hP hA, Cu_g1_3 hP hA, Cu_g10_0 hP hA, Cu_r13 hP hA, Cu_r4 hP hA, Cu_r5 hP hA, Cu_r6 hP hA, eq_true k2, hc]
      ·
        try dsimp only at e
        try simp -implicitDefEqProofs (disch := first | assumption | exact Nat.le_of_ble_eq_true rfl | decide) only [b1157_0, g1157_3, b1157_3, g1157_4, b1157_4, g1157_5, b1157_5, g1157_6, b1157_6, g1157_7, b1157_7, pe_aload1, pe_getfield, pe_ineg, pe_istore5, pe_goto_w, pe_iload5, pe_icmp_gt, pe_istore6, pe_iload6, pe_call3, pm_af_ret, pm_af_void, pm_af_thr, pe_if_eq, pe_aload0, pe_iload2, pe_iadd, pe_iload3, pe_if_ne, pe_goto, pe_aaload, pe_iaload, pe_iload4, pe_baload, pe_sipush, pe_iinc6, pe_iinc5, pm_prog_1, pm_ob_some, Nat.reduceDiv, Nat.reduceMod, Nat.reduceMul, Nat.reduceAdd, Int.reduceToNat, pm_kill_i, pm_kill_r, pm_kill_n, pm_kill_j, pm_kill_l, pm_kill_d, pm_cats_nil, pm_cats_i, pm_cats_r, pm_cats_n, pm_cats_l, pm_cats_d, sz_1, sz_2, sl_1, sl_2, lc_0, lc_lt, lc_le, li_ne, va_rf, wr_m1, we_m1, pm_kill_w, Int32.reduceOfInt, Int64.reduceOfInt, Int32.reduceOfNat, Int32.reduceLT, Int32.reduceLE, Prod.mk.injEq, Nat.reduceEqDiff, reduceCtorEq, and_true, true_and, and_false, false_and, and_self, ite_true, ite_false, ↓reduceIte, not_true_eq_false, not_false_eq_true, pe_ri, pe_rz, pe_rc, Cu_g1_2 hP hA, Cu_g1_3 hP hA, Cu_g10_0 hP hA, Cu_r13 hP hA, Cu_r4 hP hA, Cu_r5 hP hA, Cu_r6 hP hA, eq_true k2]
        refine z1157_2 hP hA hD k3 ?_
        dsimp only [ex1157_2]
        intro q6
        by_cases k4 : 0 ≤ v4i ∧ v4i < 4
        · rw [if_pos k4] at e
          have e := Option.some.inj e; subst e
          dsimp only [Sum.elim_inl, go1157_1] at hc
          simp -implicitDefEqProofs (disch := first | assumption | exact Nat.le_of_ble_eq_true rfl | decide) only [b1157_0, g1157_3, b1157_3, g1157_4, b1157_4, g1157_5, b1157_5, g1157_6, b1157_6, g1157_7, b1157_7, pe_aload1, pe_getfield, pe_ineg, pe_istore5, pe_goto_w, pe_iload5, pe_icmp_gt, pe_istore6, pe_iload6, pe_call3, pm_af_ret, pm_af_void, pm_af_thr, pe_if_eq, pe_aload0, pe_iload2, pe_iadd, pe_iload3, pe_if_ne, pe_goto, pe_aaload, pe_iaload, pe_iload4, pe_baload, pe_sipush, pe_iinc6, pe_iinc5, pm_prog_1, pm_ob_some, Nat.reduceDiv, Nat.reduceMod, Nat.reduceMul, Nat.reduceAdd, Int.reduceToNat, pm_kill_i, pm_kill_r, pm_kill_n, pm_kill_j, pm_kill_l, pm_kill_d, pm_cats_nil, pm_cats_i, pm_cats_r, pm_cats_n, pm_cats_l, pm_cats_d, sz_1, sz_2, sl_1, sl_2, lc_0, lc_lt, lc_le, li_ne, va_rf, wr_m1, we_m1, pm_kill_w, Int32.reduceOfInt, Int64.reduceOfInt, Int32.reduceOfNat, Int32.reduceLT, Int32.reduceLE, Prod.mk.injEq, Nat.reduceEqDiff, reduceCtorEq, and_true, true_and, and_false, false_and, and_self, ite_true, ite_false, ↓reduceIte, not_true_eq_false, not_false_eq_true, pe_ri, pe_rz, pe_rc, Cu_g1_2 hP hA, Cu_g1_3 hP hA, Cu_g10_0 hP hA, Cu_r13 hP hA, Cu_r4 hP hA, Cu_r5 hP hA, Cu_r6 hP hA, eq_true k2, hc]
        · rw [if_neg k4] at e; cases e
    · rw [if_neg k2] at e
      have e := Option.some.inj e; subst e
      dsimp only [Sum.elim_inr, ex1157_1] at hc
      simp -implicitDefEqProofs (disch := first | assumption | exact Nat.le_of_ble_eq_true rfl | decide) only [b1157_0, g1157_3, b1157_3, g1157_4, b1157_4, g1157_5, b1157_5, g1157_6, b1157_6, g1157_7, b1157_7, pe_aload1, pe_getfield, pe_ineg, pe_istore5, pe_goto_w, pe_iload5, pe_icmp_gt, pe_istore6, pe_iload6, pe_call3, pm_af_ret, pm_af_void, pm_af_thr, pe_if_eq, pe_aload0, pe_iload2, pe_iadd, pe_iload3, pe_if_ne, pe_goto, pe_aaload, pe_iaload, pe_iload4, pe_baload, pe_sipush, pe_iinc6, pe_iinc5, pm_prog_1, pm_ob_some, Nat.reduceDiv, Nat.reduceMod, Nat.reduceMul, Nat.reduceAdd, Int.reduceToNat, pm_kill_i, pm_kill_r, pm_kill_n, pm_kill_j, pm_kill_l, pm_kill_d, pm_cats_nil, pm_cats_i, pm_cats_r, pm_cats_n, pm_cats_l, pm_cats_d, sz_1, sz_2, sl_1, sl_2, lc_0, lc_lt, lc_le, li_ne, va_rf, wr_m1, we_m1, pm_kill_w, Int32.reduceOfInt, Int64.reduceOfInt, Int32.reduceOfNat, Int32.reduceLT, Int32.reduceLE, Prod.mk.injEq, Nat.reduceEqDiff, reduceCtorEq, and_true, true_and, and_false, false_and, and_self, ite_true, ite_false, ↓reduceIte, not_true_eq_false, not_false_eq_true, pe_ri, pe_rz, pe_rc, Cu_g1_2 hP hA, Cu_g1_3 hP hA, Cu_g10_0 hP hA, Cu_r13 hP hA, Cu_r4 hP hA, Cu_r5 hP hA, Cu_r6 hP hA, eq_false k2, hc]
  · rw [if_neg k1] at e; cases e
theorem z1157_1 {side : Int32} {A : wK → Nat} {h : pm_H} {D : Nat} {R : Outcome × pm_H} {S : wS} (hP : Cu_P side) (hA : wok A (Cu_d side) h.1) (hD : 1 ≤ D) {n : Nat} {a : Int32 × Int32 × Int32 × Int32 × Int32} {b : (Unit) ⊕ (Unit)} (e : lp (f1157_b1 side S) n a = some b) (hx : ex1157_1 side A h D R S b) : go1157_1 side A h D R S a := lp_run (fun a r => y1157_b1 hP hA hD a r) n a b e hx
theorem x1157 {side : Int32} {A : wK → Nat} {h : pm_H} {D : Nat} {S : wS} {x1i : Int32} {x2 : Int32} {x3 : Int32} {x4 : Int32} {r : Int32} (hP : Cu_P side) (hA : wok A (Cu_d side) h.1) (hD : 2 ≤ D) (e : f1157 side S x1i x2 x3 x4 = some r) : pm_call pm_prog D 1157 [.ref (A (1, 0, 0)), .ref (A (10, x1i, 0)), .int x2, .int x3, .int x4] (wput A (Cu_d side) S h) = some (Outcome.returned (some (.int r)), (wput A (Cu_d side) S h)) := by
  obtain ⟨D, rfl⟩ : ∃ D', D = D' + 1 := ⟨D - 1, by omega⟩
  have hD : 1 ≤ D := by omega
  simp only [f1157] at e
  have k1 : 0 ≤ x1i ∧ x1i < 4 := by
    by_cases q : 0 ≤ x1i ∧ x1i < 4
    · exact q
    · rw [if_neg q] at e; cases e
  rw [if_pos k1] at e
  rw [c1157 (Cu_c1 hP hA), b1157_0]
  obtain ⟨b, k2, e⟩ := Option.bind_eq_some_iff.mp e
  rcases b with _ | _
  ·
    try dsimp only at e
    try simp -implicitDefEqProofs (disch := first | assumption | exact Nat.le_of_ble_eq_true rfl | decide) only [b1157_0, g1157_3, b1157_3, g1157_4, b1157_4, g1157_5, b1157_5, g1157_6, b1157_6, g1157_7, b1157_7, pe_aload1, pe_getfield, pe_ineg, pe_istore5, pe_goto_w, pe_iload5, pe_icmp_gt, pe_istore6, pe_iload6, pe_call3, pm_af_ret, pm_af_void, pm_af_thr, pe_if_eq, pe_aload0, pe_iload2, pe_iadd, pe_iload3, pe_if_ne, pe_goto, pe_aaload, pe_iaload, pe_iload4, pe_baload, pe_sipush, pe_iinc6, pe_iinc5, pm_prog_1, pm_ob_some, Nat.reduceDiv, Nat.reduceMod, Nat.reduceMul, Nat.reduceAdd, Int.reduceToNat, pm_kill_i, pm_kill_r, pm_kill_n, pm_kill_j, pm_kill_l, pm_kill_d, pm_cats_nil, pm_cats_i, pm_cats_r, pm_cats_n, pm_cats_l, pm_cats_d, sz_1, sz_2, sl_1, sl_2, lc_0, lc_lt, lc_le, li_ne, va_rf, wr_m1, we_m1, pm_kill_w, Int32.reduceOfInt, Int64.reduceOfInt, Int32.reduceOfNat, Int32.reduceLT, Int32.reduceLE, Prod.mk.injEq, Nat.reduceEqDiff, reduceCtorEq, and_true, true_and, and_false, false_and, and_self, ite_true, ite_false, ↓reduceIte, not_true_eq_false, not_false_eq_true, pe_ri, pe_rz, pe_rc, Cu_g1_2 hP hA, Cu_g1_3 hP hA, Cu_g10_0 hP hA, Cu_r13 hP hA, Cu_r4 hP hA, Cu_r5 hP hA, Cu_r6 hP hA]
    refine z1157_1 hP hA hD k2 ?_ _
    dsimp only [ex1157_1]
    intro q0 q1 q2 q3 q4 q5 q6
    have e := Option.some.inj e; subst e
    simp -implicitDefEqProofs (disch := first | assumption | exact Nat.le_of_ble_eq_true rfl | decide) only [b1157_0, g1157_3, b1157_3, g1157_4, b1157_4, g1157_5, b1157_5, g1157_6, b1157_6, g1157_7, b1157_7, pe_aload1, pe_getfield, pe_ineg, pe_istore5, pe_goto_w, pe_iload5, pe_icmp_gt, pe_istore6, pe_iload6, pe_call3, pm_af_ret, pm_af_void, pm_af_thr, pe_if_eq, pe_aload0, pe_iload2, pe_iadd, pe_iload3, pe_if_ne, pe_goto, pe_aaload, pe_iaload, pe_iload4, pe_baload, pe_sipush, pe_iinc6, pe_iinc5, pm_prog_1, pm_ob_some, Nat.reduceDiv, Nat.reduceMod, Nat.reduceMul, Nat.reduceAdd, Int.reduceToNat, pm_kill_i, pm_kill_r, pm_kill_n, pm_kill_j, pm_kill_l, pm_kill_d, pm_cats_nil, pm_cats_i, pm_cats_r, pm_cats_n, pm_cats_l, pm_cats_d, sz_1, sz_2, sl_1, sl_2, lc_0, lc_lt, lc_le, li_ne, va_rf, wr_m1, we_m1, pm_kill_w, Int32.reduceOfInt, Int64.reduceOfInt, Int32.reduceOfNat, Int32.reduceLT, Int32.reduceLE, Prod.mk.injEq, Nat.reduceEqDiff, reduceCtorEq, and_true, true_and, and_false, false_and, and_self, ite_true, ite_false, ↓reduceIte, not_true_eq_false, not_false_eq_true, pe_ri, pe_rz, pe_rc, Cu_g1_2 hP hA, Cu_g1_3 hP hA, Cu_g10_0 hP hA, Cu_r13 hP hA, Cu_r4 hP hA, Cu_r5 hP hA, Cu_r6 hP hA]
  ·
    try dsimp only at e
    try simp -implicitDefEqProofs (disch := first | assumption | exact Nat.le_of_ble_eq_true rfl | decide) only [b1157_0, g1157_3, b1157_3, g1157_4, b1157_4, g1157_5, b1157_5, g1157_6, b1157_6, g1157_7, b1157_7, pe_aload1, pe_getfield, pe_ineg, pe_istore5, pe_goto_w, pe_iload5, pe_icmp_gt, pe_istore6, pe_iload6, pe_call3, pm_af_ret, pm_af_void, pm_af_thr, pe_if_eq, pe_aload0, pe_iload2, pe_iadd, pe_iload3, pe_if_ne, pe_goto, pe_aaload, pe_iaload, pe_iload4, pe_baload, pe_sipush, pe_iinc6, pe_iinc5, pm_prog_1, pm_ob_some, Nat.reduceDiv, Nat.reduceMod, Nat.reduceMul, Nat.reduceAdd, Int.reduceToNat, pm_kill_i, pm_kill_r, pm_kill_n, pm_kill_j, pm_kill_l, pm_kill_d, pm_cats_nil, pm_cats_i, pm_cats_r, pm_cats_n, pm_cats_l, pm_cats_d, sz_1, sz_2, sl_1, sl_2, lc_0, lc_lt, lc_le, li_ne, va_rf, wr_m1, we_m1, pm_kill_w, Int32.reduceOfInt, Int64.reduceOfInt, Int32.reduceOfNat, Int32.reduceLT, Int32.reduceLE, Prod.mk.injEq, Nat.reduceEqDiff, reduceCtorEq, and_true, true_and, and_false, false_and, and_self, ite_true, ite_false, ↓reduceIte, not_true_eq_false, not_false_eq_true, pe_ri, pe_rz, pe_rc, Cu_g1_2 hP hA, Cu_g1_3 hP hA, Cu_g10_0 hP hA, Cu_r13 hP hA, Cu_r4 hP hA, Cu_r5 hP hA, Cu_r6 hP hA]
    refine z1157_1 hP hA hD k2 ?_ _
    dsimp only [ex1157_1]
    intro q0 q1 q2 q3 q4 q5 q6
    have e := Option.some.inj e; subst e
    simp -implicitDefEqProofs (disch := first | assumption | exact Nat.le_of_ble_eq_true rfl | decide) only [b1157_0, g1157_3, b1157_3, g1157_4, b1157_4, g1157_5, b1157_5, g1157_6, b1157_6, g1157_7, b1157_7, pe_aload1, pe_getfield, pe_ineg, pe_istore5, pe_goto_w, pe_iload5, pe_icmp_gt, pe_istore6, pe_iload6, pe_call3, pm_af_ret, pm_af_void, pm_af_thr, pe_if_eq, pe_aload0, pe_iload2, pe_iadd, pe_iload3, pe_if_ne, pe_goto, pe_aaload, pe_iaload, pe_iload4, pe_baload, pe_sipush, pe_iinc6, pe_iinc5, pm_prog_1, pm_ob_some, Nat.reduceDiv, Nat.reduceMod, Nat.reduceMul, Nat.reduceAdd, Int.reduceToNat, pm_kill_i, pm_kill_r, pm_kill_n, pm_kill_j, pm_kill_l, pm_kill_d, pm_cats_nil, pm_cats_i, pm_cats_r, pm_cats_n, pm_cats_l, pm_cats_d, sz_1, sz_2, sl_1, sl_2, lc_0, lc_lt, lc_le, li_ne, va_rf, wr_m1, we_m1, pm_kill_w, Int32.reduceOfInt, Int64.reduceOfInt, Int32.reduceOfNat, Int32.reduceLT, Int32.reduceLE, Prod.mk.injEq, Nat.reduceEqDiff, reduceCtorEq, and_true, true_and, and_false, false_and, and_self, ite_true, ite_false, ↓reduceIte, not_true_eq_false, not_false_eq_true, pe_ri, pe_rz, pe_rc, Cu_g1_2 hP hA, Cu_g1_3 hP hA, Cu_g10_0 hP hA, Cu_r13 hP hA, Cu_r4 hP hA, Cu_r5 hP hA, Cu_r6 hP hA]
/-- TimberHouse$RouterPaths$Grid.reaches(LTimberHouse$RouterPaths$Tool;II)Z -/
theorem c1156 {d : Nat} {h : pm_H} {a : Nat} {r0 : Nat} {x1 : Int32} {x2 : Int32} (hc : pm_cls h a = some 18) : pm_call pm_prog (d + 1) 1156 [.ref a, .ref r0, .int x1, .int x2] h = pm_ev pm_prog (pm_call pm_prog d) 1156 0 b1156_0 [.ref a, .ref r0, .int x1, .int x2, pm_junk, pm_junk, pm_junk] [] h := pm_cal (pm_rc1 hc rfl) rfl rfl rfl
theorem g1156_1 {cl : pm_C} {ls st : List Value} {h : pm_H} : pm_go pm_prog cl 1156 1 ls st h = pm_ev pm_prog cl 1156 1 b1156_1 ls st h := pm_go_eq pm_prog cl 1156 1 ls st h
theorem g1156_2 {cl : pm_C} {ls st : List Value} {h : pm_H} : pm_go pm_prog cl 1156 2 ls st h = pm_ev pm_prog cl 1156 2 b1156_2 ls st h := pm_go_eq pm_prog cl 1156 2 ls st h
theorem g1156_3 {cl : pm_C} {ls st : List Value} {h : pm_H} : pm_go pm_prog cl 1156 3 ls st h = pm_ev pm_prog cl 1156 3 b1156_3 ls st h := pm_go_eq pm_prog cl 1156 3 ls st h
theorem g1156_4 {cl : pm_C} {ls st : List Value} {h : pm_H} : pm_go pm_prog cl 1156 4 ls st h = pm_ev pm_prog cl 1156 4 b1156_4 ls st h := pm_go_eq pm_prog cl 1156 4 ls st h
theorem g1156_5 {cl : pm_C} {ls st : List Value} {h : pm_H} : pm_go pm_prog cl 1156 5 ls st h = pm_ev pm_prog cl 1156 5 b1156_5 ls st h := pm_go_eq pm_prog cl 1156 5 ls st h
theorem g1156_6 {cl : pm_C} {ls st : List Value} {h : pm_H} : pm_go pm_prog cl 1156 6 ls st h = pm_ev pm_prog cl 1156 6 b1156_6 ls st h := pm_go_eq pm_prog cl 1156 6 ls st h
noncomputable def f1156_b2 (side : Int32) (S : wS) : Int32 × Int32 × Int32 × Int32 × Int32 × Int32 → Option ((Int32 × Int32 × Int32 × Int32 × Int32 × Int32) ⊕ ((Int32 × Int32 × Int32 × Int32 × Int32))) := fun (x1i, x2, x3, x4, x5, x6) =>
  if 0 ≤ x1i ∧ x1i < 4 then
    if x6 ≤ (S.1 (10, x1i, 0) 0) then
      if x4 = 0 then
        (f1089 side S x1i x6 x5).bind fun v1 =>
        if v1 = 0 then
          some (.inl (x1i, x2, x3, 0, x5, (x6 + 1)))
        else
          (f1155 side S (x2 + x6) (x3 + x5)).bind fun v2 =>
          if v2 = 0 then
            some (.inl (x1i, x2, x3, 0, x5, (x6 + 1)))
          else
            if 0 ≤ x3 ∧ x3 < side then
              if 0 ≤ x2 ∧ x2 < side then
                (f1157 side S x1i (x2 + x6) (x3 + x5) (S.1 (5, x3, 0) x2)).bind fun v3 =>
                if v3 = 0 then
                  some (.inl (x1i, x2, x3, 0, x5, (x6 + 1)))
                else
                  some (.inl (x1i, x2, x3, 1, x5, (x6 + 1)))
              else none
            else none
      else
        some (.inr (x1i, x2, x3, x4, x5))
    else
      some (.inr (x1i, x2, x3, x4, x5))
  else none
noncomputable def f1156_b1 (side : Int32) (S : wS) : Int32 × Int32 × Int32 × Int32 × Int32 → Option ((Int32 × Int32 × Int32 × Int32 × Int32) ⊕ ((Int32))) := fun (x1i, x2, x3, x4, x5) =>
  if 0 ≤ x1i ∧ x1i < 4 then
    if x5 ≤ (S.1 (10, x1i, 0) 0) then
      if x4 = 0 then
        (lp (f1156_b2 side S) FU (x1i, x2, x3, x4, x5, (-(S.1 (10, x1i, 0) 0)))).bind fun (v5i, v6, v7, v8, v9) =>
        if 0 ≤ v5i ∧ v5i < 4 then
          some (.inl (v5i, v6, v7, v8, (v9 + 1)))
        else none
      else
        some (.inr x4)
    else
      some (.inr x4)
  else none
/-- TimberHouse$RouterPaths$Grid.reaches(LTimberHouse$RouterPaths$Tool;II)Z -/
noncomputable def f1156 (side : Int32) (S : wS) (x1i : Int32) (x2 : Int32) (x3 : Int32) : Option (Int32) :=
  if 0 ≤ x1i ∧ x1i < 4 then
    (lp (f1156_b1 side S) FU (x1i, x2, x3, 0, (-(S.1 (10, x1i, 0) 0)))).bind fun v10 =>
    if v10 = 0 ∨ v10 = 1 then
      some v10
    else none
  else none
def go1156_2 (side : Int32) (A : wK → Nat) (h : pm_H) (D : Nat) (R : Outcome × pm_H) (S : wS) : Int32 × Int32 × Int32 × Int32 × Int32 × Int32 → Prop := fun (x1i, x2, x3, x4, x5, x6) => pm_go pm_prog (pm_call pm_prog D) 1156 2 [.ref (A (1, 0, 0)), .ref (A (10, x1i, 0)), .int x2, .int x3, .int x4, .int x5, .int x6] [] (wput A (Cu_d side) S h) = some R
def ex1156_2 (side : Int32) (A : wK → Nat) (h : pm_H) (D : Nat) (R : Outcome × pm_H) (S : wS) : (Int32 × Int32 × Int32 × Int32 × Int32) → Prop := fun (x1i, x2, x3, x4, x5) => ∀ q6 : Value, pm_go pm_prog (pm_call pm_prog D) 1156 5 [.ref (A (1, 0, 0)), .ref (A (10, x1i, 0)), .int x2, .int x3, .int x4, .int x5, q6] [] (wput A (Cu_d side) S h) = some R
theorem y1156_b2 {side : Int32} {A : wK → Nat} {h : pm_H} {D : Nat} {R : Outcome × pm_H} {S : wS} (hP : Cu_P side) (hA : wok A (Cu_d side) h.1) (hD : 2 ≤ D) (a : Int32 × Int32 × Int32 × Int32 × Int32 × Int32) (r : (Int32 × Int32 × Int32 × Int32 × Int32 × Int32) ⊕ ((Int32 × Int32 × Int32 × Int32 × Int32))) (e : f1156_b2 side S a = some r) (hc : Sum.elim (go1156_2 side A h D R S) (ex1156_2 side A h D R S) r) : go1156_2 side A h D R S a := by
  obtain ⟨x1i, x2, x3, x4, x5, x6⟩ := a
  dsimp only [go1156_2]
  simp only [f1156_b2] at e
  rw [g1156_2, b1156_2]
  by_cases k1 : 0 ≤ x1i ∧ x1i < 4
  · rw [if_pos k1] at e
    by_cases k2 : x6 ≤ (S.1 (10, x1i, 0) 0)
    · rw [if_pos k2] at e
      by_cases k3 : x4 = 0
      · rw [if_pos k3] at e
        obtain ⟨v1, k4, e⟩ := Option.bind_eq_some_iff.mp e
        try dsimp only at e
        have z4 := x1089 (D := D) (h := h) hP hA (by omega) k4
        by_cases k5 : v1 = 0
        · rw [if_pos k5] at e
          have e := Option.some.inj e; subst e
          dsimp only [Sum.elim_inl, go1156_2] at hc
          simp -implicitDefEqProofs (disch := first | assumption | exact Nat.le_of_ble_eq_true rfl | decide) only [b1156_0, g1156_3, b1156_3, g1156_4, b1156_4, g1156_5, b1156_5, g1156_6, b1156_6, pe_sipush, pe_istore4, pe_aload1, pe_getfield, pe_ineg, pe_istore5, pe_goto_w, pe_iload5, pe_icmp_gt, pe_iload4, pe_if_ne, pe_istore6, pe_iload6, pe_call3, pm_af_ret, pm_af_void, pm_af_thr, pe_if_eq, pe_aload0, pe_iload2, pe_iadd, pe_iload3, pe_aaload, pe_iaload, pe_call5, pe_goto, pe_iinc6, pe_iinc5, pm_prog_1, pm_ob_some, Nat.reduceDiv, Nat.reduceMod, Nat.reduceMul, Nat.reduceAdd, Int.reduceToNat, pm_kill_i, pm_kill_r, pm_kill_n, pm_kill_j, pm_kill_l, pm_kill_d, pm_cats_nil, pm_cats_i, pm_cats_r, pm_cats_n, pm_cats_l, pm_cats_d, sz_1, sz_2, sl_1, sl_2, lc_0, lc_lt, lc_le, li_ne, va_rf, wr_m1, we_m1, pm_kill_w, Int32.reduceOfInt, Int64.reduceOfInt, Int32.reduceOfNat, Int32.reduceLT, Int32.reduceLE, Prod.mk.injEq, Nat.reduceEqDiff, reduceCtorEq, and_true, true_and, and_false, false_and, and_self, ite_true, ite_false, ↓reduceIte, not_true_eq_false, not_false_eq_true, pe_ri, pe_rz, pe_rc, Cu_g1_2 hP hA, Cu_g10_0 hP hA, Cu_r4 hP hA, Cu_r5 hP hA, eq_true k2, eq_true k3, z4, eq_true k5, hc]
        · rw [if_neg k5] at e
          obtain ⟨v2, k6, e⟩ := Option.bind_eq_some_iff.mp e
          try dsimp only at e
          have z6 := x1155 (D := D) (h := h) hP hA (by omega) k6
          by_cases k7 : v2 = 0
          · rw [if_pos k7] at e
            have e := Option.some.inj e; subst e
            dsimp only [Sum.elim_inl, go1156_2] at hc
            simp -implicitDefEqProofs (disch := first | assumption | exact Nat.le_of_ble_eq_true rfl | decide) only [b1156_0, g1156_3, b1156_3, g1156_4, b1156_4, g1156_5, b1156_5, g1156_6, b1156_6, pe_sipush, pe_istore4, pe_aload1, pe_getfield, pe_ineg, pe_istore5, pe_goto_w, pe_iload5, pe_icmp_gt, pe_iload4, pe_if_ne, pe_istore6, pe_iload6, pe_call3, pm_af_ret, pm_af_void, pm_af_thr, pe_if_eq, pe_aload0, pe_iload2, pe_iadd, pe_iload3, pe_aaload, pe_iaload, pe_call5, pe_goto, pe_iinc6, pe_iinc5, pm_prog_1, pm_ob_some, Nat.reduceDiv, Nat.reduceMod, Nat.reduceMul, Nat.reduceAdd, Int.reduceToNat, pm_kill_i, pm_kill_r, pm_kill_n, pm_kill_j, pm_kill_l, pm_kill_d, pm_cats_nil, pm_cats_i, pm_cats_r, pm_cats_n, pm_cats_l, pm_cats_d, sz_1, sz_2, sl_1, sl_2, lc_0, lc_lt, lc_le, li_ne, va_rf, wr_m1, we_m1, pm_kill_w, Int32.reduceOfInt, Int64.reduceOfInt, Int32.reduceOfNat, Int32.reduceLT, Int32.reduceLE, Prod.mk.injEq, Nat.reduceEqDiff, reduceCtorEq, and_true, true_and, and_false, false_and, and_self, ite_true, ite_false, ↓reduceIte, not_true_eq_false, not_false_eq_true, pe_ri, pe_rz, pe_rc, Cu_g1_2 hP hA, Cu_g10_0 hP hA, Cu_r4 hP hA, Cu_r5 hP hA, eq_true k2, eq_true k3, z4, eq_false k5, z6, eq_true k7, hc]
          · rw [if_neg k7] at e
            by_cases k8 : 0 ≤ x3 ∧ x3 < side
            · rw [if_pos k8] at e
              by_cases k9 : 0 ≤ x2 ∧ x2 < side
              · rw [if_pos k9] at e
                obtain ⟨v3, k10, e⟩ := Option.bind_eq_some_iff.mp e
                try dsimp only at e
                have z10 := x1157 (D := D) (h := h) hP hA (by omega) k10
                by_cases k11 : v3 = 0
                · rw [if_pos k11] at e
                  have e := Option.some.inj e; subst e
                  dsimp only [Sum.elim_inl, go1156_2] at hc
                  simp -implicitDefEqProofs (disch := first | assumption | exact Nat.le_of_ble_eq_true rfl | decide) only [b1156_0, g1156_3, b1156_3, g1156_4, b1156_4, g1156_5, b1156_5, g1156_6, b1156_6, pe_sipush, pe_istore4, pe_aload1, pe_getfield, pe_ineg, pe_istore5, pe_goto_w, pe_iload5, pe_icmp_gt, pe_iload4, pe_if_ne, pe_istore6, pe_iload6, pe_call3, pm_af_ret, pm_af_void, pm_af_thr, pe_if_eq, pe_aload0, pe_iload2, pe_iadd, pe_iload3, pe_aaload, pe_iaload, pe_call5, pe_goto, pe_iinc6, pe_iinc5, pm_prog_1, pm_ob_some, Nat.reduceDiv, Nat.reduceMod, Nat.reduceMul, Nat.reduceAdd, Int.reduceToNat, pm_kill_i, pm_kill_r, pm_kill_n, pm_kill_j, pm_kill_l, pm_kill_d, pm_cats_nil, pm_cats_i, pm_cats_r, pm_cats_n, pm_cats_l, pm_cats_d, sz_1, sz_2, sl_1, sl_2, lc_0, lc_lt, lc_le, li_ne, va_rf, wr_m1, we_m1, pm_kill_w, Int32.reduceOfInt, Int64.reduceOfInt, Int32.reduceOfNat, Int32.reduceLT, Int32.reduceLE, Prod.mk.injEq, Nat.reduceEqDiff, reduceCtorEq, and_true, true_and, and_false, false_and, and_self, ite_true, ite_false, ↓reduceIte, not_true_eq_false, not_false_eq_true, pe_ri, pe_rz, pe_rc, Cu_g1_2 hP hA, Cu_g10_0 hP hA, Cu_r4 hP hA, Cu_r5 hP hA, eq_true k2, eq_true k3, z4, eq_false k5, z6, eq_false k7, z10, eq_true k11, hc]
                · rw [if_neg k11] at e
                  have e := Option.some.inj e; subst e
                  dsimp only [Sum.elim_inl, go1156_2] at hc
                  simp -implicitDefEqProofs (disch := first | assumption | exact Nat.le_of_ble_eq_true rfl | decide) only [b1156_0, g1156_3, b1156_3, g1156_4, b1156_4, g1156_5, b1156_5, g1156_6, b1156_6, pe_sipush, pe_istore4, pe_aload1, pe_getfield, pe_ineg, pe_istore5, pe_goto_w, pe_iload5, pe_icmp_gt, pe_iload4, pe_if_ne, pe_istore6, pe_iload6, pe_call3, pm_af_ret, pm_af_void, pm_af_thr, pe_if_eq, pe_aload0, pe_iload2, pe_iadd, pe_iload3, pe_aaload, pe_iaload, pe_call5, pe_goto, pe_iinc6, pe_iinc5, pm_prog_1, pm_ob_some, Nat.reduceDiv, Nat.reduceMod, Nat.reduceMul, Nat.reduceAdd, Int.reduceToNat, pm_kill_i, pm_kill_r, pm_kill_n, pm_kill_j, pm_kill_l, pm_kill_d, pm_cats_nil, pm_cats_i, pm_cats_r, pm_cats_n, pm_cats_l, pm_cats_d, sz_1, sz_2, sl_1, sl_2, lc_0, lc_lt, lc_le, li_ne, va_rf, wr_m1, we_m1, pm_kill_w, Int32.reduceOfInt, Int64.reduceOfInt, Int32.reduceOfNat, Int32.reduceLT, Int32.reduceLE, Prod.mk.injEq, Nat.reduceEqDiff, reduceCtorEq, and_true, true_and, and_false, false_and, and_self, ite_true, ite_false, ↓reduceIte, not_true_eq_false, not_false_eq_true, pe_ri, pe_rz, pe_rc, Cu_g1_2 hP hA, Cu_g10_0 hP hA, Cu_r4 hP hA, Cu_r5 hP hA, eq_true k2, eq_true k3, z4, eq_false k5, z6, eq_false k7, z10, eq_false k11, hc]
              · rw [if_neg k9] at e; cases e
            · rw [if_neg k8] at e; cases e
      · rw [if_neg k3] at e
        have e := Option.some.inj e; subst e
        dsimp only [Sum.elim_inr, ex1156_2] at hc
        simp -implicitDefEqProofs (disch := first | assumption | exact Nat.le_of_ble_eq_true rfl | decide) only [b1156_0, g1156_3, b1156_3, g1156_4, b1156_4, g1156_5, b1156_5, g1156_6, b1156_6, pe_sipush, pe_istore4, pe_aload1, pe_getfield, pe_ineg, pe_istore5, pe_goto_w, pe_iload5, pe_icmp_gt, pe_iload4, pe_if_ne, pe_istore6, pe_iload6, pe_call3, pm_af_ret, pm_af_void, pm_af_thr, pe_if_eq, pe_aload0, pe_iload2, pe_iadd, pe_iload3, pe_aaload, pe_iaload, pe_call5, pe_goto, pe_iinc6, pe_iinc5, pm_prog_1, pm_ob_some, Nat.reduceDiv, Nat.reduceMod, Nat.reduceMul, Nat.reduceAdd, Int.reduceToNat, pm_kill_i, pm_kill_r, pm_kill_n, pm_kill_j, pm_kill_l, pm_kill_d, pm_cats_nil, pm_cats_i, pm_cats_r, pm_cats_n, pm_cats_l, pm_cats_d, sz_1, sz_2, sl_1, sl_2, lc_0, lc_lt, lc_le, li_ne, va_rf, wr_m1, we_m1, pm_kill_w, Int32.reduceOfInt, Int64.reduceOfInt, Int32.reduceOfNat, Int32.reduceLT, Int32.reduceLE, Prod.mk.injEq, Nat.reduceEqDiff, reduceCtorEq, and_true, true_and, and_false, false_and, and_self, ite_true, ite_false, ↓reduceIte, not_true_eq_false, not_false_eq_true, pe_ri, pe_rz, pe_rc, Cu_g1_2 hP hA, Cu_g10_0 hP hA, Cu_r4 hP hA, Cu_r5 hP hA, eq_true k2, eq_false k3, hc]
    · rw [if_neg k2] at e
      have e := Option.some.inj e; subst e
      dsimp only [Sum.elim_inr, ex1156_2] at hc
      simp -implicitDefEqProofs (disch := first | assumption | exact Nat.le_of_ble_eq_true rfl | decide) only [b1156_0, g1156_3, b1156_3, g1156_4, b1156_4, g1156_5, b1156_5, g1156_6, b1156_6, pe_sipush, pe_istore4, pe_aload1, pe_getfield, pe_ineg, pe_istore5, pe_goto_w, pe_iload5, pe_icmp_gt, pe_iload4, pe_if_ne, pe_istore6, pe_iload6, pe_call3, pm_af_ret, pm_af_void, pm_af_thr, pe_if_eq, pe_aload0, pe_iload2, pe_iadd, pe_iload3, pe_aaload, pe_iaload, pe_call5, pe_goto, pe_iinc6, pe_iinc5, pm_prog_1, pm_ob_some, Nat.reduceDiv, Nat.reduceMod, Nat.reduceMul, Nat.reduceAdd, Int.reduceToNat, pm_kill_i, pm_kill_r, pm_kill_n, pm_kill_j, pm_kill_l, pm_kill_d, pm_cats_nil, pm_cats_i, pm_cats_r, pm_cats_n, pm_cats_l, pm_cats_d, sz_1, sz_2, sl_1, sl_2, lc_0, lc_lt, lc_le, li_ne, va_rf, wr_m1, we_m1, pm_kill_w, Int32.reduceOfInt, Int64.reduceOfInt, Int32.reduceOfNat, Int32.reduceLT, Int32.reduceLE, Prod.mk.injEq, Nat.reduceEqDiff, reduceCtorEq, and_true, true_and, and_false, false_and, and_self, ite_true, ite_false, ↓reduceIte, not_true_eq_false, not_false_eq_true, pe_ri, pe_rz, pe_rc, Cu_g1_2 hP hA, Cu_g10_0 hP hA, Cu_r4 hP hA, Cu_r5 hP hA, eq_false k2, hc]
  · rw [if_neg k1] at e; cases e
theorem z1156_2 {side : Int32} {A : wK → Nat} {h : pm_H} {D : Nat} {R : Outcome × pm_H} {S : wS} (hP : Cu_P side) (hA : wok A (Cu_d side) h.1) (hD : 2 ≤ D) {n : Nat} {a : Int32 × Int32 × Int32 × Int32 × Int32 × Int32} {b : (Int32 × Int32 × Int32 × Int32 × Int32)} (e : lp (f1156_b2 side S) n a = some b) (hx : ex1156_2 side A h D R S b) : go1156_2 side A h D R S a := lp_run (fun a r => y1156_b2 hP hA hD a r) n a b e hx
def go1156_1 (side : Int32) (A : wK → Nat) (h : pm_H) (D : Nat) (R : Outcome × pm_H) (S : wS) : Int32 × Int32 × Int32 × Int32 × Int32 → Prop := fun (x1i, x2, x3, x4, x5) => ∀ q6 : Value, pm_go pm_prog (pm_call pm_prog D) 1156 1 [.ref (A (1, 0, 0)), .ref (A (10, x1i, 0)), .int x2, .int x3, .int x4, .int x5, q6] [] (wput A (Cu_d side) S h) = some R
def ex1156_1 (side : Int32) (A : wK → Nat) (h : pm_H) (D : Nat) (R : Outcome × pm_H) (S : wS) : (Int32) → Prop := fun x4 => ∀ q0 q1 q2 q3 q5 q6 : Value, pm_go pm_prog (pm_call pm_prog D) 1156 6 [q0, q1, q2, q3, .int x4, q5, q6] [] (wput A (Cu_d side) S h) = some R
theorem y1156_b1 {side : Int32} {A : wK → Nat} {h : pm_H} {D : Nat} {R : Outcome × pm_H} {S : wS} (hP : Cu_P side) (hA : wok A (Cu_d side) h.1) (hD : 2 ≤ D) (a : Int32 × Int32 × Int32 × Int32 × Int32) (r : (Int32 × Int32 × Int32 × Int32 × Int32) ⊕ ((Int32))) (e : f1156_b1 side S a = some r) (hc : Sum.elim (go1156_1 side A h D R S) (ex1156_1 side A h D R S) r) : go1156_1 side A h D R S a := by
  obtain ⟨x1i, x2, x3, x4, x5⟩ := a
  dsimp only [go1156_1]
  intro q6
  simp only [f1156_b1] at e
  rw [g1156_1, b1156_1]
  by_cases k1 : 0 ≤ x1i ∧ x1i < 4
  · rw [if_pos k1] at e
    by_cases k2 : x5 ≤ (S.1 (10, x1i, 0) 0)
    · rw [if_pos k2] at e
      by_cases k3 : x4 = 0
      · rw [if_pos k3] at e
        obtain ⟨⟨v5i, v6, v7, v8, v9⟩, k4, e⟩ := Option.bind_eq_some_iff.mp e
        try dsimp only at e
        try simp -implicitDefEqProofs (disch := first | assumption | exact Nat.le_of_ble_eq_true rfl | decide) only [b1156_0, g1156_3, b1156_3, g1156_4, b1156_4, g1156_5, b1156_5, g1156_6, b1156_6, pe_sipush, pe_istore4, pe_aload1, pe_getfield, pe_ineg, pe_istore5, pe_goto_w, pe_iload5, pe_icmp_gt, pe_iload4, pe_if_ne, pe_istore6, pe_iload6, pe_call3, pm_af_ret, pm_af_void, pm_af_thr, pe_if_eq, pe_aload0, pe_iload2, pe_iadd, pe_iload3, pe_aaload, pe_iaload, pe_call5, pe_goto, pe_iinc6, pe_iinc5, pm_prog_1, pm_ob_some, Nat.reduceDiv, Nat.reduceMod, Nat.reduceMul, Nat.reduceAdd, Int.reduceToNat, pm_kill_i, pm_kill_r, pm_kill_n, pm_kill_j, pm_kill_l, pm_kill_d, pm_cats_nil, pm_cats_i, pm_cats_r, pm_cats_n, pm_cats_l, pm_cats_d, sz_1, sz_2, sl_1, sl_2, lc_0, lc_lt, lc_le, li_ne, va_rf, wr_m1, we_m1, pm_kill_w, Int32.reduceOfInt, Int64.reduceOfInt, Int32.reduceOfNat, Int32.reduceLT, Int32.reduceLE, Prod.mk.injEq, Nat.reduceEqDiff, reduceCtorEq, and_true, true_and, and_false, false_and, and_self, ite_true, ite_false, ↓reduceIte, not_true_eq_false, not_false_eq_true, pe_ri, pe_rz, pe_rc, Cu_g1_2 hP hA, Cu_g10_0 hP hA, Cu_r4 hP hA, Cu_r5 hP hA, eq_true k2, eq_true k3]
        refine z1156_2 hP hA hD k4 ?_
        dsimp only [ex1156_2]
        intro q6
        by_cases k5 : 0 ≤ v5i ∧ v5i < 4
        · rw [if_pos k5] at e
          have e := Option.some.inj e; subst e
          dsimp only [Sum.elim_inl, go1156_1] at hc
          simp -implicitDefEqProofs (disch := first | assumption | exact Nat.le_of_ble_eq_true rfl | decide) only [b1156_0, g1156_3, b1156_3, g1156_4, b1156_4, g1156_5, b1156_5, g1156_6, b1156_6, pe_sipush, pe_istore4, pe_aload1, pe_getfield, pe_ineg, pe_istore5, pe_goto_w, pe_iload5, pe_icmp_gt, pe_iload4, pe_if_ne, pe_istore6, pe_iload6, pe_call3, pm_af_ret, pm_af_void, pm_af_thr, pe_if_eq, pe_aload0, pe_iload2, pe_iadd, pe_iload3, pe_aaload, pe_iaload, pe_call5, pe_goto, pe_iinc6, pe_iinc5, pm_prog_1, pm_ob_some, Nat.reduceDiv, Nat.reduceMod, Nat.reduceMul, Nat.reduceAdd, Int.reduceToNat, pm_kill_i, pm_kill_r, pm_kill_n, pm_kill_j, pm_kill_l, pm_kill_d, pm_cats_nil, pm_cats_i, pm_cats_r, pm_cats_n, pm_cats_l, pm_cats_d, sz_1, sz_2, sl_1, sl_2, lc_0, lc_lt, lc_le, li_ne, va_rf, wr_m1, we_m1, pm_kill_w, Int32.reduceOfInt, Int64.reduceOfInt, Int32.reduceOfNat, Int32.reduceLT, Int32.reduceLE, Prod.mk.injEq, Nat.reduceEqDiff, reduceCtorEq, and_true, true_and, and_false, false_and, and_self, ite_true, ite_false, ↓reduceIte, not_true_eq_false, not_false_eq_true, pe_ri, pe_rz, pe_rc, Cu_g1_2 hP hA, Cu_g10_0 hP hA, Cu_r4 hP hA, Cu_r5 hP hA, eq_true k2, eq_true k3, hc]
        · rw [if_neg k5] at e; cases e
      · rw [if_neg k3] at e
        have e := Option.some.inj e; subst e
        dsimp only [Sum.elim_inr, ex1156_1] at hc
        simp -implicitDefEqProofs (disch := first | assumption | exact Nat.le_of_ble_eq_true rfl | decide) only [b1156_0, g1156_3, b1156_3, g1156_4, b1156_4, g1156_5, b1156_5, g1156_6, b1156_6, pe_sipush, pe_istore4, pe_aload1, pe_getfield, pe_ineg, pe_istore5, pe_goto_w, pe_iload5, pe_icmp_gt, pe_iload4, pe_if_ne, pe_istore6, pe_iload6, pe_call3, pm_af_ret, pm_af_void, pm_af_thr, pe_if_eq, pe_aload0, pe_iload2, pe_iadd, pe_iload3, pe_aaload, pe_iaload, pe_call5, pe_goto, pe_iinc6, pe_iinc5, pm_prog_1, pm_ob_some, Nat.reduceDiv, Nat.reduceMod, Nat.reduceMul, Nat.reduceAdd, Int.reduceToNat, pm_kill_i, pm_kill_r, pm_kill_n, pm_kill_j, pm_kill_l, pm_kill_d, pm_cats_nil, pm_cats_i, pm_cats_r, pm_cats_n, pm_cats_l, pm_cats_d, sz_1, sz_2, sl_1, sl_2, lc_0, lc_lt, lc_le, li_ne, va_rf, wr_m1, we_m1, pm_kill_w, Int32.reduceOfInt, Int64.reduceOfInt, Int32.reduceOfNat, Int32.reduceLT, Int32.reduceLE, Prod.mk.injEq, Nat.reduceEqDiff, reduceCtorEq, and_true, true_and, and_false, false_and, and_self, ite_true, ite_false, ↓reduceIte, not_true_eq_false, not_false_eq_true, pe_ri, pe_rz, pe_rc, Cu_g1_2 hP hA, Cu_g10_0 hP hA, Cu_r4 hP hA, Cu_r5 hP hA, eq_true k2, eq_false k3, hc]
    · rw [if_neg k2] at e
      have e := Option.some.inj e; subst e
      dsimp only [Sum.elim_inr, ex1156_1] at hc
      simp -implicitDefEqProofs (disch := first | assumption | exact Nat.le_of_ble_eq_true rfl | decide) only [b1156_0, g1156_3, b1156_3, g1156_4, b1156_4, g1156_5, b1156_5, g1156_6, b1156_6, pe_sipush, pe_istore4, pe_aload1, pe_getfield, pe_ineg, pe_istore5, pe_goto_w, pe_iload5, pe_icmp_gt, pe_iload4, pe_if_ne, pe_istore6, pe_iload6, pe_call3, pm_af_ret, pm_af_void, pm_af_thr, pe_if_eq, pe_aload0, pe_iload2, pe_iadd, pe_iload3, pe_aaload, pe_iaload, pe_call5, pe_goto, pe_iinc6, pe_iinc5, pm_prog_1, pm_ob_some, Nat.reduceDiv, Nat.reduceMod, Nat.reduceMul, Nat.reduceAdd, Int.reduceToNat, pm_kill_i, pm_kill_r, pm_kill_n, pm_kill_j, pm_kill_l, pm_kill_d, pm_cats_nil, pm_cats_i, pm_cats_r, pm_cats_n, pm_cats_l, pm_cats_d, sz_1, sz_2, sl_1, sl_2, lc_0, lc_lt, lc_le, li_ne, va_rf, wr_m1, we_m1, pm_kill_w, Int32.reduceOfInt, Int64.reduceOfInt, Int32.reduceOfNat, Int32.reduceLT, Int32.reduceLE, Prod.mk.injEq, Nat.reduceEqDiff, reduceCtorEq, and_true, true_and, and_false, false_and, and_self, ite_true, ite_false, ↓reduceIte, not_true_eq_false, not_false_eq_true, pe_ri, pe_rz, pe_rc, Cu_g1_2 hP hA, Cu_g10_0 hP hA, Cu_r4 hP hA, Cu_r5 hP hA, eq_false k2, hc]
  · rw [if_neg k1] at e; cases e
theorem z1156_1 {side : Int32} {A : wK → Nat} {h : pm_H} {D : Nat} {R : Outcome × pm_H} {S : wS} (hP : Cu_P side) (hA : wok A (Cu_d side) h.1) (hD : 2 ≤ D) {n : Nat} {a : Int32 × Int32 × Int32 × Int32 × Int32} {b : (Int32)} (e : lp (f1156_b1 side S) n a = some b) (hx : ex1156_1 side A h D R S b) : go1156_1 side A h D R S a := lp_run (fun a r => y1156_b1 hP hA hD a r) n a b e hx
theorem x1156 {side : Int32} {A : wK → Nat} {h : pm_H} {D : Nat} {S : wS} {x1i : Int32} {x2 : Int32} {x3 : Int32} {r : Int32} (hP : Cu_P side) (hA : wok A (Cu_d side) h.1) (hD : 3 ≤ D) (e : f1156 side S x1i x2 x3 = some r) : pm_call pm_prog D 1156 [.ref (A (1, 0, 0)), .ref (A (10, x1i, 0)), .int x2, .int x3] (wput A (Cu_d side) S h) = some (Outcome.returned (some (.int r)), (wput A (Cu_d side) S h)) := by
  obtain ⟨D, rfl⟩ : ∃ D', D = D' + 1 := ⟨D - 1, by omega⟩
  have hD : 2 ≤ D := by omega
  simp only [f1156] at e
  have k1 : 0 ≤ x1i ∧ x1i < 4 := by
    by_cases q : 0 ≤ x1i ∧ x1i < 4
    · exact q
    · rw [if_neg q] at e; cases e
  rw [if_pos k1] at e
  rw [c1156 (Cu_c1 hP hA), b1156_0]
  obtain ⟨v10, k2, e⟩ := Option.bind_eq_some_iff.mp e
  try dsimp only at e
  try simp -implicitDefEqProofs (disch := first | assumption | exact Nat.le_of_ble_eq_true rfl | decide) only [b1156_0, g1156_3, b1156_3, g1156_4, b1156_4, g1156_5, b1156_5, g1156_6, b1156_6, pe_sipush, pe_istore4, pe_aload1, pe_getfield, pe_ineg, pe_istore5, pe_goto_w, pe_iload5, pe_icmp_gt, pe_iload4, pe_if_ne, pe_istore6, pe_iload6, pe_call3, pm_af_ret, pm_af_void, pm_af_thr, pe_if_eq, pe_aload0, pe_iload2, pe_iadd, pe_iload3, pe_aaload, pe_iaload, pe_call5, pe_goto, pe_iinc6, pe_iinc5, pm_prog_1, pm_ob_some, Nat.reduceDiv, Nat.reduceMod, Nat.reduceMul, Nat.reduceAdd, Int.reduceToNat, pm_kill_i, pm_kill_r, pm_kill_n, pm_kill_j, pm_kill_l, pm_kill_d, pm_cats_nil, pm_cats_i, pm_cats_r, pm_cats_n, pm_cats_l, pm_cats_d, sz_1, sz_2, sl_1, sl_2, lc_0, lc_lt, lc_le, li_ne, va_rf, wr_m1, we_m1, pm_kill_w, Int32.reduceOfInt, Int64.reduceOfInt, Int32.reduceOfNat, Int32.reduceLT, Int32.reduceLE, Prod.mk.injEq, Nat.reduceEqDiff, reduceCtorEq, and_true, true_and, and_false, false_and, and_self, ite_true, ite_false, ↓reduceIte, not_true_eq_false, not_false_eq_true, pe_ri, pe_rz, pe_rc, Cu_g1_2 hP hA, Cu_g10_0 hP hA, Cu_r4 hP hA, Cu_r5 hP hA]
  refine z1156_1 hP hA hD k2 ?_ _
  dsimp only [ex1156_1]
  intro q0 q1 q2 q3 q5 q6
  by_cases k3 : v10 = 0 ∨ v10 = 1
  · rw [if_pos k3] at e
    have e := Option.some.inj e; subst e
    simp -implicitDefEqProofs (disch := first | assumption | exact Nat.le_of_ble_eq_true rfl | decide) only [b1156_0, g1156_3, b1156_3, g1156_4, b1156_4, g1156_5, b1156_5, g1156_6, b1156_6, pe_sipush, pe_istore4, pe_aload1, pe_getfield, pe_ineg, pe_istore5, pe_goto_w, pe_iload5, pe_icmp_gt, pe_iload4, pe_if_ne, pe_istore6, pe_iload6, pe_call3, pm_af_ret, pm_af_void, pm_af_thr, pe_if_eq, pe_aload0, pe_iload2, pe_iadd, pe_iload3, pe_aaload, pe_iaload, pe_call5, pe_goto, pe_iinc6, pe_iinc5, pm_prog_1, pm_ob_some, Nat.reduceDiv, Nat.reduceMod, Nat.reduceMul, Nat.reduceAdd, Int.reduceToNat, pm_kill_i, pm_kill_r, pm_kill_n, pm_kill_j, pm_kill_l, pm_kill_d, pm_cats_nil, pm_cats_i, pm_cats_r, pm_cats_n, pm_cats_l, pm_cats_d, sz_1, sz_2, sl_1, sl_2, lc_0, lc_lt, lc_le, li_ne, va_rf, wr_m1, we_m1, pm_kill_w, Int32.reduceOfInt, Int64.reduceOfInt, Int32.reduceOfNat, Int32.reduceLT, Int32.reduceLE, Prod.mk.injEq, Nat.reduceEqDiff, reduceCtorEq, and_true, true_and, and_false, false_and, and_self, ite_true, ite_false, ↓reduceIte, not_true_eq_false, not_false_eq_true, pe_ri, pe_rz, pe_rc, Cu_g1_2 hP hA, Cu_g10_0 hP hA, Cu_r4 hP hA, Cu_r5 hP hA]
  · rw [if_neg k3] at e; cases e
/-- TimberHouse$RouterPaths.reached(I)I -/
theorem c1044 {d : Nat} {h : pm_H} {a : Nat} {x0 : Int32} (hc : pm_cls h a = some 16) : pm_call pm_prog (d + 1) 1044 [.ref a, .int x0] h = pm_ev pm_prog (pm_call pm_prog d) 1044 0 b1044_0 [.ref a, .int x0, pm_junk, pm_junk, pm_junk] [] h := pm_cal (pm_rc1 hc rfl) rfl rfl rfl
theorem g1044_1 {cl : pm_C} {ls st : List Value} {h : pm_H} : pm_go pm_prog cl 1044 1 ls st h = pm_ev pm_prog cl 1044 1 b1044_1 ls st h := pm_go_eq pm_prog cl 1044 1 ls st h
theorem g1044_2 {cl : pm_C} {ls st : List Value} {h : pm_H} : pm_go pm_prog cl 1044 2 ls st h = pm_ev pm_prog cl 1044 2 b1044_2 ls st h := pm_go_eq pm_prog cl 1044 2 ls st h
theorem g1044_3 {cl : pm_C} {ls st : List Value} {h : pm_H} : pm_go pm_prog cl 1044 3 ls st h = pm_ev pm_prog cl 1044 3 b1044_3 ls st h := pm_go_eq pm_prog cl 1044 3 ls st h
theorem g1044_4 {cl : pm_C} {ls st : List Value} {h : pm_H} : pm_go pm_prog cl 1044 4 ls st h = pm_ev pm_prog cl 1044 4 b1044_4 ls st h := pm_go_eq pm_prog cl 1044 4 ls st h
theorem g1044_5 {cl : pm_C} {ls st : List Value} {h : pm_H} : pm_go pm_prog cl 1044 5 ls st h = pm_ev pm_prog cl 1044 5 b1044_5 ls st h := pm_go_eq pm_prog cl 1044 5 ls st h
theorem g1044_6 {cl : pm_C} {ls st : List Value} {h : pm_H} : pm_go pm_prog cl 1044 6 ls st h = pm_ev pm_prog cl 1044 6 b1044_6 ls st h := pm_go_eq pm_prog cl 1044 6 ls st h
theorem t1044 {cl : pm_C} {j : Nat} {ls : List Value} {c : Nat} {h : pm_H} : pm_thr pm_prog cl 1044 j ls c h = some (.threw c, h) := rfl
noncomputable def f1044_b2 (side : Int32) (S : wS) : Int32 × Int32 × Int32 × Int32 → Option ((Int32 × Int32 × Int32 × Int32) ⊕ ((Int32 × Int32 × Int32))) := fun (x1, x2, x3, x4) =>
  if x4 < (S.1 (1, 0, 0) 0) then
    if 0 ≤ x3 ∧ x3 < side then
      if 0 ≤ x4 ∧ x4 < side then
        if (S.1 (3, x3, 0) x4) ≤ (S.1 (5, x3, 0) x4) then
          some (.inl (x1, (x2 + 0), x3, (x4 + 1)))
        else
          if 0 ≤ x1 ∧ x1 < 4 then
            (f1156 side S x1 x4 x3).bind fun v2 =>
            if v2 = 0 then
              some (.inl (x1, (x2 + 0), x3, (x4 + 1)))
            else
              some (.inl (x1, (x2 + 1), x3, (x4 + 1)))
          else none
      else none
    else none
  else
    some (.inr (x1, x2, x3))
noncomputable def f1044_b1 (side : Int32) (S : wS) : Int32 × Int32 × Int32 → Option ((Int32 × Int32 × Int32) ⊕ ((Int32))) := fun (x1, x2, x3) =>
  if x3 < (S.1 (1, 0, 0) 0) then
    (lp (f1044_b2 side S) FU (x1, x2, x3, 0)).bind fun (v4, v5, v6) =>
    some (.inl (v4, v5, (v6 + 1)))
  else
    some (.inr x2)
/-- TimberHouse$RouterPaths.reached(I)I -/
noncomputable def f1044 (side : Int32) (S : wS) (x1 : Int32) : Option (Nat ⊕ (Int32)) :=
  (f1026 x1 0 3).bind fun v1 =>
  (f1028 v1).bind fun r => match r with
  | .inl c8 =>
    some (.inl c8)
  | .inr _ =>
  (lp (f1044_b1 side S) FU (x1, 0, 0)).bind fun v7 =>
  some (.inr v7)
def go1044_2 (side : Int32) (A : wK → Nat) (h : pm_H) (D : Nat) (R : Outcome × pm_H) (S : wS) : Int32 × Int32 × Int32 × Int32 → Prop := fun (x1, x2, x3, x4) => pm_go pm_prog (pm_call pm_prog D) 1044 2 [.ref (A (0, 0, 0)), .int x1, .int x2, .int x3, .int x4] [] (wput A (Cu_d side) S h) = some R
def ex1044_2 (side : Int32) (A : wK → Nat) (h : pm_H) (D : Nat) (R : Outcome × pm_H) (S : wS) : (Int32 × Int32 × Int32) → Prop := fun (x1, x2, x3) => ∀ q4 : Value, pm_go pm_prog (pm_call pm_prog D) 1044 5 [.ref (A (0, 0, 0)), .int x1, .int x2, .int x3, q4] [] (wput A (Cu_d side) S h) = some R
theorem y1044_b2 {side : Int32} {A : wK → Nat} {h : pm_H} {D : Nat} {R : Outcome × pm_H} {S : wS} (hP : Cu_P side) (hA : wok A (Cu_d side) h.1) (hD : 3 ≤ D) (a : Int32 × Int32 × Int32 × Int32) (r : (Int32 × Int32 × Int32 × Int32) ⊕ ((Int32 × Int32 × Int32))) (e : f1044_b2 side S a = some r) (hc : Sum.elim (go1044_2 side A h D R S) (ex1044_2 side A h D R S) r) : go1044_2 side A h D R S a := by
  obtain ⟨x1, x2, x3, x4⟩ := a
  dsimp only [go1044_2]
  simp only [f1044_b2] at e
  rw [g1044_2, b1044_2]
  by_cases k1 : x4 < (S.1 (1, 0, 0) 0)
  · rw [if_pos k1] at e
    by_cases k2 : 0 ≤ x3 ∧ x3 < side
    · rw [if_pos k2] at e
      by_cases k3 : 0 ≤ x4 ∧ x4 < side
      · rw [if_pos k3] at e
        by_cases k4 : (S.1 (3, x3, 0) x4) ≤ (S.1 (5, x3, 0) x4)
        · rw [if_pos k4] at e
          have e := Option.some.inj e; subst e
          dsimp only [Sum.elim_inl, go1044_2] at hc
          simp -implicitDefEqProofs (disch := first | assumption | exact Nat.le_of_ble_eq_true rfl | decide) only [b1044_0, g1044_3, b1044_3, g1044_4, b1044_4, g1044_5, b1044_5, g1044_6, b1044_6, pe_iload1, pe_sipush, pe_call3, pm_af_ret, pm_af_void, pm_af_thr, pe_call1, pe_istore2, pe_istore3, pe_goto_w, pe_iload3, pe_aload0, pe_getfield, pe_icmp_ge, pe_istore4, pe_iload4, pe_iload2, pe_aaload, pe_iaload, pe_icmp_le, pe_call4, pe_if_eq, pe_goto, pe_iadd, pe_iinc4, pe_iinc3, pm_prog_1, pm_ob_some, Nat.reduceDiv, Nat.reduceMod, Nat.reduceMul, Nat.reduceAdd, Int.reduceToNat, pm_kill_i, pm_kill_r, pm_kill_n, pm_kill_j, pm_kill_l, pm_kill_d, pm_cats_nil, pm_cats_i, pm_cats_r, pm_cats_n, pm_cats_l, pm_cats_d, sz_1, sz_2, sl_1, sl_2, lc_0, lc_lt, lc_le, li_ne, va_rf, wr_m1, we_m1, pm_kill_w, Int32.reduceOfInt, Int64.reduceOfInt, Int32.reduceOfNat, Int32.reduceLT, Int32.reduceLE, Prod.mk.injEq, Nat.reduceEqDiff, reduceCtorEq, and_true, true_and, and_false, false_and, and_self, ite_true, ite_false, ↓reduceIte, not_true_eq_false, not_false_eq_true, pe_ri, pe_rz, pe_rc, p_throw, t1044, w_junk hA, Cu_g0_0 hP hA, Cu_g0_1 hP hA, Cu_g1_0 hP hA, Cu_g1_1 hP hA, Cu_g1_2 hP hA, Cu_r2 hP hA, Cu_r3 hP hA, Cu_r4 hP hA, Cu_r5 hP hA, Cu_r9 hP hA, eq_true k1, eq_true k4, hc]
        · rw [if_neg k4] at e
          by_cases k5 : 0 ≤ x1 ∧ x1 < 4
          · rw [if_pos k5] at e
            obtain ⟨v2, k6, e⟩ := Option.bind_eq_some_iff.mp e
            try dsimp only at e
            have z6 := x1156 (D := D) (h := h) hP hA (by omega) k6
            by_cases k7 : v2 = 0
            · rw [if_pos k7] at e
              have e := Option.some.inj e; subst e
              dsimp only [Sum.elim_inl, go1044_2] at hc
              simp -implicitDefEqProofs (disch := first | assumption | exact Nat.le_of_ble_eq_true rfl | decide) only [b1044_0, g1044_3, b1044_3, g1044_4, b1044_4, g1044_5, b1044_5, g1044_6, b1044_6, pe_iload1, pe_sipush, pe_call3, pm_af_ret, pm_af_void, pm_af_thr, pe_call1, pe_istore2, pe_istore3, pe_goto_w, pe_iload3, pe_aload0, pe_getfield, pe_icmp_ge, pe_istore4, pe_iload4, pe_iload2, pe_aaload, pe_iaload, pe_icmp_le, pe_call4, pe_if_eq, pe_goto, pe_iadd, pe_iinc4, pe_iinc3, pm_prog_1, pm_ob_some, Nat.reduceDiv, Nat.reduceMod, Nat.reduceMul, Nat.reduceAdd, Int.reduceToNat, pm_kill_i, pm_kill_r, pm_kill_n, pm_kill_j, pm_kill_l, pm_kill_d, pm_cats_nil, pm_cats_i, pm_cats_r, pm_cats_n, pm_cats_l, pm_cats_d, sz_1, sz_2, sl_1, sl_2, lc_0, lc_lt, lc_le, li_ne, va_rf, wr_m1, we_m1, pm_kill_w, Int32.reduceOfInt, Int64.reduceOfInt, Int32.reduceOfNat, Int32.reduceLT, Int32.reduceLE, Prod.mk.injEq, Nat.reduceEqDiff, reduceCtorEq, and_true, true_and, and_false, false_and, and_self, ite_true, ite_false, ↓reduceIte, not_true_eq_false, not_false_eq_true, pe_ri, pe_rz, pe_rc, p_throw, t1044, w_junk hA, Cu_g0_0 hP hA, Cu_g0_1 hP hA, Cu_g1_0 hP hA, Cu_g1_1 hP hA, Cu_g1_2 hP hA, Cu_r2 hP hA, Cu_r3 hP hA, Cu_r4 hP hA, Cu_r5 hP hA, Cu_r9 hP hA, eq_true k1, eq_false k4, z6, eq_true k7, hc]
            · rw [if_neg k7] at e
              have e := Option.some.inj e; subst e
              dsimp only [Sum.elim_inl, go1044_2] at hc
              simp -implicitDefEqProofs (disch := first | assumption | exact Nat.le_of_ble_eq_true rfl | decide) only [b1044_0, g1044_3, b1044_3, g1044_4, b1044_4, g1044_5, b1044_5, g1044_6, b1044_6, pe_iload1, pe_sipush, pe_call3, pm_af_ret, pm_af_void, pm_af_thr, pe_call1, pe_istore2, pe_istore3, pe_goto_w, pe_iload3, pe_aload0, pe_getfield, pe_icmp_ge, pe_istore4, pe_iload4, pe_iload2, pe_aaload, pe_iaload, pe_icmp_le, pe_call4, pe_if_eq, pe_goto, pe_iadd, pe_iinc4, pe_iinc3, pm_prog_1, pm_ob_some, Nat.reduceDiv, Nat.reduceMod, Nat.reduceMul, Nat.reduceAdd, Int.reduceToNat, pm_kill_i, pm_kill_r, pm_kill_n, pm_kill_j, pm_kill_l, pm_kill_d, pm_cats_nil, pm_cats_i, pm_cats_r, pm_cats_n, pm_cats_l, pm_cats_d, sz_1, sz_2, sl_1, sl_2, lc_0, lc_lt, lc_le, li_ne, va_rf, wr_m1, we_m1, pm_kill_w, Int32.reduceOfInt, Int64.reduceOfInt, Int32.reduceOfNat, Int32.reduceLT, Int32.reduceLE, Prod.mk.injEq, Nat.reduceEqDiff, reduceCtorEq, and_true, true_and, and_false, false_and, and_self, ite_true, ite_false, ↓reduceIte, not_true_eq_false, not_false_eq_true, pe_ri, pe_rz, pe_rc, p_throw, t1044, w_junk hA, Cu_g0_0 hP hA, Cu_g0_1 hP hA, Cu_g1_0 hP hA, Cu_g1_1 hP hA, Cu_g1_2 hP hA, Cu_r2 hP hA, Cu_r3 hP hA, Cu_r4 hP hA, Cu_r5 hP hA, Cu_r9 hP hA, eq_true k1, eq_false k4, z6, eq_false k7, hc]
          · rw [if_neg k5] at e; cases e
      · rw [if_neg k3] at e; cases e
    · rw [if_neg k2] at e; cases e
  · rw [if_neg k1] at e
    have e := Option.some.inj e; subst e
    dsimp only [Sum.elim_inr, ex1044_2] at hc
    simp -implicitDefEqProofs (disch := first | assumption | exact Nat.le_of_ble_eq_true rfl | decide) only [b1044_0, g1044_3, b1044_3, g1044_4, b1044_4, g1044_5, b1044_5, g1044_6, b1044_6, pe_iload1, pe_sipush, pe_call3, pm_af_ret, pm_af_void, pm_af_thr, pe_call1, pe_istore2, pe_istore3, pe_goto_w, pe_iload3, pe_aload0, pe_getfield, pe_icmp_ge, pe_istore4, pe_iload4, pe_iload2, pe_aaload, pe_iaload, pe_icmp_le, pe_call4, pe_if_eq, pe_goto, pe_iadd, pe_iinc4, pe_iinc3, pm_prog_1, pm_ob_some, Nat.reduceDiv, Nat.reduceMod, Nat.reduceMul, Nat.reduceAdd, Int.reduceToNat, pm_kill_i, pm_kill_r, pm_kill_n, pm_kill_j, pm_kill_l, pm_kill_d, pm_cats_nil, pm_cats_i, pm_cats_r, pm_cats_n, pm_cats_l, pm_cats_d, sz_1, sz_2, sl_1, sl_2, lc_0, lc_lt, lc_le, li_ne, va_rf, wr_m1, we_m1, pm_kill_w, Int32.reduceOfInt, Int64.reduceOfInt, Int32.reduceOfNat, Int32.reduceLT, Int32.reduceLE, Prod.mk.injEq, Nat.reduceEqDiff, reduceCtorEq, and_true, true_and, and_false, false_and, and_self, ite_true, ite_false, ↓reduceIte, not_true_eq_false, not_false_eq_true, pe_ri, pe_rz, pe_rc, p_throw, t1044, w_junk hA, Cu_g0_0 hP hA, Cu_g0_1 hP hA, Cu_g1_0 hP hA, Cu_g1_1 hP hA, Cu_g1_2 hP hA, Cu_r2 hP hA, Cu_r3 hP hA, Cu_r4 hP hA, Cu_r5 hP hA, Cu_r9 hP hA, eq_false k1, hc]
theorem z1044_2 {side : Int32} {A : wK → Nat} {h : pm_H} {D : Nat} {R : Outcome × pm_H} {S : wS} (hP : Cu_P side) (hA : wok A (Cu_d side) h.1) (hD : 3 ≤ D) {n : Nat} {a : Int32 × Int32 × Int32 × Int32} {b : (Int32 × Int32 × Int32)} (e : lp (f1044_b2 side S) n a = some b) (hx : ex1044_2 side A h D R S b) : go1044_2 side A h D R S a := lp_run (fun a r => y1044_b2 hP hA hD a r) n a b e hx
def go1044_1 (side : Int32) (A : wK → Nat) (h : pm_H) (D : Nat) (R : Outcome × pm_H) (S : wS) : Int32 × Int32 × Int32 → Prop := fun (x1, x2, x3) => ∀ q4 : Value, pm_go pm_prog (pm_call pm_prog D) 1044 1 [.ref (A (0, 0, 0)), .int x1, .int x2, .int x3, q4] [] (wput A (Cu_d side) S h) = some R
def ex1044_1 (side : Int32) (A : wK → Nat) (h : pm_H) (D : Nat) (R : Outcome × pm_H) (S : wS) : (Int32) → Prop := fun x2 => ∀ q0 q1 q3 q4 : Value, pm_go pm_prog (pm_call pm_prog D) 1044 6 [q0, q1, .int x2, q3, q4] [] (wput A (Cu_d side) S h) = some R
theorem y1044_b1 {side : Int32} {A : wK → Nat} {h : pm_H} {D : Nat} {R : Outcome × pm_H} {S : wS} (hP : Cu_P side) (hA : wok A (Cu_d side) h.1) (hD : 3 ≤ D) (a : Int32 × Int32 × Int32) (r : (Int32 × Int32 × Int32) ⊕ ((Int32))) (e : f1044_b1 side S a = some r) (hc : Sum.elim (go1044_1 side A h D R S) (ex1044_1 side A h D R S) r) : go1044_1 side A h D R S a := by
  obtain ⟨x1, x2, x3⟩ := a
  dsimp only [go1044_1]
  intro q4
  simp only [f1044_b1] at e
  rw [g1044_1, b1044_1]
  by_cases k1 : x3 < (S.1 (1, 0, 0) 0)
  · rw [if_pos k1] at e
    obtain ⟨⟨v4, v5, v6⟩, k2, e⟩ := Option.bind_eq_some_iff.mp e
    try dsimp only at e
    try simp -implicitDefEqProofs (disch := first | assumption | exact Nat.le_of_ble_eq_true rfl | decide) only [b1044_0, g1044_3, b1044_3, g1044_4, b1044_4, g1044_5, b1044_5, g1044_6, b1044_6, pe_iload1, pe_sipush, pe_call3, pm_af_ret, pm_af_void, pm_af_thr, pe_call1, pe_istore2, pe_istore3, pe_goto_w, pe_iload3, pe_aload0, pe_getfield, pe_icmp_ge, pe_istore4, pe_iload4, pe_iload2, pe_aaload, pe_iaload, pe_icmp_le, pe_call4, pe_if_eq, pe_goto, pe_iadd, pe_iinc4, pe_iinc3, pm_prog_1, pm_ob_some, Nat.reduceDiv, Nat.reduceMod, Nat.reduceMul, Nat.reduceAdd, Int.reduceToNat, pm_kill_i, pm_kill_r, pm_kill_n, pm_kill_j, pm_kill_l, pm_kill_d, pm_cats_nil, pm_cats_i, pm_cats_r, pm_cats_n, pm_cats_l, pm_cats_d, sz_1, sz_2, sl_1, sl_2, lc_0, lc_lt, lc_le, li_ne, va_rf, wr_m1, we_m1, pm_kill_w, Int32.reduceOfInt, Int64.reduceOfInt, Int32.reduceOfNat, Int32.reduceLT, Int32.reduceLE, Prod.mk.injEq, Nat.reduceEqDiff, reduceCtorEq, and_true, true_and, and_false, false_and, and_self, ite_true, ite_false, ↓reduceIte, not_true_eq_false, not_false_eq_true, pe_ri, pe_rz, pe_rc, p_throw, t1044, w_junk hA, Cu_g0_0 hP hA, Cu_g0_1 hP hA, Cu_g1_0 hP hA, Cu_g1_1 hP hA, Cu_g1_2 hP hA, Cu_r2 hP hA, Cu_r3 hP hA, Cu_r4 hP hA, Cu_r5 hP hA, Cu_r9 hP hA, eq_true k1]
    refine z1044_2 hP hA hD k2 ?_
    dsimp only [ex1044_2]
    intro q4
    have e := Option.some.inj e; subst e
    dsimp only [Sum.elim_inl, go1044_1] at hc
    simp -implicitDefEqProofs (disch := first | assumption | exact Nat.le_of_ble_eq_true rfl | decide) only [b1044_0, g1044_3, b1044_3, g1044_4, b1044_4, g1044_5, b1044_5, g1044_6, b1044_6, pe_iload1, pe_sipush, pe_call3, pm_af_ret, pm_af_void, pm_af_thr, pe_call1, pe_istore2, pe_istore3, pe_goto_w, pe_iload3, pe_aload0, pe_getfield, pe_icmp_ge, pe_istore4, pe_iload4, pe_iload2, pe_aaload, pe_iaload, pe_icmp_le, pe_call4, pe_if_eq, pe_goto, pe_iadd, pe_iinc4, pe_iinc3, pm_prog_1, pm_ob_some, Nat.reduceDiv, Nat.reduceMod, Nat.reduceMul, Nat.reduceAdd, Int.reduceToNat, pm_kill_i, pm_kill_r, pm_kill_n, pm_kill_j, pm_kill_l, pm_kill_d, pm_cats_nil, pm_cats_i, pm_cats_r, pm_cats_n, pm_cats_l, pm_cats_d, sz_1, sz_2, sl_1, sl_2, lc_0, lc_lt, lc_le, li_ne, va_rf, wr_m1, we_m1, pm_kill_w, Int32.reduceOfInt, Int64.reduceOfInt, Int32.reduceOfNat, Int32.reduceLT, Int32.reduceLE, Prod.mk.injEq, Nat.reduceEqDiff, reduceCtorEq, and_true, true_and, and_false, false_and, and_self, ite_true, ite_false, ↓reduceIte, not_true_eq_false, not_false_eq_true, pe_ri, pe_rz, pe_rc, p_throw, t1044, w_junk hA, Cu_g0_0 hP hA, Cu_g0_1 hP hA, Cu_g1_0 hP hA, Cu_g1_1 hP hA, Cu_g1_2 hP hA, Cu_r2 hP hA, Cu_r3 hP hA, Cu_r4 hP hA, Cu_r5 hP hA, Cu_r9 hP hA, eq_true k1, hc]
  · rw [if_neg k1] at e
    have e := Option.some.inj e; subst e
    dsimp only [Sum.elim_inr, ex1044_1] at hc
    simp -implicitDefEqProofs (disch := first | assumption | exact Nat.le_of_ble_eq_true rfl | decide) only [b1044_0, g1044_3, b1044_3, g1044_4, b1044_4, g1044_5, b1044_5, g1044_6, b1044_6, pe_iload1, pe_sipush, pe_call3, pm_af_ret, pm_af_void, pm_af_thr, pe_call1, pe_istore2, pe_istore3, pe_goto_w, pe_iload3, pe_aload0, pe_getfield, pe_icmp_ge, pe_istore4, pe_iload4, pe_iload2, pe_aaload, pe_iaload, pe_icmp_le, pe_call4, pe_if_eq, pe_goto, pe_iadd, pe_iinc4, pe_iinc3, pm_prog_1, pm_ob_some, Nat.reduceDiv, Nat.reduceMod, Nat.reduceMul, Nat.reduceAdd, Int.reduceToNat, pm_kill_i, pm_kill_r, pm_kill_n, pm_kill_j, pm_kill_l, pm_kill_d, pm_cats_nil, pm_cats_i, pm_cats_r, pm_cats_n, pm_cats_l, pm_cats_d, sz_1, sz_2, sl_1, sl_2, lc_0, lc_lt, lc_le, li_ne, va_rf, wr_m1, we_m1, pm_kill_w, Int32.reduceOfInt, Int64.reduceOfInt, Int32.reduceOfNat, Int32.reduceLT, Int32.reduceLE, Prod.mk.injEq, Nat.reduceEqDiff, reduceCtorEq, and_true, true_and, and_false, false_and, and_self, ite_true, ite_false, ↓reduceIte, not_true_eq_false, not_false_eq_true, pe_ri, pe_rz, pe_rc, p_throw, t1044, w_junk hA, Cu_g0_0 hP hA, Cu_g0_1 hP hA, Cu_g1_0 hP hA, Cu_g1_1 hP hA, Cu_g1_2 hP hA, Cu_r2 hP hA, Cu_r3 hP hA, Cu_r4 hP hA, Cu_r5 hP hA, Cu_r9 hP hA, eq_false k1, hc]
theorem z1044_1 {side : Int32} {A : wK → Nat} {h : pm_H} {D : Nat} {R : Outcome × pm_H} {S : wS} (hP : Cu_P side) (hA : wok A (Cu_d side) h.1) (hD : 3 ≤ D) {n : Nat} {a : Int32 × Int32 × Int32} {b : (Int32)} (e : lp (f1044_b1 side S) n a = some b) (hx : ex1044_1 side A h D R S b) : go1044_1 side A h D R S a := lp_run (fun a r => y1044_b1 hP hA hD a r) n a b e hx
theorem x1044 {side : Int32} {A : wK → Nat} {h : pm_H} {D : Nat} {S : wS} {x1 : Int32} {r : Nat ⊕ (Int32)} (hP : Cu_P side) (hA : wok A (Cu_d side) h.1) (hD : 4 ≤ D) (e : f1044 side S x1 = some r) : pm_call pm_prog D 1044 [.ref (A (0, 0, 0)), .int x1] (wput A (Cu_d side) S h) = some (match (generalizing := false) r with | .inl c => (Outcome.threw c, (wput A (Cu_d side) S (pm_new h 6 (.inr (c, []))))) | .inr w0 => (Outcome.returned (some (.int w0)), (wput A (Cu_d side) S h))) := by
  obtain ⟨D, rfl⟩ : ∃ D', D = D' + 1 := ⟨D - 1, by omega⟩
  have hD : 3 ≤ D := by omega
  simp only [f1044] at e
  rw [c1044 (Cu_c0 hP hA), b1044_0]
  obtain ⟨v1, k1, e⟩ := Option.bind_eq_some_iff.mp e
  try dsimp only at e
  have z1 := fun h => x1026 (D := D) (h := h) (by omega) k1
  obtain ⟨r, k2, e⟩ := Option.bind_eq_some_iff.mp e
  have z2 := fun h => x1028 (D := D) (h := h) (by omega) k2
  rcases r with c8 | _
  · dsimp only at e z2
    have e := Option.some.inj e; subst e
    simp -implicitDefEqProofs (disch := first | assumption | exact Nat.le_of_ble_eq_true rfl | decide) only [b1044_0, g1044_3, b1044_3, g1044_4, b1044_4, g1044_5, b1044_5, g1044_6, b1044_6, pe_iload1, pe_sipush, pe_call3, pm_af_ret, pm_af_void, pm_af_thr, pe_call1, pe_istore2, pe_istore3, pe_goto_w, pe_iload3, pe_aload0, pe_getfield, pe_icmp_ge, pe_istore4, pe_iload4, pe_iload2, pe_aaload, pe_iaload, pe_icmp_le, pe_call4, pe_if_eq, pe_goto, pe_iadd, pe_iinc4, pe_iinc3, pm_prog_1, pm_ob_some, Nat.reduceDiv, Nat.reduceMod, Nat.reduceMul, Nat.reduceAdd, Int.reduceToNat, pm_kill_i, pm_kill_r, pm_kill_n, pm_kill_j, pm_kill_l, pm_kill_d, pm_cats_nil, pm_cats_i, pm_cats_r, pm_cats_n, pm_cats_l, pm_cats_d, sz_1, sz_2, sl_1, sl_2, lc_0, lc_lt, lc_le, li_ne, va_rf, wr_m1, we_m1, pm_kill_w, Int32.reduceOfInt, Int64.reduceOfInt, Int32.reduceOfNat, Int32.reduceLT, Int32.reduceLE, Prod.mk.injEq, Nat.reduceEqDiff, reduceCtorEq, and_true, true_and, and_false, false_and, and_self, ite_true, ite_false, ↓reduceIte, not_true_eq_false, not_false_eq_true, pe_ri, pe_rz, pe_rc, p_throw, t1044, w_junk hA, Cu_g0_0 hP hA, Cu_g0_1 hP hA, Cu_g1_0 hP hA, Cu_g1_1 hP hA, Cu_g1_2 hP hA, Cu_r2 hP hA, Cu_r3 hP hA, Cu_r4 hP hA, Cu_r5 hP hA, Cu_r9 hP hA, z1, z2]
  · dsimp only at e z2
    obtain ⟨v7, k3, e⟩ := Option.bind_eq_some_iff.mp e
    try dsimp only at e
    try simp -implicitDefEqProofs (disch := first | assumption | exact Nat.le_of_ble_eq_true rfl | decide) only [b1044_0, g1044_3, b1044_3, g1044_4, b1044_4, g1044_5, b1044_5, g1044_6, b1044_6, pe_iload1, pe_sipush, pe_call3, pm_af_ret, pm_af_void, pm_af_thr, pe_call1, pe_istore2, pe_istore3, pe_goto_w, pe_iload3, pe_aload0, pe_getfield, pe_icmp_ge, pe_istore4, pe_iload4, pe_iload2, pe_aaload, pe_iaload, pe_icmp_le, pe_call4, pe_if_eq, pe_goto, pe_iadd, pe_iinc4, pe_iinc3, pm_prog_1, pm_ob_some, Nat.reduceDiv, Nat.reduceMod, Nat.reduceMul, Nat.reduceAdd, Int.reduceToNat, pm_kill_i, pm_kill_r, pm_kill_n, pm_kill_j, pm_kill_l, pm_kill_d, pm_cats_nil, pm_cats_i, pm_cats_r, pm_cats_n, pm_cats_l, pm_cats_d, sz_1, sz_2, sl_1, sl_2, lc_0, lc_lt, lc_le, li_ne, va_rf, wr_m1, we_m1, pm_kill_w, Int32.reduceOfInt, Int64.reduceOfInt, Int32.reduceOfNat, Int32.reduceLT, Int32.reduceLE, Prod.mk.injEq, Nat.reduceEqDiff, reduceCtorEq, and_true, true_and, and_false, false_and, and_self, ite_true, ite_false, ↓reduceIte, not_true_eq_false, not_false_eq_true, pe_ri, pe_rz, pe_rc, p_throw, t1044, w_junk hA, Cu_g0_0 hP hA, Cu_g0_1 hP hA, Cu_g1_0 hP hA, Cu_g1_1 hP hA, Cu_g1_2 hP hA, Cu_r2 hP hA, Cu_r3 hP hA, Cu_r4 hP hA, Cu_r5 hP hA, Cu_r9 hP hA, z1, z2]
    refine z1044_1 hP hA hD k3 ?_ _
    dsimp only [ex1044_1]
    intro q0 q1 q3 q4
    have e := Option.some.inj e; subst e
    simp -implicitDefEqProofs (disch := first | assumption | exact Nat.le_of_ble_eq_true rfl | decide) only [b1044_0, g1044_3, b1044_3, g1044_4, b1044_4, g1044_5, b1044_5, g1044_6, b1044_6, pe_iload1, pe_sipush, pe_call3, pm_af_ret, pm_af_void, pm_af_thr, pe_call1, pe_istore2, pe_istore3, pe_goto_w, pe_iload3, pe_aload0, pe_getfield, pe_icmp_ge, pe_istore4, pe_iload4, pe_iload2, pe_aaload, pe_iaload, pe_icmp_le, pe_call4, pe_if_eq, pe_goto, pe_iadd, pe_iinc4, pe_iinc3, pm_prog_1, pm_ob_some, Nat.reduceDiv, Nat.reduceMod, Nat.reduceMul, Nat.reduceAdd, Int.reduceToNat, pm_kill_i, pm_kill_r, pm_kill_n, pm_kill_j, pm_kill_l, pm_kill_d, pm_cats_nil, pm_cats_i, pm_cats_r, pm_cats_n, pm_cats_l, pm_cats_d, sz_1, sz_2, sl_1, sl_2, lc_0, lc_lt, lc_le, li_ne, va_rf, wr_m1, we_m1, pm_kill_w, Int32.reduceOfInt, Int64.reduceOfInt, Int32.reduceOfNat, Int32.reduceLT, Int32.reduceLE, Prod.mk.injEq, Nat.reduceEqDiff, reduceCtorEq, and_true, true_and, and_false, false_and, and_self, ite_true, ite_false, ↓reduceIte, not_true_eq_false, not_false_eq_true, pe_ri, pe_rz, pe_rc, p_throw, t1044, w_junk hA, Cu_g0_0 hP hA, Cu_g0_1 hP hA, Cu_g1_0 hP hA, Cu_g1_1 hP hA, Cu_g1_2 hP hA, Cu_r2 hP hA, Cu_r3 hP hA, Cu_r4 hP hA, Cu_r5 hP hA, Cu_r9 hP hA, z1, z2]
/-- TimberHouse$RouterPaths$Grid.reach(II)V -/
theorem c1160 {d : Nat} {h : pm_H} {a : Nat} {x0 : Int32} {x1 : Int32} (hc : pm_cls h a = some 18) : pm_call pm_prog (d + 1) 1160 [.ref a, .int x0, .int x1] h = pm_ev pm_prog (pm_call pm_prog d) 1160 0 b1160_0 [.ref a, .int x0, .int x1] [] h := pm_cal (pm_rc1 hc rfl) rfl rfl rfl
theorem g1160_1 {cl : pm_C} {ls st : List Value} {h : pm_H} : pm_go pm_prog cl 1160 1 ls st h = pm_ev pm_prog cl 1160 1 b1160_1 ls st h := pm_go_eq pm_prog cl 1160 1 ls st h
/-- TimberHouse$RouterPaths$Grid.reach(II)V -/
noncomputable def f1160 (side : Int32) (S : wS) (x1 : Int32) (x2 : Int32) : Option (wS) :=
  (f1155 side S x1 x2).bind fun v1 =>
  if v1 = 0 then
    some S
  else
    if 0 ≤ x2 ∧ x2 < side then
      if 0 ≤ x1 ∧ x1 < side then
        if (S.1 (3, x2, 0) x1) ≤ 0 then
          some S
        else
          if 0 ≤ ((x2 * (S.1 (1, 0, 0) 0)) + x1) ∧ ((x2 * (S.1 (1, 0, 0) 0)) + x1) < (side * side) then
            if (S.1 (8, 0, 0) ((x2 * (S.1 (1, 0, 0) 0)) + x1)) = 0 then
              if 0 ≤ (S.1 (1, 0, 0) 6) ∧ (S.1 (1, 0, 0) 6) < (side * side) then
                some (sz (sz (sz S (8, 0, 0) ((x2 * (S.1 (1, 0, 0) 0)) + x1) (vp_nar .boolean 1)) (1, 0, 0) 6 ((S.1 (1, 0, 0) 6) + 1)) (7, 0, 0) (S.1 (1, 0, 0) 6) ((x2 * (S.1 (1, 0, 0) 0)) + x1))
              else none
            else
              some S
          else none
      else none
    else none
theorem x1160 {side : Int32} {A : wK → Nat} {h : pm_H} {D : Nat} {S : wS} {x1 : Int32} {x2 : Int32} {r : wS} (hP : Cu_P side) (hA : wok A (Cu_d side) h.1) (hD : 2 ≤ D) (e : f1160 side S x1 x2 = some r) : pm_call pm_prog D 1160 [.ref (A (1, 0, 0)), .int x1, .int x2] (wput A (Cu_d side) S h) = some (Outcome.returned none, (wput A (Cu_d side) r h)) := by
  obtain ⟨D, rfl⟩ : ∃ D', D = D' + 1 := ⟨D - 1, by omega⟩
  have hD : 1 ≤ D := by omega
  simp only [f1160] at e
  rw [c1160 (Cu_c1 hP hA), b1160_0]
  obtain ⟨v1, k1, e⟩ := Option.bind_eq_some_iff.mp e
  try dsimp only at e
  have z1 := x1155 (D := D) (h := h) hP hA (by omega) k1
  by_cases k2 : v1 = 0
  · rw [if_pos k2] at e
    have e := Option.some.inj e; subst e
    simp -implicitDefEqProofs (disch := first | assumption | exact Nat.le_of_ble_eq_true rfl | decide) only [b1160_0, g1160_1, b1160_1, pe_aload0, pe_iload1, pe_iload2, pe_call3, pm_af_ret, pm_af_void, pm_af_thr, pe_if_eq, pe_getfield, pe_aaload, pe_iaload, pe_if_le, pe_imul, pe_iadd, pe_baload, pe_if_ne, pe_sipush, pe_bastore, pe_dup_i, pe_dup_r, pe_dup_x1_ii, pe_dup_x1_ir, pe_dup_x1_ri, pe_dup_x1_rr, pe_putfield, pe_iastore, pe_goto_w, pe_return, pm_prog_1, pm_ob_some, Nat.reduceDiv, Nat.reduceMod, Nat.reduceMul, Nat.reduceAdd, Int.reduceToNat, pm_kill_i, pm_kill_r, pm_kill_n, pm_kill_j, pm_kill_l, pm_kill_d, pm_cats_nil, pm_cats_i, pm_cats_r, pm_cats_n, pm_cats_l, pm_cats_d, sz_1, sz_2, sl_1, sl_2, lc_0, lc_lt, lc_le, li_ne, va_rf, wr_m1, we_m1, pm_kill_w, Int32.reduceOfInt, Int64.reduceOfInt, Int32.reduceOfNat, Int32.reduceLT, Int32.reduceLE, Prod.mk.injEq, Nat.reduceEqDiff, reduceCtorEq, and_true, true_and, and_false, false_and, and_self, ite_true, ite_false, ↓reduceIte, not_true_eq_false, not_false_eq_true, pe_ri, pe_rz, pe_rc, Cu_g1_0 hP hA, Cu_g1_1 hP hA, Cu_g1_4 hP hA, Cu_g1_5 hP hA, Cu_g1_6 hP hA, Cu_p1_6 hP hA, Cu_r2 hP hA, Cu_r3 hP hA, Cu_r8 hP hA, Cu_w7 hP hA, Cu_w8 hP hA, z1, eq_true k2]
  · rw [if_neg k2] at e
    by_cases k3 : 0 ≤ x2 ∧ x2 < side
    · rw [if_pos k3] at e
      by_cases k4 : 0 ≤ x1 ∧ x1 < side
      · rw [if_pos k4] at e
        by_cases k5 : (S.1 (3, x2, 0) x1) ≤ 0
        · rw [if_pos k5] at e
          have e := Option.some.inj e; subst e
          simp -implicitDefEqProofs (disch := first | assumption | exact Nat.le_of_ble_eq_true rfl | decide) only [b1160_0, g1160_1, b1160_1, pe_aload0, pe_iload1, pe_iload2, pe_call3, pm_af_ret, pm_af_void, pm_af_thr, pe_if_eq, pe_getfield, pe_aaload, pe_iaload, pe_if_le, pe_imul, pe_iadd, pe_baload, pe_if_ne, pe_sipush, pe_bastore, pe_dup_i, pe_dup_r, pe_dup_x1_ii, pe_dup_x1_ir, pe_dup_x1_ri, pe_dup_x1_rr, pe_putfield, pe_iastore, pe_goto_w, pe_return, pm_prog_1, pm_ob_some, Nat.reduceDiv, Nat.reduceMod, Nat.reduceMul, Nat.reduceAdd, Int.reduceToNat, pm_kill_i, pm_kill_r, pm_kill_n, pm_kill_j, pm_kill_l, pm_kill_d, pm_cats_nil, pm_cats_i, pm_cats_r, pm_cats_n, pm_cats_l, pm_cats_d, sz_1, sz_2, sl_1, sl_2, lc_0, lc_lt, lc_le, li_ne, va_rf, wr_m1, we_m1, pm_kill_w, Int32.reduceOfInt, Int64.reduceOfInt, Int32.reduceOfNat, Int32.reduceLT, Int32.reduceLE, Prod.mk.injEq, Nat.reduceEqDiff, reduceCtorEq, and_true, true_and, and_false, false_and, and_self, ite_true, ite_false, ↓reduceIte, not_true_eq_false, not_false_eq_true, pe_ri, pe_rz, pe_rc, Cu_g1_0 hP hA, Cu_g1_1 hP hA, Cu_g1_4 hP hA, Cu_g1_5 hP hA, Cu_g1_6 hP hA, Cu_p1_6 hP hA, Cu_r2 hP hA, Cu_r3 hP hA, Cu_r8 hP hA, Cu_w7 hP hA, Cu_w8 hP hA, z1, eq_false k2, eq_true k5]
        · rw [if_neg k5] at e
          by_cases k6 : 0 ≤ ((x2 * (S.1 (1, 0, 0) 0)) + x1) ∧ ((x2 * (S.1 (1, 0, 0) 0)) + x1) < (side * side)
          · rw [if_pos k6] at e
            by_cases k7 : (S.1 (8, 0, 0) ((x2 * (S.1 (1, 0, 0) 0)) + x1)) = 0
            · rw [if_pos k7] at e
              by_cases k8 : 0 ≤ (S.1 (1, 0, 0) 6) ∧ (S.1 (1, 0, 0) 6) < (side * side)
              · rw [if_pos k8] at e
                have e := Option.some.inj e; subst e
                simp -implicitDefEqProofs (disch := first | assumption | exact Nat.le_of_ble_eq_true rfl | decide) only [b1160_0, g1160_1, b1160_1, pe_aload0, pe_iload1, pe_iload2, pe_call3, pm_af_ret, pm_af_void, pm_af_thr, pe_if_eq, pe_getfield, pe_aaload, pe_iaload, pe_if_le, pe_imul, pe_iadd, pe_baload, pe_if_ne, pe_sipush, pe_bastore, pe_dup_i, pe_dup_r, pe_dup_x1_ii, pe_dup_x1_ir, pe_dup_x1_ri, pe_dup_x1_rr, pe_putfield, pe_iastore, pe_goto_w, pe_return, pm_prog_1, pm_ob_some, Nat.reduceDiv, Nat.reduceMod, Nat.reduceMul, Nat.reduceAdd, Int.reduceToNat, pm_kill_i, pm_kill_r, pm_kill_n, pm_kill_j, pm_kill_l, pm_kill_d, pm_cats_nil, pm_cats_i, pm_cats_r, pm_cats_n, pm_cats_l, pm_cats_d, sz_1, sz_2, sl_1, sl_2, lc_0, lc_lt, lc_le, li_ne, va_rf, wr_m1, we_m1, pm_kill_w, Int32.reduceOfInt, Int64.reduceOfInt, Int32.reduceOfNat, Int32.reduceLT, Int32.reduceLE, Prod.mk.injEq, Nat.reduceEqDiff, reduceCtorEq, and_true, true_and, and_false, false_and, and_self, ite_true, ite_false, ↓reduceIte, not_true_eq_false, not_false_eq_true, pe_ri, pe_rz, pe_rc, Cu_g1_0 hP hA, Cu_g1_1 hP hA, Cu_g1_4 hP hA, Cu_g1_5 hP hA, Cu_g1_6 hP hA, Cu_p1_6 hP hA, Cu_r2 hP hA, Cu_r3 hP hA, Cu_r8 hP hA, Cu_w7 hP hA, Cu_w8 hP hA, z1, eq_false k2, eq_false k5, eq_true k7]
              · rw [if_neg k8] at e; cases e
            · rw [if_neg k7] at e
              have e := Option.some.inj e; subst e
              simp -implicitDefEqProofs (disch := first | assumption | exact Nat.le_of_ble_eq_true rfl | decide) only [b1160_0, g1160_1, b1160_1, pe_aload0, pe_iload1, pe_iload2, pe_call3, pm_af_ret, pm_af_void, pm_af_thr, pe_if_eq, pe_getfield, pe_aaload, pe_iaload, pe_if_le, pe_imul, pe_iadd, pe_baload, pe_if_ne, pe_sipush, pe_bastore, pe_dup_i, pe_dup_r, pe_dup_x1_ii, pe_dup_x1_ir, pe_dup_x1_ri, pe_dup_x1_rr, pe_putfield, pe_iastore, pe_goto_w, pe_return, pm_prog_1, pm_ob_some, Nat.reduceDiv, Nat.reduceMod, Nat.reduceMul, Nat.reduceAdd, Int.reduceToNat, pm_kill_i, pm_kill_r, pm_kill_n, pm_kill_j, pm_kill_l, pm_kill_d, pm_cats_nil, pm_cats_i, pm_cats_r, pm_cats_n, pm_cats_l, pm_cats_d, sz_1, sz_2, sl_1, sl_2, lc_0, lc_lt, lc_le, li_ne, va_rf, wr_m1, we_m1, pm_kill_w, Int32.reduceOfInt, Int64.reduceOfInt, Int32.reduceOfNat, Int32.reduceLT, Int32.reduceLE, Prod.mk.injEq, Nat.reduceEqDiff, reduceCtorEq, and_true, true_and, and_false, false_and, and_self, ite_true, ite_false, ↓reduceIte, not_true_eq_false, not_false_eq_true, pe_ri, pe_rz, pe_rc, Cu_g1_0 hP hA, Cu_g1_1 hP hA, Cu_g1_4 hP hA, Cu_g1_5 hP hA, Cu_g1_6 hP hA, Cu_p1_6 hP hA, Cu_r2 hP hA, Cu_r3 hP hA, Cu_r8 hP hA, Cu_w7 hP hA, Cu_w8 hP hA, z1, eq_false k2, eq_false k5, eq_false k7]
          · rw [if_neg k6] at e; cases e
      · rw [if_neg k4] at e; cases e
    · rw [if_neg k3] at e; cases e
/-- TimberHouse$RouterPaths$Grid.spread(II)V -/
theorem c1159 {d : Nat} {h : pm_H} {a : Nat} {x0 : Int32} {x1 : Int32} (hc : pm_cls h a = some 18) : pm_call pm_prog (d + 1) 1159 [.ref a, .int x0, .int x1] h = pm_ev pm_prog (pm_call pm_prog d) 1159 0 b1159_0 [.ref a, .int x0, .int x1, pm_junk, pm_junk, pm_junk] [] h := pm_cal (pm_rc1 hc rfl) rfl rfl rfl
theorem g1159_1 {cl : pm_C} {ls st : List Value} {h : pm_H} : pm_go pm_prog cl 1159 1 ls st h = pm_ev pm_prog cl 1159 1 b1159_1 ls st h := pm_go_eq pm_prog cl 1159 1 ls st h
theorem g1159_2 {cl : pm_C} {ls st : List Value} {h : pm_H} : pm_go pm_prog cl 1159 2 ls st h = pm_ev pm_prog cl 1159 2 b1159_2 ls st h := pm_go_eq pm_prog cl 1159 2 ls st h
noncomputable def f1159_b1 (side : Int32) : Int32 × wS → Option ((Int32 × wS) ⊕ ((wS))) := fun (x3, S) =>
  if x3 < (S.1 (1, 0, 0) 6) then
    if 0 ≤ x3 ∧ x3 < (side * side) then
      if ¬ (S.1 (1, 0, 0) 0) = 0 then
        (f1160 side S (((S.1 (7, 0, 0) x3) - (S.1 (7, 0, 0) x3) / (S.1 (1, 0, 0) 0) * (S.1 (1, 0, 0) 0)) + 1) ((S.1 (7, 0, 0) x3) / (S.1 (1, 0, 0) 0))).bind fun S2 =>
        (f1160 side S2 (((S.1 (7, 0, 0) x3) - (S.1 (7, 0, 0) x3) / (S.1 (1, 0, 0) 0) * (S.1 (1, 0, 0) 0)) - 1) ((S.1 (7, 0, 0) x3) / (S.1 (1, 0, 0) 0))).bind fun S3 =>
        (f1160 side S3 ((S.1 (7, 0, 0) x3) - (S.1 (7, 0, 0) x3) / (S.1 (1, 0, 0) 0) * (S.1 (1, 0, 0) 0)) (((S.1 (7, 0, 0) x3) / (S.1 (1, 0, 0) 0)) + 1)).bind fun S4 =>
        (f1160 side S4 ((S.1 (7, 0, 0) x3) - (S.1 (7, 0, 0) x3) / (S.1 (1, 0, 0) 0) * (S.1 (1, 0, 0) 0)) (((S.1 (7, 0, 0) x3) / (S.1 (1, 0, 0) 0)) - 1)).bind fun S5 =>
        some (.inl ((x3 + 1), S5))
      else none
    else none
  else
    some (.inr S)
/-- TimberHouse$RouterPaths$Grid.spread(II)V -/
noncomputable def f1159 (side : Int32) (S : wS) (x1 : Int32) (x2 : Int32) : Option (wS) :=
  (f1160 side (sz S (1, 0, 0) 6 0) x1 x2).bind fun S1 =>
  (lp (f1159_b1 side) FU (0, S1)).bind fun S6 =>
  some S6
def go1159_1 (side : Int32) (A : wK → Nat) (h : pm_H) (D : Nat) (R : Outcome × pm_H) : Int32 × wS → Prop := fun (x3, S) => ∀ q1 q2 q4 q5 : Value, pm_go pm_prog (pm_call pm_prog D) 1159 1 [.ref (A (1, 0, 0)), q1, q2, .int x3, q4, q5] [] (wput A (Cu_d side) S h) = some R
def ex1159_1 (side : Int32) (A : wK → Nat) (h : pm_H) (D : Nat) (R : Outcome × pm_H) : (wS) → Prop := fun S => ∀ q0 q1 q2 q3 q4 q5 : Value, pm_go pm_prog (pm_call pm_prog D) 1159 2 [q0, q1, q2, q3, q4, q5] [] (wput A (Cu_d side) S h) = some R
theorem y1159_b1 {side : Int32} {A : wK → Nat} {h : pm_H} {D : Nat} {R : Outcome × pm_H} (hP : Cu_P side) (hA : wok A (Cu_d side) h.1) (hD : 2 ≤ D) (a : Int32 × wS) (r : (Int32 × wS) ⊕ ((wS))) (e : f1159_b1 side a = some r) (hc : Sum.elim (go1159_1 side A h D R) (ex1159_1 side A h D R) r) : go1159_1 side A h D R a := by
  obtain ⟨x3, S⟩ := a
  dsimp only [go1159_1]
  intro q1 q2 q4 q5
  simp only [f1159_b1] at e
  rw [g1159_1, b1159_1]
  by_cases k1 : x3 < (S.1 (1, 0, 0) 6)
  · rw [if_pos k1] at e
    by_cases k2 : 0 ≤ x3 ∧ x3 < (side * side)
    · rw [if_pos k2] at e
      by_cases k3 : ¬ (S.1 (1, 0, 0) 0) = 0
      · rw [if_pos k3] at e
        obtain ⟨S2, k4, e⟩ := Option.bind_eq_some_iff.mp e
        try dsimp only at e
        have z4 := x1160 (D := D) (h := h) hP hA (by omega) k4
        obtain ⟨S3, k5, e⟩ := Option.bind_eq_some_iff.mp e
        try dsimp only at e
        have z5 := x1160 (D := D) (h := h) hP hA (by omega) k5
        obtain ⟨S4, k6, e⟩ := Option.bind_eq_some_iff.mp e
        try dsimp only at e
        have z6 := x1160 (D := D) (h := h) hP hA (by omega) k6
        obtain ⟨S5, k7, e⟩ := Option.bind_eq_some_iff.mp e
        try dsimp only at e
        have z7 := x1160 (D := D) (h := h) hP hA (by omega) k7
        have e := Option.some.inj e; subst e
        dsimp only [Sum.elim_inl, go1159_1] at hc
        simp -implicitDefEqProofs (disch := first | assumption | exact Nat.le_of_ble_eq_true rfl | decide) only [b1159_0, g1159_2, b1159_2, pe_aload0, pe_sipush, pe_putfield, pe_iload1, pe_iload2, pe_call3, pm_af_ret, pm_af_void, pm_af_thr, pe_istore3, pe_goto_w, pe_iload3, pe_getfield, pe_icmp_ge, pe_iaload, pe_irem, pe_istore4, pe_idiv, pe_istore5, pe_iload4, pe_iadd, pe_iload5, pe_isub, pe_iinc3, pe_goto, pe_return, pm_prog_1, pm_ob_some, Nat.reduceDiv, Nat.reduceMod, Nat.reduceMul, Nat.reduceAdd, Int.reduceToNat, pm_kill_i, pm_kill_r, pm_kill_n, pm_kill_j, pm_kill_l, pm_kill_d, pm_cats_nil, pm_cats_i, pm_cats_r, pm_cats_n, pm_cats_l, pm_cats_d, sz_1, sz_2, sl_1, sl_2, lc_0, lc_lt, lc_le, li_ne, va_rf, wr_m1, we_m1, pm_kill_w, Int32.reduceOfInt, Int64.reduceOfInt, Int32.reduceOfNat, Int32.reduceLT, Int32.reduceLE, Prod.mk.injEq, Nat.reduceEqDiff, reduceCtorEq, and_true, true_and, and_false, false_and, and_self, ite_true, ite_false, ↓reduceIte, not_true_eq_false, not_false_eq_true, pe_ri, pe_rz, pe_rc, Cu_g1_0 hP hA, Cu_g1_4 hP hA, Cu_g1_6 hP hA, Cu_p1_6 hP hA, Cu_r7 hP hA, eq_true k1, z4, z5, z6, z7, hc]
      · rw [if_neg k3] at e; cases e
    · rw [if_neg k2] at e; cases e
  · rw [if_neg k1] at e
    have e := Option.some.inj e; subst e
    dsimp only [Sum.elim_inr, ex1159_1] at hc
    simp -implicitDefEqProofs (disch := first | assumption | exact Nat.le_of_ble_eq_true rfl | decide) only [b1159_0, g1159_2, b1159_2, pe_aload0, pe_sipush, pe_putfield, pe_iload1, pe_iload2, pe_call3, pm_af_ret, pm_af_void, pm_af_thr, pe_istore3, pe_goto_w, pe_iload3, pe_getfield, pe_icmp_ge, pe_iaload, pe_irem, pe_istore4, pe_idiv, pe_istore5, pe_iload4, pe_iadd, pe_iload5, pe_isub, pe_iinc3, pe_goto, pe_return, pm_prog_1, pm_ob_some, Nat.reduceDiv, Nat.reduceMod, Nat.reduceMul, Nat.reduceAdd, Int.reduceToNat, pm_kill_i, pm_kill_r, pm_kill_n, pm_kill_j, pm_kill_l, pm_kill_d, pm_cats_nil, pm_cats_i, pm_cats_r, pm_cats_n, pm_cats_l, pm_cats_d, sz_1, sz_2, sl_1, sl_2, lc_0, lc_lt, lc_le, li_ne, va_rf, wr_m1, we_m1, pm_kill_w, Int32.reduceOfInt, Int64.reduceOfInt, Int32.reduceOfNat, Int32.reduceLT, Int32.reduceLE, Prod.mk.injEq, Nat.reduceEqDiff, reduceCtorEq, and_true, true_and, and_false, false_and, and_self, ite_true, ite_false, ↓reduceIte, not_true_eq_false, not_false_eq_true, pe_ri, pe_rz, pe_rc, Cu_g1_0 hP hA, Cu_g1_4 hP hA, Cu_g1_6 hP hA, Cu_p1_6 hP hA, Cu_r7 hP hA, eq_false k1, hc]
theorem z1159_1 {side : Int32} {A : wK → Nat} {h : pm_H} {D : Nat} {R : Outcome × pm_H} (hP : Cu_P side) (hA : wok A (Cu_d side) h.1) (hD : 2 ≤ D) {n : Nat} {a : Int32 × wS} {b : (wS)} (e : lp (f1159_b1 side) n a = some b) (hx : ex1159_1 side A h D R b) : go1159_1 side A h D R a := lp_run (fun a r => y1159_b1 hP hA hD a r) n a b e hx
theorem x1159 {side : Int32} {A : wK → Nat} {h : pm_H} {D : Nat} {S : wS} {x1 : Int32} {x2 : Int32} {r : wS} (hP : Cu_P side) (hA : wok A (Cu_d side) h.1) (hD : 3 ≤ D) (e : f1159 side S x1 x2 = some r) : pm_call pm_prog D 1159 [.ref (A (1, 0, 0)), .int x1, .int x2] (wput A (Cu_d side) S h) = some (Outcome.returned none, (wput A (Cu_d side) r h)) := by
  obtain ⟨D, rfl⟩ : ∃ D', D = D' + 1 := ⟨D - 1, by omega⟩
  have hD : 2 ≤ D := by omega
  simp only [f1159] at e
  rw [c1159 (Cu_c1 hP hA), b1159_0]
  obtain ⟨S1, k1, e⟩ := Option.bind_eq_some_iff.mp e
  try dsimp only at e
  have z1 := x1160 (D := D) (h := h) hP hA (by omega) k1
  obtain ⟨S6, k2, e⟩ := Option.bind_eq_some_iff.mp e
  try dsimp only at e
  try simp -implicitDefEqProofs (disch := first | assumption | exact Nat.le_of_ble_eq_true rfl | decide) only [b1159_0, g1159_2, b1159_2, pe_aload0, pe_sipush, pe_putfield, pe_iload1, pe_iload2, pe_call3, pm_af_ret, pm_af_void, pm_af_thr, pe_istore3, pe_goto_w, pe_iload3, pe_getfield, pe_icmp_ge, pe_iaload, pe_irem, pe_istore4, pe_idiv, pe_istore5, pe_iload4, pe_iadd, pe_iload5, pe_isub, pe_iinc3, pe_goto, pe_return, pm_prog_1, pm_ob_some, Nat.reduceDiv, Nat.reduceMod, Nat.reduceMul, Nat.reduceAdd, Int.reduceToNat, pm_kill_i, pm_kill_r, pm_kill_n, pm_kill_j, pm_kill_l, pm_kill_d, pm_cats_nil, pm_cats_i, pm_cats_r, pm_cats_n, pm_cats_l, pm_cats_d, sz_1, sz_2, sl_1, sl_2, lc_0, lc_lt, lc_le, li_ne, va_rf, wr_m1, we_m1, pm_kill_w, Int32.reduceOfInt, Int64.reduceOfInt, Int32.reduceOfNat, Int32.reduceLT, Int32.reduceLE, Prod.mk.injEq, Nat.reduceEqDiff, reduceCtorEq, and_true, true_and, and_false, false_and, and_self, ite_true, ite_false, ↓reduceIte, not_true_eq_false, not_false_eq_true, pe_ri, pe_rz, pe_rc, Cu_g1_0 hP hA, Cu_g1_4 hP hA, Cu_g1_6 hP hA, Cu_p1_6 hP hA, Cu_r7 hP hA, z1]
  refine z1159_1 hP hA hD k2 ?_ _ _ _ _
  dsimp only [ex1159_1]
  intro q0 q1 q2 q3 q4 q5
  have e := Option.some.inj e; subst e
  simp -implicitDefEqProofs (disch := first | assumption | exact Nat.le_of_ble_eq_true rfl | decide) only [b1159_0, g1159_2, b1159_2, pe_aload0, pe_sipush, pe_putfield, pe_iload1, pe_iload2, pe_call3, pm_af_ret, pm_af_void, pm_af_thr, pe_istore3, pe_goto_w, pe_iload3, pe_getfield, pe_icmp_ge, pe_iaload, pe_irem, pe_istore4, pe_idiv, pe_istore5, pe_iload4, pe_iadd, pe_iload5, pe_isub, pe_iinc3, pe_goto, pe_return, pm_prog_1, pm_ob_some, Nat.reduceDiv, Nat.reduceMod, Nat.reduceMul, Nat.reduceAdd, Int.reduceToNat, pm_kill_i, pm_kill_r, pm_kill_n, pm_kill_j, pm_kill_l, pm_kill_d, pm_cats_nil, pm_cats_i, pm_cats_r, pm_cats_n, pm_cats_l, pm_cats_d, sz_1, sz_2, sl_1, sl_2, lc_0, lc_lt, lc_le, li_ne, va_rf, wr_m1, we_m1, pm_kill_w, Int32.reduceOfInt, Int64.reduceOfInt, Int32.reduceOfNat, Int32.reduceLT, Int32.reduceLE, Prod.mk.injEq, Nat.reduceEqDiff, reduceCtorEq, and_true, true_and, and_false, false_and, and_self, ite_true, ite_false, ↓reduceIte, not_true_eq_false, not_false_eq_true, pe_ri, pe_rz, pe_rc, Cu_g1_0 hP hA, Cu_g1_4 hP hA, Cu_g1_6 hP hA, Cu_p1_6 hP hA, Cu_r7 hP hA, z1]
/-- TimberHouse$RouterPaths$Grid.pieces()I -/
theorem c1158 {d : Nat} {h : pm_H} {a : Nat} (hc : pm_cls h a = some 18) : pm_call pm_prog (d + 1) 1158 [.ref a] h = pm_ev pm_prog (pm_call pm_prog d) 1158 0 b1158_0 [.ref a, pm_junk, pm_junk, pm_junk] [] h := pm_cal (pm_rc1 hc rfl) rfl rfl rfl
theorem g1158_1 {cl : pm_C} {ls st : List Value} {h : pm_H} : pm_go pm_prog cl 1158 1 ls st h = pm_ev pm_prog cl 1158 1 b1158_1 ls st h := pm_go_eq pm_prog cl 1158 1 ls st h
theorem g1158_2 {cl : pm_C} {ls st : List Value} {h : pm_H} : pm_go pm_prog cl 1158 2 ls st h = pm_ev pm_prog cl 1158 2 b1158_2 ls st h := pm_go_eq pm_prog cl 1158 2 ls st h
theorem g1158_3 {cl : pm_C} {ls st : List Value} {h : pm_H} : pm_go pm_prog cl 1158 3 ls st h = pm_ev pm_prog cl 1158 3 b1158_3 ls st h := pm_go_eq pm_prog cl 1158 3 ls st h
theorem g1158_4 {cl : pm_C} {ls st : List Value} {h : pm_H} : pm_go pm_prog cl 1158 4 ls st h = pm_ev pm_prog cl 1158 4 b1158_4 ls st h := pm_go_eq pm_prog cl 1158 4 ls st h
theorem g1158_5 {cl : pm_C} {ls st : List Value} {h : pm_H} : pm_go pm_prog cl 1158 5 ls st h = pm_ev pm_prog cl 1158 5 b1158_5 ls st h := pm_go_eq pm_prog cl 1158 5 ls st h
theorem g1158_6 {cl : pm_C} {ls st : List Value} {h : pm_H} : pm_go pm_prog cl 1158 6 ls st h = pm_ev pm_prog cl 1158 6 b1158_6 ls st h := pm_go_eq pm_prog cl 1158 6 ls st h
theorem g1158_7 {cl : pm_C} {ls st : List Value} {h : pm_H} : pm_go pm_prog cl 1158 7 ls st h = pm_ev pm_prog cl 1158 7 b1158_7 ls st h := pm_go_eq pm_prog cl 1158 7 ls st h
theorem g1158_8 {cl : pm_C} {ls st : List Value} {h : pm_H} : pm_go pm_prog cl 1158 8 ls st h = pm_ev pm_prog cl 1158 8 b1158_8 ls st h := pm_go_eq pm_prog cl 1158 8 ls st h
noncomputable def f1158_b1 (side : Int32) : Int32 × wS → Option ((Int32 × wS) ⊕ ((wS))) := fun (x1, S) =>
  if x1 < (side * side) then
    if 0 ≤ x1 ∧ x1 < (side * side) then
      some (.inl ((x1 + 1), (sz S (8, 0, 0) x1 (vp_nar .boolean 0))))
    else none
  else
    some (.inr S)
noncomputable def f1158_b4 (side : Int32) : Int32 × Int32 × Int32 × wS → Option ((Int32 × Int32 × Int32 × wS) ⊕ ((Int32 × Int32 × wS))) := fun (x1, x2, x3, S) =>
  if x3 < (S.1 (1, 0, 0) 0) then
    (f1159 side S x3 x2).bind fun S3 =>
    if (S3.1 (1, 0, 0) 6) ≤ 0 then
      some (.inl ((x1 + 0), x2, (x3 + 1), S3))
    else
      some (.inl ((x1 + 1), x2, (x3 + 1), S3))
  else
    some (.inr (x1, x2, S))
noncomputable def f1158_b3 (side : Int32) : Int32 × Int32 × wS → Option ((Int32 × Int32 × wS) ⊕ ((Int32 × wS))) := fun (x1, x2, S) =>
  if x2 < (S.1 (1, 0, 0) 0) then
    (lp (f1158_b4 side) FU (x1, x2, 0, S)).bind fun (v6, v7, S4) =>
    some (.inl (v6, (v7 + 1), S4))
  else
    some (.inr (x1, S))
/-- TimberHouse$RouterPaths$Grid.pieces()I -/
noncomputable def f1158 (side : Int32) (S : wS) : Option (Int32 × wS) :=
  (lp (f1158_b1 side) FU (0, S)).bind fun S1 =>
  (lp (f1158_b3 side) FU (0, 0, S1)).bind fun (v9, S8) =>
  some (v9, S8)
def go1158_1 (side : Int32) (A : wK → Nat) (h : pm_H) (D : Nat) (R : Outcome × pm_H) : Int32 × wS → Prop := fun (x1, S) => ∀ q2 q3 : Value, pm_go pm_prog (pm_call pm_prog D) 1158 1 [.ref (A (1, 0, 0)), .int x1, q2, q3] [] (wput A (Cu_d side) S h) = some R
def ex1158_1 (side : Int32) (A : wK → Nat) (h : pm_H) (D : Nat) (R : Outcome × pm_H) : (wS) → Prop := fun S => ∀ q1 q2 q3 : Value, pm_go pm_prog (pm_call pm_prog D) 1158 2 [.ref (A (1, 0, 0)), q1, q2, q3] [] (wput A (Cu_d side) S h) = some R
theorem y1158_b1 {side : Int32} {A : wK → Nat} {h : pm_H} {D : Nat} {R : Outcome × pm_H} (hP : Cu_P side) (hA : wok A (Cu_d side) h.1) (hD : 3 ≤ D) (a : Int32 × wS) (r : (Int32 × wS) ⊕ ((wS))) (e : f1158_b1 side a = some r) (hc : Sum.elim (go1158_1 side A h D R) (ex1158_1 side A h D R) r) : go1158_1 side A h D R a := by
  obtain ⟨x1, S⟩ := a
  dsimp only [go1158_1]
  intro q2 q3
  simp only [f1158_b1] at e
  rw [g1158_1, b1158_1]
  by_cases k1 : x1 < (side * side)
  · rw [if_pos k1] at e
    by_cases k2 : 0 ≤ x1 ∧ x1 < (side * side)
    · rw [if_pos k2] at e
      have e := Option.some.inj e; subst e
      dsimp only [Sum.elim_inl, go1158_1] at hc
      simp -implicitDefEqProofs (disch := first | assumption | exact Nat.le_of_ble_eq_true rfl | decide) only [b1158_0, g1158_2, b1158_2, g1158_5, b1158_5, g1158_6, b1158_6, g1158_7, b1158_7, g1158_8, b1158_8, pe_sipush, pe_istore1, pe_goto_w, pe_iload1, pe_aload0, pe_getfield, pe_arraylength, pe_icmp_ge, pe_bastore, pe_iinc1, pe_goto, pe_istore2, pe_iload2, pe_istore3, pe_iload3, pe_call3, pm_af_ret, pm_af_void, pm_af_thr, pe_if_le, pe_iadd, pe_iinc3, pe_iinc2, pm_prog_1, pm_ob_some, Nat.reduceDiv, Nat.reduceMod, Nat.reduceMul, Nat.reduceAdd, Int.reduceToNat, pm_kill_i, pm_kill_r, pm_kill_n, pm_kill_j, pm_kill_l, pm_kill_d, pm_cats_nil, pm_cats_i, pm_cats_r, pm_cats_n, pm_cats_l, pm_cats_d, sz_1, sz_2, sl_1, sl_2, lc_0, lc_lt, lc_le, li_ne, va_rf, wr_m1, we_m1, pm_kill_w, Int32.reduceOfInt, Int64.reduceOfInt, Int32.reduceOfNat, Int32.reduceLT, Int32.reduceLE, Prod.mk.injEq, Nat.reduceEqDiff, reduceCtorEq, and_true, true_and, and_false, false_and, and_self, ite_true, ite_false, ↓reduceIte, not_true_eq_false, not_false_eq_true, pe_ri, pe_rz, pe_rc, Cu_g1_0 hP hA, Cu_g1_5 hP hA, Cu_g1_6 hP hA, Cu_l8 hP hA, Cu_w8 hP hA, Cu_n0 hP , Cu_n1 hP , eq_true k1, hc]
    · rw [if_neg k2] at e; cases e
  · rw [if_neg k1] at e
    have e := Option.some.inj e; subst e
    dsimp only [Sum.elim_inr, ex1158_1] at hc
    simp -implicitDefEqProofs (disch := first | assumption | exact Nat.le_of_ble_eq_true rfl | decide) only [b1158_0, g1158_2, b1158_2, g1158_5, b1158_5, g1158_6, b1158_6, g1158_7, b1158_7, g1158_8, b1158_8, pe_sipush, pe_istore1, pe_goto_w, pe_iload1, pe_aload0, pe_getfield, pe_arraylength, pe_icmp_ge, pe_bastore, pe_iinc1, pe_goto, pe_istore2, pe_iload2, pe_istore3, pe_iload3, pe_call3, pm_af_ret, pm_af_void, pm_af_thr, pe_if_le, pe_iadd, pe_iinc3, pe_iinc2, pm_prog_1, pm_ob_some, Nat.reduceDiv, Nat.reduceMod, Nat.reduceMul, Nat.reduceAdd, Int.reduceToNat, pm_kill_i, pm_kill_r, pm_kill_n, pm_kill_j, pm_kill_l, pm_kill_d, pm_cats_nil, pm_cats_i, pm_cats_r, pm_cats_n, pm_cats_l, pm_cats_d, sz_1, sz_2, sl_1, sl_2, lc_0, lc_lt, lc_le, li_ne, va_rf, wr_m1, we_m1, pm_kill_w, Int32.reduceOfInt, Int64.reduceOfInt, Int32.reduceOfNat, Int32.reduceLT, Int32.reduceLE, Prod.mk.injEq, Nat.reduceEqDiff, reduceCtorEq, and_true, true_and, and_false, false_and, and_self, ite_true, ite_false, ↓reduceIte, not_true_eq_false, not_false_eq_true, pe_ri, pe_rz, pe_rc, Cu_g1_0 hP hA, Cu_g1_5 hP hA, Cu_g1_6 hP hA, Cu_l8 hP hA, Cu_w8 hP hA, Cu_n0 hP , Cu_n1 hP , eq_false k1, hc]
theorem z1158_1 {side : Int32} {A : wK → Nat} {h : pm_H} {D : Nat} {R : Outcome × pm_H} (hP : Cu_P side) (hA : wok A (Cu_d side) h.1) (hD : 3 ≤ D) {n : Nat} {a : Int32 × wS} {b : (wS)} (e : lp (f1158_b1 side) n a = some b) (hx : ex1158_1 side A h D R b) : go1158_1 side A h D R a := lp_run (fun a r => y1158_b1 hP hA hD a r) n a b e hx
def go1158_4 (side : Int32) (A : wK → Nat) (h : pm_H) (D : Nat) (R : Outcome × pm_H) : Int32 × Int32 × Int32 × wS → Prop := fun (x1, x2, x3, S) => pm_go pm_prog (pm_call pm_prog D) 1158 4 [.ref (A (1, 0, 0)), .int x1, .int x2, .int x3] [] (wput A (Cu_d side) S h) = some R
def ex1158_4 (side : Int32) (A : wK → Nat) (h : pm_H) (D : Nat) (R : Outcome × pm_H) : (Int32 × Int32 × wS) → Prop := fun (x1, x2, S) => ∀ q3 : Value, pm_go pm_prog (pm_call pm_prog D) 1158 7 [.ref (A (1, 0, 0)), .int x1, .int x2, q3] [] (wput A (Cu_d side) S h) = some R
theorem y1158_b4 {side : Int32} {A : wK → Nat} {h : pm_H} {D : Nat} {R : Outcome × pm_H} (hP : Cu_P side) (hA : wok A (Cu_d side) h.1) (hD : 3 ≤ D) (a : Int32 × Int32 × Int32 × wS) (r : (Int32 × Int32 × Int32 × wS) ⊕ ((Int32 × Int32 × wS))) (e : f1158_b4 side a = some r) (hc : Sum.elim (go1158_4 side A h D R) (ex1158_4 side A h D R) r) : go1158_4 side A h D R a := by
  obtain ⟨x1, x2, x3, S⟩ := a
  dsimp only [go1158_4]
  simp only [f1158_b4] at e
  rw [g1158_4, b1158_4]
  by_cases k1 : x3 < (S.1 (1, 0, 0) 0)
  · rw [if_pos k1] at e
    obtain ⟨S3, k2, e⟩ := Option.bind_eq_some_iff.mp e
    try dsimp only at e
    have z2 := x1159 (D := D) (h := h) hP hA (by omega) k2
    by_cases k3 : (S3.1 (1, 0, 0) 6) ≤ 0
    · rw [if_pos k3] at e
      have e := Option.some.inj e; subst e
      dsimp only [Sum.elim_inl, go1158_4] at hc
      simp -implicitDefEqProofs (disch := first | assumption | exact Nat.le_of_ble_eq_true rfl | decide) only [b1158_0, g1158_2, b1158_2, g1158_5, b1158_5, g1158_6, b1158_6, g1158_7, b1158_7, g1158_8, b1158_8, pe_sipush, pe_istore1, pe_goto_w, pe_iload1, pe_aload0, pe_getfield, pe_arraylength, pe_icmp_ge, pe_bastore, pe_iinc1, pe_goto, pe_istore2, pe_iload2, pe_istore3, pe_iload3, pe_call3, pm_af_ret, pm_af_void, pm_af_thr, pe_if_le, pe_iadd, pe_iinc3, pe_iinc2, pm_prog_1, pm_ob_some, Nat.reduceDiv, Nat.reduceMod, Nat.reduceMul, Nat.reduceAdd, Int.reduceToNat, pm_kill_i, pm_kill_r, pm_kill_n, pm_kill_j, pm_kill_l, pm_kill_d, pm_cats_nil, pm_cats_i, pm_cats_r, pm_cats_n, pm_cats_l, pm_cats_d, sz_1, sz_2, sl_1, sl_2, lc_0, lc_lt, lc_le, li_ne, va_rf, wr_m1, we_m1, pm_kill_w, Int32.reduceOfInt, Int64.reduceOfInt, Int32.reduceOfNat, Int32.reduceLT, Int32.reduceLE, Prod.mk.injEq, Nat.reduceEqDiff, reduceCtorEq, and_true, true_and, and_false, false_and, and_self, ite_true, ite_false, ↓reduceIte, not_true_eq_false, not_false_eq_true, pe_ri, pe_rz, pe_rc, Cu_g1_0 hP hA, Cu_g1_5 hP hA, Cu_g1_6 hP hA, Cu_l8 hP hA, Cu_w8 hP hA, Cu_n0 hP , Cu_n1 hP , eq_true k1, z2, eq_true k3, hc]
    · rw [if_neg k3] at e
      have e := Option.some.inj e; subst e
      dsimp only [Sum.elim_inl, go1158_4] at hc
      simp -implicitDefEqProofs (disch := first | assumption | exact Nat.le_of_ble_eq_true rfl | decide) only [b1158_0, g1158_2, b1158_2, g1158_5, b1158_5, g1158_6, b1158_6, g1158_7, b1158_7, g1158_8, b1158_8, pe_sipush, pe_istore1, pe_goto_w, pe_iload1, pe_aload0, pe_getfield, pe_arraylength, pe_icmp_ge, pe_bastore, pe_iinc1, pe_goto, pe_istore2, pe_iload2, pe_istore3, pe_iload3, pe_call3, pm_af_ret, pm_af_void, pm_af_thr, pe_if_le, pe_iadd, pe_iinc3, pe_iinc2, pm_prog_1, pm_ob_some, Nat.reduceDiv, Nat.reduceMod, Nat.reduceMul, Nat.reduceAdd, Int.reduceToNat, pm_kill_i, pm_kill_r, pm_kill_n, pm_kill_j, pm_kill_l, pm_kill_d, pm_cats_nil, pm_cats_i, pm_cats_r, pm_cats_n, pm_cats_l, pm_cats_d, sz_1, sz_2, sl_1, sl_2, lc_0, lc_lt, lc_le, li_ne, va_rf, wr_m1, we_m1, pm_kill_w, Int32.reduceOfInt, Int64.reduceOfInt, Int32.reduceOfNat, Int32.reduceLT, Int32.reduceLE, Prod.mk.injEq, Nat.reduceEqDiff, reduceCtorEq, and_true, true_and, and_false, false_and, and_self, ite_true, ite_false, ↓reduceIte, not_true_eq_false, not_false_eq_true, pe_ri, pe_rz, pe_rc, Cu_g1_0 hP hA, Cu_g1_5 hP hA, Cu_g1_6 hP hA, Cu_l8 hP hA, Cu_w8 hP hA, Cu_n0 hP , Cu_n1 hP , eq_true k1, z2, eq_false k3, hc]
  · rw [if_neg k1] at e
    have e := Option.some.inj e; subst e
    dsimp only [Sum.elim_inr, ex1158_4] at hc
    simp -implicitDefEqProofs (disch := first | assumption | exact Nat.le_of_ble_eq_true rfl | decide) only [b1158_0, g1158_2, b1158_2, g1158_5, b1158_5, g1158_6, b1158_6, g1158_7, b1158_7, g1158_8, b1158_8, pe_sipush, pe_istore1, pe_goto_w, pe_iload1, pe_aload0, pe_getfield, pe_arraylength, pe_icmp_ge, pe_bastore, pe_iinc1, pe_goto, pe_istore2, pe_iload2, pe_istore3, pe_iload3, pe_call3, pm_af_ret, pm_af_void, pm_af_thr, pe_if_le, pe_iadd, pe_iinc3, pe_iinc2, pm_prog_1, pm_ob_some, Nat.reduceDiv, Nat.reduceMod, Nat.reduceMul, Nat.reduceAdd, Int.reduceToNat, pm_kill_i, pm_kill_r, pm_kill_n, pm_kill_j, pm_kill_l, pm_kill_d, pm_cats_nil, pm_cats_i, pm_cats_r, pm_cats_n, pm_cats_l, pm_cats_d, sz_1, sz_2, sl_1, sl_2, lc_0, lc_lt, lc_le, li_ne, va_rf, wr_m1, we_m1, pm_kill_w, Int32.reduceOfInt, Int64.reduceOfInt, Int32.reduceOfNat, Int32.reduceLT, Int32.reduceLE, Prod.mk.injEq, Nat.reduceEqDiff, reduceCtorEq, and_true, true_and, and_false, false_and, and_self, ite_true, ite_false, ↓reduceIte, not_true_eq_false, not_false_eq_true, pe_ri, pe_rz, pe_rc, Cu_g1_0 hP hA, Cu_g1_5 hP hA, Cu_g1_6 hP hA, Cu_l8 hP hA, Cu_w8 hP hA, Cu_n0 hP , Cu_n1 hP , eq_false k1, hc]
theorem z1158_4 {side : Int32} {A : wK → Nat} {h : pm_H} {D : Nat} {R : Outcome × pm_H} (hP : Cu_P side) (hA : wok A (Cu_d side) h.1) (hD : 3 ≤ D) {n : Nat} {a : Int32 × Int32 × Int32 × wS} {b : (Int32 × Int32 × wS)} (e : lp (f1158_b4 side) n a = some b) (hx : ex1158_4 side A h D R b) : go1158_4 side A h D R a := lp_run (fun a r => y1158_b4 hP hA hD a r) n a b e hx
def go1158_3 (side : Int32) (A : wK → Nat) (h : pm_H) (D : Nat) (R : Outcome × pm_H) : Int32 × Int32 × wS → Prop := fun (x1, x2, S) => ∀ q3 : Value, pm_go pm_prog (pm_call pm_prog D) 1158 3 [.ref (A (1, 0, 0)), .int x1, .int x2, q3] [] (wput A (Cu_d side) S h) = some R
def ex1158_3 (side : Int32) (A : wK → Nat) (h : pm_H) (D : Nat) (R : Outcome × pm_H) : (Int32 × wS) → Prop := fun (x1, S) => ∀ q0 q2 q3 : Value, pm_go pm_prog (pm_call pm_prog D) 1158 8 [q0, .int x1, q2, q3] [] (wput A (Cu_d side) S h) = some R
theorem y1158_b3 {side : Int32} {A : wK → Nat} {h : pm_H} {D : Nat} {R : Outcome × pm_H} (hP : Cu_P side) (hA : wok A (Cu_d side) h.1) (hD : 3 ≤ D) (a : Int32 × Int32 × wS) (r : (Int32 × Int32 × wS) ⊕ ((Int32 × wS))) (e : f1158_b3 side a = some r) (hc : Sum.elim (go1158_3 side A h D R) (ex1158_3 side A h D R) r) : go1158_3 side A h D R a := by
  obtain ⟨x1, x2, S⟩ := a
  dsimp only [go1158_3]
  intro q3
  simp only [f1158_b3] at e
  rw [g1158_3, b1158_3]
  by_cases k1 : x2 < (S.1 (1, 0, 0) 0)
  · rw [if_pos k1] at e
    obtain ⟨⟨v6, v7, S4⟩, k2, e⟩ := Option.bind_eq_some_iff.mp e
    try dsimp only at e
    try simp -implicitDefEqProofs (disch := first | assumption | exact Nat.le_of_ble_eq_true rfl | decide) only [b1158_0, g1158_2, b1158_2, g1158_5, b1158_5, g1158_6, b1158_6, g1158_7, b1158_7, g1158_8, b1158_8, pe_sipush, pe_istore1, pe_goto_w, pe_iload1, pe_aload0, pe_getfield, pe_arraylength, pe_icmp_ge, pe_bastore, pe_iinc1, pe_goto, pe_istore2, pe_iload2, pe_istore3, pe_iload3, pe_call3, pm_af_ret, pm_af_void, pm_af_thr, pe_if_le, pe_iadd, pe_iinc3, pe_iinc2, pm_prog_1, pm_ob_some, Nat.reduceDiv, Nat.reduceMod, Nat.reduceMul, Nat.reduceAdd, Int.reduceToNat, pm_kill_i, pm_kill_r, pm_kill_n, pm_kill_j, pm_kill_l, pm_kill_d, pm_cats_nil, pm_cats_i, pm_cats_r, pm_cats_n, pm_cats_l, pm_cats_d, sz_1, sz_2, sl_1, sl_2, lc_0, lc_lt, lc_le, li_ne, va_rf, wr_m1, we_m1, pm_kill_w, Int32.reduceOfInt, Int64.reduceOfInt, Int32.reduceOfNat, Int32.reduceLT, Int32.reduceLE, Prod.mk.injEq, Nat.reduceEqDiff, reduceCtorEq, and_true, true_and, and_false, false_and, and_self, ite_true, ite_false, ↓reduceIte, not_true_eq_false, not_false_eq_true, pe_ri, pe_rz, pe_rc, Cu_g1_0 hP hA, Cu_g1_5 hP hA, Cu_g1_6 hP hA, Cu_l8 hP hA, Cu_w8 hP hA, Cu_n0 hP , Cu_n1 hP , eq_true k1]
    refine z1158_4 hP hA hD k2 ?_
    dsimp only [ex1158_4]
    intro q3
    have e := Option.some.inj e; subst e
    dsimp only [Sum.elim_inl, go1158_3] at hc
    simp -implicitDefEqProofs (disch := first | assumption | exact Nat.le_of_ble_eq_true rfl | decide) only [b1158_0, g1158_2, b1158_2, g1158_5, b1158_5, g1158_6, b1158_6, g1158_7, b1158_7, g1158_8, b1158_8, pe_sipush, pe_istore1, pe_goto_w, pe_iload1, pe_aload0, pe_getfield, pe_arraylength, pe_icmp_ge, pe_bastore, pe_iinc1, pe_goto, pe_istore2, pe_iload2, pe_istore3, pe_iload3, pe_call3, pm_af_ret, pm_af_void, pm_af_thr, pe_if_le, pe_iadd, pe_iinc3, pe_iinc2, pm_prog_1, pm_ob_some, Nat.reduceDiv, Nat.reduceMod, Nat.reduceMul, Nat.reduceAdd, Int.reduceToNat, pm_kill_i, pm_kill_r, pm_kill_n, pm_kill_j, pm_kill_l, pm_kill_d, pm_cats_nil, pm_cats_i, pm_cats_r, pm_cats_n, pm_cats_l, pm_cats_d, sz_1, sz_2, sl_1, sl_2, lc_0, lc_lt, lc_le, li_ne, va_rf, wr_m1, we_m1, pm_kill_w, Int32.reduceOfInt, Int64.reduceOfInt, Int32.reduceOfNat, Int32.reduceLT, Int32.reduceLE, Prod.mk.injEq, Nat.reduceEqDiff, reduceCtorEq, and_true, true_and, and_false, false_and, and_self, ite_true, ite_false, ↓reduceIte, not_true_eq_false, not_false_eq_true, pe_ri, pe_rz, pe_rc, Cu_g1_0 hP hA, Cu_g1_5 hP hA, Cu_g1_6 hP hA, Cu_l8 hP hA, Cu_w8 hP hA, Cu_n0 hP , Cu_n1 hP , eq_true k1, hc]
  · rw [if_neg k1] at e
    have e := Option.some.inj e; subst e
    dsimp only [Sum.elim_inr, ex1158_3] at hc
    simp -implicitDefEqProofs (disch := first | assumption | exact Nat.le_of_ble_eq_true rfl | decide) only [b1158_0, g1158_2, b1158_2, g1158_5, b1158_5, g1158_6, b1158_6, g1158_7, b1158_7, g1158_8, b1158_8, pe_sipush, pe_istore1, pe_goto_w, pe_iload1, pe_aload0, pe_getfield, pe_arraylength, pe_icmp_ge, pe_bastore, pe_iinc1, pe_goto, pe_istore2, pe_iload2, pe_istore3, pe_iload3, pe_call3, pm_af_ret, pm_af_void, pm_af_thr, pe_if_le, pe_iadd, pe_iinc3, pe_iinc2, pm_prog_1, pm_ob_some, Nat.reduceDiv, Nat.reduceMod, Nat.reduceMul, Nat.reduceAdd, Int.reduceToNat, pm_kill_i, pm_kill_r, pm_kill_n, pm_kill_j, pm_kill_l, pm_kill_d, pm_cats_nil, pm_cats_i, pm_cats_r, pm_cats_n, pm_cats_l, pm_cats_d, sz_1, sz_2, sl_1, sl_2, lc_0, lc_lt, lc_le, li_ne, va_rf, wr_m1, we_m1, pm_kill_w, Int32.reduceOfInt, Int64.reduceOfInt, Int32.reduceOfNat, Int32.reduceLT, Int32.reduceLE, Prod.mk.injEq, Nat.reduceEqDiff, reduceCtorEq, and_true, true_and, and_false, false_and, and_self, ite_true, ite_false, ↓reduceIte, not_true_eq_false, not_false_eq_true, pe_ri, pe_rz, pe_rc, Cu_g1_0 hP hA, Cu_g1_5 hP hA, Cu_g1_6 hP hA, Cu_l8 hP hA, Cu_w8 hP hA, Cu_n0 hP , Cu_n1 hP , eq_false k1, hc]
theorem z1158_3 {side : Int32} {A : wK → Nat} {h : pm_H} {D : Nat} {R : Outcome × pm_H} (hP : Cu_P side) (hA : wok A (Cu_d side) h.1) (hD : 3 ≤ D) {n : Nat} {a : Int32 × Int32 × wS} {b : (Int32 × wS)} (e : lp (f1158_b3 side) n a = some b) (hx : ex1158_3 side A h D R b) : go1158_3 side A h D R a := lp_run (fun a r => y1158_b3 hP hA hD a r) n a b e hx
theorem x1158 {side : Int32} {A : wK → Nat} {h : pm_H} {D : Nat} {S : wS} {r : Int32 × wS} (hP : Cu_P side) (hA : wok A (Cu_d side) h.1) (hD : 4 ≤ D) (e : f1158 side S = some r) : pm_call pm_prog D 1158 [.ref (A (1, 0, 0))] (wput A (Cu_d side) S h) = some (match (generalizing := false) r with | (w0, S1) => (Outcome.returned (some (.int w0)), (wput A (Cu_d side) S1 h))) := by
  obtain ⟨D, rfl⟩ : ∃ D', D = D' + 1 := ⟨D - 1, by omega⟩
  have hD : 3 ≤ D := by omega
  simp only [f1158] at e
  rw [c1158 (Cu_c1 hP hA), b1158_0]
  obtain ⟨S1, k1, e⟩ := Option.bind_eq_some_iff.mp e
  try dsimp only at e
  try simp -implicitDefEqProofs (disch := first | assumption | exact Nat.le_of_ble_eq_true rfl | decide) only [b1158_0, g1158_2, b1158_2, g1158_5, b1158_5, g1158_6, b1158_6, g1158_7, b1158_7, g1158_8, b1158_8, pe_sipush, pe_istore1, pe_goto_w, pe_iload1, pe_aload0, pe_getfield, pe_arraylength, pe_icmp_ge, pe_bastore, pe_iinc1, pe_goto, pe_istore2, pe_iload2, pe_istore3, pe_iload3, pe_call3, pm_af_ret, pm_af_void, pm_af_thr, pe_if_le, pe_iadd, pe_iinc3, pe_iinc2, pm_prog_1, pm_ob_some, Nat.reduceDiv, Nat.reduceMod, Nat.reduceMul, Nat.reduceAdd, Int.reduceToNat, pm_kill_i, pm_kill_r, pm_kill_n, pm_kill_j, pm_kill_l, pm_kill_d, pm_cats_nil, pm_cats_i, pm_cats_r, pm_cats_n, pm_cats_l, pm_cats_d, sz_1, sz_2, sl_1, sl_2, lc_0, lc_lt, lc_le, li_ne, va_rf, wr_m1, we_m1, pm_kill_w, Int32.reduceOfInt, Int64.reduceOfInt, Int32.reduceOfNat, Int32.reduceLT, Int32.reduceLE, Prod.mk.injEq, Nat.reduceEqDiff, reduceCtorEq, and_true, true_and, and_false, false_and, and_self, ite_true, ite_false, ↓reduceIte, not_true_eq_false, not_false_eq_true, pe_ri, pe_rz, pe_rc, Cu_g1_0 hP hA, Cu_g1_5 hP hA, Cu_g1_6 hP hA, Cu_l8 hP hA, Cu_w8 hP hA, Cu_n0 hP , Cu_n1 hP ]
  refine z1158_1 hP hA hD k1 ?_ _ _
  dsimp only [ex1158_1]
  intro q1 q2 q3
  obtain ⟨⟨v9, S8⟩, k2, e⟩ := Option.bind_eq_some_iff.mp e
  try dsimp only at e
  try simp -implicitDefEqProofs (disch := first | assumption | exact Nat.le_of_ble_eq_true rfl | decide) only [b1158_0, g1158_2, b1158_2, g1158_5, b1158_5, g1158_6, b1158_6, g1158_7, b1158_7, g1158_8, b1158_8, pe_sipush, pe_istore1, pe_goto_w, pe_iload1, pe_aload0, pe_getfield, pe_arraylength, pe_icmp_ge, pe_bastore, pe_iinc1, pe_goto, pe_istore2, pe_iload2, pe_istore3, pe_iload3, pe_call3, pm_af_ret, pm_af_void, pm_af_thr, pe_if_le, pe_iadd, pe_iinc3, pe_iinc2, pm_prog_1, pm_ob_some, Nat.reduceDiv, Nat.reduceMod, Nat.reduceMul, Nat.reduceAdd, Int.reduceToNat, pm_kill_i, pm_kill_r, pm_kill_n, pm_kill_j, pm_kill_l, pm_kill_d, pm_cats_nil, pm_cats_i, pm_cats_r, pm_cats_n, pm_cats_l, pm_cats_d, sz_1, sz_2, sl_1, sl_2, lc_0, lc_lt, lc_le, li_ne, va_rf, wr_m1, we_m1, pm_kill_w, Int32.reduceOfInt, Int64.reduceOfInt, Int32.reduceOfNat, Int32.reduceLT, Int32.reduceLE, Prod.mk.injEq, Nat.reduceEqDiff, reduceCtorEq, and_true, true_and, and_false, false_and, and_self, ite_true, ite_false, ↓reduceIte, not_true_eq_false, not_false_eq_true, pe_ri, pe_rz, pe_rc, Cu_g1_0 hP hA, Cu_g1_5 hP hA, Cu_g1_6 hP hA, Cu_l8 hP hA, Cu_w8 hP hA, Cu_n0 hP , Cu_n1 hP ]
  refine z1158_3 hP hA hD k2 ?_ _
  dsimp only [ex1158_3]
  intro q0 q2 q3
  have e := Option.some.inj e; subst e
  simp -implicitDefEqProofs (disch := first | assumption | exact Nat.le_of_ble_eq_true rfl | decide) only [b1158_0, g1158_2, b1158_2, g1158_5, b1158_5, g1158_6, b1158_6, g1158_7, b1158_7, g1158_8, b1158_8, pe_sipush, pe_istore1, pe_goto_w, pe_iload1, pe_aload0, pe_getfield, pe_arraylength, pe_icmp_ge, pe_bastore, pe_iinc1, pe_goto, pe_istore2, pe_iload2, pe_istore3, pe_iload3, pe_call3, pm_af_ret, pm_af_void, pm_af_thr, pe_if_le, pe_iadd, pe_iinc3, pe_iinc2, pm_prog_1, pm_ob_some, Nat.reduceDiv, Nat.reduceMod, Nat.reduceMul, Nat.reduceAdd, Int.reduceToNat, pm_kill_i, pm_kill_r, pm_kill_n, pm_kill_j, pm_kill_l, pm_kill_d, pm_cats_nil, pm_cats_i, pm_cats_r, pm_cats_n, pm_cats_l, pm_cats_d, sz_1, sz_2, sl_1, sl_2, lc_0, lc_lt, lc_le, li_ne, va_rf, wr_m1, we_m1, pm_kill_w, Int32.reduceOfInt, Int64.reduceOfInt, Int32.reduceOfNat, Int32.reduceLT, Int32.reduceLE, Prod.mk.injEq, Nat.reduceEqDiff, reduceCtorEq, and_true, true_and, and_false, false_and, and_self, ite_true, ite_false, ↓reduceIte, not_true_eq_false, not_false_eq_true, pe_ri, pe_rz, pe_rc, Cu_g1_0 hP hA, Cu_g1_5 hP hA, Cu_g1_6 hP hA, Cu_l8 hP hA, Cu_w8 hP hA, Cu_n0 hP , Cu_n1 hP ]
/-- TimberHouse$RouterPaths.pieces()I -/
theorem c1045 {d : Nat} {h : pm_H} {a : Nat} (hc : pm_cls h a = some 16) : pm_call pm_prog (d + 1) 1045 [.ref a] h = pm_ev pm_prog (pm_call pm_prog d) 1045 0 b1045_0 [.ref a] [] h := pm_cal (pm_rc1 hc rfl) rfl rfl rfl
/-- TimberHouse$RouterPaths.pieces()I -/
noncomputable def f1045 (side : Int32) (S : wS) : Option (Int32 × wS) :=
  (f1158 side S).bind fun (v1, S2) =>
  some (v1, S2)
theorem x1045 {side : Int32} {A : wK → Nat} {h : pm_H} {D : Nat} {S : wS} {r : Int32 × wS} (hP : Cu_P side) (hA : wok A (Cu_d side) h.1) (hD : 5 ≤ D) (e : f1045 side S = some r) : pm_call pm_prog D 1045 [.ref (A (0, 0, 0))] (wput A (Cu_d side) S h) = some (match (generalizing := false) r with | (w0, S1) => (Outcome.returned (some (.int w0)), (wput A (Cu_d side) S1 h))) := by
  obtain ⟨D, rfl⟩ : ∃ D', D = D' + 1 := ⟨D - 1, by omega⟩
  have hD : 4 ≤ D := by omega
  simp only [f1045] at e
  rw [c1045 (Cu_c0 hP hA), b1045_0]
  obtain ⟨⟨v1, S2⟩, k1, e⟩ := Option.bind_eq_some_iff.mp e
  try dsimp only at e
  have z1 := x1158 (D := D) (h := h) hP hA (by omega) k1
  dsimp only at z1
  have e := Option.some.inj e; subst e
  simp -implicitDefEqProofs (disch := first | assumption | exact Nat.le_of_ble_eq_true rfl | decide) only [b1045_0, pe_aload0, pe_getfield, pe_call1, pm_af_ret, pm_af_void, pm_af_thr, pm_prog_1, pm_ob_some, Nat.reduceDiv, Nat.reduceMod, Nat.reduceMul, Nat.reduceAdd, Int.reduceToNat, pm_kill_i, pm_kill_r, pm_kill_n, pm_kill_j, pm_kill_l, pm_kill_d, pm_cats_nil, pm_cats_i, pm_cats_r, pm_cats_n, pm_cats_l, pm_cats_d, sz_1, sz_2, sl_1, sl_2, lc_0, lc_lt, lc_le, li_ne, va_rf, wr_m1, we_m1, pm_kill_w, Int32.reduceOfInt, Int64.reduceOfInt, Int32.reduceOfNat, Int32.reduceLT, Int32.reduceLE, Prod.mk.injEq, Nat.reduceEqDiff, reduceCtorEq, and_true, true_and, and_false, false_and, and_self, ite_true, ite_false, ↓reduceIte, not_true_eq_false, not_false_eq_true, pe_ri, pe_rz, pe_rc, Cu_g0_0 hP hA, z1]
/-- TimberHouse$RouterPaths$Grid.fill([I)V -/
theorem c1154 {d : Nat} {h : pm_H} {r0 : Nat} : pm_call pm_prog (d + 1) 1154 [.ref r0] h = pm_ev pm_prog (pm_call pm_prog d) 1154 0 b1154_0 [.ref r0, pm_junk] [] h := pm_cal (pm_rc0 rfl) rfl rfl rfl
theorem g1154_1 {cl : pm_C} {ls st : List Value} {h : pm_H} : pm_go pm_prog cl 1154 1 ls st h = pm_ev pm_prog cl 1154 1 b1154_1 ls st h := pm_go_eq pm_prog cl 1154 1 ls st h
theorem g1154_2 {cl : pm_C} {ls st : List Value} {h : pm_H} : pm_go pm_prog cl 1154 2 ls st h = pm_ev pm_prog cl 1154 2 b1154_2 ls st h := pm_go_eq pm_prog cl 1154 2 ls st h
noncomputable def f1154_b1 (side : Int32) : Int32 × Int32 × wS → Option ((Int32 × Int32 × wS) ⊕ ((wS))) := fun (x0i, x1, S) =>
  if 0 ≤ x0i ∧ x0i < side then
    if x1 < side then
      if 0 ≤ x1 ∧ x1 < side then
        some (.inl (x0i, (x1 + 1), (sz S (3, x0i, 0) x1 100)))
      else none
    else
      some (.inr S)
  else none
/-- TimberHouse$RouterPaths$Grid.fill([I)V -/
noncomputable def f1154 (side : Int32) (S : wS) (x0i : Int32) : Option (wS) :=
  if 0 ≤ x0i ∧ x0i < side then
    (lp (f1154_b1 side) FU (x0i, 0, S)).bind fun S1 =>
    some S1
  else none
def go1154_1 (side : Int32) (A : wK → Nat) (h : pm_H) (D : Nat) (R : Outcome × pm_H) : Int32 × Int32 × wS → Prop := fun (x0i, x1, S) => pm_go pm_prog (pm_call pm_prog D) 1154 1 [.ref (A (3, x0i, 0)), .int x1] [] (wput A (Cu_d side) S h) = some R
def ex1154_1 (side : Int32) (A : wK → Nat) (h : pm_H) (D : Nat) (R : Outcome × pm_H) : (wS) → Prop := fun S => ∀ q0 q1 : Value, pm_go pm_prog (pm_call pm_prog D) 1154 2 [q0, q1] [] (wput A (Cu_d side) S h) = some R
theorem y1154_b1 {side : Int32} {A : wK → Nat} {h : pm_H} {D : Nat} {R : Outcome × pm_H} (hP : Cu_P side) (hA : wok A (Cu_d side) h.1) (hD : 0 ≤ D) (a : Int32 × Int32 × wS) (r : (Int32 × Int32 × wS) ⊕ ((wS))) (e : f1154_b1 side a = some r) (hc : Sum.elim (go1154_1 side A h D R) (ex1154_1 side A h D R) r) : go1154_1 side A h D R a := by
  obtain ⟨x0i, x1, S⟩ := a
  dsimp only [go1154_1]
  simp only [f1154_b1] at e
  rw [g1154_1, b1154_1]
  by_cases k1 : 0 ≤ x0i ∧ x0i < side
  · rw [if_pos k1] at e
    by_cases k2 : x1 < side
    · rw [if_pos k2] at e
      by_cases k3 : 0 ≤ x1 ∧ x1 < side
      · rw [if_pos k3] at e
        have e := Option.some.inj e; subst e
        dsimp only [Sum.elim_inl, go1154_1] at hc
        simp -implicitDefEqProofs (disch := first | assumption | exact Nat.le_of_ble_eq_true rfl | decide) only [b1154_0, g1154_2, b1154_2, pe_sipush, pe_istore1, pe_goto_w, pe_iload1, pe_aload0, pe_arraylength, pe_icmp_ge, pe_iastore, pe_iinc1, pe_goto, pe_return, pm_prog_1, pm_ob_some, Nat.reduceDiv, Nat.reduceMod, Nat.reduceMul, Nat.reduceAdd, Int.reduceToNat, pm_kill_i, pm_kill_r, pm_kill_n, pm_kill_j, pm_kill_l, pm_kill_d, pm_cats_nil, pm_cats_i, pm_cats_r, pm_cats_n, pm_cats_l, pm_cats_d, sz_1, sz_2, sl_1, sl_2, lc_0, lc_lt, lc_le, li_ne, va_rf, wr_m1, we_m1, pm_kill_w, Int32.reduceOfInt, Int64.reduceOfInt, Int32.reduceOfNat, Int32.reduceLT, Int32.reduceLE, Prod.mk.injEq, Nat.reduceEqDiff, reduceCtorEq, and_true, true_and, and_false, false_and, and_self, ite_true, ite_false, ↓reduceIte, not_true_eq_false, not_false_eq_true, pe_ri, pe_rz, pe_rc, Cu_l3 hP hA, Cu_w3 hP hA, Cu_n0 hP , Cu_n1 hP , eq_true k2, hc]
      · rw [if_neg k3] at e; cases e
    · rw [if_neg k2] at e
      have e := Option.some.inj e; subst e
      dsimp only [Sum.elim_inr, ex1154_1] at hc
      simp -implicitDefEqProofs (disch := first | assumption | exact Nat.le_of_ble_eq_true rfl | decide) only [b1154_0, g1154_2, b1154_2, pe_sipush, pe_istore1, pe_goto_w, pe_iload1, pe_aload0, pe_arraylength, pe_icmp_ge, pe_iastore, pe_iinc1, pe_goto, pe_return, pm_prog_1, pm_ob_some, Nat.reduceDiv, Nat.reduceMod, Nat.reduceMul, Nat.reduceAdd, Int.reduceToNat, pm_kill_i, pm_kill_r, pm_kill_n, pm_kill_j, pm_kill_l, pm_kill_d, pm_cats_nil, pm_cats_i, pm_cats_r, pm_cats_n, pm_cats_l, pm_cats_d, sz_1, sz_2, sl_1, sl_2, lc_0, lc_lt, lc_le, li_ne, va_rf, wr_m1, we_m1, pm_kill_w, Int32.reduceOfInt, Int64.reduceOfInt, Int32.reduceOfNat, Int32.reduceLT, Int32.reduceLE, Prod.mk.injEq, Nat.reduceEqDiff, reduceCtorEq, and_true, true_and, and_false, false_and, and_self, ite_true, ite_false, ↓reduceIte, not_true_eq_false, not_false_eq_true, pe_ri, pe_rz, pe_rc, Cu_l3 hP hA, Cu_w3 hP hA, Cu_n0 hP , Cu_n1 hP , eq_false k2, hc]
  · rw [if_neg k1] at e; cases e
theorem z1154_1 {side : Int32} {A : wK → Nat} {h : pm_H} {D : Nat} {R : Outcome × pm_H} (hP : Cu_P side) (hA : wok A (Cu_d side) h.1) (hD : 0 ≤ D) {n : Nat} {a : Int32 × Int32 × wS} {b : (wS)} (e : lp (f1154_b1 side) n a = some b) (hx : ex1154_1 side A h D R b) : go1154_1 side A h D R a := lp_run (fun a r => y1154_b1 hP hA hD a r) n a b e hx
theorem x1154 {side : Int32} {A : wK → Nat} {h : pm_H} {D : Nat} {S : wS} {x0i : Int32} {r : wS} (hP : Cu_P side) (hA : wok A (Cu_d side) h.1) (hD : 1 ≤ D) (e : f1154 side S x0i = some r) : pm_call pm_prog D 1154 [.ref (A (3, x0i, 0))] (wput A (Cu_d side) S h) = some (Outcome.returned none, (wput A (Cu_d side) r h)) := by
  obtain ⟨D, rfl⟩ : ∃ D', D = D' + 1 := ⟨D - 1, by omega⟩
  have hD : 0 ≤ D := by omega
  simp only [f1154] at e
  have k1 : 0 ≤ x0i ∧ x0i < side := by
    by_cases q : 0 ≤ x0i ∧ x0i < side
    · exact q
    · rw [if_neg q] at e; cases e
  rw [if_pos k1] at e
  rw [c1154, b1154_0]
  obtain ⟨S1, k2, e⟩ := Option.bind_eq_some_iff.mp e
  try dsimp only at e
  try simp -implicitDefEqProofs (disch := first | assumption | exact Nat.le_of_ble_eq_true rfl | decide) only [b1154_0, g1154_2, b1154_2, pe_sipush, pe_istore1, pe_goto_w, pe_iload1, pe_aload0, pe_arraylength, pe_icmp_ge, pe_iastore, pe_iinc1, pe_goto, pe_return, pm_prog_1, pm_ob_some, Nat.reduceDiv, Nat.reduceMod, Nat.reduceMul, Nat.reduceAdd, Int.reduceToNat, pm_kill_i, pm_kill_r, pm_kill_n, pm_kill_j, pm_kill_l, pm_kill_d, pm_cats_nil, pm_cats_i, pm_cats_r, pm_cats_n, pm_cats_l, pm_cats_d, sz_1, sz_2, sl_1, sl_2, lc_0, lc_lt, lc_le, li_ne, va_rf, wr_m1, we_m1, pm_kill_w, Int32.reduceOfInt, Int64.reduceOfInt, Int32.reduceOfNat, Int32.reduceLT, Int32.reduceLE, Prod.mk.injEq, Nat.reduceEqDiff, reduceCtorEq, and_true, true_and, and_false, false_and, and_self, ite_true, ite_false, ↓reduceIte, not_true_eq_false, not_false_eq_true, pe_ri, pe_rz, pe_rc, Cu_l3 hP hA, Cu_w3 hP hA, Cu_n0 hP , Cu_n1 hP ]
  refine z1154_1 hP hA hD k2 ?_
  dsimp only [ex1154_1]
  intro q0 q1
  have e := Option.some.inj e; subst e
  simp -implicitDefEqProofs (disch := first | assumption | exact Nat.le_of_ble_eq_true rfl | decide) only [b1154_0, g1154_2, b1154_2, pe_sipush, pe_istore1, pe_goto_w, pe_iload1, pe_aload0, pe_arraylength, pe_icmp_ge, pe_iastore, pe_iinc1, pe_goto, pe_return, pm_prog_1, pm_ob_some, Nat.reduceDiv, Nat.reduceMod, Nat.reduceMul, Nat.reduceAdd, Int.reduceToNat, pm_kill_i, pm_kill_r, pm_kill_n, pm_kill_j, pm_kill_l, pm_kill_d, pm_cats_nil, pm_cats_i, pm_cats_r, pm_cats_n, pm_cats_l, pm_cats_d, sz_1, sz_2, sl_1, sl_2, lc_0, lc_lt, lc_le, li_ne, va_rf, wr_m1, we_m1, pm_kill_w, Int32.reduceOfInt, Int64.reduceOfInt, Int32.reduceOfNat, Int32.reduceLT, Int32.reduceLE, Prod.mk.injEq, Nat.reduceEqDiff, reduceCtorEq, and_true, true_and, and_false, false_and, and_self, ite_true, ite_false, ↓reduceIte, not_true_eq_false, not_false_eq_true, pe_ri, pe_rz, pe_rc, Cu_l3 hP hA, Cu_w3 hP hA, Cu_n0 hP , Cu_n1 hP ]
/-- TimberHouse$RouterPaths$Grid.blank()V -/
theorem c1153 {d : Nat} {h : pm_H} {a : Nat} (hc : pm_cls h a = some 18) : pm_call pm_prog (d + 1) 1153 [.ref a] h = pm_ev pm_prog (pm_call pm_prog d) 1153 0 b1153_0 [.ref a, pm_junk, pm_junk, pm_junk, pm_junk] [] h := pm_cal (pm_rc1 hc rfl) rfl rfl rfl
theorem g1153_1 {cl : pm_C} {ls st : List Value} {h : pm_H} : pm_go pm_prog cl 1153 1 ls st h = pm_ev pm_prog cl 1153 1 b1153_1 ls st h := pm_go_eq pm_prog cl 1153 1 ls st h
theorem g1153_2 {cl : pm_C} {ls st : List Value} {h : pm_H} : pm_go pm_prog cl 1153 2 ls st h = pm_ev pm_prog cl 1153 2 b1153_2 ls st h := pm_go_eq pm_prog cl 1153 2 ls st h
noncomputable def f1153_b1 (side : Int32) : Int32 × Int32 × wS → Option ((Int32 × Int32 × wS) ⊕ ((wS))) := fun (x2, x3, S) =>
  if x3 < x2 then
    if 0 ≤ x3 ∧ x3 < side then
      (f1154 side S x3).bind fun S1 =>
      some (.inl (x2, (x3 + 1), S1))
    else none
  else
    some (.inr S)
/-- TimberHouse$RouterPaths$Grid.blank()V -/
noncomputable def f1153 (side : Int32) (S : wS) : Option (wS) :=
  (lp (f1153_b1 side) FU (side, 0, S)).bind fun S2 =>
  some S2
def go1153_1 (side : Int32) (A : wK → Nat) (h : pm_H) (D : Nat) (R : Outcome × pm_H) : Int32 × Int32 × wS → Prop := fun (x2, x3, S) => ∀ q0 q4 : Value, pm_go pm_prog (pm_call pm_prog D) 1153 1 [q0, .ref (A (2, 0, 0)), .int x2, .int x3, q4] [] (wput A (Cu_d side) S h) = some R
def ex1153_1 (side : Int32) (A : wK → Nat) (h : pm_H) (D : Nat) (R : Outcome × pm_H) : (wS) → Prop := fun S => ∀ q0 q1 q2 q3 q4 : Value, pm_go pm_prog (pm_call pm_prog D) 1153 2 [q0, q1, q2, q3, q4] [] (wput A (Cu_d side) S h) = some R
theorem y1153_b1 {side : Int32} {A : wK → Nat} {h : pm_H} {D : Nat} {R : Outcome × pm_H} (hP : Cu_P side) (hA : wok A (Cu_d side) h.1) (hD : 1 ≤ D) (a : Int32 × Int32 × wS) (r : (Int32 × Int32 × wS) ⊕ ((wS))) (e : f1153_b1 side a = some r) (hc : Sum.elim (go1153_1 side A h D R) (ex1153_1 side A h D R) r) : go1153_1 side A h D R a := by
  obtain ⟨x2, x3, S⟩ := a
  dsimp only [go1153_1]
  intro q0 q4
  simp only [f1153_b1] at e
  rw [g1153_1, b1153_1]
  by_cases k1 : x3 < x2
  · rw [if_pos k1] at e
    by_cases k2 : 0 ≤ x3 ∧ x3 < side
    · rw [if_pos k2] at e
      obtain ⟨S1, k3, e⟩ := Option.bind_eq_some_iff.mp e
      try dsimp only at e
      have z3 := x1154 (D := D) (h := h) hP hA (by omega) k3
      have e := Option.some.inj e; subst e
      dsimp only [Sum.elim_inl, go1153_1] at hc
      simp -implicitDefEqProofs (disch := first | assumption | exact Nat.le_of_ble_eq_true rfl | decide) only [b1153_0, g1153_2, b1153_2, pe_aload0, pe_getfield, pe_astore1, pe_aload1, pe_arraylength, pe_istore2, pe_sipush, pe_istore3, pe_goto_w, pe_iload3, pe_iload2, pe_icmp_ge, pe_aaload, pe_astore4, pe_aload4, pe_call1, pm_af_ret, pm_af_void, pm_af_thr, pe_iinc3, pe_goto, pe_return, pm_prog_1, pm_ob_some, Nat.reduceDiv, Nat.reduceMod, Nat.reduceMul, Nat.reduceAdd, Int.reduceToNat, pm_kill_i, pm_kill_r, pm_kill_n, pm_kill_j, pm_kill_l, pm_kill_d, pm_cats_nil, pm_cats_i, pm_cats_r, pm_cats_n, pm_cats_l, pm_cats_d, sz_1, sz_2, sl_1, sl_2, lc_0, lc_lt, lc_le, li_ne, va_rf, wr_m1, we_m1, pm_kill_w, Int32.reduceOfInt, Int64.reduceOfInt, Int32.reduceOfNat, Int32.reduceLT, Int32.reduceLE, Prod.mk.injEq, Nat.reduceEqDiff, reduceCtorEq, and_true, true_and, and_false, false_and, and_self, ite_true, ite_false, ↓reduceIte, not_true_eq_false, not_false_eq_true, pe_ri, pe_rz, pe_rc, Cu_g1_1 hP hA, Cu_l2 hP hA, Cu_r2 hP hA, Cu_n0 hP , Cu_n1 hP , eq_true k1, z3, hc]
    · rw [if_neg k2] at e; cases e
  · rw [if_neg k1] at e
    have e := Option.some.inj e; subst e
    dsimp only [Sum.elim_inr, ex1153_1] at hc
    simp -implicitDefEqProofs (disch := first | assumption | exact Nat.le_of_ble_eq_true rfl | decide) only [b1153_0, g1153_2, b1153_2, pe_aload0, pe_getfield, pe_astore1, pe_aload1, pe_arraylength, pe_istore2, pe_sipush, pe_istore3, pe_goto_w, pe_iload3, pe_iload2, pe_icmp_ge, pe_aaload, pe_astore4, pe_aload4, pe_call1, pm_af_ret, pm_af_void, pm_af_thr, pe_iinc3, pe_goto, pe_return, pm_prog_1, pm_ob_some, Nat.reduceDiv, Nat.reduceMod, Nat.reduceMul, Nat.reduceAdd, Int.reduceToNat, pm_kill_i, pm_kill_r, pm_kill_n, pm_kill_j, pm_kill_l, pm_kill_d, pm_cats_nil, pm_cats_i, pm_cats_r, pm_cats_n, pm_cats_l, pm_cats_d, sz_1, sz_2, sl_1, sl_2, lc_0, lc_lt, lc_le, li_ne, va_rf, wr_m1, we_m1, pm_kill_w, Int32.reduceOfInt, Int64.reduceOfInt, Int32.reduceOfNat, Int32.reduceLT, Int32.reduceLE, Prod.mk.injEq, Nat.reduceEqDiff, reduceCtorEq, and_true, true_and, and_false, false_and, and_self, ite_true, ite_false, ↓reduceIte, not_true_eq_false, not_false_eq_true, pe_ri, pe_rz, pe_rc, Cu_g1_1 hP hA, Cu_l2 hP hA, Cu_r2 hP hA, Cu_n0 hP , Cu_n1 hP , eq_false k1, hc]
theorem z1153_1 {side : Int32} {A : wK → Nat} {h : pm_H} {D : Nat} {R : Outcome × pm_H} (hP : Cu_P side) (hA : wok A (Cu_d side) h.1) (hD : 1 ≤ D) {n : Nat} {a : Int32 × Int32 × wS} {b : (wS)} (e : lp (f1153_b1 side) n a = some b) (hx : ex1153_1 side A h D R b) : go1153_1 side A h D R a := lp_run (fun a r => y1153_b1 hP hA hD a r) n a b e hx
theorem x1153 {side : Int32} {A : wK → Nat} {h : pm_H} {D : Nat} {S : wS} {r : wS} (hP : Cu_P side) (hA : wok A (Cu_d side) h.1) (hD : 2 ≤ D) (e : f1153 side S = some r) : pm_call pm_prog D 1153 [.ref (A (1, 0, 0))] (wput A (Cu_d side) S h) = some (Outcome.returned none, (wput A (Cu_d side) r h)) := by
  obtain ⟨D, rfl⟩ : ∃ D', D = D' + 1 := ⟨D - 1, by omega⟩
  have hD : 1 ≤ D := by omega
  simp only [f1153] at e
  rw [c1153 (Cu_c1 hP hA), b1153_0]
  obtain ⟨S2, k1, e⟩ := Option.bind_eq_some_iff.mp e
  try dsimp only at e
  try simp -implicitDefEqProofs (disch := first | assumption | exact Nat.le_of_ble_eq_true rfl | decide) only [b1153_0, g1153_2, b1153_2, pe_aload0, pe_getfield, pe_astore1, pe_aload1, pe_arraylength, pe_istore2, pe_sipush, pe_istore3, pe_goto_w, pe_iload3, pe_iload2, pe_icmp_ge, pe_aaload, pe_astore4, pe_aload4, pe_call1, pm_af_ret, pm_af_void, pm_af_thr, pe_iinc3, pe_goto, pe_return, pm_prog_1, pm_ob_some, Nat.reduceDiv, Nat.reduceMod, Nat.reduceMul, Nat.reduceAdd, Int.reduceToNat, pm_kill_i, pm_kill_r, pm_kill_n, pm_kill_j, pm_kill_l, pm_kill_d, pm_cats_nil, pm_cats_i, pm_cats_r, pm_cats_n, pm_cats_l, pm_cats_d, sz_1, sz_2, sl_1, sl_2, lc_0, lc_lt, lc_le, li_ne, va_rf, wr_m1, we_m1, pm_kill_w, Int32.reduceOfInt, Int64.reduceOfInt, Int32.reduceOfNat, Int32.reduceLT, Int32.reduceLE, Prod.mk.injEq, Nat.reduceEqDiff, reduceCtorEq, and_true, true_and, and_false, false_and, and_self, ite_true, ite_false, ↓reduceIte, not_true_eq_false, not_false_eq_true, pe_ri, pe_rz, pe_rc, Cu_g1_1 hP hA, Cu_l2 hP hA, Cu_r2 hP hA, Cu_n0 hP , Cu_n1 hP ]
  refine z1153_1 hP hA hD k1 ?_ _ _
  dsimp only [ex1153_1]
  intro q0 q1 q2 q3 q4
  have e := Option.some.inj e; subst e
  simp -implicitDefEqProofs (disch := first | assumption | exact Nat.le_of_ble_eq_true rfl | decide) only [b1153_0, g1153_2, b1153_2, pe_aload0, pe_getfield, pe_astore1, pe_aload1, pe_arraylength, pe_istore2, pe_sipush, pe_istore3, pe_goto_w, pe_iload3, pe_iload2, pe_icmp_ge, pe_aaload, pe_astore4, pe_aload4, pe_call1, pm_af_ret, pm_af_void, pm_af_thr, pe_iinc3, pe_goto, pe_return, pm_prog_1, pm_ob_some, Nat.reduceDiv, Nat.reduceMod, Nat.reduceMul, Nat.reduceAdd, Int.reduceToNat, pm_kill_i, pm_kill_r, pm_kill_n, pm_kill_j, pm_kill_l, pm_kill_d, pm_cats_nil, pm_cats_i, pm_cats_r, pm_cats_n, pm_cats_l, pm_cats_d, sz_1, sz_2, sl_1, sl_2, lc_0, lc_lt, lc_le, li_ne, va_rf, wr_m1, we_m1, pm_kill_w, Int32.reduceOfInt, Int64.reduceOfInt, Int32.reduceOfNat, Int32.reduceLT, Int32.reduceLE, Prod.mk.injEq, Nat.reduceEqDiff, reduceCtorEq, and_true, true_and, and_false, false_and, and_self, ite_true, ite_false, ↓reduceIte, not_true_eq_false, not_false_eq_true, pe_ri, pe_rz, pe_rc, Cu_g1_1 hP hA, Cu_l2 hP hA, Cu_r2 hP hA, Cu_n0 hP , Cu_n1 hP ]
/-- TimberHouse$RouterPaths.blank()V -/
theorem c1046 {d : Nat} {h : pm_H} {a : Nat} (hc : pm_cls h a = some 16) : pm_call pm_prog (d + 1) 1046 [.ref a] h = pm_ev pm_prog (pm_call pm_prog d) 1046 0 b1046_0 [.ref a] [] h := pm_cal (pm_rc1 hc rfl) rfl rfl rfl
/-- TimberHouse$RouterPaths.blank()V -/
noncomputable def f1046 (side : Int32) (S : wS) : Option (wS) :=
  (f1153 side S).bind fun S1 =>
  some S1
theorem x1046 {side : Int32} {A : wK → Nat} {h : pm_H} {D : Nat} {S : wS} {r : wS} (hP : Cu_P side) (hA : wok A (Cu_d side) h.1) (hD : 3 ≤ D) (e : f1046 side S = some r) : pm_call pm_prog D 1046 [.ref (A (0, 0, 0))] (wput A (Cu_d side) S h) = some (Outcome.returned none, (wput A (Cu_d side) r h)) := by
  obtain ⟨D, rfl⟩ : ∃ D', D = D' + 1 := ⟨D - 1, by omega⟩
  have hD : 2 ≤ D := by omega
  simp only [f1046] at e
  rw [c1046 (Cu_c0 hP hA), b1046_0]
  obtain ⟨S1, k1, e⟩ := Option.bind_eq_some_iff.mp e
  try dsimp only at e
  have z1 := x1153 (D := D) (h := h) hP hA (by omega) k1
  have e := Option.some.inj e; subst e
  simp -implicitDefEqProofs (disch := first | assumption | exact Nat.le_of_ble_eq_true rfl | decide) only [b1046_0, pe_aload0, pe_getfield, pe_call1, pm_af_ret, pm_af_void, pm_af_thr, pe_return, pm_prog_1, pm_ob_some, Nat.reduceDiv, Nat.reduceMod, Nat.reduceMul, Nat.reduceAdd, Int.reduceToNat, pm_kill_i, pm_kill_r, pm_kill_n, pm_kill_j, pm_kill_l, pm_kill_d, pm_cats_nil, pm_cats_i, pm_cats_r, pm_cats_n, pm_cats_l, pm_cats_d, sz_1, sz_2, sl_1, sl_2, lc_0, lc_lt, lc_le, li_ne, va_rf, wr_m1, we_m1, pm_kill_w, Int32.reduceOfInt, Int64.reduceOfInt, Int32.reduceOfNat, Int32.reduceLT, Int32.reduceLE, Prod.mk.injEq, Nat.reduceEqDiff, reduceCtorEq, and_true, true_and, and_false, false_and, and_self, ite_true, ite_false, ↓reduceIte, not_true_eq_false, not_false_eq_true, pe_ri, pe_rz, pe_rc, Cu_g0_0 hP hA, z1]
/-- TimberHouse$RouterPaths$Machine.begin()V -/
theorem c1217 {d : Nat} {h : pm_H} {a : Nat} (hc : pm_cls h a = some 19) : pm_call pm_prog (d + 1) 1217 [.ref a] h = pm_ev pm_prog (pm_call pm_prog d) 1217 0 b1217_0 [.ref a] [] h := pm_cal (pm_rc1 hc rfl) rfl rfl rfl
/-- TimberHouse$RouterPaths$Machine.begin()V -/
noncomputable def f1217 (side : Int32) (S : wS) : Option (wS) :=
  some (sz (sz (sz (sz (sz (sz S (11, 0, 0) 2 0) (11, 0, 0) 3 0) (11, 0, 0) 4 100) (11, 0, 0) 5 0) (11, 0, 0) 6 0) (11, 0, 0) 7 0)
theorem x1217 {side : Int32} {A : wK → Nat} {h : pm_H} {D : Nat} {S : wS} {r : wS} (hP : Cu_P side) (hA : wok A (Cu_d side) h.1) (hD : 1 ≤ D) (e : f1217 side S = some r) : pm_call pm_prog D 1217 [.ref (A (11, 0, 0))] (wput A (Cu_d side) S h) = some (Outcome.returned none, (wput A (Cu_d side) r h)) := by
  obtain ⟨D, rfl⟩ : ∃ D', D = D' + 1 := ⟨D - 1, by omega⟩
  have hD : 0 ≤ D := by omega
  simp only [f1217] at e
  rw [c1217 (Cu_c11 hP hA), b1217_0]
  have e := Option.some.inj e; subst e
  simp -implicitDefEqProofs (disch := first | assumption | exact Nat.le_of_ble_eq_true rfl | decide) only [b1217_0, pe_aload0, pe_sipush, pe_putfield, pe_getfield, pe_aaload, pe_return, pm_prog_1, pm_ob_some, Nat.reduceDiv, Nat.reduceMod, Nat.reduceMul, Nat.reduceAdd, Int.reduceToNat, pm_kill_i, pm_kill_r, pm_kill_n, pm_kill_j, pm_kill_l, pm_kill_d, pm_cats_nil, pm_cats_i, pm_cats_r, pm_cats_n, pm_cats_l, pm_cats_d, sz_1, sz_2, sl_1, sl_2, lc_0, lc_lt, lc_le, li_ne, va_rf, wr_m1, we_m1, pm_kill_w, Int32.reduceOfInt, Int64.reduceOfInt, Int32.reduceOfNat, Int32.reduceLT, Int32.reduceLE, Prod.mk.injEq, Nat.reduceEqDiff, reduceCtorEq, and_true, true_and, and_false, false_and, and_self, ite_true, ite_false, ↓reduceIte, not_true_eq_false, not_false_eq_true, pe_ri, pe_rz, pe_rc, Cu_g11_1 hP hA, Cu_p11_2 hP hA, Cu_p11_3 hP hA, Cu_p11_4 hP hA, Cu_p11_5 hP hA, Cu_p11_6 hP hA, Cu_p11_7 hP hA, Cu_r9 hP hA]
/-- TimberHouse$RouterPaths$Machine.change(I)V -/
theorem c1218 {d : Nat} {h : pm_H} {a : Nat} {x0 : Int32} (hc : pm_cls h a = some 19) : pm_call pm_prog (d + 1) 1218 [.ref a, .int x0] h = pm_ev pm_prog (pm_call pm_prog d) 1218 0 b1218_0 [.ref a, .int x0] [] h := pm_cal (pm_rc1 hc rfl) rfl rfl rfl
/-- TimberHouse$RouterPaths$Machine.change(I)V -/
noncomputable def f1218 (side : Int32) (S : wS) (x1 : Int32) : Option (wS) :=
  if 0 ≤ x1 ∧ x1 < 4 then
    some (sz (sz S (11, 0, 0) 5 x1) (11, 0, 0) 6 ((S.1 (11, 0, 0) 6) + 10))
  else none
theorem x1218 {side : Int32} {A : wK → Nat} {h : pm_H} {D : Nat} {S : wS} {x1 : Int32} {r : wS} (hP : Cu_P side) (hA : wok A (Cu_d side) h.1) (hD : 1 ≤ D) (e : f1218 side S x1 = some r) : pm_call pm_prog D 1218 [.ref (A (11, 0, 0)), .int x1] (wput A (Cu_d side) S h) = some (Outcome.returned none, (wput A (Cu_d side) r h)) := by
  obtain ⟨D, rfl⟩ : ∃ D', D = D' + 1 := ⟨D - 1, by omega⟩
  have hD : 0 ≤ D := by omega
  simp only [f1218] at e
  rw [c1218 (Cu_c11 hP hA), b1218_0]
  by_cases k1 : 0 ≤ x1 ∧ x1 < 4
  · rw [if_pos k1] at e
    have k1n := wz_lt k1
    have e := Option.some.inj e; subst e
    simp -implicitDefEqProofs (disch := first | assumption | exact Nat.le_of_ble_eq_true rfl | decide) only [b1218_0, pe_aload0, pe_getfield, pe_iload1, pe_aaload, pe_putfield, pe_dup_i, pe_dup_r, pe_sipush, pe_iadd, pe_return, pm_prog_1, pm_ob_some, Nat.reduceDiv, Nat.reduceMod, Nat.reduceMul, Nat.reduceAdd, Int.reduceToNat, pm_kill_i, pm_kill_r, pm_kill_n, pm_kill_j, pm_kill_l, pm_kill_d, pm_cats_nil, pm_cats_i, pm_cats_r, pm_cats_n, pm_cats_l, pm_cats_d, sz_1, sz_2, sl_1, sl_2, lc_0, lc_lt, lc_le, li_ne, va_rf, wr_m1, we_m1, pm_kill_w, Int32.reduceOfInt, Int64.reduceOfInt, Int32.reduceOfNat, Int32.reduceLT, Int32.reduceLE, Prod.mk.injEq, Nat.reduceEqDiff, reduceCtorEq, and_true, true_and, and_false, false_and, and_self, ite_true, ite_false, ↓reduceIte, not_true_eq_false, not_false_eq_true, pe_ri, pe_rz, pe_rc, Cu_g11_1 hP hA, Cu_g11_6 hP hA, Cu_p11_5 hP hA, Cu_p11_6 hP hA, Cu_r9 hP hA]
  · rw [if_neg k1] at e; cases e
/-- TimberHouse$RouterPaths$Machine.at(IIII)I -/
theorem c1220 {d : Nat} {h : pm_H} {a : Nat} {x0 : Int32} {x1 : Int32} {x2 : Int32} {x3 : Int32} (hc : pm_cls h a = some 19) : pm_call pm_prog (d + 1) 1220 [.ref a, .int x0, .int x1, .int x2, .int x3] h = pm_ev pm_prog (pm_call pm_prog d) 1220 0 b1220_0 [.ref a, .int x0, .int x1, .int x2, .int x3] [] h := pm_cal (pm_rc1 hc rfl) rfl rfl rfl
/-- TimberHouse$RouterPaths$Machine.at(IIII)I -/
noncomputable def f1220 (side : Int32) (S : wS) (x1 : Int32) (x2 : Int32) (x3 : Int32) (x4 : Int32) : Option (Int32) :=
  (f3845 (((2 * x2) * x3) + x4) (2 * x4)).bind fun v1 =>
  some (x1 + v1)
theorem x1220 {side : Int32} {A : wK → Nat} {h : pm_H} {D : Nat} {S : wS} {x1 : Int32} {x2 : Int32} {x3 : Int32} {x4 : Int32} {r : Int32} (hP : Cu_P side) (hA : wok A (Cu_d side) h.1) (hD : 2 ≤ D) (e : f1220 side S x1 x2 x3 x4 = some r) : pm_call pm_prog D 1220 [.ref (A (11, 0, 0)), .int x1, .int x2, .int x3, .int x4] (wput A (Cu_d side) S h) = some (Outcome.returned (some (.int r)), (wput A (Cu_d side) S h)) := by
  obtain ⟨D, rfl⟩ : ∃ D', D = D' + 1 := ⟨D - 1, by omega⟩
  have hD : 1 ≤ D := by omega
  simp only [f1220] at e
  rw [c1220 (Cu_c11 hP hA), b1220_0]
  obtain ⟨v1, k1, e⟩ := Option.bind_eq_some_iff.mp e
  try dsimp only at e
  have z1 := fun h => x3845 (D := D) (h := h) (by omega) k1
  have e := Option.some.inj e; subst e
  simp -implicitDefEqProofs (disch := first | assumption | exact Nat.le_of_ble_eq_true rfl | decide) only [b1220_0, pe_iload1, pe_sipush, pe_iload2, pe_imul, pe_iload3, pe_iload4, pe_iadd, pe_call2, pm_af_ret, pm_af_void, pm_af_thr, pm_prog_1, pm_ob_some, Nat.reduceDiv, Nat.reduceMod, Nat.reduceMul, Nat.reduceAdd, Int.reduceToNat, pm_kill_i, pm_kill_r, pm_kill_n, pm_kill_j, pm_kill_l, pm_kill_d, pm_cats_nil, pm_cats_i, pm_cats_r, pm_cats_n, pm_cats_l, pm_cats_d, sz_1, sz_2, sl_1, sl_2, lc_0, lc_lt, lc_le, li_ne, va_rf, wr_m1, we_m1, pm_kill_w, Int32.reduceOfInt, Int64.reduceOfInt, Int32.reduceOfNat, Int32.reduceLT, Int32.reduceLE, Prod.mk.injEq, Nat.reduceEqDiff, reduceCtorEq, and_true, true_and, and_false, false_and, and_self, ite_true, ite_false, ↓reduceIte, not_true_eq_false, not_false_eq_true, pe_ri, pe_rz, pe_rc, z1]
/-- TimberHouse$RouterPaths$Machine.lower()V -/
theorem c1222 {d : Nat} {h : pm_H} {a : Nat} (hc : pm_cls h a = some 19) : pm_call pm_prog (d + 1) 1222 [.ref a] h = pm_ev pm_prog (pm_call pm_prog d) 1222 0 b1222_0 [.ref a, pm_junk, pm_junk, pm_junk] [] h := pm_cal (pm_rc1 hc rfl) rfl rfl rfl
theorem g1222_1 {cl : pm_C} {ls st : List Value} {h : pm_H} : pm_go pm_prog cl 1222 1 ls st h = pm_ev pm_prog cl 1222 1 b1222_1 ls st h := pm_go_eq pm_prog cl 1222 1 ls st h
theorem g1222_2 {cl : pm_C} {ls st : List Value} {h : pm_H} : pm_go pm_prog cl 1222 2 ls st h = pm_ev pm_prog cl 1222 2 b1222_2 ls st h := pm_go_eq pm_prog cl 1222 2 ls st h
theorem g1222_3 {cl : pm_C} {ls st : List Value} {h : pm_H} : pm_go pm_prog cl 1222 3 ls st h = pm_ev pm_prog cl 1222 3 b1222_3 ls st h := pm_go_eq pm_prog cl 1222 3 ls st h
theorem g1222_4 {cl : pm_C} {ls st : List Value} {h : pm_H} : pm_go pm_prog cl 1222 4 ls st h = pm_ev pm_prog cl 1222 4 b1222_4 ls st h := pm_go_eq pm_prog cl 1222 4 ls st h
theorem g1222_5 {cl : pm_C} {ls st : List Value} {h : pm_H} : pm_go pm_prog cl 1222 5 ls st h = pm_ev pm_prog cl 1222 5 b1222_5 ls st h := pm_go_eq pm_prog cl 1222 5 ls st h
theorem g1222_6 {cl : pm_C} {ls st : List Value} {h : pm_H} : pm_go pm_prog cl 1222 6 ls st h = pm_ev pm_prog cl 1222 6 b1222_6 ls st h := pm_go_eq pm_prog cl 1222 6 ls st h
noncomputable def f1222_b2 (side : Int32) : Int32 × Int32 × Int32 × wS → Option ((Int32 × Int32 × Int32 × wS) ⊕ ((Int32 × wS))) := fun (x1, x2i, x3, S) =>
  if 0 ≤ x2i ∧ x2i < side then
    if 0 ≤ (S.1 (11, 0, 0) 5) ∧ (S.1 (11, 0, 0) 5) < 4 then
      if x3 ≤ ((S.1 (11, 0, 0) 2) + (S.1 (10, (S.1 (11, 0, 0) 5), 0) 0)) then
        if x3 < (S.1 (1, 0, 0) 0) then
          (f1089 side S (S.1 (11, 0, 0) 5) (x3 - (S.1 (11, 0, 0) 2)) (x1 - (S.1 (11, 0, 0) 3))).bind fun v3 =>
          if v3 = 0 then
            if 0 ≤ x3 ∧ x3 < side then
              some (.inl (x1, x2i, (x3 + 1), (sz S (3, x2i, 0) x3 (S.1 (3, x2i, 0) x3))))
            else none
          else
            if 0 ≤ x3 ∧ x3 < side then
              (f3840 (S.1 (3, x2i, 0) x3) (S.1 (11, 0, 0) 4)).bind fun v4 =>
              some (.inl (x1, x2i, (x3 + 1), (sz S (3, x2i, 0) x3 v4)))
            else none
        else
          some (.inr (x1, S))
      else
        some (.inr (x1, S))
    else none
  else none
noncomputable def f1222_b1 (side : Int32) : Int32 × wS → Option ((Int32 × wS) ⊕ ((wS))) := fun (x1, S) =>
  if 0 ≤ (S.1 (11, 0, 0) 5) ∧ (S.1 (11, 0, 0) 5) < 4 then
    if x1 ≤ ((S.1 (11, 0, 0) 3) + (S.1 (10, (S.1 (11, 0, 0) 5), 0) 0)) then
      if x1 < (S.1 (1, 0, 0) 0) then
        if 0 ≤ x1 ∧ x1 < side then
          (f3841 0 ((S.1 (11, 0, 0) 2) - (S.1 (10, (S.1 (11, 0, 0) 5), 0) 0))).bind fun v2 =>
          (lp (f1222_b2 side) FU (x1, x1, v2, S)).bind fun (v7, S5) =>
          some (.inl ((v7 + 1), S5))
        else none
      else
        some (.inr S)
    else
      some (.inr S)
  else none
/-- TimberHouse$RouterPaths$Machine.lower()V -/
noncomputable def f1222 (side : Int32) (S : wS) : Option (wS) :=
  if 0 ≤ (S.1 (11, 0, 0) 5) ∧ (S.1 (11, 0, 0) 5) < 4 then
    (f3841 0 ((S.1 (11, 0, 0) 3) - (S.1 (10, (S.1 (11, 0, 0) 5), 0) 0))).bind fun v1 =>
    (lp (f1222_b1 side) FU (v1, S)).bind fun S8 =>
    some S8
  else none
def go1222_2 (side : Int32) (A : wK → Nat) (h : pm_H) (D : Nat) (R : Outcome × pm_H) : Int32 × Int32 × Int32 × wS → Prop := fun (x1, x2i, x3, S) => pm_go pm_prog (pm_call pm_prog D) 1222 2 [.ref (A (11, 0, 0)), .int x1, .ref (A (3, x2i, 0)), .int x3] [] (wput A (Cu_d side) S h) = some R
def ex1222_2 (side : Int32) (A : wK → Nat) (h : pm_H) (D : Nat) (R : Outcome × pm_H) : (Int32 × wS) → Prop := fun (x1, S) => ∀ q2 q3 : Value, pm_go pm_prog (pm_call pm_prog D) 1222 5 [.ref (A (11, 0, 0)), .int x1, q2, q3] [] (wput A (Cu_d side) S h) = some R
theorem y1222_b2 {side : Int32} {A : wK → Nat} {h : pm_H} {D : Nat} {R : Outcome × pm_H} (hP : Cu_P side) (hA : wok A (Cu_d side) h.1) (hD : 1 ≤ D) (a : Int32 × Int32 × Int32 × wS) (r : (Int32 × Int32 × Int32 × wS) ⊕ ((Int32 × wS))) (e : f1222_b2 side a = some r) (hc : Sum.elim (go1222_2 side A h D R) (ex1222_2 side A h D R) r) : go1222_2 side A h D R a := by
  obtain ⟨x1, x2i, x3, S⟩ := a
  dsimp only [go1222_2]
  simp only [f1222_b2] at e
  rw [g1222_2, b1222_2]
  by_cases k1 : 0 ≤ x2i ∧ x2i < side
  · rw [if_pos k1] at e
    by_cases k2 : 0 ≤ (S.1 (11, 0, 0) 5) ∧ (S.1 (11, 0, 0) 5) < 4
    · rw [if_pos k2] at e
      by_cases k3 : x3 ≤ ((S.1 (11, 0, 0) 2) + (S.1 (10, (S.1 (11, 0, 0) 5), 0) 0))
      · rw [if_pos k3] at e
        by_cases k4 : x3 < (S.1 (1, 0, 0) 0)
        · rw [if_pos k4] at e
          obtain ⟨v3, k5, e⟩ := Option.bind_eq_some_iff.mp e
          try dsimp only at e
          have z5 := x1089 (D := D) (h := h) hP hA (by omega) k5
          by_cases k6 : v3 = 0
          · rw [if_pos k6] at e
            by_cases k7 : 0 ≤ x3 ∧ x3 < side
            · rw [if_pos k7] at e
              have e := Option.some.inj e; subst e
              dsimp only [Sum.elim_inl, go1222_2] at hc
              try simp only [wr_m1, wr_p (A := A) (f := 10) (wz_lt k2)] at hc
              simp -implicitDefEqProofs (disch := first | assumption | exact Nat.le_of_ble_eq_true rfl | decide) only [b1222_0, g1222_3, b1222_3, g1222_4, b1222_4, g1222_5, b1222_5, g1222_6, b1222_6, pe_sipush, pe_aload0, pe_getfield, pe_isub, pe_call2, pm_af_ret, pm_af_void, pm_af_thr, pe_istore1, pe_goto_w, pe_iload1, pe_iadd, pe_icmp_gt, pe_icmp_ge, pe_aaload, pe_astore2, pe_istore3, pe_iload3, pe_aload2, pe_call3, pe_if_eq, pe_iaload, pe_goto, pe_iastore, pe_iinc3, pe_iinc1, pe_return, pm_prog_1, pm_ob_some, Nat.reduceDiv, Nat.reduceMod, Nat.reduceMul, Nat.reduceAdd, Int.reduceToNat, pm_kill_i, pm_kill_r, pm_kill_n, pm_kill_j, pm_kill_l, pm_kill_d, pm_cats_nil, pm_cats_i, pm_cats_r, pm_cats_n, pm_cats_l, pm_cats_d, sz_1, sz_2, sl_1, sl_2, lc_0, lc_lt, lc_le, li_ne, va_rf, wr_m1, we_m1, pm_kill_w, Int32.reduceOfInt, Int64.reduceOfInt, Int32.reduceOfNat, Int32.reduceLT, Int32.reduceLE, Prod.mk.injEq, Nat.reduceEqDiff, reduceCtorEq, and_true, true_and, and_false, false_and, and_self, ite_true, ite_false, ↓reduceIte, not_true_eq_false, not_false_eq_true, pe_ri, pe_rz, pe_rc, Cu_g1_0 hP hA, Cu_g1_1 hP hA, Cu_g10_0 hP hA, Cu_g11_0 hP hA, Cu_g11_2 hP hA, Cu_g11_3 hP hA, Cu_g11_4 hP hA, Cu_g11_5 hP hA, Cu_r2 hP hA, Cu_r3 hP hA, Cu_w3 hP hA, wr_p (A := A) (f := 10) (wz_lt k2), we_p (A := A) (f := 10) (wz_lt k2), eq_true k3, eq_true k4, z5, eq_true k6, hc]
            · rw [if_neg k7] at e; cases e
          · rw [if_neg k6] at e
            by_cases k8 : 0 ≤ x3 ∧ x3 < side
            · rw [if_pos k8] at e
              obtain ⟨v4, k9, e⟩ := Option.bind_eq_some_iff.mp e
              try dsimp only at e
              have z9 := fun h => x3840 (D := D) (h := h) (by omega) k9
              have e := Option.some.inj e; subst e
              dsimp only [Sum.elim_inl, go1222_2] at hc
              try simp only [wr_m1, wr_p (A := A) (f := 10) (wz_lt k2)] at hc
              simp -implicitDefEqProofs (disch := first | assumption | exact Nat.le_of_ble_eq_true rfl | decide) only [b1222_0, g1222_3, b1222_3, g1222_4, b1222_4, g1222_5, b1222_5, g1222_6, b1222_6, pe_sipush, pe_aload0, pe_getfield, pe_isub, pe_call2, pm_af_ret, pm_af_void, pm_af_thr, pe_istore1, pe_goto_w, pe_iload1, pe_iadd, pe_icmp_gt, pe_icmp_ge, pe_aaload, pe_astore2, pe_istore3, pe_iload3, pe_aload2, pe_call3, pe_if_eq, pe_iaload, pe_goto, pe_iastore, pe_iinc3, pe_iinc1, pe_return, pm_prog_1, pm_ob_some, Nat.reduceDiv, Nat.reduceMod, Nat.reduceMul, Nat.reduceAdd, Int.reduceToNat, pm_kill_i, pm_kill_r, pm_kill_n, pm_kill_j, pm_kill_l, pm_kill_d, pm_cats_nil, pm_cats_i, pm_cats_r, pm_cats_n, pm_cats_l, pm_cats_d, sz_1, sz_2, sl_1, sl_2, lc_0, lc_lt, lc_le, li_ne, va_rf, wr_m1, we_m1, pm_kill_w, Int32.reduceOfInt, Int64.reduceOfInt, Int32.reduceOfNat, Int32.reduceLT, Int32.reduceLE, Prod.mk.injEq, Nat.reduceEqDiff, reduceCtorEq, and_true, true_and, and_false, false_and, and_self, ite_true, ite_false, ↓reduceIte, not_true_eq_false, not_false_eq_true, pe_ri, pe_rz, pe_rc, Cu_g1_0 hP hA, Cu_g1_1 hP hA, Cu_g10_0 hP hA, Cu_g11_0 hP hA, Cu_g11_2 hP hA, Cu_g11_3 hP hA, Cu_g11_4 hP hA, Cu_g11_5 hP hA, Cu_r2 hP hA, Cu_r3 hP hA, Cu_w3 hP hA, wr_p (A := A) (f := 10) (wz_lt k2), we_p (A := A) (f := 10) (wz_lt k2), eq_true k3, eq_true k4, z5, eq_false k6, z9, hc]
            · rw [if_neg k8] at e; cases e
        · rw [if_neg k4] at e
          have e := Option.some.inj e; subst e
          dsimp only [Sum.elim_inr, ex1222_2] at hc
          try simp only [wr_m1, wr_p (A := A) (f := 10) (wz_lt k2)] at hc
          simp -implicitDefEqProofs (disch := first | assumption | exact Nat.le_of_ble_eq_true rfl | decide) only [b1222_0, g1222_3, b1222_3, g1222_4, b1222_4, g1222_5, b1222_5, g1222_6, b1222_6, pe_sipush, pe_aload0, pe_getfield, pe_isub, pe_call2, pm_af_ret, pm_af_void, pm_af_thr, pe_istore1, pe_goto_w, pe_iload1, pe_iadd, pe_icmp_gt, pe_icmp_ge, pe_aaload, pe_astore2, pe_istore3, pe_iload3, pe_aload2, pe_call3, pe_if_eq, pe_iaload, pe_goto, pe_iastore, pe_iinc3, pe_iinc1, pe_return, pm_prog_1, pm_ob_some, Nat.reduceDiv, Nat.reduceMod, Nat.reduceMul, Nat.reduceAdd, Int.reduceToNat, pm_kill_i, pm_kill_r, pm_kill_n, pm_kill_j, pm_kill_l, pm_kill_d, pm_cats_nil, pm_cats_i, pm_cats_r, pm_cats_n, pm_cats_l, pm_cats_d, sz_1, sz_2, sl_1, sl_2, lc_0, lc_lt, lc_le, li_ne, va_rf, wr_m1, we_m1, pm_kill_w, Int32.reduceOfInt, Int64.reduceOfInt, Int32.reduceOfNat, Int32.reduceLT, Int32.reduceLE, Prod.mk.injEq, Nat.reduceEqDiff, reduceCtorEq, and_true, true_and, and_false, false_and, and_self, ite_true, ite_false, ↓reduceIte, not_true_eq_false, not_false_eq_true, pe_ri, pe_rz, pe_rc, Cu_g1_0 hP hA, Cu_g1_1 hP hA, Cu_g10_0 hP hA, Cu_g11_0 hP hA, Cu_g11_2 hP hA, Cu_g11_3 hP hA, Cu_g11_4 hP hA, Cu_g11_5 hP hA, Cu_r2 hP hA, Cu_r3 hP hA, Cu_w3 hP hA, wr_p (A := A) (f := 10) (wz_lt k2), we_p (A := A) (f := 10) (wz_lt k2), eq_true k3, eq_false k4, hc]
      · rw [if_neg k3] at e
        have e := Option.some.inj e; subst e
        dsimp only [Sum.elim_inr, ex1222_2] at hc
        try simp only [wr_m1, wr_p (A := A) (f := 10) (wz_lt k2)] at hc
        simp -implicitDefEqProofs (disch := first | assumption | exact Nat.le_of_ble_eq_true rfl | decide) only [b1222_0, g1222_3, b1222_3, g1222_4, b1222_4, g1222_5, b1222_5, g1222_6, b1222_6, pe_sipush, pe_aload0, pe_getfield, pe_isub, pe_call2, pm_af_ret, pm_af_void, pm_af_thr, pe_istore1, pe_goto_w, pe_iload1, pe_iadd, pe_icmp_gt, pe_icmp_ge, pe_aaload, pe_astore2, pe_istore3, pe_iload3, pe_aload2, pe_call3, pe_if_eq, pe_iaload, pe_goto, pe_iastore, pe_iinc3, pe_iinc1, pe_return, pm_prog_1, pm_ob_some, Nat.reduceDiv, Nat.reduceMod, Nat.reduceMul, Nat.reduceAdd, Int.reduceToNat, pm_kill_i, pm_kill_r, pm_kill_n, pm_kill_j, pm_kill_l, pm_kill_d, pm_cats_nil, pm_cats_i, pm_cats_r, pm_cats_n, pm_cats_l, pm_cats_d, sz_1, sz_2, sl_1, sl_2, lc_0, lc_lt, lc_le, li_ne, va_rf, wr_m1, we_m1, pm_kill_w, Int32.reduceOfInt, Int64.reduceOfInt, Int32.reduceOfNat, Int32.reduceLT, Int32.reduceLE, Prod.mk.injEq, Nat.reduceEqDiff, reduceCtorEq, and_true, true_and, and_false, false_and, and_self, ite_true, ite_false, ↓reduceIte, not_true_eq_false, not_false_eq_true, pe_ri, pe_rz, pe_rc, Cu_g1_0 hP hA, Cu_g1_1 hP hA, Cu_g10_0 hP hA, Cu_g11_0 hP hA, Cu_g11_2 hP hA, Cu_g11_3 hP hA, Cu_g11_4 hP hA, Cu_g11_5 hP hA, Cu_r2 hP hA, Cu_r3 hP hA, Cu_w3 hP hA, wr_p (A := A) (f := 10) (wz_lt k2), we_p (A := A) (f := 10) (wz_lt k2), eq_false k3, hc]
    · rw [if_neg k2] at e; cases e
  · rw [if_neg k1] at e; cases e
theorem z1222_2 {side : Int32} {A : wK → Nat} {h : pm_H} {D : Nat} {R : Outcome × pm_H} (hP : Cu_P side) (hA : wok A (Cu_d side) h.1) (hD : 1 ≤ D) {n : Nat} {a : Int32 × Int32 × Int32 × wS} {b : (Int32 × wS)} (e : lp (f1222_b2 side) n a = some b) (hx : ex1222_2 side A h D R b) : go1222_2 side A h D R a := lp_run (fun a r => y1222_b2 hP hA hD a r) n a b e hx
def go1222_1 (side : Int32) (A : wK → Nat) (h : pm_H) (D : Nat) (R : Outcome × pm_H) : Int32 × wS → Prop := fun (x1, S) => ∀ q2 q3 : Value, pm_go pm_prog (pm_call pm_prog D) 1222 1 [.ref (A (11, 0, 0)), .int x1, q2, q3] [] (wput A (Cu_d side) S h) = some R
def ex1222_1 (side : Int32) (A : wK → Nat) (h : pm_H) (D : Nat) (R : Outcome × pm_H) : (wS) → Prop := fun S => ∀ q0 q1 q2 q3 : Value, pm_go pm_prog (pm_call pm_prog D) 1222 6 [q0, q1, q2, q3] [] (wput A (Cu_d side) S h) = some R
theorem y1222_b1 {side : Int32} {A : wK → Nat} {h : pm_H} {D : Nat} {R : Outcome × pm_H} (hP : Cu_P side) (hA : wok A (Cu_d side) h.1) (hD : 1 ≤ D) (a : Int32 × wS) (r : (Int32 × wS) ⊕ ((wS))) (e : f1222_b1 side a = some r) (hc : Sum.elim (go1222_1 side A h D R) (ex1222_1 side A h D R) r) : go1222_1 side A h D R a := by
  obtain ⟨x1, S⟩ := a
  dsimp only [go1222_1]
  intro q2 q3
  simp only [f1222_b1] at e
  rw [g1222_1, b1222_1]
  by_cases k1 : 0 ≤ (S.1 (11, 0, 0) 5) ∧ (S.1 (11, 0, 0) 5) < 4
  · rw [if_pos k1] at e
    by_cases k2 : x1 ≤ ((S.1 (11, 0, 0) 3) + (S.1 (10, (S.1 (11, 0, 0) 5), 0) 0))
    · rw [if_pos k2] at e
      by_cases k3 : x1 < (S.1 (1, 0, 0) 0)
      · rw [if_pos k3] at e
        by_cases k4 : 0 ≤ x1 ∧ x1 < side
        · rw [if_pos k4] at e
          obtain ⟨v2, k5, e⟩ := Option.bind_eq_some_iff.mp e
          try dsimp only at e
          have z5 := fun h => x3841 (D := D) (h := h) (by omega) k5
          obtain ⟨⟨v7, S5⟩, k6, e⟩ := Option.bind_eq_some_iff.mp e
          try dsimp only at e
          try simp -implicitDefEqProofs (disch := first | assumption | exact Nat.le_of_ble_eq_true rfl | decide) only [b1222_0, g1222_3, b1222_3, g1222_4, b1222_4, g1222_5, b1222_5, g1222_6, b1222_6, pe_sipush, pe_aload0, pe_getfield, pe_isub, pe_call2, pm_af_ret, pm_af_void, pm_af_thr, pe_istore1, pe_goto_w, pe_iload1, pe_iadd, pe_icmp_gt, pe_icmp_ge, pe_aaload, pe_astore2, pe_istore3, pe_iload3, pe_aload2, pe_call3, pe_if_eq, pe_iaload, pe_goto, pe_iastore, pe_iinc3, pe_iinc1, pe_return, pm_prog_1, pm_ob_some, Nat.reduceDiv, Nat.reduceMod, Nat.reduceMul, Nat.reduceAdd, Int.reduceToNat, pm_kill_i, pm_kill_r, pm_kill_n, pm_kill_j, pm_kill_l, pm_kill_d, pm_cats_nil, pm_cats_i, pm_cats_r, pm_cats_n, pm_cats_l, pm_cats_d, sz_1, sz_2, sl_1, sl_2, lc_0, lc_lt, lc_le, li_ne, va_rf, wr_m1, we_m1, pm_kill_w, Int32.reduceOfInt, Int64.reduceOfInt, Int32.reduceOfNat, Int32.reduceLT, Int32.reduceLE, Prod.mk.injEq, Nat.reduceEqDiff, reduceCtorEq, and_true, true_and, and_false, false_and, and_self, ite_true, ite_false, ↓reduceIte, not_true_eq_false, not_false_eq_true, pe_ri, pe_rz, pe_rc, Cu_g1_0 hP hA, Cu_g1_1 hP hA, Cu_g10_0 hP hA, Cu_g11_0 hP hA, Cu_g11_2 hP hA, Cu_g11_3 hP hA, Cu_g11_4 hP hA, Cu_g11_5 hP hA, Cu_r2 hP hA, Cu_r3 hP hA, Cu_w3 hP hA, wr_p (A := A) (f := 10) (wz_lt k1), we_p (A := A) (f := 10) (wz_lt k1), eq_true k2, eq_true k3, z5]
          refine (show _ = _ → _ = _ by
            intro gg; try simp only [wr_m1, wr_p (A := A) (f := 10) (wz_lt k1)] at gg
            exact gg) (z1222_2 hP hA hD k6 ?_)
          dsimp only [ex1222_2]
          intro q2 q3
          have e := Option.some.inj e; subst e
          dsimp only [Sum.elim_inl, go1222_1] at hc
          try simp only [wr_m1, wr_p (A := A) (f := 10) (wz_lt k1)] at hc
          simp -implicitDefEqProofs (disch := first | assumption | exact Nat.le_of_ble_eq_true rfl | decide) only [b1222_0, g1222_3, b1222_3, g1222_4, b1222_4, g1222_5, b1222_5, g1222_6, b1222_6, pe_sipush, pe_aload0, pe_getfield, pe_isub, pe_call2, pm_af_ret, pm_af_void, pm_af_thr, pe_istore1, pe_goto_w, pe_iload1, pe_iadd, pe_icmp_gt, pe_icmp_ge, pe_aaload, pe_astore2, pe_istore3, pe_iload3, pe_aload2, pe_call3, pe_if_eq, pe_iaload, pe_goto, pe_iastore, pe_iinc3, pe_iinc1, pe_return, pm_prog_1, pm_ob_some, Nat.reduceDiv, Nat.reduceMod, Nat.reduceMul, Nat.reduceAdd, Int.reduceToNat, pm_kill_i, pm_kill_r, pm_kill_n, pm_kill_j, pm_kill_l, pm_kill_d, pm_cats_nil, pm_cats_i, pm_cats_r, pm_cats_n, pm_cats_l, pm_cats_d, sz_1, sz_2, sl_1, sl_2, lc_0, lc_lt, lc_le, li_ne, va_rf, wr_m1, we_m1, pm_kill_w, Int32.reduceOfInt, Int64.reduceOfInt, Int32.reduceOfNat, Int32.reduceLT, Int32.reduceLE, Prod.mk.injEq, Nat.reduceEqDiff, reduceCtorEq, and_true, true_and, and_false, false_and, and_self, ite_true, ite_false, ↓reduceIte, not_true_eq_false, not_false_eq_true, pe_ri, pe_rz, pe_rc, Cu_g1_0 hP hA, Cu_g1_1 hP hA, Cu_g10_0 hP hA, Cu_g11_0 hP hA, Cu_g11_2 hP hA, Cu_g11_3 hP hA, Cu_g11_4 hP hA, Cu_g11_5 hP hA, Cu_r2 hP hA, Cu_r3 hP hA, Cu_w3 hP hA, wr_p (A := A) (f := 10) (wz_lt k1), we_p (A := A) (f := 10) (wz_lt k1), eq_true k2, eq_true k3, z5, hc]
        · rw [if_neg k4] at e; cases e
      · rw [if_neg k3] at e
        have e := Option.some.inj e; subst e
        dsimp only [Sum.elim_inr, ex1222_1] at hc
        try simp only [wr_m1, wr_p (A := A) (f := 10) (wz_lt k1)] at hc
        simp -implicitDefEqProofs (disch := first | assumption | exact Nat.le_of_ble_eq_true rfl | decide) only [b1222_0, g1222_3, b1222_3, g1222_4, b1222_4, g1222_5, b1222_5, g1222_6, b1222_6, pe_sipush, pe_aload0, pe_getfield, pe_isub, pe_call2, pm_af_ret, pm_af_void, pm_af_thr, pe_istore1, pe_goto_w, pe_iload1, pe_iadd, pe_icmp_gt, pe_icmp_ge, pe_aaload, pe_astore2, pe_istore3, pe_iload3, pe_aload2, pe_call3, pe_if_eq, pe_iaload, pe_goto, pe_iastore, pe_iinc3, pe_iinc1, pe_return, pm_prog_1, pm_ob_some, Nat.reduceDiv, Nat.reduceMod, Nat.reduceMul, Nat.reduceAdd, Int.reduceToNat, pm_kill_i, pm_kill_r, pm_kill_n, pm_kill_j, pm_kill_l, pm_kill_d, pm_cats_nil, pm_cats_i, pm_cats_r, pm_cats_n, pm_cats_l, pm_cats_d, sz_1, sz_2, sl_1, sl_2, lc_0, lc_lt, lc_le, li_ne, va_rf, wr_m1, we_m1, pm_kill_w, Int32.reduceOfInt, Int64.reduceOfInt, Int32.reduceOfNat, Int32.reduceLT, Int32.reduceLE, Prod.mk.injEq, Nat.reduceEqDiff, reduceCtorEq, and_true, true_and, and_false, false_and, and_self, ite_true, ite_false, ↓reduceIte, not_true_eq_false, not_false_eq_true, pe_ri, pe_rz, pe_rc, Cu_g1_0 hP hA, Cu_g1_1 hP hA, Cu_g10_0 hP hA, Cu_g11_0 hP hA, Cu_g11_2 hP hA, Cu_g11_3 hP hA, Cu_g11_4 hP hA, Cu_g11_5 hP hA, Cu_r2 hP hA, Cu_r3 hP hA, Cu_w3 hP hA, wr_p (A := A) (f := 10) (wz_lt k1), we_p (A := A) (f := 10) (wz_lt k1), eq_true k2, eq_false k3, hc]
    · rw [if_neg k2] at e
      have e := Option.some.inj e; subst e
      dsimp only [Sum.elim_inr, ex1222_1] at hc
      try simp only [wr_m1, wr_p (A := A) (f := 10) (wz_lt k1)] at hc
      simp -implicitDefEqProofs (disch := first | assumption | exact Nat.le_of_ble_eq_true rfl | decide) only [b1222_0, g1222_3, b1222_3, g1222_4, b1222_4, g1222_5, b1222_5, g1222_6, b1222_6, pe_sipush, pe_aload0, pe_getfield, pe_isub, pe_call2, pm_af_ret, pm_af_void, pm_af_thr, pe_istore1, pe_goto_w, pe_iload1, pe_iadd, pe_icmp_gt, pe_icmp_ge, pe_aaload, pe_astore2, pe_istore3, pe_iload3, pe_aload2, pe_call3, pe_if_eq, pe_iaload, pe_goto, pe_iastore, pe_iinc3, pe_iinc1, pe_return, pm_prog_1, pm_ob_some, Nat.reduceDiv, Nat.reduceMod, Nat.reduceMul, Nat.reduceAdd, Int.reduceToNat, pm_kill_i, pm_kill_r, pm_kill_n, pm_kill_j, pm_kill_l, pm_kill_d, pm_cats_nil, pm_cats_i, pm_cats_r, pm_cats_n, pm_cats_l, pm_cats_d, sz_1, sz_2, sl_1, sl_2, lc_0, lc_lt, lc_le, li_ne, va_rf, wr_m1, we_m1, pm_kill_w, Int32.reduceOfInt, Int64.reduceOfInt, Int32.reduceOfNat, Int32.reduceLT, Int32.reduceLE, Prod.mk.injEq, Nat.reduceEqDiff, reduceCtorEq, and_true, true_and, and_false, false_and, and_self, ite_true, ite_false, ↓reduceIte, not_true_eq_false, not_false_eq_true, pe_ri, pe_rz, pe_rc, Cu_g1_0 hP hA, Cu_g1_1 hP hA, Cu_g10_0 hP hA, Cu_g11_0 hP hA, Cu_g11_2 hP hA, Cu_g11_3 hP hA, Cu_g11_4 hP hA, Cu_g11_5 hP hA, Cu_r2 hP hA, Cu_r3 hP hA, Cu_w3 hP hA, wr_p (A := A) (f := 10) (wz_lt k1), we_p (A := A) (f := 10) (wz_lt k1), eq_false k2, hc]
  · rw [if_neg k1] at e; cases e
theorem z1222_1 {side : Int32} {A : wK → Nat} {h : pm_H} {D : Nat} {R : Outcome × pm_H} (hP : Cu_P side) (hA : wok A (Cu_d side) h.1) (hD : 1 ≤ D) {n : Nat} {a : Int32 × wS} {b : (wS)} (e : lp (f1222_b1 side) n a = some b) (hx : ex1222_1 side A h D R b) : go1222_1 side A h D R a := lp_run (fun a r => y1222_b1 hP hA hD a r) n a b e hx
theorem x1222 {side : Int32} {A : wK → Nat} {h : pm_H} {D : Nat} {S : wS} {r : wS} (hP : Cu_P side) (hA : wok A (Cu_d side) h.1) (hD : 2 ≤ D) (e : f1222 side S = some r) : pm_call pm_prog D 1222 [.ref (A (11, 0, 0))] (wput A (Cu_d side) S h) = some (Outcome.returned none, (wput A (Cu_d side) r h)) := by
  obtain ⟨D, rfl⟩ : ∃ D', D = D' + 1 := ⟨D - 1, by omega⟩
  have hD : 1 ≤ D := by omega
  simp only [f1222] at e
  rw [c1222 (Cu_c11 hP hA), b1222_0]
  by_cases k1 : 0 ≤ (S.1 (11, 0, 0) 5) ∧ (S.1 (11, 0, 0) 5) < 4
  · rw [if_pos k1] at e
    obtain ⟨v1, k2, e⟩ := Option.bind_eq_some_iff.mp e
    try dsimp only at e
    have z2 := fun h => x3841 (D := D) (h := h) (by omega) k2
    obtain ⟨S8, k3, e⟩ := Option.bind_eq_some_iff.mp e
    try dsimp only at e
    try simp -implicitDefEqProofs (disch := first | assumption | exact Nat.le_of_ble_eq_true rfl | decide) only [b1222_0, g1222_3, b1222_3, g1222_4, b1222_4, g1222_5, b1222_5, g1222_6, b1222_6, pe_sipush, pe_aload0, pe_getfield, pe_isub, pe_call2, pm_af_ret, pm_af_void, pm_af_thr, pe_istore1, pe_goto_w, pe_iload1, pe_iadd, pe_icmp_gt, pe_icmp_ge, pe_aaload, pe_astore2, pe_istore3, pe_iload3, pe_aload2, pe_call3, pe_if_eq, pe_iaload, pe_goto, pe_iastore, pe_iinc3, pe_iinc1, pe_return, pm_prog_1, pm_ob_some, Nat.reduceDiv, Nat.reduceMod, Nat.reduceMul, Nat.reduceAdd, Int.reduceToNat, pm_kill_i, pm_kill_r, pm_kill_n, pm_kill_j, pm_kill_l, pm_kill_d, pm_cats_nil, pm_cats_i, pm_cats_r, pm_cats_n, pm_cats_l, pm_cats_d, sz_1, sz_2, sl_1, sl_2, lc_0, lc_lt, lc_le, li_ne, va_rf, wr_m1, we_m1, pm_kill_w, Int32.reduceOfInt, Int64.reduceOfInt, Int32.reduceOfNat, Int32.reduceLT, Int32.reduceLE, Prod.mk.injEq, Nat.reduceEqDiff, reduceCtorEq, and_true, true_and, and_false, false_and, and_self, ite_true, ite_false, ↓reduceIte, not_true_eq_false, not_false_eq_true, pe_ri, pe_rz, pe_rc, Cu_g1_0 hP hA, Cu_g1_1 hP hA, Cu_g10_0 hP hA, Cu_g11_0 hP hA, Cu_g11_2 hP hA, Cu_g11_3 hP hA, Cu_g11_4 hP hA, Cu_g11_5 hP hA, Cu_r2 hP hA, Cu_r3 hP hA, Cu_w3 hP hA, wr_p (A := A) (f := 10) (wz_lt k1), we_p (A := A) (f := 10) (wz_lt k1), z2]
    refine (show _ = _ → _ = _ by
      intro gg; try simp only [wr_m1, wr_p (A := A) (f := 10) (wz_lt k1)] at gg
      exact gg) (z1222_1 hP hA hD k3 ?_ _ _)
    dsimp only [ex1222_1]
    intro q0 q1 q2 q3
    have e := Option.some.inj e; subst e
    simp -implicitDefEqProofs (disch := first | assumption | exact Nat.le_of_ble_eq_true rfl | decide) only [b1222_0, g1222_3, b1222_3, g1222_4, b1222_4, g1222_5, b1222_5, g1222_6, b1222_6, pe_sipush, pe_aload0, pe_getfield, pe_isub, pe_call2, pm_af_ret, pm_af_void, pm_af_thr, pe_istore1, pe_goto_w, pe_iload1, pe_iadd, pe_icmp_gt, pe_icmp_ge, pe_aaload, pe_astore2, pe_istore3, pe_iload3, pe_aload2, pe_call3, pe_if_eq, pe_iaload, pe_goto, pe_iastore, pe_iinc3, pe_iinc1, pe_return, pm_prog_1, pm_ob_some, Nat.reduceDiv, Nat.reduceMod, Nat.reduceMul, Nat.reduceAdd, Int.reduceToNat, pm_kill_i, pm_kill_r, pm_kill_n, pm_kill_j, pm_kill_l, pm_kill_d, pm_cats_nil, pm_cats_i, pm_cats_r, pm_cats_n, pm_cats_l, pm_cats_d, sz_1, sz_2, sl_1, sl_2, lc_0, lc_lt, lc_le, li_ne, va_rf, wr_m1, we_m1, pm_kill_w, Int32.reduceOfInt, Int64.reduceOfInt, Int32.reduceOfNat, Int32.reduceLT, Int32.reduceLE, Prod.mk.injEq, Nat.reduceEqDiff, reduceCtorEq, and_true, true_and, and_false, false_and, and_self, ite_true, ite_false, ↓reduceIte, not_true_eq_false, not_false_eq_true, pe_ri, pe_rz, pe_rc, Cu_g1_0 hP hA, Cu_g1_1 hP hA, Cu_g10_0 hP hA, Cu_g11_0 hP hA, Cu_g11_2 hP hA, Cu_g11_3 hP hA, Cu_g11_4 hP hA, Cu_g11_5 hP hA, Cu_r2 hP hA, Cu_r3 hP hA, Cu_w3 hP hA, wr_p (A := A) (f := 10) (wz_lt k1), we_p (A := A) (f := 10) (wz_lt k1), z2]
  · rw [if_neg k1] at e; cases e
/-- TimberHouse$RouterPaths$Machine.step(Z)V -/
theorem c1221 {d : Nat} {h : pm_H} {a : Nat} {x0 : Int32} (hc : pm_cls h a = some 19) : pm_call pm_prog (d + 1) 1221 [.ref a, .int x0] h = pm_ev pm_prog (pm_call pm_prog d) 1221 0 b1221_0 [.ref a, .int x0, pm_junk, pm_junk, pm_junk, pm_junk, pm_junk] [] h := pm_cal (pm_rc1 hc rfl) rfl rfl rfl
theorem g1221_1 {cl : pm_C} {ls st : List Value} {h : pm_H} : pm_go pm_prog cl 1221 1 ls st h = pm_ev pm_prog cl 1221 1 b1221_1 ls st h := pm_go_eq pm_prog cl 1221 1 ls st h
theorem g1221_2 {cl : pm_C} {ls st : List Value} {h : pm_H} : pm_go pm_prog cl 1221 2 ls st h = pm_ev pm_prog cl 1221 2 b1221_2 ls st h := pm_go_eq pm_prog cl 1221 2 ls st h
theorem g1221_3 {cl : pm_C} {ls st : List Value} {h : pm_H} : pm_go pm_prog cl 1221 3 ls st h = pm_ev pm_prog cl 1221 3 b1221_3 ls st h := pm_go_eq pm_prog cl 1221 3 ls st h
theorem g1221_4 {cl : pm_C} {ls st : List Value} {h : pm_H} : pm_go pm_prog cl 1221 4 ls st h = pm_ev pm_prog cl 1221 4 b1221_4 ls st h := pm_go_eq pm_prog cl 1221 4 ls st h
theorem g1221_5 {cl : pm_C} {ls st : List Value} {h : pm_H} : pm_go pm_prog cl 1221 5 ls st h = pm_ev pm_prog cl 1221 5 b1221_5 ls st h := pm_go_eq pm_prog cl 1221 5 ls st h
theorem g1221_6 {cl : pm_C} {ls st : List Value} {h : pm_H} : pm_go pm_prog cl 1221 6 ls st h = pm_ev pm_prog cl 1221 6 b1221_6 ls st h := pm_go_eq pm_prog cl 1221 6 ls st h
theorem g1221_7 {cl : pm_C} {ls st : List Value} {h : pm_H} : pm_go pm_prog cl 1221 7 ls st h = pm_ev pm_prog cl 1221 7 b1221_7 ls st h := pm_go_eq pm_prog cl 1221 7 ls st h
theorem g1221_8 {cl : pm_C} {ls st : List Value} {h : pm_H} : pm_go pm_prog cl 1221 8 ls st h = pm_ev pm_prog cl 1221 8 b1221_8 ls st h := pm_go_eq pm_prog cl 1221 8 ls st h
theorem g1221_9 {cl : pm_C} {ls st : List Value} {h : pm_H} : pm_go pm_prog cl 1221 9 ls st h = pm_ev pm_prog cl 1221 9 b1221_9 ls st h := pm_go_eq pm_prog cl 1221 9 ls st h
theorem g1221_10 {cl : pm_C} {ls st : List Value} {h : pm_H} : pm_go pm_prog cl 1221 10 ls st h = pm_ev pm_prog cl 1221 10 b1221_10 ls st h := pm_go_eq pm_prog cl 1221 10 ls st h
theorem g1221_11 {cl : pm_C} {ls st : List Value} {h : pm_H} : pm_go pm_prog cl 1221 11 ls st h = pm_ev pm_prog cl 1221 11 b1221_11 ls st h := pm_go_eq pm_prog cl 1221 11 ls st h
theorem g1221_12 {cl : pm_C} {ls st : List Value} {h : pm_H} : pm_go pm_prog cl 1221 12 ls st h = pm_ev pm_prog cl 1221 12 b1221_12 ls st h := pm_go_eq pm_prog cl 1221 12 ls st h
theorem g1221_13 {cl : pm_C} {ls st : List Value} {h : pm_H} : pm_go pm_prog cl 1221 13 ls st h = pm_ev pm_prog cl 1221 13 b1221_13 ls st h := pm_go_eq pm_prog cl 1221 13 ls st h
theorem g1221_14 {cl : pm_C} {ls st : List Value} {h : pm_H} : pm_go pm_prog cl 1221 14 ls st h = pm_ev pm_prog cl 1221 14 b1221_14 ls st h := pm_go_eq pm_prog cl 1221 14 ls st h
theorem g1221_15 {cl : pm_C} {ls st : List Value} {h : pm_H} : pm_go pm_prog cl 1221 15 ls st h = pm_ev pm_prog cl 1221 15 b1221_15 ls st h := pm_go_eq pm_prog cl 1221 15 ls st h
theorem g1221_16 {cl : pm_C} {ls st : List Value} {h : pm_H} : pm_go pm_prog cl 1221 16 ls st h = pm_ev pm_prog cl 1221 16 b1221_16 ls st h := pm_go_eq pm_prog cl 1221 16 ls st h
theorem g1221_17 {cl : pm_C} {ls st : List Value} {h : pm_H} : pm_go pm_prog cl 1221 17 ls st h = pm_ev pm_prog cl 1221 17 b1221_17 ls st h := pm_go_eq pm_prog cl 1221 17 ls st h
theorem t1221 {cl : pm_C} {j : Nat} {ls : List Value} {c : Nat} {h : pm_H} : pm_thr pm_prog cl 1221 j ls c h = some (.threw c, h) := rfl
noncomputable def f1221_6_2 (side : Int32) (S : wS) (x1 : Int32) (x3 : Int32) (x4 : Int32) (x5 : Int32) (x6 : Int32) (y0 : Int32) (y1 : Int32) : Option ((Int32 × Int32 × Int32 × Int32 × Int32) ⊕ ((Int32 × Int32 × Int32 × Int32))) :=
  if x6 = 0 then
    some (.inl (x1, (y0 + y1), (x3 ||| 0), x4, (x5 + 1)))
  else
    if 0 ≤ x4 ∧ x4 < side then
      if 0 ≤ x5 ∧ x5 < side then
        if (S.1 (13, x4, 0) x5) = 0 then
          some (.inl (x1, (y0 + y1), (x3 ||| 0), x4, (x5 + 1)))
        else
          some (.inl (x1, (y0 + y1), (x3 ||| 1), x4, (x5 + 1)))
      else none
    else none
noncomputable def f1221_4_2 (side : Int32) (S : wS) (x1 : Int32) (x2 : Int32) (x3 : Int32) (x4 : Int32) (x5 : Int32) (y0 : Int32) : Option ((Int32 × Int32 × Int32 × Int32 × Int32) ⊕ ((Int32 × Int32 × Int32 × Int32))) :=
  if y0 = 0 then
    f1221_6_2 side S x1 x3 x4 x5 y0 x2 0
  else
    f1221_6_2 side S x1 x3 x4 x5 y0 x2 1
noncomputable def f1221_b2 (side : Int32) (S : wS) : Int32 × Int32 × Int32 × Int32 × Int32 → Option ((Int32 × Int32 × Int32 × Int32 × Int32) ⊕ ((Int32 × Int32 × Int32 × Int32))) := fun (x1, x2, x3, x4, x5) =>
  if 0 ≤ (S.1 (11, 0, 0) 5) ∧ (S.1 (11, 0, 0) 5) < 4 then
    if x5 ≤ ((S.1 (11, 0, 0) 2) + (S.1 (10, (S.1 (11, 0, 0) 5), 0) 0)) then
      if x5 < (S.1 (1, 0, 0) 0) then
        (f1089 side S (S.1 (11, 0, 0) 5) (x5 - (S.1 (11, 0, 0) 2)) (x4 - (S.1 (11, 0, 0) 3))).bind fun v3 =>
        if v3 = 0 then
          f1221_4_2 side S x1 x2 x3 x4 x5 0
        else
          if 0 ≤ x4 ∧ x4 < side then
            if 0 ≤ x5 ∧ x5 < side then
              if (S.1 (3, x4, 0) x5) ≤ (S.1 (11, 0, 0) 4) then
                f1221_4_2 side S x1 x2 x3 x4 x5 0
              else
                f1221_4_2 side S x1 x2 x3 x4 x5 1
            else none
          else none
      else
        some (.inr (x1, x2, x3, x4))
    else
      some (.inr (x1, x2, x3, x4))
  else none
noncomputable def f1221_b1 (side : Int32) (S : wS) : Int32 × Int32 × Int32 × Int32 → Option ((Int32 × Int32 × Int32 × Int32) ⊕ ((Int32 × Int32 × Int32))) := fun (x1, x2, x3, x4) =>
  if 0 ≤ (S.1 (11, 0, 0) 5) ∧ (S.1 (11, 0, 0) 5) < 4 then
    if x4 ≤ ((S.1 (11, 0, 0) 3) + (S.1 (10, (S.1 (11, 0, 0) 5), 0) 0)) then
      if x4 < (S.1 (1, 0, 0) 0) then
        (f3841 0 ((S.1 (11, 0, 0) 2) - (S.1 (10, (S.1 (11, 0, 0) 5), 0) 0))).bind fun v2 =>
        (lp (f1221_b2 side S) FU (x1, x2, x3, x4, v2)).bind fun (v5, v6, v7, v8) =>
        some (.inl (v5, v6, v7, (v8 + 1)))
      else
        some (.inr (x1, x2, x3))
    else
      some (.inr (x1, x2, x3))
  else none
noncomputable def f1221_16 (side : Int32) (S : wS) (x2 : Int32) (y1 : Int32) (y2 : Int32) : Option ((Nat × wS) ⊕ (wS)) :=
  if x2 ≤ 0 then
    some (.inr (sz S (11, 0, 0) 6 (y1 + y2)))
  else
    (f1222 side (sz S (11, 0, 0) 6 (y1 + y2))).bind fun S13 =>
    some (.inr S13)
noncomputable def f1221_13 (side : Int32) (S : wS) (x1 : Int32) (x2 : Int32) (y1 : Int32) : Option ((Nat × wS) ⊕ (wS)) :=
  if y1 ≤ 0 then
    if x1 = 0 then
      f1221_16 side (sz (sz S (11, 0, 0) 8 y1) (11, 0, 0) 7 ((S.1 (11, 0, 0) 7) + x2)) x2 (S.1 (11, 0, 0) 6) 1
    else
      if 0 ≤ (S.1 (11, 0, 0) 5) ∧ (S.1 (11, 0, 0) 5) < 4 then
        f1221_16 side (sz (sz S (11, 0, 0) 8 y1) (11, 0, 0) 7 ((S.1 (11, 0, 0) 7) + x2)) x2 (S.1 (11, 0, 0) 6) (S.1 (10, (S.1 (11, 0, 0) 5), 0) 1)
      else none
  else
    some (.inl (71, (sz S (11, 0, 0) 8 y1)))
noncomputable def f1221_11 (side : Int32) (S : wS) (x1 : Int32) (x2 : Int32) (x3 : Int32) : Option ((Nat × wS) ⊕ (wS)) :=
  if x3 = 0 then
    f1221_13 side S x1 x2 0
  else
    f1221_13 side S x1 x2 2
noncomputable def f1221_10 (side : Int32) (S : wS) (x1 : Int32) (x2 : Int32) (x3 : Int32) : Option ((Nat × wS) ⊕ (wS)) :=
  if x1 = 0 then
    if x2 ≤ 0 then
      f1221_11 side S x1 x2 x3
    else
      f1221_13 side S x1 x2 1
  else
    f1221_11 side S x1 x2 x3
/-- TimberHouse$RouterPaths$Machine.step(Z)V -/
noncomputable def f1221 (side : Int32) (S : wS) (x1 : Int32) : Option ((Nat × wS) ⊕ (wS)) :=
  if 0 ≤ (S.1 (11, 0, 0) 5) ∧ (S.1 (11, 0, 0) 5) < 4 then
    (f3841 0 ((S.1 (11, 0, 0) 3) - (S.1 (10, (S.1 (11, 0, 0) 5), 0) 0))).bind fun v1 =>
    (lp (f1221_b1 side S) FU (x1, 0, 0, v1)).bind fun (v10, v11, v12) =>
    f1221_10 side S v10 v11 v12
  else none
def go1221_2 (side : Int32) (A : wK → Nat) (h : pm_H) (D : Nat) (R : Outcome × pm_H) (S : wS) : Int32 × Int32 × Int32 × Int32 × Int32 → Prop := fun (x1, x2, x3, x4, x5) => ∀ q6 : Value, pm_go pm_prog (pm_call pm_prog D) 1221 2 [.ref (A (11, 0, 0)), .int x1, .int x2, .int x3, .int x4, .int x5, q6] [] (wput A (Cu_d side) S h) = some R
def ex1221_2 (side : Int32) (A : wK → Nat) (h : pm_H) (D : Nat) (R : Outcome × pm_H) (S : wS) : (Int32 × Int32 × Int32 × Int32) → Prop := fun (x1, x2, x3, x4) => ∀ q5 q6 : Value, pm_go pm_prog (pm_call pm_prog D) 1221 9 [.ref (A (11, 0, 0)), .int x1, .int x2, .int x3, .int x4, q5, q6] [] (wput A (Cu_d side) S h) = some R
theorem y1221_6_2 {side : Int32} {A : wK → Nat} {h : pm_H} {D : Nat} {R : Outcome × pm_H} {S : wS} {x1 : Int32} {x3 : Int32} {x4 : Int32} {x5 : Int32} {x6 : Int32} {y0 : Int32} {y1 : Int32} {r : (Int32 × Int32 × Int32 × Int32 × Int32) ⊕ ((Int32 × Int32 × Int32 × Int32))} (hP : Cu_P side) (hA : wok A (Cu_d side) h.1) (hD : 2 ≤ D) (e : f1221_6_2 side S x1 x3 x4 x5 x6 y0 y1 = some r) (hc : Sum.elim (go1221_2 side A h D R S) (ex1221_2 side A h D R S) r) : ∀ q2 : Value, pm_go pm_prog (pm_call pm_prog D) 1221 6 [.ref (A (11, 0, 0)), .int x1, q2, .int x3, .int x4, .int x5, .int x6] [.int y1, .int y0] (wput A (Cu_d side) S h) = some R := by
  intro q2
  simp only [f1221_6_2] at e
  rw [g1221_6, b1221_6]
  by_cases k1 : x6 = 0
  · rw [if_pos k1] at e
    have e := Option.some.inj e; subst e
    dsimp only [Sum.elim_inl, go1221_2] at hc
    simp -implicitDefEqProofs (disch := first | assumption | exact Nat.le_of_ble_eq_true rfl | decide) only [b1221_0, g1221_3, b1221_3, g1221_5, b1221_5, g1221_7, b1221_7, g1221_8, b1221_8, g1221_9, b1221_9, g1221_12, b1221_12, g1221_14, b1221_14, g1221_15, b1221_15, g1221_17, b1221_17, pe_sipush, pe_istore2, pe_istore3, pe_aload0, pe_getfield, pe_isub, pe_call2, pm_af_ret, pm_af_void, pm_af_thr, pe_istore4, pe_goto_w, pe_iload4, pe_iadd, pe_icmp_gt, pe_icmp_ge, pe_istore5, pe_iload5, pe_call3, pe_if_eq, pe_aaload, pe_iaload, pe_icmp_le, pe_goto, pe_istore6, pe_iload2, pe_iload6, pe_iload3, pe_baload, pe_ior, pe_iinc5, pe_iinc4, pe_iload1, pe_if_ne, pe_if_le, pe_putfield, pe_dup_i, pe_dup_r, pe_call1, pe_return, pm_prog_1, pm_ob_some, Nat.reduceDiv, Nat.reduceMod, Nat.reduceMul, Nat.reduceAdd, Int.reduceToNat, pm_kill_i, pm_kill_r, pm_kill_n, pm_kill_j, pm_kill_l, pm_kill_d, pm_cats_nil, pm_cats_i, pm_cats_r, pm_cats_n, pm_cats_l, pm_cats_d, sz_1, sz_2, sl_1, sl_2, lc_0, lc_lt, lc_le, li_ne, va_rf, wr_m1, we_m1, pm_kill_w, Int32.reduceOfInt, Int64.reduceOfInt, Int32.reduceOfNat, Int32.reduceLT, Int32.reduceLE, Prod.mk.injEq, Nat.reduceEqDiff, reduceCtorEq, and_true, true_and, and_false, false_and, and_self, ite_true, ite_false, ↓reduceIte, not_true_eq_false, not_false_eq_true, pe_ri, pe_rz, pe_rc, p_throw, t1221, w_junk hA, Cu_g1_0 hP hA, Cu_g1_1 hP hA, Cu_g1_3 hP hA, Cu_g10_0 hP hA, Cu_g10_1 hP hA, Cu_g11_0 hP hA, Cu_g11_2 hP hA, Cu_g11_3 hP hA, Cu_g11_4 hP hA, Cu_g11_5 hP hA, Cu_g11_6 hP hA, Cu_g11_7 hP hA, Cu_g11_8 hP hA, Cu_p11_6 hP hA, Cu_p11_7 hP hA, Cu_p11_8 hP hA, Cu_r13 hP hA, Cu_r2 hP hA, Cu_r3 hP hA, Cu_r6 hP hA, eq_true k1, hc]
  · rw [if_neg k1] at e
    by_cases k2 : 0 ≤ x4 ∧ x4 < side
    · rw [if_pos k2] at e
      by_cases k3 : 0 ≤ x5 ∧ x5 < side
      · rw [if_pos k3] at e
        by_cases k4 : (S.1 (13, x4, 0) x5) = 0
        · rw [if_pos k4] at e
          have e := Option.some.inj e; subst e
          dsimp only [Sum.elim_inl, go1221_2] at hc
          simp -implicitDefEqProofs (disch := first | assumption | exact Nat.le_of_ble_eq_true rfl | decide) only [b1221_0, g1221_3, b1221_3, g1221_5, b1221_5, g1221_7, b1221_7, g1221_8, b1221_8, g1221_9, b1221_9, g1221_12, b1221_12, g1221_14, b1221_14, g1221_15, b1221_15, g1221_17, b1221_17, pe_sipush, pe_istore2, pe_istore3, pe_aload0, pe_getfield, pe_isub, pe_call2, pm_af_ret, pm_af_void, pm_af_thr, pe_istore4, pe_goto_w, pe_iload4, pe_iadd, pe_icmp_gt, pe_icmp_ge, pe_istore5, pe_iload5, pe_call3, pe_if_eq, pe_aaload, pe_iaload, pe_icmp_le, pe_goto, pe_istore6, pe_iload2, pe_iload6, pe_iload3, pe_baload, pe_ior, pe_iinc5, pe_iinc4, pe_iload1, pe_if_ne, pe_if_le, pe_putfield, pe_dup_i, pe_dup_r, pe_call1, pe_return, pm_prog_1, pm_ob_some, Nat.reduceDiv, Nat.reduceMod, Nat.reduceMul, Nat.reduceAdd, Int.reduceToNat, pm_kill_i, pm_kill_r, pm_kill_n, pm_kill_j, pm_kill_l, pm_kill_d, pm_cats_nil, pm_cats_i, pm_cats_r, pm_cats_n, pm_cats_l, pm_cats_d, sz_1, sz_2, sl_1, sl_2, lc_0, lc_lt, lc_le, li_ne, va_rf, wr_m1, we_m1, pm_kill_w, Int32.reduceOfInt, Int64.reduceOfInt, Int32.reduceOfNat, Int32.reduceLT, Int32.reduceLE, Prod.mk.injEq, Nat.reduceEqDiff, reduceCtorEq, and_true, true_and, and_false, false_and, and_self, ite_true, ite_false, ↓reduceIte, not_true_eq_false, not_false_eq_true, pe_ri, pe_rz, pe_rc, p_throw, t1221, w_junk hA, Cu_g1_0 hP hA, Cu_g1_1 hP hA, Cu_g1_3 hP hA, Cu_g10_0 hP hA, Cu_g10_1 hP hA, Cu_g11_0 hP hA, Cu_g11_2 hP hA, Cu_g11_3 hP hA, Cu_g11_4 hP hA, Cu_g11_5 hP hA, Cu_g11_6 hP hA, Cu_g11_7 hP hA, Cu_g11_8 hP hA, Cu_p11_6 hP hA, Cu_p11_7 hP hA, Cu_p11_8 hP hA, Cu_r13 hP hA, Cu_r2 hP hA, Cu_r3 hP hA, Cu_r6 hP hA, eq_false k1, eq_true k4, hc]
        · rw [if_neg k4] at e
          have e := Option.some.inj e; subst e
          dsimp only [Sum.elim_inl, go1221_2] at hc
          simp -implicitDefEqProofs (disch := first | assumption | exact Nat.le_of_ble_eq_true rfl | decide) only [b1221_0, g1221_3, b1221_3, g1221_5, b1221_5, g1221_7, b1221_7, g1221_8, b1221_8, g1221_9, b1221_9, g1221_12, b1221_12, g1221_14, b1221_14, g1221_15, b1221_15, g1221_17, b1221_17, pe_sipush, pe_istore2, pe_istore3, pe_aload0, pe_getfield, pe_isub, pe_call2, pm_af_ret, pm_af_void, pm_af_thr, pe_istore4, pe_goto_w, pe_iload4, pe_iadd, pe_icmp_gt, pe_icmp_ge, pe_istore5, pe_iload5, pe_call3, pe_if_eq, pe_aaload, pe_iaload, pe_icmp_le, pe_goto, pe_istore6, pe_iload2, pe_iload6, pe_iload3, pe_baload, pe_ior, pe_iinc5, pe_iinc4, pe_iload1, pe_if_ne, pe_if_le, pe_putfield, pe_dup_i, pe_dup_r, pe_call1, pe_return, pm_prog_1, pm_ob_some, Nat.reduceDiv, Nat.reduceMod, Nat.reduceMul, Nat.reduceAdd, Int.reduceToNat, pm_kill_i, pm_kill_r, pm_kill_n, pm_kill_j, pm_kill_l, pm_kill_d, pm_cats_nil, pm_cats_i, pm_cats_r, pm_cats_n, pm_cats_l, pm_cats_d, sz_1, sz_2, sl_1, sl_2, lc_0, lc_lt, lc_le, li_ne, va_rf, wr_m1, we_m1, pm_kill_w, Int32.reduceOfInt, Int64.reduceOfInt, Int32.reduceOfNat, Int32.reduceLT, Int32.reduceLE, Prod.mk.injEq, Nat.reduceEqDiff, reduceCtorEq, and_true, true_and, and_false, false_and, and_self, ite_true, ite_false, ↓reduceIte, not_true_eq_false, not_false_eq_true, pe_ri, pe_rz, pe_rc, p_throw, t1221, w_junk hA, Cu_g1_0 hP hA, Cu_g1_1 hP hA, Cu_g1_3 hP hA, Cu_g10_0 hP hA, Cu_g10_1 hP hA, Cu_g11_0 hP hA, Cu_g11_2 hP hA, Cu_g11_3 hP hA, Cu_g11_4 hP hA, Cu_g11_5 hP hA, Cu_g11_6 hP hA, Cu_g11_7 hP hA, Cu_g11_8 hP hA, Cu_p11_6 hP hA, Cu_p11_7 hP hA, Cu_p11_8 hP hA, Cu_r13 hP hA, Cu_r2 hP hA, Cu_r3 hP hA, Cu_r6 hP hA, eq_false k1, eq_false k4, hc]
      · rw [if_neg k3] at e; cases e
    · rw [if_neg k2] at e; cases e
theorem y1221_4_2 {side : Int32} {A : wK → Nat} {h : pm_H} {D : Nat} {R : Outcome × pm_H} {S : wS} {x1 : Int32} {x2 : Int32} {x3 : Int32} {x4 : Int32} {x5 : Int32} {y0 : Int32} {r : (Int32 × Int32 × Int32 × Int32 × Int32) ⊕ ((Int32 × Int32 × Int32 × Int32))} (hP : Cu_P side) (hA : wok A (Cu_d side) h.1) (hD : 2 ≤ D) (e : f1221_4_2 side S x1 x2 x3 x4 x5 y0 = some r) (hc : Sum.elim (go1221_2 side A h D R S) (ex1221_2 side A h D R S) r) : ∀ q6 : Value, pm_go pm_prog (pm_call pm_prog D) 1221 4 [.ref (A (11, 0, 0)), .int x1, .int x2, .int x3, .int x4, .int x5, q6] [.int y0] (wput A (Cu_d side) S h) = some R := by
  intro q6
  simp only [f1221_4_2] at e
  rw [g1221_4, b1221_4]
  by_cases k1 : y0 = 0
  · rw [if_pos k1] at e
    have k2 := y1221_6_2 (h := h) hP hA hD e hc
    simp -implicitDefEqProofs (disch := first | assumption | exact Nat.le_of_ble_eq_true rfl | decide) only [b1221_0, g1221_3, b1221_3, g1221_5, b1221_5, g1221_7, b1221_7, g1221_8, b1221_8, g1221_9, b1221_9, g1221_12, b1221_12, g1221_14, b1221_14, g1221_15, b1221_15, g1221_17, b1221_17, pe_sipush, pe_istore2, pe_istore3, pe_aload0, pe_getfield, pe_isub, pe_call2, pm_af_ret, pm_af_void, pm_af_thr, pe_istore4, pe_goto_w, pe_iload4, pe_iadd, pe_icmp_gt, pe_icmp_ge, pe_istore5, pe_iload5, pe_call3, pe_if_eq, pe_aaload, pe_iaload, pe_icmp_le, pe_goto, pe_istore6, pe_iload2, pe_iload6, pe_iload3, pe_baload, pe_ior, pe_iinc5, pe_iinc4, pe_iload1, pe_if_ne, pe_if_le, pe_putfield, pe_dup_i, pe_dup_r, pe_call1, pe_return, pm_prog_1, pm_ob_some, Nat.reduceDiv, Nat.reduceMod, Nat.reduceMul, Nat.reduceAdd, Int.reduceToNat, pm_kill_i, pm_kill_r, pm_kill_n, pm_kill_j, pm_kill_l, pm_kill_d, pm_cats_nil, pm_cats_i, pm_cats_r, pm_cats_n, pm_cats_l, pm_cats_d, sz_1, sz_2, sl_1, sl_2, lc_0, lc_lt, lc_le, li_ne, va_rf, wr_m1, we_m1, pm_kill_w, Int32.reduceOfInt, Int64.reduceOfInt, Int32.reduceOfNat, Int32.reduceLT, Int32.reduceLE, Prod.mk.injEq, Nat.reduceEqDiff, reduceCtorEq, and_true, true_and, and_false, false_and, and_self, ite_true, ite_false, ↓reduceIte, not_true_eq_false, not_false_eq_true, pe_ri, pe_rz, pe_rc, p_throw, t1221, w_junk hA, Cu_g1_0 hP hA, Cu_g1_1 hP hA, Cu_g1_3 hP hA, Cu_g10_0 hP hA, Cu_g10_1 hP hA, Cu_g11_0 hP hA, Cu_g11_2 hP hA, Cu_g11_3 hP hA, Cu_g11_4 hP hA, Cu_g11_5 hP hA, Cu_g11_6 hP hA, Cu_g11_7 hP hA, Cu_g11_8 hP hA, Cu_p11_6 hP hA, Cu_p11_7 hP hA, Cu_p11_8 hP hA, Cu_r13 hP hA, Cu_r2 hP hA, Cu_r3 hP hA, Cu_r6 hP hA, eq_true k1, k2]
  · rw [if_neg k1] at e
    have k3 := y1221_6_2 (h := h) hP hA hD e hc
    simp -implicitDefEqProofs (disch := first | assumption | exact Nat.le_of_ble_eq_true rfl | decide) only [b1221_0, g1221_3, b1221_3, g1221_5, b1221_5, g1221_7, b1221_7, g1221_8, b1221_8, g1221_9, b1221_9, g1221_12, b1221_12, g1221_14, b1221_14, g1221_15, b1221_15, g1221_17, b1221_17, pe_sipush, pe_istore2, pe_istore3, pe_aload0, pe_getfield, pe_isub, pe_call2, pm_af_ret, pm_af_void, pm_af_thr, pe_istore4, pe_goto_w, pe_iload4, pe_iadd, pe_icmp_gt, pe_icmp_ge, pe_istore5, pe_iload5, pe_call3, pe_if_eq, pe_aaload, pe_iaload, pe_icmp_le, pe_goto, pe_istore6, pe_iload2, pe_iload6, pe_iload3, pe_baload, pe_ior, pe_iinc5, pe_iinc4, pe_iload1, pe_if_ne, pe_if_le, pe_putfield, pe_dup_i, pe_dup_r, pe_call1, pe_return, pm_prog_1, pm_ob_some, Nat.reduceDiv, Nat.reduceMod, Nat.reduceMul, Nat.reduceAdd, Int.reduceToNat, pm_kill_i, pm_kill_r, pm_kill_n, pm_kill_j, pm_kill_l, pm_kill_d, pm_cats_nil, pm_cats_i, pm_cats_r, pm_cats_n, pm_cats_l, pm_cats_d, sz_1, sz_2, sl_1, sl_2, lc_0, lc_lt, lc_le, li_ne, va_rf, wr_m1, we_m1, pm_kill_w, Int32.reduceOfInt, Int64.reduceOfInt, Int32.reduceOfNat, Int32.reduceLT, Int32.reduceLE, Prod.mk.injEq, Nat.reduceEqDiff, reduceCtorEq, and_true, true_and, and_false, false_and, and_self, ite_true, ite_false, ↓reduceIte, not_true_eq_false, not_false_eq_true, pe_ri, pe_rz, pe_rc, p_throw, t1221, w_junk hA, Cu_g1_0 hP hA, Cu_g1_1 hP hA, Cu_g1_3 hP hA, Cu_g10_0 hP hA, Cu_g10_1 hP hA, Cu_g11_0 hP hA, Cu_g11_2 hP hA, Cu_g11_3 hP hA, Cu_g11_4 hP hA, Cu_g11_5 hP hA, Cu_g11_6 hP hA, Cu_g11_7 hP hA, Cu_g11_8 hP hA, Cu_p11_6 hP hA, Cu_p11_7 hP hA, Cu_p11_8 hP hA, Cu_r13 hP hA, Cu_r2 hP hA, Cu_r3 hP hA, Cu_r6 hP hA, eq_false k1, k3]
theorem y1221_b2 {side : Int32} {A : wK → Nat} {h : pm_H} {D : Nat} {R : Outcome × pm_H} {S : wS} (hP : Cu_P side) (hA : wok A (Cu_d side) h.1) (hD : 2 ≤ D) (a : Int32 × Int32 × Int32 × Int32 × Int32) (r : (Int32 × Int32 × Int32 × Int32 × Int32) ⊕ ((Int32 × Int32 × Int32 × Int32))) (e : f1221_b2 side S a = some r) (hc : Sum.elim (go1221_2 side A h D R S) (ex1221_2 side A h D R S) r) : go1221_2 side A h D R S a := by
  obtain ⟨x1, x2, x3, x4, x5⟩ := a
  dsimp only [go1221_2]
  intro q6
  simp only [f1221_b2] at e
  rw [g1221_2, b1221_2]
  by_cases k1 : 0 ≤ (S.1 (11, 0, 0) 5) ∧ (S.1 (11, 0, 0) 5) < 4
  · rw [if_pos k1] at e
    by_cases k2 : x5 ≤ ((S.1 (11, 0, 0) 2) + (S.1 (10, (S.1 (11, 0, 0) 5), 0) 0))
    · rw [if_pos k2] at e
      by_cases k3 : x5 < (S.1 (1, 0, 0) 0)
      · rw [if_pos k3] at e
        obtain ⟨v3, k4, e⟩ := Option.bind_eq_some_iff.mp e
        try dsimp only at e
        have z4 := x1089 (D := D) (h := h) hP hA (by omega) k4
        by_cases k5 : v3 = 0
        · rw [if_pos k5] at e
          have k6 := y1221_4_2 (h := h) hP hA hD e hc
          try simp only [wr_m1, wr_p (A := A) (f := 10) (wz_lt k1)] at k6
          simp -implicitDefEqProofs (disch := first | assumption | exact Nat.le_of_ble_eq_true rfl | decide) only [b1221_0, g1221_3, b1221_3, g1221_5, b1221_5, g1221_7, b1221_7, g1221_8, b1221_8, g1221_9, b1221_9, g1221_12, b1221_12, g1221_14, b1221_14, g1221_15, b1221_15, g1221_17, b1221_17, pe_sipush, pe_istore2, pe_istore3, pe_aload0, pe_getfield, pe_isub, pe_call2, pm_af_ret, pm_af_void, pm_af_thr, pe_istore4, pe_goto_w, pe_iload4, pe_iadd, pe_icmp_gt, pe_icmp_ge, pe_istore5, pe_iload5, pe_call3, pe_if_eq, pe_aaload, pe_iaload, pe_icmp_le, pe_goto, pe_istore6, pe_iload2, pe_iload6, pe_iload3, pe_baload, pe_ior, pe_iinc5, pe_iinc4, pe_iload1, pe_if_ne, pe_if_le, pe_putfield, pe_dup_i, pe_dup_r, pe_call1, pe_return, pm_prog_1, pm_ob_some, Nat.reduceDiv, Nat.reduceMod, Nat.reduceMul, Nat.reduceAdd, Int.reduceToNat, pm_kill_i, pm_kill_r, pm_kill_n, pm_kill_j, pm_kill_l, pm_kill_d, pm_cats_nil, pm_cats_i, pm_cats_r, pm_cats_n, pm_cats_l, pm_cats_d, sz_1, sz_2, sl_1, sl_2, lc_0, lc_lt, lc_le, li_ne, va_rf, wr_m1, we_m1, pm_kill_w, Int32.reduceOfInt, Int64.reduceOfInt, Int32.reduceOfNat, Int32.reduceLT, Int32.reduceLE, Prod.mk.injEq, Nat.reduceEqDiff, reduceCtorEq, and_true, true_and, and_false, false_and, and_self, ite_true, ite_false, ↓reduceIte, not_true_eq_false, not_false_eq_true, pe_ri, pe_rz, pe_rc, p_throw, t1221, w_junk hA, Cu_g1_0 hP hA, Cu_g1_1 hP hA, Cu_g1_3 hP hA, Cu_g10_0 hP hA, Cu_g10_1 hP hA, Cu_g11_0 hP hA, Cu_g11_2 hP hA, Cu_g11_3 hP hA, Cu_g11_4 hP hA, Cu_g11_5 hP hA, Cu_g11_6 hP hA, Cu_g11_7 hP hA, Cu_g11_8 hP hA, Cu_p11_6 hP hA, Cu_p11_7 hP hA, Cu_p11_8 hP hA, Cu_r13 hP hA, Cu_r2 hP hA, Cu_r3 hP hA, Cu_r6 hP hA, wr_p (A := A) (f := 10) (wz_lt k1), we_p (A := A) (f := 10) (wz_lt k1), eq_true k2, eq_true k3, z4, eq_true k5, k6]
        · rw [if_neg k5] at e
          by_cases k7 : 0 ≤ x4 ∧ x4 < side
          · rw [if_pos k7] at e
            by_cases k8 : 0 ≤ x5 ∧ x5 < side
            · rw [if_pos k8] at e
              by_cases k9 : (S.1 (3, x4, 0) x5) ≤ (S.1 (11, 0, 0) 4)
              · rw [if_pos k9] at e
                have k10 := y1221_4_2 (h := h) hP hA hD e hc
                try simp only [wr_m1, wr_p (A := A) (f := 10) (wz_lt k1)] at k10
                simp -implicitDefEqProofs (disch := first | assumption | exact Nat.le_of_ble_eq_true rfl | decide) only [b1221_0, g1221_3, b1221_3, g1221_5, b1221_5, g1221_7, b1221_7, g1221_8, b1221_8, g1221_9, b1221_9, g1221_12, b1221_12, g1221_14, b1221_14, g1221_15, b1221_15, g1221_17, b1221_17, pe_sipush, pe_istore2, pe_istore3, pe_aload0, pe_getfield, pe_isub, pe_call2, pm_af_ret, pm_af_void, pm_af_thr, pe_istore4, pe_goto_w, pe_iload4, pe_iadd, pe_icmp_gt, pe_icmp_ge, pe_istore5, pe_iload5, pe_call3, pe_if_eq, pe_aaload, pe_iaload, pe_icmp_le, pe_goto, pe_istore6, pe_iload2, pe_iload6, pe_iload3, pe_baload, pe_ior, pe_iinc5, pe_iinc4, pe_iload1, pe_if_ne, pe_if_le, pe_putfield, pe_dup_i, pe_dup_r, pe_call1, pe_return, pm_prog_1, pm_ob_some, Nat.reduceDiv, Nat.reduceMod, Nat.reduceMul, Nat.reduceAdd, Int.reduceToNat, pm_kill_i, pm_kill_r, pm_kill_n, pm_kill_j, pm_kill_l, pm_kill_d, pm_cats_nil, pm_cats_i, pm_cats_r, pm_cats_n, pm_cats_l, pm_cats_d, sz_1, sz_2, sl_1, sl_2, lc_0, lc_lt, lc_le, li_ne, va_rf, wr_m1, we_m1, pm_kill_w, Int32.reduceOfInt, Int64.reduceOfInt, Int32.reduceOfNat, Int32.reduceLT, Int32.reduceLE, Prod.mk.injEq, Nat.reduceEqDiff, reduceCtorEq, and_true, true_and, and_false, false_and, and_self, ite_true, ite_false, ↓reduceIte, not_true_eq_false, not_false_eq_true, pe_ri, pe_rz, pe_rc, p_throw, t1221, w_junk hA, Cu_g1_0 hP hA, Cu_g1_1 hP hA, Cu_g1_3 hP hA, Cu_g10_0 hP hA, Cu_g10_1 hP hA, Cu_g11_0 hP hA, Cu_g11_2 hP hA, Cu_g11_3 hP hA, Cu_g11_4 hP hA, Cu_g11_5 hP hA, Cu_g11_6 hP hA, Cu_g11_7 hP hA, Cu_g11_8 hP hA, Cu_p11_6 hP hA, Cu_p11_7 hP hA, Cu_p11_8 hP hA, Cu_r13 hP hA, Cu_r2 hP hA, Cu_r3 hP hA, Cu_r6 hP hA, wr_p (A := A) (f := 10) (wz_lt k1), we_p (A := A) (f := 10) (wz_lt k1), eq_true k2, eq_true k3, z4, eq_false k5, eq_true k9, k10]
              · rw [if_neg k9] at e
                have k11 := y1221_4_2 (h := h) hP hA hD e hc
                try simp only [wr_m1, wr_p (A := A) (f := 10) (wz_lt k1)] at k11
                simp -implicitDefEqProofs (disch := first | assumption | exact Nat.le_of_ble_eq_true rfl | decide) only [b1221_0, g1221_3, b1221_3, g1221_5, b1221_5, g1221_7, b1221_7, g1221_8, b1221_8, g1221_9, b1221_9, g1221_12, b1221_12, g1221_14, b1221_14, g1221_15, b1221_15, g1221_17, b1221_17, pe_sipush, pe_istore2, pe_istore3, pe_aload0, pe_getfield, pe_isub, pe_call2, pm_af_ret, pm_af_void, pm_af_thr, pe_istore4, pe_goto_w, pe_iload4, pe_iadd, pe_icmp_gt, pe_icmp_ge, pe_istore5, pe_iload5, pe_call3, pe_if_eq, pe_aaload, pe_iaload, pe_icmp_le, pe_goto, pe_istore6, pe_iload2, pe_iload6, pe_iload3, pe_baload, pe_ior, pe_iinc5, pe_iinc4, pe_iload1, pe_if_ne, pe_if_le, pe_putfield, pe_dup_i, pe_dup_r, pe_call1, pe_return, pm_prog_1, pm_ob_some, Nat.reduceDiv, Nat.reduceMod, Nat.reduceMul, Nat.reduceAdd, Int.reduceToNat, pm_kill_i, pm_kill_r, pm_kill_n, pm_kill_j, pm_kill_l, pm_kill_d, pm_cats_nil, pm_cats_i, pm_cats_r, pm_cats_n, pm_cats_l, pm_cats_d, sz_1, sz_2, sl_1, sl_2, lc_0, lc_lt, lc_le, li_ne, va_rf, wr_m1, we_m1, pm_kill_w, Int32.reduceOfInt, Int64.reduceOfInt, Int32.reduceOfNat, Int32.reduceLT, Int32.reduceLE, Prod.mk.injEq, Nat.reduceEqDiff, reduceCtorEq, and_true, true_and, and_false, false_and, and_self, ite_true, ite_false, ↓reduceIte, not_true_eq_false, not_false_eq_true, pe_ri, pe_rz, pe_rc, p_throw, t1221, w_junk hA, Cu_g1_0 hP hA, Cu_g1_1 hP hA, Cu_g1_3 hP hA, Cu_g10_0 hP hA, Cu_g10_1 hP hA, Cu_g11_0 hP hA, Cu_g11_2 hP hA, Cu_g11_3 hP hA, Cu_g11_4 hP hA, Cu_g11_5 hP hA, Cu_g11_6 hP hA, Cu_g11_7 hP hA, Cu_g11_8 hP hA, Cu_p11_6 hP hA, Cu_p11_7 hP hA, Cu_p11_8 hP hA, Cu_r13 hP hA, Cu_r2 hP hA, Cu_r3 hP hA, Cu_r6 hP hA, wr_p (A := A) (f := 10) (wz_lt k1), we_p (A := A) (f := 10) (wz_lt k1), eq_true k2, eq_true k3, z4, eq_false k5, eq_false k9, k11]
            · rw [if_neg k8] at e; cases e
          · rw [if_neg k7] at e; cases e
      · rw [if_neg k3] at e
        have e := Option.some.inj e; subst e
        dsimp only [Sum.elim_inr, ex1221_2] at hc
        try simp only [wr_m1, wr_p (A := A) (f := 10) (wz_lt k1)] at hc
        simp -implicitDefEqProofs (disch := first | assumption | exact Nat.le_of_ble_eq_true rfl | decide) only [b1221_0, g1221_3, b1221_3, g1221_5, b1221_5, g1221_7, b1221_7, g1221_8, b1221_8, g1221_9, b1221_9, g1221_12, b1221_12, g1221_14, b1221_14, g1221_15, b1221_15, g1221_17, b1221_17, pe_sipush, pe_istore2, pe_istore3, pe_aload0, pe_getfield, pe_isub, pe_call2, pm_af_ret, pm_af_void, pm_af_thr, pe_istore4, pe_goto_w, pe_iload4, pe_iadd, pe_icmp_gt, pe_icmp_ge, pe_istore5, pe_iload5, pe_call3, pe_if_eq, pe_aaload, pe_iaload, pe_icmp_le, pe_goto, pe_istore6, pe_iload2, pe_iload6, pe_iload3, pe_baload, pe_ior, pe_iinc5, pe_iinc4, pe_iload1, pe_if_ne, pe_if_le, pe_putfield, pe_dup_i, pe_dup_r, pe_call1, pe_return, pm_prog_1, pm_ob_some, Nat.reduceDiv, Nat.reduceMod, Nat.reduceMul, Nat.reduceAdd, Int.reduceToNat, pm_kill_i, pm_kill_r, pm_kill_n, pm_kill_j, pm_kill_l, pm_kill_d, pm_cats_nil, pm_cats_i, pm_cats_r, pm_cats_n, pm_cats_l, pm_cats_d, sz_1, sz_2, sl_1, sl_2, lc_0, lc_lt, lc_le, li_ne, va_rf, wr_m1, we_m1, pm_kill_w, Int32.reduceOfInt, Int64.reduceOfInt, Int32.reduceOfNat, Int32.reduceLT, Int32.reduceLE, Prod.mk.injEq, Nat.reduceEqDiff, reduceCtorEq, and_true, true_and, and_false, false_and, and_self, ite_true, ite_false, ↓reduceIte, not_true_eq_false, not_false_eq_true, pe_ri, pe_rz, pe_rc, p_throw, t1221, w_junk hA, Cu_g1_0 hP hA, Cu_g1_1 hP hA, Cu_g1_3 hP hA, Cu_g10_0 hP hA, Cu_g10_1 hP hA, Cu_g11_0 hP hA, Cu_g11_2 hP hA, Cu_g11_3 hP hA, Cu_g11_4 hP hA, Cu_g11_5 hP hA, Cu_g11_6 hP hA, Cu_g11_7 hP hA, Cu_g11_8 hP hA, Cu_p11_6 hP hA, Cu_p11_7 hP hA, Cu_p11_8 hP hA, Cu_r13 hP hA, Cu_r2 hP hA, Cu_r3 hP hA, Cu_r6 hP hA, wr_p (A := A) (f := 10) (wz_lt k1), we_p (A := A) (f := 10) (wz_lt k1), eq_true k2, eq_false k3, hc]
    · rw [if_neg k2] at e
      have e := Option.some.inj e; subst e
      dsimp only [Sum.elim_inr, ex1221_2] at hc
      try simp only [wr_m1, wr_p (A := A) (f := 10) (wz_lt k1)] at hc
      simp -implicitDefEqProofs (disch := first | assumption | exact Nat.le_of_ble_eq_true rfl | decide) only [b1221_0, g1221_3, b1221_3, g1221_5, b1221_5, g1221_7, b1221_7, g1221_8, b1221_8, g1221_9, b1221_9, g1221_12, b1221_12, g1221_14, b1221_14, g1221_15, b1221_15, g1221_17, b1221_17, pe_sipush, pe_istore2, pe_istore3, pe_aload0, pe_getfield, pe_isub, pe_call2, pm_af_ret, pm_af_void, pm_af_thr, pe_istore4, pe_goto_w, pe_iload4, pe_iadd, pe_icmp_gt, pe_icmp_ge, pe_istore5, pe_iload5, pe_call3, pe_if_eq, pe_aaload, pe_iaload, pe_icmp_le, pe_goto, pe_istore6, pe_iload2, pe_iload6, pe_iload3, pe_baload, pe_ior, pe_iinc5, pe_iinc4, pe_iload1, pe_if_ne, pe_if_le, pe_putfield, pe_dup_i, pe_dup_r, pe_call1, pe_return, pm_prog_1, pm_ob_some, Nat.reduceDiv, Nat.reduceMod, Nat.reduceMul, Nat.reduceAdd, Int.reduceToNat, pm_kill_i, pm_kill_r, pm_kill_n, pm_kill_j, pm_kill_l, pm_kill_d, pm_cats_nil, pm_cats_i, pm_cats_r, pm_cats_n, pm_cats_l, pm_cats_d, sz_1, sz_2, sl_1, sl_2, lc_0, lc_lt, lc_le, li_ne, va_rf, wr_m1, we_m1, pm_kill_w, Int32.reduceOfInt, Int64.reduceOfInt, Int32.reduceOfNat, Int32.reduceLT, Int32.reduceLE, Prod.mk.injEq, Nat.reduceEqDiff, reduceCtorEq, and_true, true_and, and_false, false_and, and_self, ite_true, ite_false, ↓reduceIte, not_true_eq_false, not_false_eq_true, pe_ri, pe_rz, pe_rc, p_throw, t1221, w_junk hA, Cu_g1_0 hP hA, Cu_g1_1 hP hA, Cu_g1_3 hP hA, Cu_g10_0 hP hA, Cu_g10_1 hP hA, Cu_g11_0 hP hA, Cu_g11_2 hP hA, Cu_g11_3 hP hA, Cu_g11_4 hP hA, Cu_g11_5 hP hA, Cu_g11_6 hP hA, Cu_g11_7 hP hA, Cu_g11_8 hP hA, Cu_p11_6 hP hA, Cu_p11_7 hP hA, Cu_p11_8 hP hA, Cu_r13 hP hA, Cu_r2 hP hA, Cu_r3 hP hA, Cu_r6 hP hA, wr_p (A := A) (f := 10) (wz_lt k1), we_p (A := A) (f := 10) (wz_lt k1), eq_false k2, hc]
  · rw [if_neg k1] at e; cases e
theorem z1221_2 {side : Int32} {A : wK → Nat} {h : pm_H} {D : Nat} {R : Outcome × pm_H} {S : wS} (hP : Cu_P side) (hA : wok A (Cu_d side) h.1) (hD : 2 ≤ D) {n : Nat} {a : Int32 × Int32 × Int32 × Int32 × Int32} {b : (Int32 × Int32 × Int32 × Int32)} (e : lp (f1221_b2 side S) n a = some b) (hx : ex1221_2 side A h D R S b) : go1221_2 side A h D R S a := lp_run (fun a r => y1221_b2 hP hA hD a r) n a b e hx
def go1221_1 (side : Int32) (A : wK → Nat) (h : pm_H) (D : Nat) (R : Outcome × pm_H) (S : wS) : Int32 × Int32 × Int32 × Int32 → Prop := fun (x1, x2, x3, x4) => ∀ q5 q6 : Value, pm_go pm_prog (pm_call pm_prog D) 1221 1 [.ref (A (11, 0, 0)), .int x1, .int x2, .int x3, .int x4, q5, q6] [] (wput A (Cu_d side) S h) = some R
def ex1221_1 (side : Int32) (A : wK → Nat) (h : pm_H) (D : Nat) (R : Outcome × pm_H) (S : wS) : (Int32 × Int32 × Int32) → Prop := fun (x1, x2, x3) => ∀ q4 q5 q6 : Value, pm_go pm_prog (pm_call pm_prog D) 1221 10 [.ref (A (11, 0, 0)), .int x1, .int x2, .int x3, q4, q5, q6] [] (wput A (Cu_d side) S h) = some R
theorem y1221_b1 {side : Int32} {A : wK → Nat} {h : pm_H} {D : Nat} {R : Outcome × pm_H} {S : wS} (hP : Cu_P side) (hA : wok A (Cu_d side) h.1) (hD : 2 ≤ D) (a : Int32 × Int32 × Int32 × Int32) (r : (Int32 × Int32 × Int32 × Int32) ⊕ ((Int32 × Int32 × Int32))) (e : f1221_b1 side S a = some r) (hc : Sum.elim (go1221_1 side A h D R S) (ex1221_1 side A h D R S) r) : go1221_1 side A h D R S a := by
  obtain ⟨x1, x2, x3, x4⟩ := a
  dsimp only [go1221_1]
  intro q5 q6
  simp only [f1221_b1] at e
  rw [g1221_1, b1221_1]
  by_cases k1 : 0 ≤ (S.1 (11, 0, 0) 5) ∧ (S.1 (11, 0, 0) 5) < 4
  · rw [if_pos k1] at e
    by_cases k2 : x4 ≤ ((S.1 (11, 0, 0) 3) + (S.1 (10, (S.1 (11, 0, 0) 5), 0) 0))
    · rw [if_pos k2] at e
      by_cases k3 : x4 < (S.1 (1, 0, 0) 0)
      · rw [if_pos k3] at e
        obtain ⟨v2, k4, e⟩ := Option.bind_eq_some_iff.mp e
        try dsimp only at e
        have z4 := fun h => x3841 (D := D) (h := h) (by omega) k4
        obtain ⟨⟨v5, v6, v7, v8⟩, k5, e⟩ := Option.bind_eq_some_iff.mp e
        try dsimp only at e
        try simp -implicitDefEqProofs (disch := first | assumption | exact Nat.le_of_ble_eq_true rfl | decide) only [b1221_0, g1221_3, b1221_3, g1221_5, b1221_5, g1221_7, b1221_7, g1221_8, b1221_8, g1221_9, b1221_9, g1221_12, b1221_12, g1221_14, b1221_14, g1221_15, b1221_15, g1221_17, b1221_17, pe_sipush, pe_istore2, pe_istore3, pe_aload0, pe_getfield, pe_isub, pe_call2, pm_af_ret, pm_af_void, pm_af_thr, pe_istore4, pe_goto_w, pe_iload4, pe_iadd, pe_icmp_gt, pe_icmp_ge, pe_istore5, pe_iload5, pe_call3, pe_if_eq, pe_aaload, pe_iaload, pe_icmp_le, pe_goto, pe_istore6, pe_iload2, pe_iload6, pe_iload3, pe_baload, pe_ior, pe_iinc5, pe_iinc4, pe_iload1, pe_if_ne, pe_if_le, pe_putfield, pe_dup_i, pe_dup_r, pe_call1, pe_return, pm_prog_1, pm_ob_some, Nat.reduceDiv, Nat.reduceMod, Nat.reduceMul, Nat.reduceAdd, Int.reduceToNat, pm_kill_i, pm_kill_r, pm_kill_n, pm_kill_j, pm_kill_l, pm_kill_d, pm_cats_nil, pm_cats_i, pm_cats_r, pm_cats_n, pm_cats_l, pm_cats_d, sz_1, sz_2, sl_1, sl_2, lc_0, lc_lt, lc_le, li_ne, va_rf, wr_m1, we_m1, pm_kill_w, Int32.reduceOfInt, Int64.reduceOfInt, Int32.reduceOfNat, Int32.reduceLT, Int32.reduceLE, Prod.mk.injEq, Nat.reduceEqDiff, reduceCtorEq, and_true, true_and, and_false, false_and, and_self, ite_true, ite_false, ↓reduceIte, not_true_eq_false, not_false_eq_true, pe_ri, pe_rz, pe_rc, p_throw, t1221, w_junk hA, Cu_g1_0 hP hA, Cu_g1_1 hP hA, Cu_g1_3 hP hA, Cu_g10_0 hP hA, Cu_g10_1 hP hA, Cu_g11_0 hP hA, Cu_g11_2 hP hA, Cu_g11_3 hP hA, Cu_g11_4 hP hA, Cu_g11_5 hP hA, Cu_g11_6 hP hA, Cu_g11_7 hP hA, Cu_g11_8 hP hA, Cu_p11_6 hP hA, Cu_p11_7 hP hA, Cu_p11_8 hP hA, Cu_r13 hP hA, Cu_r2 hP hA, Cu_r3 hP hA, Cu_r6 hP hA, wr_p (A := A) (f := 10) (wz_lt k1), we_p (A := A) (f := 10) (wz_lt k1), eq_true k2, eq_true k3, z4]
        refine (show _ = _ → _ = _ by
          intro gg; try simp only [wr_m1, wr_p (A := A) (f := 10) (wz_lt k1)] at gg
          exact gg) (z1221_2 hP hA hD k5 ?_ _)
        dsimp only [ex1221_2]
        intro q5 q6
        have e := Option.some.inj e; subst e
        dsimp only [Sum.elim_inl, go1221_1] at hc
        try simp only [wr_m1, wr_p (A := A) (f := 10) (wz_lt k1)] at hc
        simp -implicitDefEqProofs (disch := first | assumption | exact Nat.le_of_ble_eq_true rfl | decide) only [b1221_0, g1221_3, b1221_3, g1221_5, b1221_5, g1221_7, b1221_7, g1221_8, b1221_8, g1221_9, b1221_9, g1221_12, b1221_12, g1221_14, b1221_14, g1221_15, b1221_15, g1221_17, b1221_17, pe_sipush, pe_istore2, pe_istore3, pe_aload0, pe_getfield, pe_isub, pe_call2, pm_af_ret, pm_af_void, pm_af_thr, pe_istore4, pe_goto_w, pe_iload4, pe_iadd, pe_icmp_gt, pe_icmp_ge, pe_istore5, pe_iload5, pe_call3, pe_if_eq, pe_aaload, pe_iaload, pe_icmp_le, pe_goto, pe_istore6, pe_iload2, pe_iload6, pe_iload3, pe_baload, pe_ior, pe_iinc5, pe_iinc4, pe_iload1, pe_if_ne, pe_if_le, pe_putfield, pe_dup_i, pe_dup_r, pe_call1, pe_return, pm_prog_1, pm_ob_some, Nat.reduceDiv, Nat.reduceMod, Nat.reduceMul, Nat.reduceAdd, Int.reduceToNat, pm_kill_i, pm_kill_r, pm_kill_n, pm_kill_j, pm_kill_l, pm_kill_d, pm_cats_nil, pm_cats_i, pm_cats_r, pm_cats_n, pm_cats_l, pm_cats_d, sz_1, sz_2, sl_1, sl_2, lc_0, lc_lt, lc_le, li_ne, va_rf, wr_m1, we_m1, pm_kill_w, Int32.reduceOfInt, Int64.reduceOfInt, Int32.reduceOfNat, Int32.reduceLT, Int32.reduceLE, Prod.mk.injEq, Nat.reduceEqDiff, reduceCtorEq, and_true, true_and, and_false, false_and, and_self, ite_true, ite_false, ↓reduceIte, not_true_eq_false, not_false_eq_true, pe_ri, pe_rz, pe_rc, p_throw, t1221, w_junk hA, Cu_g1_0 hP hA, Cu_g1_1 hP hA, Cu_g1_3 hP hA, Cu_g10_0 hP hA, Cu_g10_1 hP hA, Cu_g11_0 hP hA, Cu_g11_2 hP hA, Cu_g11_3 hP hA, Cu_g11_4 hP hA, Cu_g11_5 hP hA, Cu_g11_6 hP hA, Cu_g11_7 hP hA, Cu_g11_8 hP hA, Cu_p11_6 hP hA, Cu_p11_7 hP hA, Cu_p11_8 hP hA, Cu_r13 hP hA, Cu_r2 hP hA, Cu_r3 hP hA, Cu_r6 hP hA, wr_p (A := A) (f := 10) (wz_lt k1), we_p (A := A) (f := 10) (wz_lt k1), eq_true k2, eq_true k3, z4, hc]
      · rw [if_neg k3] at e
        have e := Option.some.inj e; subst e
        dsimp only [Sum.elim_inr, ex1221_1] at hc
        try simp only [wr_m1, wr_p (A := A) (f := 10) (wz_lt k1)] at hc
        simp -implicitDefEqProofs (disch := first | assumption | exact Nat.le_of_ble_eq_true rfl | decide) only [b1221_0, g1221_3, b1221_3, g1221_5, b1221_5, g1221_7, b1221_7, g1221_8, b1221_8, g1221_9, b1221_9, g1221_12, b1221_12, g1221_14, b1221_14, g1221_15, b1221_15, g1221_17, b1221_17, pe_sipush, pe_istore2, pe_istore3, pe_aload0, pe_getfield, pe_isub, pe_call2, pm_af_ret, pm_af_void, pm_af_thr, pe_istore4, pe_goto_w, pe_iload4, pe_iadd, pe_icmp_gt, pe_icmp_ge, pe_istore5, pe_iload5, pe_call3, pe_if_eq, pe_aaload, pe_iaload, pe_icmp_le, pe_goto, pe_istore6, pe_iload2, pe_iload6, pe_iload3, pe_baload, pe_ior, pe_iinc5, pe_iinc4, pe_iload1, pe_if_ne, pe_if_le, pe_putfield, pe_dup_i, pe_dup_r, pe_call1, pe_return, pm_prog_1, pm_ob_some, Nat.reduceDiv, Nat.reduceMod, Nat.reduceMul, Nat.reduceAdd, Int.reduceToNat, pm_kill_i, pm_kill_r, pm_kill_n, pm_kill_j, pm_kill_l, pm_kill_d, pm_cats_nil, pm_cats_i, pm_cats_r, pm_cats_n, pm_cats_l, pm_cats_d, sz_1, sz_2, sl_1, sl_2, lc_0, lc_lt, lc_le, li_ne, va_rf, wr_m1, we_m1, pm_kill_w, Int32.reduceOfInt, Int64.reduceOfInt, Int32.reduceOfNat, Int32.reduceLT, Int32.reduceLE, Prod.mk.injEq, Nat.reduceEqDiff, reduceCtorEq, and_true, true_and, and_false, false_and, and_self, ite_true, ite_false, ↓reduceIte, not_true_eq_false, not_false_eq_true, pe_ri, pe_rz, pe_rc, p_throw, t1221, w_junk hA, Cu_g1_0 hP hA, Cu_g1_1 hP hA, Cu_g1_3 hP hA, Cu_g10_0 hP hA, Cu_g10_1 hP hA, Cu_g11_0 hP hA, Cu_g11_2 hP hA, Cu_g11_3 hP hA, Cu_g11_4 hP hA, Cu_g11_5 hP hA, Cu_g11_6 hP hA, Cu_g11_7 hP hA, Cu_g11_8 hP hA, Cu_p11_6 hP hA, Cu_p11_7 hP hA, Cu_p11_8 hP hA, Cu_r13 hP hA, Cu_r2 hP hA, Cu_r3 hP hA, Cu_r6 hP hA, wr_p (A := A) (f := 10) (wz_lt k1), we_p (A := A) (f := 10) (wz_lt k1), eq_true k2, eq_false k3, hc]
    · rw [if_neg k2] at e
      have e := Option.some.inj e; subst e
      dsimp only [Sum.elim_inr, ex1221_1] at hc
      try simp only [wr_m1, wr_p (A := A) (f := 10) (wz_lt k1)] at hc
      simp -implicitDefEqProofs (disch := first | assumption | exact Nat.le_of_ble_eq_true rfl | decide) only [b1221_0, g1221_3, b1221_3, g1221_5, b1221_5, g1221_7, b1221_7, g1221_8, b1221_8, g1221_9, b1221_9, g1221_12, b1221_12, g1221_14, b1221_14, g1221_15, b1221_15, g1221_17, b1221_17, pe_sipush, pe_istore2, pe_istore3, pe_aload0, pe_getfield, pe_isub, pe_call2, pm_af_ret, pm_af_void, pm_af_thr, pe_istore4, pe_goto_w, pe_iload4, pe_iadd, pe_icmp_gt, pe_icmp_ge, pe_istore5, pe_iload5, pe_call3, pe_if_eq, pe_aaload, pe_iaload, pe_icmp_le, pe_goto, pe_istore6, pe_iload2, pe_iload6, pe_iload3, pe_baload, pe_ior, pe_iinc5, pe_iinc4, pe_iload1, pe_if_ne, pe_if_le, pe_putfield, pe_dup_i, pe_dup_r, pe_call1, pe_return, pm_prog_1, pm_ob_some, Nat.reduceDiv, Nat.reduceMod, Nat.reduceMul, Nat.reduceAdd, Int.reduceToNat, pm_kill_i, pm_kill_r, pm_kill_n, pm_kill_j, pm_kill_l, pm_kill_d, pm_cats_nil, pm_cats_i, pm_cats_r, pm_cats_n, pm_cats_l, pm_cats_d, sz_1, sz_2, sl_1, sl_2, lc_0, lc_lt, lc_le, li_ne, va_rf, wr_m1, we_m1, pm_kill_w, Int32.reduceOfInt, Int64.reduceOfInt, Int32.reduceOfNat, Int32.reduceLT, Int32.reduceLE, Prod.mk.injEq, Nat.reduceEqDiff, reduceCtorEq, and_true, true_and, and_false, false_and, and_self, ite_true, ite_false, ↓reduceIte, not_true_eq_false, not_false_eq_true, pe_ri, pe_rz, pe_rc, p_throw, t1221, w_junk hA, Cu_g1_0 hP hA, Cu_g1_1 hP hA, Cu_g1_3 hP hA, Cu_g10_0 hP hA, Cu_g10_1 hP hA, Cu_g11_0 hP hA, Cu_g11_2 hP hA, Cu_g11_3 hP hA, Cu_g11_4 hP hA, Cu_g11_5 hP hA, Cu_g11_6 hP hA, Cu_g11_7 hP hA, Cu_g11_8 hP hA, Cu_p11_6 hP hA, Cu_p11_7 hP hA, Cu_p11_8 hP hA, Cu_r13 hP hA, Cu_r2 hP hA, Cu_r3 hP hA, Cu_r6 hP hA, wr_p (A := A) (f := 10) (wz_lt k1), we_p (A := A) (f := 10) (wz_lt k1), eq_false k2, hc]
  · rw [if_neg k1] at e; cases e
theorem z1221_1 {side : Int32} {A : wK → Nat} {h : pm_H} {D : Nat} {R : Outcome × pm_H} {S : wS} (hP : Cu_P side) (hA : wok A (Cu_d side) h.1) (hD : 2 ≤ D) {n : Nat} {a : Int32 × Int32 × Int32 × Int32} {b : (Int32 × Int32 × Int32)} (e : lp (f1221_b1 side S) n a = some b) (hx : ex1221_1 side A h D R S b) : go1221_1 side A h D R S a := lp_run (fun a r => y1221_b1 hP hA hD a r) n a b e hx
theorem y1221_16 {side : Int32} {A : wK → Nat} {h : pm_H} {D : Nat} {S : wS} {x2 : Int32} {y1 : Int32} {y2 : Int32} {r : (Nat × wS) ⊕ (wS)} (hP : Cu_P side) (hA : wok A (Cu_d side) h.1) (hD : 2 ≤ D) (e : f1221_16 side S x2 y1 y2 = some r) : ∀ q1 q3 q4 q5 q6 : Value, pm_go pm_prog (pm_call pm_prog D) 1221 16 [.ref (A (11, 0, 0)), q1, .int x2, q3, q4, q5, q6] [.int y2, .int y1, .ref (A (11, 0, 0))] (wput A (Cu_d side) S h) = some (match (generalizing := false) r with | .inl (c, S1) => (Outcome.threw c, (wput A (Cu_d side) S1 (pm_new h 6 (.inr (c, []))))) | .inr S1 => (Outcome.returned none, (wput A (Cu_d side) S1 h))) := by
  intro q1 q3 q4 q5 q6
  simp only [f1221_16] at e
  rw [g1221_16, b1221_16]
  by_cases k1 : x2 ≤ 0
  · rw [if_pos k1] at e
    have e := Option.some.inj e; subst e
    simp -implicitDefEqProofs (disch := first | assumption | exact Nat.le_of_ble_eq_true rfl | decide) only [b1221_0, g1221_3, b1221_3, g1221_5, b1221_5, g1221_7, b1221_7, g1221_8, b1221_8, g1221_9, b1221_9, g1221_12, b1221_12, g1221_14, b1221_14, g1221_15, b1221_15, g1221_17, b1221_17, pe_sipush, pe_istore2, pe_istore3, pe_aload0, pe_getfield, pe_isub, pe_call2, pm_af_ret, pm_af_void, pm_af_thr, pe_istore4, pe_goto_w, pe_iload4, pe_iadd, pe_icmp_gt, pe_icmp_ge, pe_istore5, pe_iload5, pe_call3, pe_if_eq, pe_aaload, pe_iaload, pe_icmp_le, pe_goto, pe_istore6, pe_iload2, pe_iload6, pe_iload3, pe_baload, pe_ior, pe_iinc5, pe_iinc4, pe_iload1, pe_if_ne, pe_if_le, pe_putfield, pe_dup_i, pe_dup_r, pe_call1, pe_return, pm_prog_1, pm_ob_some, Nat.reduceDiv, Nat.reduceMod, Nat.reduceMul, Nat.reduceAdd, Int.reduceToNat, pm_kill_i, pm_kill_r, pm_kill_n, pm_kill_j, pm_kill_l, pm_kill_d, pm_cats_nil, pm_cats_i, pm_cats_r, pm_cats_n, pm_cats_l, pm_cats_d, sz_1, sz_2, sl_1, sl_2, lc_0, lc_lt, lc_le, li_ne, va_rf, wr_m1, we_m1, pm_kill_w, Int32.reduceOfInt, Int64.reduceOfInt, Int32.reduceOfNat, Int32.reduceLT, Int32.reduceLE, Prod.mk.injEq, Nat.reduceEqDiff, reduceCtorEq, and_true, true_and, and_false, false_and, and_self, ite_true, ite_false, ↓reduceIte, not_true_eq_false, not_false_eq_true, pe_ri, pe_rz, pe_rc, p_throw, t1221, w_junk hA, Cu_g1_0 hP hA, Cu_g1_1 hP hA, Cu_g1_3 hP hA, Cu_g10_0 hP hA, Cu_g10_1 hP hA, Cu_g11_0 hP hA, Cu_g11_2 hP hA, Cu_g11_3 hP hA, Cu_g11_4 hP hA, Cu_g11_5 hP hA, Cu_g11_6 hP hA, Cu_g11_7 hP hA, Cu_g11_8 hP hA, Cu_p11_6 hP hA, Cu_p11_7 hP hA, Cu_p11_8 hP hA, Cu_r13 hP hA, Cu_r2 hP hA, Cu_r3 hP hA, Cu_r6 hP hA, eq_true k1]
  · rw [if_neg k1] at e
    obtain ⟨S13, k2, e⟩ := Option.bind_eq_some_iff.mp e
    try dsimp only at e
    have z2 := x1222 (D := D) (h := h) hP hA (by omega) k2
    have e := Option.some.inj e; subst e
    simp -implicitDefEqProofs (disch := first | assumption | exact Nat.le_of_ble_eq_true rfl | decide) only [b1221_0, g1221_3, b1221_3, g1221_5, b1221_5, g1221_7, b1221_7, g1221_8, b1221_8, g1221_9, b1221_9, g1221_12, b1221_12, g1221_14, b1221_14, g1221_15, b1221_15, g1221_17, b1221_17, pe_sipush, pe_istore2, pe_istore3, pe_aload0, pe_getfield, pe_isub, pe_call2, pm_af_ret, pm_af_void, pm_af_thr, pe_istore4, pe_goto_w, pe_iload4, pe_iadd, pe_icmp_gt, pe_icmp_ge, pe_istore5, pe_iload5, pe_call3, pe_if_eq, pe_aaload, pe_iaload, pe_icmp_le, pe_goto, pe_istore6, pe_iload2, pe_iload6, pe_iload3, pe_baload, pe_ior, pe_iinc5, pe_iinc4, pe_iload1, pe_if_ne, pe_if_le, pe_putfield, pe_dup_i, pe_dup_r, pe_call1, pe_return, pm_prog_1, pm_ob_some, Nat.reduceDiv, Nat.reduceMod, Nat.reduceMul, Nat.reduceAdd, Int.reduceToNat, pm_kill_i, pm_kill_r, pm_kill_n, pm_kill_j, pm_kill_l, pm_kill_d, pm_cats_nil, pm_cats_i, pm_cats_r, pm_cats_n, pm_cats_l, pm_cats_d, sz_1, sz_2, sl_1, sl_2, lc_0, lc_lt, lc_le, li_ne, va_rf, wr_m1, we_m1, pm_kill_w, Int32.reduceOfInt, Int64.reduceOfInt, Int32.reduceOfNat, Int32.reduceLT, Int32.reduceLE, Prod.mk.injEq, Nat.reduceEqDiff, reduceCtorEq, and_true, true_and, and_false, false_and, and_self, ite_true, ite_false, ↓reduceIte, not_true_eq_false, not_false_eq_true, pe_ri, pe_rz, pe_rc, p_throw, t1221, w_junk hA, Cu_g1_0 hP hA, Cu_g1_1 hP hA, Cu_g1_3 hP hA, Cu_g10_0 hP hA, Cu_g10_1 hP hA, Cu_g11_0 hP hA, Cu_g11_2 hP hA, Cu_g11_3 hP hA, Cu_g11_4 hP hA, Cu_g11_5 hP hA, Cu_g11_6 hP hA, Cu_g11_7 hP hA, Cu_g11_8 hP hA, Cu_p11_6 hP hA, Cu_p11_7 hP hA, Cu_p11_8 hP hA, Cu_r13 hP hA, Cu_r2 hP hA, Cu_r3 hP hA, Cu_r6 hP hA, eq_false k1, z2]
theorem y1221_13 {side : Int32} {A : wK → Nat} {h : pm_H} {D : Nat} {S : wS} {x1 : Int32} {x2 : Int32} {y1 : Int32} {r : (Nat × wS) ⊕ (wS)} (hP : Cu_P side) (hA : wok A (Cu_d side) h.1) (hD : 2 ≤ D) (e : f1221_13 side S x1 x2 y1 = some r) : ∀ q3 q4 q5 q6 : Value, pm_go pm_prog (pm_call pm_prog D) 1221 13 [.ref (A (11, 0, 0)), .int x1, .int x2, q3, q4, q5, q6] [.int y1, .ref (A (11, 0, 0))] (wput A (Cu_d side) S h) = some (match (generalizing := false) r with | .inl (c, S1) => (Outcome.threw c, (wput A (Cu_d side) S1 (pm_new h 6 (.inr (c, []))))) | .inr S1 => (Outcome.returned none, (wput A (Cu_d side) S1 h))) := by
  intro q3 q4 q5 q6
  simp only [f1221_13] at e
  rw [g1221_13, b1221_13]
  by_cases k1 : y1 ≤ 0
  · rw [if_pos k1] at e
    by_cases k2 : x1 = 0
    · rw [if_pos k2] at e
      have k3 := y1221_16 (h := h) hP hA hD e
      simp -implicitDefEqProofs (disch := first | assumption | exact Nat.le_of_ble_eq_true rfl | decide) only [b1221_0, g1221_3, b1221_3, g1221_5, b1221_5, g1221_7, b1221_7, g1221_8, b1221_8, g1221_9, b1221_9, g1221_12, b1221_12, g1221_14, b1221_14, g1221_15, b1221_15, g1221_17, b1221_17, pe_sipush, pe_istore2, pe_istore3, pe_aload0, pe_getfield, pe_isub, pe_call2, pm_af_ret, pm_af_void, pm_af_thr, pe_istore4, pe_goto_w, pe_iload4, pe_iadd, pe_icmp_gt, pe_icmp_ge, pe_istore5, pe_iload5, pe_call3, pe_if_eq, pe_aaload, pe_iaload, pe_icmp_le, pe_goto, pe_istore6, pe_iload2, pe_iload6, pe_iload3, pe_baload, pe_ior, pe_iinc5, pe_iinc4, pe_iload1, pe_if_ne, pe_if_le, pe_putfield, pe_dup_i, pe_dup_r, pe_call1, pe_return, pm_prog_1, pm_ob_some, Nat.reduceDiv, Nat.reduceMod, Nat.reduceMul, Nat.reduceAdd, Int.reduceToNat, pm_kill_i, pm_kill_r, pm_kill_n, pm_kill_j, pm_kill_l, pm_kill_d, pm_cats_nil, pm_cats_i, pm_cats_r, pm_cats_n, pm_cats_l, pm_cats_d, sz_1, sz_2, sl_1, sl_2, lc_0, lc_lt, lc_le, li_ne, va_rf, wr_m1, we_m1, pm_kill_w, Int32.reduceOfInt, Int64.reduceOfInt, Int32.reduceOfNat, Int32.reduceLT, Int32.reduceLE, Prod.mk.injEq, Nat.reduceEqDiff, reduceCtorEq, and_true, true_and, and_false, false_and, and_self, ite_true, ite_false, ↓reduceIte, not_true_eq_false, not_false_eq_true, pe_ri, pe_rz, pe_rc, p_throw, t1221, w_junk hA, Cu_g1_0 hP hA, Cu_g1_1 hP hA, Cu_g1_3 hP hA, Cu_g10_0 hP hA, Cu_g10_1 hP hA, Cu_g11_0 hP hA, Cu_g11_2 hP hA, Cu_g11_3 hP hA, Cu_g11_4 hP hA, Cu_g11_5 hP hA, Cu_g11_6 hP hA, Cu_g11_7 hP hA, Cu_g11_8 hP hA, Cu_p11_6 hP hA, Cu_p11_7 hP hA, Cu_p11_8 hP hA, Cu_r13 hP hA, Cu_r2 hP hA, Cu_r3 hP hA, Cu_r6 hP hA, eq_true k1, eq_true k2, k3]
    · rw [if_neg k2] at e
      by_cases k4 : 0 ≤ (S.1 (11, 0, 0) 5) ∧ (S.1 (11, 0, 0) 5) < 4
      · rw [if_pos k4] at e
        have k5 := y1221_16 (h := h) hP hA hD e
        try simp only [wr_m1, wr_p (A := A) (f := 10) (wz_lt k4)] at k5
        simp -implicitDefEqProofs (disch := first | assumption | exact Nat.le_of_ble_eq_true rfl | decide) only [b1221_0, g1221_3, b1221_3, g1221_5, b1221_5, g1221_7, b1221_7, g1221_8, b1221_8, g1221_9, b1221_9, g1221_12, b1221_12, g1221_14, b1221_14, g1221_15, b1221_15, g1221_17, b1221_17, pe_sipush, pe_istore2, pe_istore3, pe_aload0, pe_getfield, pe_isub, pe_call2, pm_af_ret, pm_af_void, pm_af_thr, pe_istore4, pe_goto_w, pe_iload4, pe_iadd, pe_icmp_gt, pe_icmp_ge, pe_istore5, pe_iload5, pe_call3, pe_if_eq, pe_aaload, pe_iaload, pe_icmp_le, pe_goto, pe_istore6, pe_iload2, pe_iload6, pe_iload3, pe_baload, pe_ior, pe_iinc5, pe_iinc4, pe_iload1, pe_if_ne, pe_if_le, pe_putfield, pe_dup_i, pe_dup_r, pe_call1, pe_return, pm_prog_1, pm_ob_some, Nat.reduceDiv, Nat.reduceMod, Nat.reduceMul, Nat.reduceAdd, Int.reduceToNat, pm_kill_i, pm_kill_r, pm_kill_n, pm_kill_j, pm_kill_l, pm_kill_d, pm_cats_nil, pm_cats_i, pm_cats_r, pm_cats_n, pm_cats_l, pm_cats_d, sz_1, sz_2, sl_1, sl_2, lc_0, lc_lt, lc_le, li_ne, va_rf, wr_m1, we_m1, pm_kill_w, Int32.reduceOfInt, Int64.reduceOfInt, Int32.reduceOfNat, Int32.reduceLT, Int32.reduceLE, Prod.mk.injEq, Nat.reduceEqDiff, reduceCtorEq, and_true, true_and, and_false, false_and, and_self, ite_true, ite_false, ↓reduceIte, not_true_eq_false, not_false_eq_true, pe_ri, pe_rz, pe_rc, p_throw, t1221, w_junk hA, Cu_g1_0 hP hA, Cu_g1_1 hP hA, Cu_g1_3 hP hA, Cu_g10_0 hP hA, Cu_g10_1 hP hA, Cu_g11_0 hP hA, Cu_g11_2 hP hA, Cu_g11_3 hP hA, Cu_g11_4 hP hA, Cu_g11_5 hP hA, Cu_g11_6 hP hA, Cu_g11_7 hP hA, Cu_g11_8 hP hA, Cu_p11_6 hP hA, Cu_p11_7 hP hA, Cu_p11_8 hP hA, Cu_r13 hP hA, Cu_r2 hP hA, Cu_r3 hP hA, Cu_r6 hP hA, eq_true k1, eq_false k2, wr_p (A := A) (f := 10) (wz_lt k4), we_p (A := A) (f := 10) (wz_lt k4), k5]
      · rw [if_neg k4] at e; cases e
  · rw [if_neg k1] at e
    have e := Option.some.inj e; subst e
    simp -implicitDefEqProofs (disch := first | assumption | exact Nat.le_of_ble_eq_true rfl | decide) only [b1221_0, g1221_3, b1221_3, g1221_5, b1221_5, g1221_7, b1221_7, g1221_8, b1221_8, g1221_9, b1221_9, g1221_12, b1221_12, g1221_14, b1221_14, g1221_15, b1221_15, g1221_17, b1221_17, pe_sipush, pe_istore2, pe_istore3, pe_aload0, pe_getfield, pe_isub, pe_call2, pm_af_ret, pm_af_void, pm_af_thr, pe_istore4, pe_goto_w, pe_iload4, pe_iadd, pe_icmp_gt, pe_icmp_ge, pe_istore5, pe_iload5, pe_call3, pe_if_eq, pe_aaload, pe_iaload, pe_icmp_le, pe_goto, pe_istore6, pe_iload2, pe_iload6, pe_iload3, pe_baload, pe_ior, pe_iinc5, pe_iinc4, pe_iload1, pe_if_ne, pe_if_le, pe_putfield, pe_dup_i, pe_dup_r, pe_call1, pe_return, pm_prog_1, pm_ob_some, Nat.reduceDiv, Nat.reduceMod, Nat.reduceMul, Nat.reduceAdd, Int.reduceToNat, pm_kill_i, pm_kill_r, pm_kill_n, pm_kill_j, pm_kill_l, pm_kill_d, pm_cats_nil, pm_cats_i, pm_cats_r, pm_cats_n, pm_cats_l, pm_cats_d, sz_1, sz_2, sl_1, sl_2, lc_0, lc_lt, lc_le, li_ne, va_rf, wr_m1, we_m1, pm_kill_w, Int32.reduceOfInt, Int64.reduceOfInt, Int32.reduceOfNat, Int32.reduceLT, Int32.reduceLE, Prod.mk.injEq, Nat.reduceEqDiff, reduceCtorEq, and_true, true_and, and_false, false_and, and_self, ite_true, ite_false, ↓reduceIte, not_true_eq_false, not_false_eq_true, pe_ri, pe_rz, pe_rc, p_throw, t1221, w_junk hA, Cu_g1_0 hP hA, Cu_g1_1 hP hA, Cu_g1_3 hP hA, Cu_g10_0 hP hA, Cu_g10_1 hP hA, Cu_g11_0 hP hA, Cu_g11_2 hP hA, Cu_g11_3 hP hA, Cu_g11_4 hP hA, Cu_g11_5 hP hA, Cu_g11_6 hP hA, Cu_g11_7 hP hA, Cu_g11_8 hP hA, Cu_p11_6 hP hA, Cu_p11_7 hP hA, Cu_p11_8 hP hA, Cu_r13 hP hA, Cu_r2 hP hA, Cu_r3 hP hA, Cu_r6 hP hA, eq_false k1]
theorem y1221_11 {side : Int32} {A : wK → Nat} {h : pm_H} {D : Nat} {S : wS} {x1 : Int32} {x2 : Int32} {x3 : Int32} {r : (Nat × wS) ⊕ (wS)} (hP : Cu_P side) (hA : wok A (Cu_d side) h.1) (hD : 2 ≤ D) (e : f1221_11 side S x1 x2 x3 = some r) : ∀ q4 q5 q6 : Value, pm_go pm_prog (pm_call pm_prog D) 1221 11 [.ref (A (11, 0, 0)), .int x1, .int x2, .int x3, q4, q5, q6] [.ref (A (11, 0, 0))] (wput A (Cu_d side) S h) = some (match (generalizing := false) r with | .inl (c, S1) => (Outcome.threw c, (wput A (Cu_d side) S1 (pm_new h 6 (.inr (c, []))))) | .inr S1 => (Outcome.returned none, (wput A (Cu_d side) S1 h))) := by
  intro q4 q5 q6
  simp only [f1221_11] at e
  rw [g1221_11, b1221_11]
  by_cases k1 : x3 = 0
  · rw [if_pos k1] at e
    have k2 := y1221_13 (h := h) hP hA hD e
    simp -implicitDefEqProofs (disch := first | assumption | exact Nat.le_of_ble_eq_true rfl | decide) only [b1221_0, g1221_3, b1221_3, g1221_5, b1221_5, g1221_7, b1221_7, g1221_8, b1221_8, g1221_9, b1221_9, g1221_12, b1221_12, g1221_14, b1221_14, g1221_15, b1221_15, g1221_17, b1221_17, pe_sipush, pe_istore2, pe_istore3, pe_aload0, pe_getfield, pe_isub, pe_call2, pm_af_ret, pm_af_void, pm_af_thr, pe_istore4, pe_goto_w, pe_iload4, pe_iadd, pe_icmp_gt, pe_icmp_ge, pe_istore5, pe_iload5, pe_call3, pe_if_eq, pe_aaload, pe_iaload, pe_icmp_le, pe_goto, pe_istore6, pe_iload2, pe_iload6, pe_iload3, pe_baload, pe_ior, pe_iinc5, pe_iinc4, pe_iload1, pe_if_ne, pe_if_le, pe_putfield, pe_dup_i, pe_dup_r, pe_call1, pe_return, pm_prog_1, pm_ob_some, Nat.reduceDiv, Nat.reduceMod, Nat.reduceMul, Nat.reduceAdd, Int.reduceToNat, pm_kill_i, pm_kill_r, pm_kill_n, pm_kill_j, pm_kill_l, pm_kill_d, pm_cats_nil, pm_cats_i, pm_cats_r, pm_cats_n, pm_cats_l, pm_cats_d, sz_1, sz_2, sl_1, sl_2, lc_0, lc_lt, lc_le, li_ne, va_rf, wr_m1, we_m1, pm_kill_w, Int32.reduceOfInt, Int64.reduceOfInt, Int32.reduceOfNat, Int32.reduceLT, Int32.reduceLE, Prod.mk.injEq, Nat.reduceEqDiff, reduceCtorEq, and_true, true_and, and_false, false_and, and_self, ite_true, ite_false, ↓reduceIte, not_true_eq_false, not_false_eq_true, pe_ri, pe_rz, pe_rc, p_throw, t1221, w_junk hA, Cu_g1_0 hP hA, Cu_g1_1 hP hA, Cu_g1_3 hP hA, Cu_g10_0 hP hA, Cu_g10_1 hP hA, Cu_g11_0 hP hA, Cu_g11_2 hP hA, Cu_g11_3 hP hA, Cu_g11_4 hP hA, Cu_g11_5 hP hA, Cu_g11_6 hP hA, Cu_g11_7 hP hA, Cu_g11_8 hP hA, Cu_p11_6 hP hA, Cu_p11_7 hP hA, Cu_p11_8 hP hA, Cu_r13 hP hA, Cu_r2 hP hA, Cu_r3 hP hA, Cu_r6 hP hA, eq_true k1, k2]
  · rw [if_neg k1] at e
    have k3 := y1221_13 (h := h) hP hA hD e
    simp -implicitDefEqProofs (disch := first | assumption | exact Nat.le_of_ble_eq_true rfl | decide) only [b1221_0, g1221_3, b1221_3, g1221_5, b1221_5, g1221_7, b1221_7, g1221_8, b1221_8, g1221_9, b1221_9, g1221_12, b1221_12, g1221_14, b1221_14, g1221_15, b1221_15, g1221_17, b1221_17, pe_sipush, pe_istore2, pe_istore3, pe_aload0, pe_getfield, pe_isub, pe_call2, pm_af_ret, pm_af_void, pm_af_thr, pe_istore4, pe_goto_w, pe_iload4, pe_iadd, pe_icmp_gt, pe_icmp_ge, pe_istore5, pe_iload5, pe_call3, pe_if_eq, pe_aaload, pe_iaload, pe_icmp_le, pe_goto, pe_istore6, pe_iload2, pe_iload6, pe_iload3, pe_baload, pe_ior, pe_iinc5, pe_iinc4, pe_iload1, pe_if_ne, pe_if_le, pe_putfield, pe_dup_i, pe_dup_r, pe_call1, pe_return, pm_prog_1, pm_ob_some, Nat.reduceDiv, Nat.reduceMod, Nat.reduceMul, Nat.reduceAdd, Int.reduceToNat, pm_kill_i, pm_kill_r, pm_kill_n, pm_kill_j, pm_kill_l, pm_kill_d, pm_cats_nil, pm_cats_i, pm_cats_r, pm_cats_n, pm_cats_l, pm_cats_d, sz_1, sz_2, sl_1, sl_2, lc_0, lc_lt, lc_le, li_ne, va_rf, wr_m1, we_m1, pm_kill_w, Int32.reduceOfInt, Int64.reduceOfInt, Int32.reduceOfNat, Int32.reduceLT, Int32.reduceLE, Prod.mk.injEq, Nat.reduceEqDiff, reduceCtorEq, and_true, true_and, and_false, false_and, and_self, ite_true, ite_false, ↓reduceIte, not_true_eq_false, not_false_eq_true, pe_ri, pe_rz, pe_rc, p_throw, t1221, w_junk hA, Cu_g1_0 hP hA, Cu_g1_1 hP hA, Cu_g1_3 hP hA, Cu_g10_0 hP hA, Cu_g10_1 hP hA, Cu_g11_0 hP hA, Cu_g11_2 hP hA, Cu_g11_3 hP hA, Cu_g11_4 hP hA, Cu_g11_5 hP hA, Cu_g11_6 hP hA, Cu_g11_7 hP hA, Cu_g11_8 hP hA, Cu_p11_6 hP hA, Cu_p11_7 hP hA, Cu_p11_8 hP hA, Cu_r13 hP hA, Cu_r2 hP hA, Cu_r3 hP hA, Cu_r6 hP hA, eq_false k1, k3]
theorem y1221_10 {side : Int32} {A : wK → Nat} {h : pm_H} {D : Nat} {S : wS} {x1 : Int32} {x2 : Int32} {x3 : Int32} {r : (Nat × wS) ⊕ (wS)} (hP : Cu_P side) (hA : wok A (Cu_d side) h.1) (hD : 2 ≤ D) (e : f1221_10 side S x1 x2 x3 = some r) : ∀ q4 q5 q6 : Value, pm_go pm_prog (pm_call pm_prog D) 1221 10 [.ref (A (11, 0, 0)), .int x1, .int x2, .int x3, q4, q5, q6] [] (wput A (Cu_d side) S h) = some (match (generalizing := false) r with | .inl (c, S1) => (Outcome.threw c, (wput A (Cu_d side) S1 (pm_new h 6 (.inr (c, []))))) | .inr S1 => (Outcome.returned none, (wput A (Cu_d side) S1 h))) := by
  intro q4 q5 q6
  simp only [f1221_10] at e
  rw [g1221_10, b1221_10]
  by_cases k1 : x1 = 0
  · rw [if_pos k1] at e
    by_cases k2 : x2 ≤ 0
    · rw [if_pos k2] at e
      have k3 := y1221_11 (h := h) hP hA hD e
      simp -implicitDefEqProofs (disch := first | assumption | exact Nat.le_of_ble_eq_true rfl | decide) only [b1221_0, g1221_3, b1221_3, g1221_5, b1221_5, g1221_7, b1221_7, g1221_8, b1221_8, g1221_9, b1221_9, g1221_12, b1221_12, g1221_14, b1221_14, g1221_15, b1221_15, g1221_17, b1221_17, pe_sipush, pe_istore2, pe_istore3, pe_aload0, pe_getfield, pe_isub, pe_call2, pm_af_ret, pm_af_void, pm_af_thr, pe_istore4, pe_goto_w, pe_iload4, pe_iadd, pe_icmp_gt, pe_icmp_ge, pe_istore5, pe_iload5, pe_call3, pe_if_eq, pe_aaload, pe_iaload, pe_icmp_le, pe_goto, pe_istore6, pe_iload2, pe_iload6, pe_iload3, pe_baload, pe_ior, pe_iinc5, pe_iinc4, pe_iload1, pe_if_ne, pe_if_le, pe_putfield, pe_dup_i, pe_dup_r, pe_call1, pe_return, pm_prog_1, pm_ob_some, Nat.reduceDiv, Nat.reduceMod, Nat.reduceMul, Nat.reduceAdd, Int.reduceToNat, pm_kill_i, pm_kill_r, pm_kill_n, pm_kill_j, pm_kill_l, pm_kill_d, pm_cats_nil, pm_cats_i, pm_cats_r, pm_cats_n, pm_cats_l, pm_cats_d, sz_1, sz_2, sl_1, sl_2, lc_0, lc_lt, lc_le, li_ne, va_rf, wr_m1, we_m1, pm_kill_w, Int32.reduceOfInt, Int64.reduceOfInt, Int32.reduceOfNat, Int32.reduceLT, Int32.reduceLE, Prod.mk.injEq, Nat.reduceEqDiff, reduceCtorEq, and_true, true_and, and_false, false_and, and_self, ite_true, ite_false, ↓reduceIte, not_true_eq_false, not_false_eq_true, pe_ri, pe_rz, pe_rc, p_throw, t1221, w_junk hA, Cu_g1_0 hP hA, Cu_g1_1 hP hA, Cu_g1_3 hP hA, Cu_g10_0 hP hA, Cu_g10_1 hP hA, Cu_g11_0 hP hA, Cu_g11_2 hP hA, Cu_g11_3 hP hA, Cu_g11_4 hP hA, Cu_g11_5 hP hA, Cu_g11_6 hP hA, Cu_g11_7 hP hA, Cu_g11_8 hP hA, Cu_p11_6 hP hA, Cu_p11_7 hP hA, Cu_p11_8 hP hA, Cu_r13 hP hA, Cu_r2 hP hA, Cu_r3 hP hA, Cu_r6 hP hA, eq_true k1, eq_true k2, k3]
    · rw [if_neg k2] at e
      have k4 := y1221_13 (h := h) hP hA hD e
      simp -implicitDefEqProofs (disch := first | assumption | exact Nat.le_of_ble_eq_true rfl | decide) only [b1221_0, g1221_3, b1221_3, g1221_5, b1221_5, g1221_7, b1221_7, g1221_8, b1221_8, g1221_9, b1221_9, g1221_12, b1221_12, g1221_14, b1221_14, g1221_15, b1221_15, g1221_17, b1221_17, pe_sipush, pe_istore2, pe_istore3, pe_aload0, pe_getfield, pe_isub, pe_call2, pm_af_ret, pm_af_void, pm_af_thr, pe_istore4, pe_goto_w, pe_iload4, pe_iadd, pe_icmp_gt, pe_icmp_ge, pe_istore5, pe_iload5, pe_call3, pe_if_eq, pe_aaload, pe_iaload, pe_icmp_le, pe_goto, pe_istore6, pe_iload2, pe_iload6, pe_iload3, pe_baload, pe_ior, pe_iinc5, pe_iinc4, pe_iload1, pe_if_ne, pe_if_le, pe_putfield, pe_dup_i, pe_dup_r, pe_call1, pe_return, pm_prog_1, pm_ob_some, Nat.reduceDiv, Nat.reduceMod, Nat.reduceMul, Nat.reduceAdd, Int.reduceToNat, pm_kill_i, pm_kill_r, pm_kill_n, pm_kill_j, pm_kill_l, pm_kill_d, pm_cats_nil, pm_cats_i, pm_cats_r, pm_cats_n, pm_cats_l, pm_cats_d, sz_1, sz_2, sl_1, sl_2, lc_0, lc_lt, lc_le, li_ne, va_rf, wr_m1, we_m1, pm_kill_w, Int32.reduceOfInt, Int64.reduceOfInt, Int32.reduceOfNat, Int32.reduceLT, Int32.reduceLE, Prod.mk.injEq, Nat.reduceEqDiff, reduceCtorEq, and_true, true_and, and_false, false_and, and_self, ite_true, ite_false, ↓reduceIte, not_true_eq_false, not_false_eq_true, pe_ri, pe_rz, pe_rc, p_throw, t1221, w_junk hA, Cu_g1_0 hP hA, Cu_g1_1 hP hA, Cu_g1_3 hP hA, Cu_g10_0 hP hA, Cu_g10_1 hP hA, Cu_g11_0 hP hA, Cu_g11_2 hP hA, Cu_g11_3 hP hA, Cu_g11_4 hP hA, Cu_g11_5 hP hA, Cu_g11_6 hP hA, Cu_g11_7 hP hA, Cu_g11_8 hP hA, Cu_p11_6 hP hA, Cu_p11_7 hP hA, Cu_p11_8 hP hA, Cu_r13 hP hA, Cu_r2 hP hA, Cu_r3 hP hA, Cu_r6 hP hA, eq_true k1, eq_false k2, k4]
  · rw [if_neg k1] at e
    have k5 := y1221_11 (h := h) hP hA hD e
    simp -implicitDefEqProofs (disch := first | assumption | exact Nat.le_of_ble_eq_true rfl | decide) only [b1221_0, g1221_3, b1221_3, g1221_5, b1221_5, g1221_7, b1221_7, g1221_8, b1221_8, g1221_9, b1221_9, g1221_12, b1221_12, g1221_14, b1221_14, g1221_15, b1221_15, g1221_17, b1221_17, pe_sipush, pe_istore2, pe_istore3, pe_aload0, pe_getfield, pe_isub, pe_call2, pm_af_ret, pm_af_void, pm_af_thr, pe_istore4, pe_goto_w, pe_iload4, pe_iadd, pe_icmp_gt, pe_icmp_ge, pe_istore5, pe_iload5, pe_call3, pe_if_eq, pe_aaload, pe_iaload, pe_icmp_le, pe_goto, pe_istore6, pe_iload2, pe_iload6, pe_iload3, pe_baload, pe_ior, pe_iinc5, pe_iinc4, pe_iload1, pe_if_ne, pe_if_le, pe_putfield, pe_dup_i, pe_dup_r, pe_call1, pe_return, pm_prog_1, pm_ob_some, Nat.reduceDiv, Nat.reduceMod, Nat.reduceMul, Nat.reduceAdd, Int.reduceToNat, pm_kill_i, pm_kill_r, pm_kill_n, pm_kill_j, pm_kill_l, pm_kill_d, pm_cats_nil, pm_cats_i, pm_cats_r, pm_cats_n, pm_cats_l, pm_cats_d, sz_1, sz_2, sl_1, sl_2, lc_0, lc_lt, lc_le, li_ne, va_rf, wr_m1, we_m1, pm_kill_w, Int32.reduceOfInt, Int64.reduceOfInt, Int32.reduceOfNat, Int32.reduceLT, Int32.reduceLE, Prod.mk.injEq, Nat.reduceEqDiff, reduceCtorEq, and_true, true_and, and_false, false_and, and_self, ite_true, ite_false, ↓reduceIte, not_true_eq_false, not_false_eq_true, pe_ri, pe_rz, pe_rc, p_throw, t1221, w_junk hA, Cu_g1_0 hP hA, Cu_g1_1 hP hA, Cu_g1_3 hP hA, Cu_g10_0 hP hA, Cu_g10_1 hP hA, Cu_g11_0 hP hA, Cu_g11_2 hP hA, Cu_g11_3 hP hA, Cu_g11_4 hP hA, Cu_g11_5 hP hA, Cu_g11_6 hP hA, Cu_g11_7 hP hA, Cu_g11_8 hP hA, Cu_p11_6 hP hA, Cu_p11_7 hP hA, Cu_p11_8 hP hA, Cu_r13 hP hA, Cu_r2 hP hA, Cu_r3 hP hA, Cu_r6 hP hA, eq_false k1, k5]
theorem x1221 {side : Int32} {A : wK → Nat} {h : pm_H} {D : Nat} {S : wS} {x1 : Int32} {r : (Nat × wS) ⊕ (wS)} (hP : Cu_P side) (hA : wok A (Cu_d side) h.1) (hD : 3 ≤ D) (e : f1221 side S x1 = some r) : pm_call pm_prog D 1221 [.ref (A (11, 0, 0)), .int x1] (wput A (Cu_d side) S h) = some (match (generalizing := false) r with | .inl (c, S1) => (Outcome.threw c, (wput A (Cu_d side) S1 (pm_new h 6 (.inr (c, []))))) | .inr S1 => (Outcome.returned none, (wput A (Cu_d side) S1 h))) := by
  obtain ⟨D, rfl⟩ : ∃ D', D = D' + 1 := ⟨D - 1, by omega⟩
  have hD : 2 ≤ D := by omega
  simp only [f1221] at e
  rw [c1221 (Cu_c11 hP hA), b1221_0]
  by_cases k1 : 0 ≤ (S.1 (11, 0, 0) 5) ∧ (S.1 (11, 0, 0) 5) < 4
  · rw [if_pos k1] at e
    obtain ⟨v1, k2, e⟩ := Option.bind_eq_some_iff.mp e
    try dsimp only at e
    have z2 := fun h => x3841 (D := D) (h := h) (by omega) k2
    obtain ⟨⟨v10, v11, v12⟩, k3, e⟩ := Option.bind_eq_some_iff.mp e
    try dsimp only at e
    try simp -implicitDefEqProofs (disch := first | assumption | exact Nat.le_of_ble_eq_true rfl | decide) only [b1221_0, g1221_3, b1221_3, g1221_5, b1221_5, g1221_7, b1221_7, g1221_8, b1221_8, g1221_9, b1221_9, g1221_12, b1221_12, g1221_14, b1221_14, g1221_15, b1221_15, g1221_17, b1221_17, pe_sipush, pe_istore2, pe_istore3, pe_aload0, pe_getfield, pe_isub, pe_call2, pm_af_ret, pm_af_void, pm_af_thr, pe_istore4, pe_goto_w, pe_iload4, pe_iadd, pe_icmp_gt, pe_icmp_ge, pe_istore5, pe_iload5, pe_call3, pe_if_eq, pe_aaload, pe_iaload, pe_icmp_le, pe_goto, pe_istore6, pe_iload2, pe_iload6, pe_iload3, pe_baload, pe_ior, pe_iinc5, pe_iinc4, pe_iload1, pe_if_ne, pe_if_le, pe_putfield, pe_dup_i, pe_dup_r, pe_call1, pe_return, pm_prog_1, pm_ob_some, Nat.reduceDiv, Nat.reduceMod, Nat.reduceMul, Nat.reduceAdd, Int.reduceToNat, pm_kill_i, pm_kill_r, pm_kill_n, pm_kill_j, pm_kill_l, pm_kill_d, pm_cats_nil, pm_cats_i, pm_cats_r, pm_cats_n, pm_cats_l, pm_cats_d, sz_1, sz_2, sl_1, sl_2, lc_0, lc_lt, lc_le, li_ne, va_rf, wr_m1, we_m1, pm_kill_w, Int32.reduceOfInt, Int64.reduceOfInt, Int32.reduceOfNat, Int32.reduceLT, Int32.reduceLE, Prod.mk.injEq, Nat.reduceEqDiff, reduceCtorEq, and_true, true_and, and_false, false_and, and_self, ite_true, ite_false, ↓reduceIte, not_true_eq_false, not_false_eq_true, pe_ri, pe_rz, pe_rc, p_throw, t1221, w_junk hA, Cu_g1_0 hP hA, Cu_g1_1 hP hA, Cu_g1_3 hP hA, Cu_g10_0 hP hA, Cu_g10_1 hP hA, Cu_g11_0 hP hA, Cu_g11_2 hP hA, Cu_g11_3 hP hA, Cu_g11_4 hP hA, Cu_g11_5 hP hA, Cu_g11_6 hP hA, Cu_g11_7 hP hA, Cu_g11_8 hP hA, Cu_p11_6 hP hA, Cu_p11_7 hP hA, Cu_p11_8 hP hA, Cu_r13 hP hA, Cu_r2 hP hA, Cu_r3 hP hA, Cu_r6 hP hA, wr_p (A := A) (f := 10) (wz_lt k1), we_p (A := A) (f := 10) (wz_lt k1), z2]
    refine (show _ = _ → _ = _ by
      intro gg; try simp only [wr_m1, wr_p (A := A) (f := 10) (wz_lt k1)] at gg
      exact gg) (z1221_1 hP hA hD k3 ?_ _ _)
    dsimp only [ex1221_1]
    intro q4 q5 q6
    have k4 := y1221_10 (h := h) hP hA hD e
    try simp only [wr_m1, wr_p (A := A) (f := 10) (wz_lt k1)] at k4
    simp -implicitDefEqProofs (disch := first | assumption | exact Nat.le_of_ble_eq_true rfl | decide) only [b1221_0, g1221_3, b1221_3, g1221_5, b1221_5, g1221_7, b1221_7, g1221_8, b1221_8, g1221_9, b1221_9, g1221_12, b1221_12, g1221_14, b1221_14, g1221_15, b1221_15, g1221_17, b1221_17, pe_sipush, pe_istore2, pe_istore3, pe_aload0, pe_getfield, pe_isub, pe_call2, pm_af_ret, pm_af_void, pm_af_thr, pe_istore4, pe_goto_w, pe_iload4, pe_iadd, pe_icmp_gt, pe_icmp_ge, pe_istore5, pe_iload5, pe_call3, pe_if_eq, pe_aaload, pe_iaload, pe_icmp_le, pe_goto, pe_istore6, pe_iload2, pe_iload6, pe_iload3, pe_baload, pe_ior, pe_iinc5, pe_iinc4, pe_iload1, pe_if_ne, pe_if_le, pe_putfield, pe_dup_i, pe_dup_r, pe_call1, pe_return, pm_prog_1, pm_ob_some, Nat.reduceDiv, Nat.reduceMod, Nat.reduceMul, Nat.reduceAdd, Int.reduceToNat, pm_kill_i, pm_kill_r, pm_kill_n, pm_kill_j, pm_kill_l, pm_kill_d, pm_cats_nil, pm_cats_i, pm_cats_r, pm_cats_n, pm_cats_l, pm_cats_d, sz_1, sz_2, sl_1, sl_2, lc_0, lc_lt, lc_le, li_ne, va_rf, wr_m1, we_m1, pm_kill_w, Int32.reduceOfInt, Int64.reduceOfInt, Int32.reduceOfNat, Int32.reduceLT, Int32.reduceLE, Prod.mk.injEq, Nat.reduceEqDiff, reduceCtorEq, and_true, true_and, and_false, false_and, and_self, ite_true, ite_false, ↓reduceIte, not_true_eq_false, not_false_eq_true, pe_ri, pe_rz, pe_rc, p_throw, t1221, w_junk hA, Cu_g1_0 hP hA, Cu_g1_1 hP hA, Cu_g1_3 hP hA, Cu_g10_0 hP hA, Cu_g10_1 hP hA, Cu_g11_0 hP hA, Cu_g11_2 hP hA, Cu_g11_3 hP hA, Cu_g11_4 hP hA, Cu_g11_5 hP hA, Cu_g11_6 hP hA, Cu_g11_7 hP hA, Cu_g11_8 hP hA, Cu_p11_6 hP hA, Cu_p11_7 hP hA, Cu_p11_8 hP hA, Cu_r13 hP hA, Cu_r2 hP hA, Cu_r3 hP hA, Cu_r6 hP hA, wr_p (A := A) (f := 10) (wz_lt k1), we_p (A := A) (f := 10) (wz_lt k1), z2, k4]
  · rw [if_neg k1] at e; cases e
/-- TimberHouse$RouterPaths$Machine.go(ZIII)V -/
theorem c1219 {d : Nat} {h : pm_H} {a : Nat} {x0 : Int32} {x1 : Int32} {x2 : Int32} {x3 : Int32} (hc : pm_cls h a = some 19) : pm_call pm_prog (d + 1) 1219 [.ref a, .int x0, .int x1, .int x2, .int x3] h = pm_ev pm_prog (pm_call pm_prog d) 1219 0 b1219_0 [.ref a, .int x0, .int x1, .int x2, .int x3, pm_junk, pm_junk, pm_junk, pm_junk, pm_junk, pm_junk, pm_junk, pm_junk] [] h := pm_cal (pm_rc1 hc rfl) rfl rfl rfl
theorem g1219_1 {cl : pm_C} {ls st : List Value} {h : pm_H} : pm_go pm_prog cl 1219 1 ls st h = pm_ev pm_prog cl 1219 1 b1219_1 ls st h := pm_go_eq pm_prog cl 1219 1 ls st h
theorem g1219_2 {cl : pm_C} {ls st : List Value} {h : pm_H} : pm_go pm_prog cl 1219 2 ls st h = pm_ev pm_prog cl 1219 2 b1219_2 ls st h := pm_go_eq pm_prog cl 1219 2 ls st h
theorem g1219_3 {cl : pm_C} {ls st : List Value} {h : pm_H} : pm_go pm_prog cl 1219 3 ls st h = pm_ev pm_prog cl 1219 3 b1219_3 ls st h := pm_go_eq pm_prog cl 1219 3 ls st h
theorem g1219_4 {cl : pm_C} {ls st : List Value} {h : pm_H} : pm_go pm_prog cl 1219 4 ls st h = pm_ev pm_prog cl 1219 4 b1219_4 ls st h := pm_go_eq pm_prog cl 1219 4 ls st h
theorem g1219_5 {cl : pm_C} {ls st : List Value} {h : pm_H} : pm_go pm_prog cl 1219 5 ls st h = pm_ev pm_prog cl 1219 5 b1219_5 ls st h := pm_go_eq pm_prog cl 1219 5 ls st h
theorem g1219_6 {cl : pm_C} {ls st : List Value} {h : pm_H} : pm_go pm_prog cl 1219 6 ls st h = pm_ev pm_prog cl 1219 6 b1219_6 ls st h := pm_go_eq pm_prog cl 1219 6 ls st h
theorem g1219_7 {cl : pm_C} {ls st : List Value} {h : pm_H} : pm_go pm_prog cl 1219 7 ls st h = pm_ev pm_prog cl 1219 7 b1219_7 ls st h := pm_go_eq pm_prog cl 1219 7 ls st h
theorem g1219_8 {cl : pm_C} {ls st : List Value} {h : pm_H} : pm_go pm_prog cl 1219 8 ls st h = pm_ev pm_prog cl 1219 8 b1219_8 ls st h := pm_go_eq pm_prog cl 1219 8 ls st h
theorem t1219 {cl : pm_C} {j : Nat} {ls : List Value} {c : Nat} {h : pm_H} : pm_thr pm_prog cl 1219 j ls c h = some (.threw c, h) := rfl
noncomputable def f1219_b7 (side : Int32) : Int32 × Int32 × Int32 × Int32 × Int32 × Int32 × Int32 × Int32 × Int32 × wS → Option ((Int32 × Int32 × Int32 × Int32 × Int32 × Int32 × Int32 × Int32 × Int32 × wS) ⊕ ((Nat × wS) ⊕ (wS))) := fun (x1, x5, x6, x7, x8, x9, x10, x11, x12, S) =>
  if x12 ≤ x11 then
    (f1220 side S x5 x8 x12 x11).bind fun v6 =>
    (f1220 side (sz S (11, 0, 0) 2 v6) x6 x9 x12 x11).bind fun v7 =>
    (f1220 side (sz (sz S (11, 0, 0) 2 v6) (11, 0, 0) 3 v7) x7 x10 x12 x11).bind fun v8 =>
    (f1221 side (sz (sz (sz S (11, 0, 0) 2 v6) (11, 0, 0) 3 v7) (11, 0, 0) 4 v8) x1).bind fun r => match r with
    | .inl (c10, S11) =>
      some (.inr (.inl (c10, S11)))
    | .inr S9 =>
    some (.inl (x1, x5, x6, x7, x8, x9, x10, x11, (x12 + 1), S9))
  else
    some (.inr (.inr (S)))
noncomputable def f1219_6 (side : Int32) (S : wS) (x1 : Int32) (x5 : Int32) (x6 : Int32) (x7 : Int32) (x8 : Int32) (x9 : Int32) (y0 : Int32) : Option ((Nat × wS) ⊕ (wS)) :=
  (f3844 x8).bind fun v1 =>
  (f3844 x9).bind fun v2 =>
  (f3844 (y0 - (S.1 (11, 0, 0) 4))).bind fun v3 =>
  (f3841 v2 v3).bind fun v4 =>
  (f3841 v1 v4).bind fun v5 =>
  (lp (f1219_b7 side) FU (x1, x5, x6, x7, x8, x9, (y0 - (S.1 (11, 0, 0) 4)), v5, 1, S)).bind fun b => match b with
  | (.inl (c13, S12)) =>
    some (.inl (c13, S12))
  | (.inr (S14)) =>
    some (.inr S14)
noncomputable def f1219_4 (side : Int32) (S : wS) (x1 : Int32) (x4 : Int32) (x5 : Int32) (x6 : Int32) (x7 : Int32) (x8 : Int32) (y0 : Int32) : Option ((Nat × wS) ⊕ (wS)) :=
  if x4 = (-1) then
    f1219_6 side S x1 x5 x6 x7 x8 (y0 - (S.1 (11, 0, 0) 3)) (S.1 (11, 0, 0) 4)
  else
    f1219_6 side S x1 x5 x6 x7 x8 (y0 - (S.1 (11, 0, 0) 3)) x4
noncomputable def f1219_2 (side : Int32) (S : wS) (x1 : Int32) (x3 : Int32) (x4 : Int32) (x5 : Int32) (x6 : Int32) (x7 : Int32) (y0 : Int32) : Option ((Nat × wS) ⊕ (wS)) :=
  if x3 = (-1) then
    f1219_4 side S x1 x4 x5 x6 x7 (y0 - (S.1 (11, 0, 0) 2)) (S.1 (11, 0, 0) 3)
  else
    f1219_4 side S x1 x4 x5 x6 x7 (y0 - (S.1 (11, 0, 0) 2)) x3
/-- TimberHouse$RouterPaths$Machine.go(ZIII)V -/
noncomputable def f1219 (side : Int32) (S : wS) (x1 : Int32) (x2 : Int32) (x3 : Int32) (x4 : Int32) : Option ((Nat × wS) ⊕ (wS)) :=
  if x2 = (-1) then
    f1219_2 side S x1 x3 x4 (S.1 (11, 0, 0) 2) (S.1 (11, 0, 0) 3) (S.1 (11, 0, 0) 4) (S.1 (11, 0, 0) 2)
  else
    f1219_2 side S x1 x3 x4 (S.1 (11, 0, 0) 2) (S.1 (11, 0, 0) 3) (S.1 (11, 0, 0) 4) x2
def go1219_7 (side : Int32) (A : wK → Nat) (h : pm_H) (D : Nat) (R : Outcome × pm_H) : Int32 × Int32 × Int32 × Int32 × Int32 × Int32 × Int32 × Int32 × Int32 × wS → Prop := fun (x1, x5, x6, x7, x8, x9, x10, x11, x12, S) => ∀ q2 q3 q4 : Value, pm_go pm_prog (pm_call pm_prog D) 1219 7 [.ref (A (11, 0, 0)), .int x1, q2, q3, q4, .int x5, .int x6, .int x7, .int x8, .int x9, .int x10, .int x11, .int x12] [] (wput A (Cu_d side) S h) = some R
def ex1219_7 (side : Int32) (A : wK → Nat) (h : pm_H) (D : Nat) (R : Outcome × pm_H) : (Nat × wS) ⊕ (wS) → Prop := fun b => match b with
  | (.inl (xc, S)) => some (Outcome.threw xc, (wput A (Cu_d side) S (pm_new h 6 (.inr (xc, []))))) = some R
  | (.inr (S)) => ∀ q0 q1 q2 q3 q4 q5 q6 q7 q8 q9 q10 q11 q12 : Value, pm_go pm_prog (pm_call pm_prog D) 1219 8 [q0, q1, q2, q3, q4, q5, q6, q7, q8, q9, q10, q11, q12] [] (wput A (Cu_d side) S h) = some R
theorem y1219_b7 {side : Int32} {A : wK → Nat} {h : pm_H} {D : Nat} {R : Outcome × pm_H} (hP : Cu_P side) (hA : wok A (Cu_d side) h.1) (hD : 3 ≤ D) (a : Int32 × Int32 × Int32 × Int32 × Int32 × Int32 × Int32 × Int32 × Int32 × wS) (r : (Int32 × Int32 × Int32 × Int32 × Int32 × Int32 × Int32 × Int32 × Int32 × wS) ⊕ ((Nat × wS) ⊕ (wS))) (e : f1219_b7 side a = some r) (hc : Sum.elim (go1219_7 side A h D R) (ex1219_7 side A h D R) r) : go1219_7 side A h D R a := by
  obtain ⟨x1, x5, x6, x7, x8, x9, x10, x11, x12, S⟩ := a
  dsimp only [go1219_7]
  intro q2 q3 q4
  simp only [f1219_b7] at e
  rw [g1219_7, b1219_7]
  by_cases k1 : x12 ≤ x11
  · rw [if_pos k1] at e
    obtain ⟨v6, k2, e⟩ := Option.bind_eq_some_iff.mp e
    try dsimp only at e
    have z2 := x1220 (D := D) (h := h) hP hA (by omega) k2
    obtain ⟨v7, k3, e⟩ := Option.bind_eq_some_iff.mp e
    try dsimp only at e
    have z3 := x1220 (D := D) (h := h) hP hA (by omega) k3
    obtain ⟨v8, k4, e⟩ := Option.bind_eq_some_iff.mp e
    try dsimp only at e
    have z4 := x1220 (D := D) (h := h) hP hA (by omega) k4
    obtain ⟨r, k5, e⟩ := Option.bind_eq_some_iff.mp e
    have z5 := x1221 (D := D) (h := h) hP hA (by omega) k5
    rcases r with ⟨c10, S11⟩ | S9
    · dsimp only at e z5
      have e := Option.some.inj e; subst e
      dsimp only [Sum.elim_inr, ex1219_7] at hc
      have hc := Option.some.inj hc; subst hc
      simp -implicitDefEqProofs (disch := first | assumption | exact Nat.le_of_ble_eq_true rfl | decide) only [b1219_0, g1219_1, b1219_1, g1219_3, b1219_3, g1219_5, b1219_5, g1219_8, b1219_8, pe_aload0, pe_getfield, pe_istore5, pe_istore6, pe_istore7, pe_iload2, pe_sipush, pe_icmp_ne, pe_goto, pe_goto_w, pe_isub, pe_istore8, pe_iload3, pe_istore9, pe_iload4, pe_istore10, pe_iload8, pe_call1, pm_af_ret, pm_af_void, pm_af_thr, pe_iload9, pe_iload10, pe_call2, pe_istore11, pe_istore12, pe_iload12, pe_iload11, pe_icmp_gt, pe_iload5, pe_call5, pe_putfield, pe_iload6, pe_iload7, pe_iload1, pe_iinc12, pe_return, pm_prog_1, pm_ob_some, Nat.reduceDiv, Nat.reduceMod, Nat.reduceMul, Nat.reduceAdd, Int.reduceToNat, pm_kill_i, pm_kill_r, pm_kill_n, pm_kill_j, pm_kill_l, pm_kill_d, pm_cats_nil, pm_cats_i, pm_cats_r, pm_cats_n, pm_cats_l, pm_cats_d, sz_1, sz_2, sl_1, sl_2, lc_0, lc_lt, lc_le, li_ne, va_rf, wr_m1, we_m1, pm_kill_w, Int32.reduceOfInt, Int64.reduceOfInt, Int32.reduceOfNat, Int32.reduceLT, Int32.reduceLE, Prod.mk.injEq, Nat.reduceEqDiff, reduceCtorEq, and_true, true_and, and_false, false_and, and_self, ite_true, ite_false, ↓reduceIte, not_true_eq_false, not_false_eq_true, pe_ri, pe_rz, pe_rc, p_throw, t1219, w_junk hA, Cu_g11_2 hP hA, Cu_g11_3 hP hA, Cu_g11_4 hP hA, Cu_p11_2 hP hA, Cu_p11_3 hP hA, Cu_p11_4 hP hA, eq_true k1, z2, z3, z4, z5]
    · dsimp only at e z5
      have e := Option.some.inj e; subst e
      dsimp only [Sum.elim_inl, go1219_7] at hc
      simp -implicitDefEqProofs (disch := first | assumption | exact Nat.le_of_ble_eq_true rfl | decide) only [b1219_0, g1219_1, b1219_1, g1219_3, b1219_3, g1219_5, b1219_5, g1219_8, b1219_8, pe_aload0, pe_getfield, pe_istore5, pe_istore6, pe_istore7, pe_iload2, pe_sipush, pe_icmp_ne, pe_goto, pe_goto_w, pe_isub, pe_istore8, pe_iload3, pe_istore9, pe_iload4, pe_istore10, pe_iload8, pe_call1, pm_af_ret, pm_af_void, pm_af_thr, pe_iload9, pe_iload10, pe_call2, pe_istore11, pe_istore12, pe_iload12, pe_iload11, pe_icmp_gt, pe_iload5, pe_call5, pe_putfield, pe_iload6, pe_iload7, pe_iload1, pe_iinc12, pe_return, pm_prog_1, pm_ob_some, Nat.reduceDiv, Nat.reduceMod, Nat.reduceMul, Nat.reduceAdd, Int.reduceToNat, pm_kill_i, pm_kill_r, pm_kill_n, pm_kill_j, pm_kill_l, pm_kill_d, pm_cats_nil, pm_cats_i, pm_cats_r, pm_cats_n, pm_cats_l, pm_cats_d, sz_1, sz_2, sl_1, sl_2, lc_0, lc_lt, lc_le, li_ne, va_rf, wr_m1, we_m1, pm_kill_w, Int32.reduceOfInt, Int64.reduceOfInt, Int32.reduceOfNat, Int32.reduceLT, Int32.reduceLE, Prod.mk.injEq, Nat.reduceEqDiff, reduceCtorEq, and_true, true_and, and_false, false_and, and_self, ite_true, ite_false, ↓reduceIte, not_true_eq_false, not_false_eq_true, pe_ri, pe_rz, pe_rc, p_throw, t1219, w_junk hA, Cu_g11_2 hP hA, Cu_g11_3 hP hA, Cu_g11_4 hP hA, Cu_p11_2 hP hA, Cu_p11_3 hP hA, Cu_p11_4 hP hA, eq_true k1, z2, z3, z4, z5, hc]
  · rw [if_neg k1] at e
    have e := Option.some.inj e; subst e
    dsimp only [Sum.elim_inr, ex1219_7] at hc
    simp -implicitDefEqProofs (disch := first | assumption | exact Nat.le_of_ble_eq_true rfl | decide) only [b1219_0, g1219_1, b1219_1, g1219_3, b1219_3, g1219_5, b1219_5, g1219_8, b1219_8, pe_aload0, pe_getfield, pe_istore5, pe_istore6, pe_istore7, pe_iload2, pe_sipush, pe_icmp_ne, pe_goto, pe_goto_w, pe_isub, pe_istore8, pe_iload3, pe_istore9, pe_iload4, pe_istore10, pe_iload8, pe_call1, pm_af_ret, pm_af_void, pm_af_thr, pe_iload9, pe_iload10, pe_call2, pe_istore11, pe_istore12, pe_iload12, pe_iload11, pe_icmp_gt, pe_iload5, pe_call5, pe_putfield, pe_iload6, pe_iload7, pe_iload1, pe_iinc12, pe_return, pm_prog_1, pm_ob_some, Nat.reduceDiv, Nat.reduceMod, Nat.reduceMul, Nat.reduceAdd, Int.reduceToNat, pm_kill_i, pm_kill_r, pm_kill_n, pm_kill_j, pm_kill_l, pm_kill_d, pm_cats_nil, pm_cats_i, pm_cats_r, pm_cats_n, pm_cats_l, pm_cats_d, sz_1, sz_2, sl_1, sl_2, lc_0, lc_lt, lc_le, li_ne, va_rf, wr_m1, we_m1, pm_kill_w, Int32.reduceOfInt, Int64.reduceOfInt, Int32.reduceOfNat, Int32.reduceLT, Int32.reduceLE, Prod.mk.injEq, Nat.reduceEqDiff, reduceCtorEq, and_true, true_and, and_false, false_and, and_self, ite_true, ite_false, ↓reduceIte, not_true_eq_false, not_false_eq_true, pe_ri, pe_rz, pe_rc, p_throw, t1219, w_junk hA, Cu_g11_2 hP hA, Cu_g11_3 hP hA, Cu_g11_4 hP hA, Cu_p11_2 hP hA, Cu_p11_3 hP hA, Cu_p11_4 hP hA, eq_false k1, hc]
theorem z1219_7 {side : Int32} {A : wK → Nat} {h : pm_H} {D : Nat} {R : Outcome × pm_H} (hP : Cu_P side) (hA : wok A (Cu_d side) h.1) (hD : 3 ≤ D) {n : Nat} {a : Int32 × Int32 × Int32 × Int32 × Int32 × Int32 × Int32 × Int32 × Int32 × wS} {b : (Nat × wS) ⊕ (wS)} (e : lp (f1219_b7 side) n a = some b) (hx : ex1219_7 side A h D R b) : go1219_7 side A h D R a := lp_run (fun a r => y1219_b7 hP hA hD a r) n a b e hx
theorem y1219_6 {side : Int32} {A : wK → Nat} {h : pm_H} {D : Nat} {S : wS} {x1 : Int32} {x5 : Int32} {x6 : Int32} {x7 : Int32} {x8 : Int32} {x9 : Int32} {y0 : Int32} {r : (Nat × wS) ⊕ (wS)} (hP : Cu_P side) (hA : wok A (Cu_d side) h.1) (hD : 3 ≤ D) (e : f1219_6 side S x1 x5 x6 x7 x8 x9 y0 = some r) : ∀ q2 q3 q4 q10 q11 q12 : Value, pm_go pm_prog (pm_call pm_prog D) 1219 6 [.ref (A (11, 0, 0)), .int x1, q2, q3, q4, .int x5, .int x6, .int x7, .int x8, .int x9, q10, q11, q12] [.int y0] (wput A (Cu_d side) S h) = some (match (generalizing := false) r with | .inl (c, S1) => (Outcome.threw c, (wput A (Cu_d side) S1 (pm_new h 6 (.inr (c, []))))) | .inr S1 => (Outcome.returned none, (wput A (Cu_d side) S1 h))) := by
  intro q2 q3 q4 q10 q11 q12
  simp only [f1219_6] at e
  rw [g1219_6, b1219_6]
  obtain ⟨v1, k1, e⟩ := Option.bind_eq_some_iff.mp e
  try dsimp only at e
  have z1 := fun h => x3844 (D := D) (h := h) (by omega) k1
  obtain ⟨v2, k2, e⟩ := Option.bind_eq_some_iff.mp e
  try dsimp only at e
  have z2 := fun h => x3844 (D := D) (h := h) (by omega) k2
  obtain ⟨v3, k3, e⟩ := Option.bind_eq_some_iff.mp e
  try dsimp only at e
  have z3 := fun h => x3844 (D := D) (h := h) (by omega) k3
  obtain ⟨v4, k4, e⟩ := Option.bind_eq_some_iff.mp e
  try dsimp only at e
  have z4 := fun h => x3841 (D := D) (h := h) (by omega) k4
  obtain ⟨v5, k5, e⟩ := Option.bind_eq_some_iff.mp e
  try dsimp only at e
  have z5 := fun h => x3841 (D := D) (h := h) (by omega) k5
  obtain ⟨b, k6, e⟩ := Option.bind_eq_some_iff.mp e
  rcases b with ⟨c13, S12⟩ | S14
  ·
    try dsimp only at e
    try simp -implicitDefEqProofs (disch := first | assumption | exact Nat.le_of_ble_eq_true rfl | decide) only [b1219_0, g1219_1, b1219_1, g1219_3, b1219_3, g1219_5, b1219_5, g1219_8, b1219_8, pe_aload0, pe_getfield, pe_istore5, pe_istore6, pe_istore7, pe_iload2, pe_sipush, pe_icmp_ne, pe_goto, pe_goto_w, pe_isub, pe_istore8, pe_iload3, pe_istore9, pe_iload4, pe_istore10, pe_iload8, pe_call1, pm_af_ret, pm_af_void, pm_af_thr, pe_iload9, pe_iload10, pe_call2, pe_istore11, pe_istore12, pe_iload12, pe_iload11, pe_icmp_gt, pe_iload5, pe_call5, pe_putfield, pe_iload6, pe_iload7, pe_iload1, pe_iinc12, pe_return, pm_prog_1, pm_ob_some, Nat.reduceDiv, Nat.reduceMod, Nat.reduceMul, Nat.reduceAdd, Int.reduceToNat, pm_kill_i, pm_kill_r, pm_kill_n, pm_kill_j, pm_kill_l, pm_kill_d, pm_cats_nil, pm_cats_i, pm_cats_r, pm_cats_n, pm_cats_l, pm_cats_d, sz_1, sz_2, sl_1, sl_2, lc_0, lc_lt, lc_le, li_ne, va_rf, wr_m1, we_m1, pm_kill_w, Int32.reduceOfInt, Int64.reduceOfInt, Int32.reduceOfNat, Int32.reduceLT, Int32.reduceLE, Prod.mk.injEq, Nat.reduceEqDiff, reduceCtorEq, and_true, true_and, and_false, false_and, and_self, ite_true, ite_false, ↓reduceIte, not_true_eq_false, not_false_eq_true, pe_ri, pe_rz, pe_rc, p_throw, t1219, w_junk hA, Cu_g11_2 hP hA, Cu_g11_3 hP hA, Cu_g11_4 hP hA, Cu_p11_2 hP hA, Cu_p11_3 hP hA, Cu_p11_4 hP hA, z1, z2, z3, z4, z5]
    refine z1219_7 hP hA hD k6 ?_ _ _ _
    dsimp only [ex1219_7]
    have e := Option.some.inj e; subst e
    simp -implicitDefEqProofs (disch := first | assumption | exact Nat.le_of_ble_eq_true rfl | decide) only [b1219_0, g1219_1, b1219_1, g1219_3, b1219_3, g1219_5, b1219_5, g1219_8, b1219_8, pe_aload0, pe_getfield, pe_istore5, pe_istore6, pe_istore7, pe_iload2, pe_sipush, pe_icmp_ne, pe_goto, pe_goto_w, pe_isub, pe_istore8, pe_iload3, pe_istore9, pe_iload4, pe_istore10, pe_iload8, pe_call1, pm_af_ret, pm_af_void, pm_af_thr, pe_iload9, pe_iload10, pe_call2, pe_istore11, pe_istore12, pe_iload12, pe_iload11, pe_icmp_gt, pe_iload5, pe_call5, pe_putfield, pe_iload6, pe_iload7, pe_iload1, pe_iinc12, pe_return, pm_prog_1, pm_ob_some, Nat.reduceDiv, Nat.reduceMod, Nat.reduceMul, Nat.reduceAdd, Int.reduceToNat, pm_kill_i, pm_kill_r, pm_kill_n, pm_kill_j, pm_kill_l, pm_kill_d, pm_cats_nil, pm_cats_i, pm_cats_r, pm_cats_n, pm_cats_l, pm_cats_d, sz_1, sz_2, sl_1, sl_2, lc_0, lc_lt, lc_le, li_ne, va_rf, wr_m1, we_m1, pm_kill_w, Int32.reduceOfInt, Int64.reduceOfInt, Int32.reduceOfNat, Int32.reduceLT, Int32.reduceLE, Prod.mk.injEq, Nat.reduceEqDiff, reduceCtorEq, and_true, true_and, and_false, false_and, and_self, ite_true, ite_false, ↓reduceIte, not_true_eq_false, not_false_eq_true, pe_ri, pe_rz, pe_rc, p_throw, t1219, w_junk hA, Cu_g11_2 hP hA, Cu_g11_3 hP hA, Cu_g11_4 hP hA, Cu_p11_2 hP hA, Cu_p11_3 hP hA, Cu_p11_4 hP hA, z1, z2, z3, z4, z5]
  ·
    try dsimp only at e
    try simp -implicitDefEqProofs (disch := first | assumption | exact Nat.le_of_ble_eq_true rfl | decide) only [b1219_0, g1219_1, b1219_1, g1219_3, b1219_3, g1219_5, b1219_5, g1219_8, b1219_8, pe_aload0, pe_getfield, pe_istore5, pe_istore6, pe_istore7, pe_iload2, pe_sipush, pe_icmp_ne, pe_goto, pe_goto_w, pe_isub, pe_istore8, pe_iload3, pe_istore9, pe_iload4, pe_istore10, pe_iload8, pe_call1, pm_af_ret, pm_af_void, pm_af_thr, pe_iload9, pe_iload10, pe_call2, pe_istore11, pe_istore12, pe_iload12, pe_iload11, pe_icmp_gt, pe_iload5, pe_call5, pe_putfield, pe_iload6, pe_iload7, pe_iload1, pe_iinc12, pe_return, pm_prog_1, pm_ob_some, Nat.reduceDiv, Nat.reduceMod, Nat.reduceMul, Nat.reduceAdd, Int.reduceToNat, pm_kill_i, pm_kill_r, pm_kill_n, pm_kill_j, pm_kill_l, pm_kill_d, pm_cats_nil, pm_cats_i, pm_cats_r, pm_cats_n, pm_cats_l, pm_cats_d, sz_1, sz_2, sl_1, sl_2, lc_0, lc_lt, lc_le, li_ne, va_rf, wr_m1, we_m1, pm_kill_w, Int32.reduceOfInt, Int64.reduceOfInt, Int32.reduceOfNat, Int32.reduceLT, Int32.reduceLE, Prod.mk.injEq, Nat.reduceEqDiff, reduceCtorEq, and_true, true_and, and_false, false_and, and_self, ite_true, ite_false, ↓reduceIte, not_true_eq_false, not_false_eq_true, pe_ri, pe_rz, pe_rc, p_throw, t1219, w_junk hA, Cu_g11_2 hP hA, Cu_g11_3 hP hA, Cu_g11_4 hP hA, Cu_p11_2 hP hA, Cu_p11_3 hP hA, Cu_p11_4 hP hA, z1, z2, z3, z4, z5]
    refine z1219_7 hP hA hD k6 ?_ _ _ _
    dsimp only [ex1219_7]
    intro q0 q1 q2 q3 q4 q5 q6 q7 q8 q9 q10 q11 q12
    have e := Option.some.inj e; subst e
    simp -implicitDefEqProofs (disch := first | assumption | exact Nat.le_of_ble_eq_true rfl | decide) only [b1219_0, g1219_1, b1219_1, g1219_3, b1219_3, g1219_5, b1219_5, g1219_8, b1219_8, pe_aload0, pe_getfield, pe_istore5, pe_istore6, pe_istore7, pe_iload2, pe_sipush, pe_icmp_ne, pe_goto, pe_goto_w, pe_isub, pe_istore8, pe_iload3, pe_istore9, pe_iload4, pe_istore10, pe_iload8, pe_call1, pm_af_ret, pm_af_void, pm_af_thr, pe_iload9, pe_iload10, pe_call2, pe_istore11, pe_istore12, pe_iload12, pe_iload11, pe_icmp_gt, pe_iload5, pe_call5, pe_putfield, pe_iload6, pe_iload7, pe_iload1, pe_iinc12, pe_return, pm_prog_1, pm_ob_some, Nat.reduceDiv, Nat.reduceMod, Nat.reduceMul, Nat.reduceAdd, Int.reduceToNat, pm_kill_i, pm_kill_r, pm_kill_n, pm_kill_j, pm_kill_l, pm_kill_d, pm_cats_nil, pm_cats_i, pm_cats_r, pm_cats_n, pm_cats_l, pm_cats_d, sz_1, sz_2, sl_1, sl_2, lc_0, lc_lt, lc_le, li_ne, va_rf, wr_m1, we_m1, pm_kill_w, Int32.reduceOfInt, Int64.reduceOfInt, Int32.reduceOfNat, Int32.reduceLT, Int32.reduceLE, Prod.mk.injEq, Nat.reduceEqDiff, reduceCtorEq, and_true, true_and, and_false, false_and, and_self, ite_true, ite_false, ↓reduceIte, not_true_eq_false, not_false_eq_true, pe_ri, pe_rz, pe_rc, p_throw, t1219, w_junk hA, Cu_g11_2 hP hA, Cu_g11_3 hP hA, Cu_g11_4 hP hA, Cu_p11_2 hP hA, Cu_p11_3 hP hA, Cu_p11_4 hP hA, z1, z2, z3, z4, z5]
theorem y1219_4 {side : Int32} {A : wK → Nat} {h : pm_H} {D : Nat} {S : wS} {x1 : Int32} {x4 : Int32} {x5 : Int32} {x6 : Int32} {x7 : Int32} {x8 : Int32} {y0 : Int32} {r : (Nat × wS) ⊕ (wS)} (hP : Cu_P side) (hA : wok A (Cu_d side) h.1) (hD : 3 ≤ D) (e : f1219_4 side S x1 x4 x5 x6 x7 x8 y0 = some r) : ∀ q2 q3 q9 q10 q11 q12 : Value, pm_go pm_prog (pm_call pm_prog D) 1219 4 [.ref (A (11, 0, 0)), .int x1, q2, q3, .int x4, .int x5, .int x6, .int x7, .int x8, q9, q10, q11, q12] [.int y0] (wput A (Cu_d side) S h) = some (match (generalizing := false) r with | .inl (c, S1) => (Outcome.threw c, (wput A (Cu_d side) S1 (pm_new h 6 (.inr (c, []))))) | .inr S1 => (Outcome.returned none, (wput A (Cu_d side) S1 h))) := by
  intro q2 q3 q9 q10 q11 q12
  simp only [f1219_4] at e
  rw [g1219_4, b1219_4]
  by_cases k1 : x4 = (-1)
  · rw [if_pos k1] at e
    have k2 := y1219_6 (h := h) hP hA hD e
    simp -implicitDefEqProofs (disch := first | assumption | exact Nat.le_of_ble_eq_true rfl | decide) only [b1219_0, g1219_1, b1219_1, g1219_3, b1219_3, g1219_5, b1219_5, g1219_8, b1219_8, pe_aload0, pe_getfield, pe_istore5, pe_istore6, pe_istore7, pe_iload2, pe_sipush, pe_icmp_ne, pe_goto, pe_goto_w, pe_isub, pe_istore8, pe_iload3, pe_istore9, pe_iload4, pe_istore10, pe_iload8, pe_call1, pm_af_ret, pm_af_void, pm_af_thr, pe_iload9, pe_iload10, pe_call2, pe_istore11, pe_istore12, pe_iload12, pe_iload11, pe_icmp_gt, pe_iload5, pe_call5, pe_putfield, pe_iload6, pe_iload7, pe_iload1, pe_iinc12, pe_return, pm_prog_1, pm_ob_some, Nat.reduceDiv, Nat.reduceMod, Nat.reduceMul, Nat.reduceAdd, Int.reduceToNat, pm_kill_i, pm_kill_r, pm_kill_n, pm_kill_j, pm_kill_l, pm_kill_d, pm_cats_nil, pm_cats_i, pm_cats_r, pm_cats_n, pm_cats_l, pm_cats_d, sz_1, sz_2, sl_1, sl_2, lc_0, lc_lt, lc_le, li_ne, va_rf, wr_m1, we_m1, pm_kill_w, Int32.reduceOfInt, Int64.reduceOfInt, Int32.reduceOfNat, Int32.reduceLT, Int32.reduceLE, Prod.mk.injEq, Nat.reduceEqDiff, reduceCtorEq, and_true, true_and, and_false, false_and, and_self, ite_true, ite_false, ↓reduceIte, not_true_eq_false, not_false_eq_true, pe_ri, pe_rz, pe_rc, p_throw, t1219, w_junk hA, Cu_g11_2 hP hA, Cu_g11_3 hP hA, Cu_g11_4 hP hA, Cu_p11_2 hP hA, Cu_p11_3 hP hA, Cu_p11_4 hP hA, eq_true k1, k2]
  · rw [if_neg k1] at e
    have k3 := y1219_6 (h := h) hP hA hD e
    simp -implicitDefEqProofs (disch := first | assumption | exact Nat.le_of_ble_eq_true rfl | decide) only [b1219_0, g1219_1, b1219_1, g1219_3, b1219_3, g1219_5, b1219_5, g1219_8, b1219_8, pe_aload0, pe_getfield, pe_istore5, pe_istore6, pe_istore7, pe_iload2, pe_sipush, pe_icmp_ne, pe_goto, pe_goto_w, pe_isub, pe_istore8, pe_iload3, pe_istore9, pe_iload4, pe_istore10, pe_iload8, pe_call1, pm_af_ret, pm_af_void, pm_af_thr, pe_iload9, pe_iload10, pe_call2, pe_istore11, pe_istore12, pe_iload12, pe_iload11, pe_icmp_gt, pe_iload5, pe_call5, pe_putfield, pe_iload6, pe_iload7, pe_iload1, pe_iinc12, pe_return, pm_prog_1, pm_ob_some, Nat.reduceDiv, Nat.reduceMod, Nat.reduceMul, Nat.reduceAdd, Int.reduceToNat, pm_kill_i, pm_kill_r, pm_kill_n, pm_kill_j, pm_kill_l, pm_kill_d, pm_cats_nil, pm_cats_i, pm_cats_r, pm_cats_n, pm_cats_l, pm_cats_d, sz_1, sz_2, sl_1, sl_2, lc_0, lc_lt, lc_le, li_ne, va_rf, wr_m1, we_m1, pm_kill_w, Int32.reduceOfInt, Int64.reduceOfInt, Int32.reduceOfNat, Int32.reduceLT, Int32.reduceLE, Prod.mk.injEq, Nat.reduceEqDiff, reduceCtorEq, and_true, true_and, and_false, false_and, and_self, ite_true, ite_false, ↓reduceIte, not_true_eq_false, not_false_eq_true, pe_ri, pe_rz, pe_rc, p_throw, t1219, w_junk hA, Cu_g11_2 hP hA, Cu_g11_3 hP hA, Cu_g11_4 hP hA, Cu_p11_2 hP hA, Cu_p11_3 hP hA, Cu_p11_4 hP hA, eq_false k1, k3]
theorem y1219_2 {side : Int32} {A : wK → Nat} {h : pm_H} {D : Nat} {S : wS} {x1 : Int32} {x3 : Int32} {x4 : Int32} {x5 : Int32} {x6 : Int32} {x7 : Int32} {y0 : Int32} {r : (Nat × wS) ⊕ (wS)} (hP : Cu_P side) (hA : wok A (Cu_d side) h.1) (hD : 3 ≤ D) (e : f1219_2 side S x1 x3 x4 x5 x6 x7 y0 = some r) : ∀ q2 q8 q9 q10 q11 q12 : Value, pm_go pm_prog (pm_call pm_prog D) 1219 2 [.ref (A (11, 0, 0)), .int x1, q2, .int x3, .int x4, .int x5, .int x6, .int x7, q8, q9, q10, q11, q12] [.int y0] (wput A (Cu_d side) S h) = some (match (generalizing := false) r with | .inl (c, S1) => (Outcome.threw c, (wput A (Cu_d side) S1 (pm_new h 6 (.inr (c, []))))) | .inr S1 => (Outcome.returned none, (wput A (Cu_d side) S1 h))) := by
  intro q2 q8 q9 q10 q11 q12
  simp only [f1219_2] at e
  rw [g1219_2, b1219_2]
  by_cases k1 : x3 = (-1)
  · rw [if_pos k1] at e
    have k2 := y1219_4 (h := h) hP hA hD e
    simp -implicitDefEqProofs (disch := first | assumption | exact Nat.le_of_ble_eq_true rfl | decide) only [b1219_0, g1219_1, b1219_1, g1219_3, b1219_3, g1219_5, b1219_5, g1219_8, b1219_8, pe_aload0, pe_getfield, pe_istore5, pe_istore6, pe_istore7, pe_iload2, pe_sipush, pe_icmp_ne, pe_goto, pe_goto_w, pe_isub, pe_istore8, pe_iload3, pe_istore9, pe_iload4, pe_istore10, pe_iload8, pe_call1, pm_af_ret, pm_af_void, pm_af_thr, pe_iload9, pe_iload10, pe_call2, pe_istore11, pe_istore12, pe_iload12, pe_iload11, pe_icmp_gt, pe_iload5, pe_call5, pe_putfield, pe_iload6, pe_iload7, pe_iload1, pe_iinc12, pe_return, pm_prog_1, pm_ob_some, Nat.reduceDiv, Nat.reduceMod, Nat.reduceMul, Nat.reduceAdd, Int.reduceToNat, pm_kill_i, pm_kill_r, pm_kill_n, pm_kill_j, pm_kill_l, pm_kill_d, pm_cats_nil, pm_cats_i, pm_cats_r, pm_cats_n, pm_cats_l, pm_cats_d, sz_1, sz_2, sl_1, sl_2, lc_0, lc_lt, lc_le, li_ne, va_rf, wr_m1, we_m1, pm_kill_w, Int32.reduceOfInt, Int64.reduceOfInt, Int32.reduceOfNat, Int32.reduceLT, Int32.reduceLE, Prod.mk.injEq, Nat.reduceEqDiff, reduceCtorEq, and_true, true_and, and_false, false_and, and_self, ite_true, ite_false, ↓reduceIte, not_true_eq_false, not_false_eq_true, pe_ri, pe_rz, pe_rc, p_throw, t1219, w_junk hA, Cu_g11_2 hP hA, Cu_g11_3 hP hA, Cu_g11_4 hP hA, Cu_p11_2 hP hA, Cu_p11_3 hP hA, Cu_p11_4 hP hA, eq_true k1, k2]
  · rw [if_neg k1] at e
    have k3 := y1219_4 (h := h) hP hA hD e
    simp -implicitDefEqProofs (disch := first | assumption | exact Nat.le_of_ble_eq_true rfl | decide) only [b1219_0, g1219_1, b1219_1, g1219_3, b1219_3, g1219_5, b1219_5, g1219_8, b1219_8, pe_aload0, pe_getfield, pe_istore5, pe_istore6, pe_istore7, pe_iload2, pe_sipush, pe_icmp_ne, pe_goto, pe_goto_w, pe_isub, pe_istore8, pe_iload3, pe_istore9, pe_iload4, pe_istore10, pe_iload8, pe_call1, pm_af_ret, pm_af_void, pm_af_thr, pe_iload9, pe_iload10, pe_call2, pe_istore11, pe_istore12, pe_iload12, pe_iload11, pe_icmp_gt, pe_iload5, pe_call5, pe_putfield, pe_iload6, pe_iload7, pe_iload1, pe_iinc12, pe_return, pm_prog_1, pm_ob_some, Nat.reduceDiv, Nat.reduceMod, Nat.reduceMul, Nat.reduceAdd, Int.reduceToNat, pm_kill_i, pm_kill_r, pm_kill_n, pm_kill_j, pm_kill_l, pm_kill_d, pm_cats_nil, pm_cats_i, pm_cats_r, pm_cats_n, pm_cats_l, pm_cats_d, sz_1, sz_2, sl_1, sl_2, lc_0, lc_lt, lc_le, li_ne, va_rf, wr_m1, we_m1, pm_kill_w, Int32.reduceOfInt, Int64.reduceOfInt, Int32.reduceOfNat, Int32.reduceLT, Int32.reduceLE, Prod.mk.injEq, Nat.reduceEqDiff, reduceCtorEq, and_true, true_and, and_false, false_and, and_self, ite_true, ite_false, ↓reduceIte, not_true_eq_false, not_false_eq_true, pe_ri, pe_rz, pe_rc, p_throw, t1219, w_junk hA, Cu_g11_2 hP hA, Cu_g11_3 hP hA, Cu_g11_4 hP hA, Cu_p11_2 hP hA, Cu_p11_3 hP hA, Cu_p11_4 hP hA, eq_false k1, k3]
theorem x1219 {side : Int32} {A : wK → Nat} {h : pm_H} {D : Nat} {S : wS} {x1 : Int32} {x2 : Int32} {x3 : Int32} {x4 : Int32} {r : (Nat × wS) ⊕ (wS)} (hP : Cu_P side) (hA : wok A (Cu_d side) h.1) (hD : 4 ≤ D) (e : f1219 side S x1 x2 x3 x4 = some r) : pm_call pm_prog D 1219 [.ref (A (11, 0, 0)), .int x1, .int x2, .int x3, .int x4] (wput A (Cu_d side) S h) = some (match (generalizing := false) r with | .inl (c, S1) => (Outcome.threw c, (wput A (Cu_d side) S1 (pm_new h 6 (.inr (c, []))))) | .inr S1 => (Outcome.returned none, (wput A (Cu_d side) S1 h))) := by
  obtain ⟨D, rfl⟩ : ∃ D', D = D' + 1 := ⟨D - 1, by omega⟩
  have hD : 3 ≤ D := by omega
  simp only [f1219] at e
  rw [c1219 (Cu_c11 hP hA), b1219_0]
  by_cases k1 : x2 = (-1)
  · rw [if_pos k1] at e
    have k2 := y1219_2 (h := h) hP hA hD e
    simp -implicitDefEqProofs (disch := first | assumption | exact Nat.le_of_ble_eq_true rfl | decide) only [b1219_0, g1219_1, b1219_1, g1219_3, b1219_3, g1219_5, b1219_5, g1219_8, b1219_8, pe_aload0, pe_getfield, pe_istore5, pe_istore6, pe_istore7, pe_iload2, pe_sipush, pe_icmp_ne, pe_goto, pe_goto_w, pe_isub, pe_istore8, pe_iload3, pe_istore9, pe_iload4, pe_istore10, pe_iload8, pe_call1, pm_af_ret, pm_af_void, pm_af_thr, pe_iload9, pe_iload10, pe_call2, pe_istore11, pe_istore12, pe_iload12, pe_iload11, pe_icmp_gt, pe_iload5, pe_call5, pe_putfield, pe_iload6, pe_iload7, pe_iload1, pe_iinc12, pe_return, pm_prog_1, pm_ob_some, Nat.reduceDiv, Nat.reduceMod, Nat.reduceMul, Nat.reduceAdd, Int.reduceToNat, pm_kill_i, pm_kill_r, pm_kill_n, pm_kill_j, pm_kill_l, pm_kill_d, pm_cats_nil, pm_cats_i, pm_cats_r, pm_cats_n, pm_cats_l, pm_cats_d, sz_1, sz_2, sl_1, sl_2, lc_0, lc_lt, lc_le, li_ne, va_rf, wr_m1, we_m1, pm_kill_w, Int32.reduceOfInt, Int64.reduceOfInt, Int32.reduceOfNat, Int32.reduceLT, Int32.reduceLE, Prod.mk.injEq, Nat.reduceEqDiff, reduceCtorEq, and_true, true_and, and_false, false_and, and_self, ite_true, ite_false, ↓reduceIte, not_true_eq_false, not_false_eq_true, pe_ri, pe_rz, pe_rc, p_throw, t1219, w_junk hA, Cu_g11_2 hP hA, Cu_g11_3 hP hA, Cu_g11_4 hP hA, Cu_p11_2 hP hA, Cu_p11_3 hP hA, Cu_p11_4 hP hA, eq_true k1, k2]
  · rw [if_neg k1] at e
    have k3 := y1219_2 (h := h) hP hA hD e
    simp -implicitDefEqProofs (disch := first | assumption | exact Nat.le_of_ble_eq_true rfl | decide) only [b1219_0, g1219_1, b1219_1, g1219_3, b1219_3, g1219_5, b1219_5, g1219_8, b1219_8, pe_aload0, pe_getfield, pe_istore5, pe_istore6, pe_istore7, pe_iload2, pe_sipush, pe_icmp_ne, pe_goto, pe_goto_w, pe_isub, pe_istore8, pe_iload3, pe_istore9, pe_iload4, pe_istore10, pe_iload8, pe_call1, pm_af_ret, pm_af_void, pm_af_thr, pe_iload9, pe_iload10, pe_call2, pe_istore11, pe_istore12, pe_iload12, pe_iload11, pe_icmp_gt, pe_iload5, pe_call5, pe_putfield, pe_iload6, pe_iload7, pe_iload1, pe_iinc12, pe_return, pm_prog_1, pm_ob_some, Nat.reduceDiv, Nat.reduceMod, Nat.reduceMul, Nat.reduceAdd, Int.reduceToNat, pm_kill_i, pm_kill_r, pm_kill_n, pm_kill_j, pm_kill_l, pm_kill_d, pm_cats_nil, pm_cats_i, pm_cats_r, pm_cats_n, pm_cats_l, pm_cats_d, sz_1, sz_2, sl_1, sl_2, lc_0, lc_lt, lc_le, li_ne, va_rf, wr_m1, we_m1, pm_kill_w, Int32.reduceOfInt, Int64.reduceOfInt, Int32.reduceOfNat, Int32.reduceLT, Int32.reduceLE, Prod.mk.injEq, Nat.reduceEqDiff, reduceCtorEq, and_true, true_and, and_false, false_and, and_self, ite_true, ite_false, ↓reduceIte, not_true_eq_false, not_false_eq_true, pe_ri, pe_rz, pe_rc, p_throw, t1219, w_junk hA, Cu_g11_2 hP hA, Cu_g11_3 hP hA, Cu_g11_4 hP hA, Cu_p11_2 hP hA, Cu_p11_3 hP hA, Cu_p11_4 hP hA, eq_false k1, k3]
