set_option maxRecDepth 100000
/-! TimberHouse$ShopDesks -/
def Ch_P (tc : Int32) (bc : Int32) (ec : Int32) : Prop := 0 ≤ tc ∧ tc ≤ 300 ∧ 0 ≤ bc ∧ bc ≤ 8 ∧ 0 ≤ ec ∧ ec ≤ 60
def Ch_d (tc : Int32) (bc : Int32) (ec : Int32) : wK → Option wD := fun k => match k.1 with
  | 0 => if k.2.1 = 0 ∧ k.2.2 = 0 then some (.inl (24, [(2, (1, 0, 0)), (0, (0, 0, 0)), (2, (3, 0, 0)), (0, (0, 0, 0)), (2, (7, 0, 0)), (2, (9, 0, 0)), (0, (0, 0, 0)), (0, (0, 0, 0)), (0, (0, 0, 0))])) else none
  | 1 => if k.2.1 = 0 ∧ k.2.2 = 0 then some (.inr (.inr ((.object "TimberHouse$ShopDesks$Telling"), 300, .inr (fun x => if x < tc then some (2, x, 0) else none)))) else none
  | 2 => if (0 ≤ k.2.1 ∧ k.2.1 < tc) ∧ k.2.2 = 0 then some (.inl (57, [(0, (0, 0, 0)), (1, (0, 0, 0)), (0, (0, 0, 0)), (0, (0, 0, 0)), (1, (0, 0, 0)), (1, (0, 0, 0))])) else none
  | 3 => if k.2.1 = 0 ∧ k.2.2 = 0 then some (.inr (.inr ((.object "TimberHouse$ShopDesks$Bag"), 8, .inr (fun x => if x < bc then some (4, x, 0) else none)))) else none
  | 4 => if (0 ≤ k.2.1 ∧ k.2.1 < bc) ∧ k.2.2 = 0 then some (.inl (58, [(2, (1, 0, 0)), (2, (5, k.2.1, 0)), (2, (6, k.2.1, 0)), (0, (0, 0, 0)), (0, (0, 0, 0))])) else none
  | 5 => if (0 ≤ k.2.1 ∧ k.2.1 < bc) ∧ k.2.2 = 0 then some (.inr (.inl (.short, 300))) else none
  | 6 => if (0 ≤ k.2.1 ∧ k.2.1 < bc) ∧ k.2.2 = 0 then some (.inr (.inl (.long, 5))) else none
  | 7 => if k.2.1 = 0 ∧ k.2.2 = 0 then some (.inr (.inr ((.array .boolean), 4, .inr (fun x => some (8, x, 0))))) else none
  | 8 => if (0 ≤ k.2.1 ∧ k.2.1 < 4) ∧ k.2.2 = 0 then some (.inr (.inl (.boolean, 4))) else none
  | 9 => if k.2.1 = 0 ∧ k.2.2 = 0 then some (.inr (.inr ((.object "TimberHouse$ShopDesks$Entry"), 60, .inr (fun x => if x < ec then some (10, x, 0) else none)))) else none
  | 10 => if (0 ≤ k.2.1 ∧ k.2.1 < ec) ∧ k.2.2 = 0 then some (.inl (59, [(0, (0, 0, 0)), (2, (11, k.2.1, 0)), (2, (12, k.2.1, 0)), (0, (0, 0, 0)), (0, (0, 0, 0)), (0, (0, 0, 0))])) else none
  | 11 => if (0 ≤ k.2.1 ∧ k.2.1 < ec) ∧ k.2.2 = 0 then some (.inr (.inl (.int, 6))) else none
  | 12 => if (0 ≤ k.2.1 ∧ k.2.1 < ec) ∧ k.2.2 = 0 then some (.inr (.inl (.long, 6))) else none
  | _ => none
section
variable {A : wK → Nat} {S : wS} {h : pm_H} {m : Nat} {i j x v : Int32} {u : Int64} {tc : Int32} {bc : Int32} {ec : Int32}
theorem Ch_d0 {tc : Int32} {bc : Int32} {ec : Int32} : (Ch_d tc bc ec) (0, 0, 0) = some (.inl (24, [(2, (1, 0, 0)), (0, (0, 0, 0)), (2, (3, 0, 0)), (0, (0, 0, 0)), (2, (7, 0, 0)), (2, (9, 0, 0)), (0, (0, 0, 0)), (0, (0, 0, 0)), (0, (0, 0, 0))])) := rfl
theorem Ch_d1 {tc : Int32} {bc : Int32} {ec : Int32} : (Ch_d tc bc ec) (1, 0, 0) = some (.inr (.inr ((.object "TimberHouse$ShopDesks$Telling"), 300, .inr (fun x => if x < tc then some (2, x, 0) else none)))) := rfl
theorem Ch_d2 {tc : Int32} {bc : Int32} {ec : Int32} (h0 : 0 ≤ i ∧ i < tc) : (Ch_d tc bc ec) (2, i, 0) = some (.inl (57, [(0, (0, 0, 0)), (1, (0, 0, 0)), (0, (0, 0, 0)), (0, (0, 0, 0)), (1, (0, 0, 0)), (1, (0, 0, 0))])) := if_pos ⟨h0, rfl⟩
theorem Ch_d3 {tc : Int32} {bc : Int32} {ec : Int32} : (Ch_d tc bc ec) (3, 0, 0) = some (.inr (.inr ((.object "TimberHouse$ShopDesks$Bag"), 8, .inr (fun x => if x < bc then some (4, x, 0) else none)))) := rfl
theorem Ch_d4 {tc : Int32} {bc : Int32} {ec : Int32} (h0 : 0 ≤ i ∧ i < bc) : (Ch_d tc bc ec) (4, i, 0) = some (.inl (58, [(2, (1, 0, 0)), (2, (5, i, 0)), (2, (6, i, 0)), (0, (0, 0, 0)), (0, (0, 0, 0))])) := if_pos ⟨h0, rfl⟩
theorem Ch_d5 {tc : Int32} {bc : Int32} {ec : Int32} (h0 : 0 ≤ i ∧ i < bc) : (Ch_d tc bc ec) (5, i, 0) = some (.inr (.inl (.short, 300))) := if_pos ⟨h0, rfl⟩
theorem Ch_d6 {tc : Int32} {bc : Int32} {ec : Int32} (h0 : 0 ≤ i ∧ i < bc) : (Ch_d tc bc ec) (6, i, 0) = some (.inr (.inl (.long, 5))) := if_pos ⟨h0, rfl⟩
theorem Ch_d7 {tc : Int32} {bc : Int32} {ec : Int32} : (Ch_d tc bc ec) (7, 0, 0) = some (.inr (.inr ((.array .boolean), 4, .inr (fun x => some (8, x, 0))))) := rfl
theorem Ch_d8 {tc : Int32} {bc : Int32} {ec : Int32} (h0 : 0 ≤ i ∧ i < 4) : (Ch_d tc bc ec) (8, i, 0) = some (.inr (.inl (.boolean, 4))) := if_pos ⟨h0, rfl⟩
theorem Ch_d9 {tc : Int32} {bc : Int32} {ec : Int32} : (Ch_d tc bc ec) (9, 0, 0) = some (.inr (.inr ((.object "TimberHouse$ShopDesks$Entry"), 60, .inr (fun x => if x < ec then some (10, x, 0) else none)))) := rfl
theorem Ch_d10 {tc : Int32} {bc : Int32} {ec : Int32} (h0 : 0 ≤ i ∧ i < ec) : (Ch_d tc bc ec) (10, i, 0) = some (.inl (59, [(0, (0, 0, 0)), (2, (11, i, 0)), (2, (12, i, 0)), (0, (0, 0, 0)), (0, (0, 0, 0)), (0, (0, 0, 0))])) := if_pos ⟨h0, rfl⟩
theorem Ch_d11 {tc : Int32} {bc : Int32} {ec : Int32} (h0 : 0 ≤ i ∧ i < ec) : (Ch_d tc bc ec) (11, i, 0) = some (.inr (.inl (.int, 6))) := if_pos ⟨h0, rfl⟩
theorem Ch_d12 {tc : Int32} {bc : Int32} {ec : Int32} (h0 : 0 ≤ i ∧ i < ec) : (Ch_d tc bc ec) (12, i, 0) = some (.inr (.inl (.long, 6))) := if_pos ⟨h0, rfl⟩
theorem Ch_c0 (hP : Ch_P tc bc ec) (hA : wok A (Ch_d tc bc ec) m) : pm_cls (wput A (Ch_d tc bc ec) S h) (A (0, 0, 0)) = some 24 := w_cls hA (Ch_d0)
theorem Ch_k0 {cl : pm_C} {k b c : Nat} {r : List Instr} {ls s : List Value} (hP : Ch_P tc bc ec) (hA : wok A (Ch_d tc bc ec) m) (h2 : pm_sub 24 c = true) : pm_ev pm_prog cl k b (.checkcast c :: r) ls (.ref (A (0, 0, 0)) :: s) (wput A (Ch_d tc bc ec) S h) = pm_ev pm_prog cl k b r ls (.ref (A (0, 0, 0)) :: s) (wput A (Ch_d tc bc ec) S h) := pe_checkcast (w_cls hA (Ch_d0)) h2
theorem Ch_g0_0 (hP : Ch_P tc bc ec) (hA : wok A (Ch_d tc bc ec) m) : pm_gf pm_tab (wput A (Ch_d tc bc ec) S h) (A (0, 0, 0)) 24 0 = some (.ref (A (1, 0, 0))) := w_g (f := (2, (1, 0, 0))) hA (Ch_d0) rfl rfl
theorem Ch_g0_1 (hP : Ch_P tc bc ec) (hA : wok A (Ch_d tc bc ec) m) : pm_gf pm_tab (wput A (Ch_d tc bc ec) S h) (A (0, 0, 0)) 24 1 = some (.int (S.1 (0, 0, 0) 1)) := w_g (f := (0, (0, 0, 0))) hA (Ch_d0) rfl rfl
theorem Ch_p0_1 (hP : Ch_P tc bc ec) (hA : wok A (Ch_d tc bc ec) m) : pm_pf pm_tab (wput A (Ch_d tc bc ec) S h) (A (0, 0, 0)) 24 1 0 (.int v) = some (wput A (Ch_d tc bc ec) (sz S (0, 0, 0) 1 v) h) := w_p0 (q := (0, 0, 0)) (t := 0) hA (Ch_d0) rfl rfl (Nat.le_of_ble_eq_true rfl)
theorem Ch_g0_2 (hP : Ch_P tc bc ec) (hA : wok A (Ch_d tc bc ec) m) : pm_gf pm_tab (wput A (Ch_d tc bc ec) S h) (A (0, 0, 0)) 24 2 = some (.ref (A (3, 0, 0))) := w_g (f := (2, (3, 0, 0))) hA (Ch_d0) rfl rfl
theorem Ch_g0_3 (hP : Ch_P tc bc ec) (hA : wok A (Ch_d tc bc ec) m) : pm_gf pm_tab (wput A (Ch_d tc bc ec) S h) (A (0, 0, 0)) 24 3 = some (.int (S.1 (0, 0, 0) 3)) := w_g (f := (0, (0, 0, 0))) hA (Ch_d0) rfl rfl
theorem Ch_p0_3 (hP : Ch_P tc bc ec) (hA : wok A (Ch_d tc bc ec) m) : pm_pf pm_tab (wput A (Ch_d tc bc ec) S h) (A (0, 0, 0)) 24 3 0 (.int v) = some (wput A (Ch_d tc bc ec) (sz S (0, 0, 0) 3 v) h) := w_p0 (q := (0, 0, 0)) (t := 0) hA (Ch_d0) rfl rfl (Nat.le_of_ble_eq_true rfl)
theorem Ch_g0_4 (hP : Ch_P tc bc ec) (hA : wok A (Ch_d tc bc ec) m) : pm_gf pm_tab (wput A (Ch_d tc bc ec) S h) (A (0, 0, 0)) 24 4 = some (.ref (A (7, 0, 0))) := w_g (f := (2, (7, 0, 0))) hA (Ch_d0) rfl rfl
theorem Ch_g0_5 (hP : Ch_P tc bc ec) (hA : wok A (Ch_d tc bc ec) m) : pm_gf pm_tab (wput A (Ch_d tc bc ec) S h) (A (0, 0, 0)) 24 5 = some (.ref (A (9, 0, 0))) := w_g (f := (2, (9, 0, 0))) hA (Ch_d0) rfl rfl
theorem Ch_g0_6 (hP : Ch_P tc bc ec) (hA : wok A (Ch_d tc bc ec) m) : pm_gf pm_tab (wput A (Ch_d tc bc ec) S h) (A (0, 0, 0)) 24 6 = some (.int (S.1 (0, 0, 0) 6)) := w_g (f := (0, (0, 0, 0))) hA (Ch_d0) rfl rfl
theorem Ch_p0_6 (hP : Ch_P tc bc ec) (hA : wok A (Ch_d tc bc ec) m) : pm_pf pm_tab (wput A (Ch_d tc bc ec) S h) (A (0, 0, 0)) 24 6 0 (.int v) = some (wput A (Ch_d tc bc ec) (sz S (0, 0, 0) 6 v) h) := w_p0 (q := (0, 0, 0)) (t := 0) hA (Ch_d0) rfl rfl (Nat.le_of_ble_eq_true rfl)
theorem Ch_g0_7 (hP : Ch_P tc bc ec) (hA : wok A (Ch_d tc bc ec) m) : pm_gf pm_tab (wput A (Ch_d tc bc ec) S h) (A (0, 0, 0)) 24 7 = some (.int (S.1 (0, 0, 0) 7)) := w_g (f := (0, (0, 0, 0))) hA (Ch_d0) rfl rfl
theorem Ch_p0_7 (hP : Ch_P tc bc ec) (hA : wok A (Ch_d tc bc ec) m) : pm_pf pm_tab (wput A (Ch_d tc bc ec) S h) (A (0, 0, 0)) 24 7 0 (.int v) = some (wput A (Ch_d tc bc ec) (sz S (0, 0, 0) 7 v) h) := w_p0 (q := (0, 0, 0)) (t := 0) hA (Ch_d0) rfl rfl (Nat.le_of_ble_eq_true rfl)
theorem Ch_g0_8 (hP : Ch_P tc bc ec) (hA : wok A (Ch_d tc bc ec) m) : pm_gf pm_tab (wput A (Ch_d tc bc ec) S h) (A (0, 0, 0)) 24 8 = some (.int (S.1 (0, 0, 0) 8)) := w_g (f := (0, (0, 0, 0))) hA (Ch_d0) rfl rfl
theorem Ch_p0_8 (hP : Ch_P tc bc ec) (hA : wok A (Ch_d tc bc ec) m) : pm_pf pm_tab (wput A (Ch_d tc bc ec) S h) (A (0, 0, 0)) 24 8 0 (.int v) = some (wput A (Ch_d tc bc ec) (sz S (0, 0, 0) 8 v) h) := w_p0 (q := (0, 0, 0)) (t := 0) hA (Ch_d0) rfl rfl (Nat.le_of_ble_eq_true rfl)
theorem Ch_l1 (hP : Ch_P tc bc ec) (hA : wok A (Ch_d tc bc ec) m) : pm_len (wput A (Ch_d tc bc ec) S h) (A (1, 0, 0)) = some 300 := w_lenR hA (Ch_d1) (by decide)
theorem Ch_r1 (hP : Ch_P tc bc ec) (hA : wok A (Ch_d tc bc ec) m) (hx : 0 ≤ x ∧ x < 300) (hn : x < tc) : pm_rdR (wput A (Ch_d tc bc ec) S h) (A (1, 0, 0)) x = some (some (A (2, x, 0))) := ((w_rdR hA (Ch_d1) rfl (by decide)).trans (if_pos hx)).trans (congrArg some (congrArg (Option.map A) (if_pos hn)))
theorem Ch_c2 (hP : Ch_P tc bc ec) (hA : wok A (Ch_d tc bc ec) m) (h0 : 0 ≤ i ∧ i < tc) : pm_cls (wput A (Ch_d tc bc ec) S h) (A (2, i, 0)) = some 57 := w_cls hA (Ch_d2 h0)
theorem Ch_k2 {cl : pm_C} {k b c : Nat} {r : List Instr} {ls s : List Value} (hP : Ch_P tc bc ec) (hA : wok A (Ch_d tc bc ec) m) (h0 : 0 ≤ i ∧ i < tc) (h2 : pm_sub 57 c = true) : pm_ev pm_prog cl k b (.checkcast c :: r) ls (.ref (A (2, i, 0)) :: s) (wput A (Ch_d tc bc ec) S h) = pm_ev pm_prog cl k b r ls (.ref (A (2, i, 0)) :: s) (wput A (Ch_d tc bc ec) S h) := pe_checkcast (w_cls hA (Ch_d2 h0)) h2
theorem Ch_g2_0 (hP : Ch_P tc bc ec) (hA : wok A (Ch_d tc bc ec) m) (h0 : 0 ≤ i ∧ i < tc) : pm_gf pm_tab (wput A (Ch_d tc bc ec) S h) (A (2, i, 0)) 57 0 = some (.int (S.1 (2, i, 0) 0)) := w_g (f := (0, (0, 0, 0))) hA (Ch_d2 h0) rfl rfl
theorem Ch_p2_0 (hP : Ch_P tc bc ec) (hA : wok A (Ch_d tc bc ec) m) (h0 : 0 ≤ i ∧ i < tc) : pm_pf pm_tab (wput A (Ch_d tc bc ec) S h) (A (2, i, 0)) 57 0 0 (.int v) = some (wput A (Ch_d tc bc ec) (sz S (2, i, 0) 0 v) h) := w_p0 (q := (0, 0, 0)) (t := 0) hA (Ch_d2 h0) rfl rfl (Nat.le_of_ble_eq_true rfl)
theorem Ch_g2_1 (hP : Ch_P tc bc ec) (hA : wok A (Ch_d tc bc ec) m) (h0 : 0 ≤ i ∧ i < tc) : pm_gf pm_tab (wput A (Ch_d tc bc ec) S h) (A (2, i, 0)) 57 1 = some (.long (S.2 (2, i, 0) 1)) := w_g (f := (1, (0, 0, 0))) hA (Ch_d2 h0) rfl rfl
theorem Ch_p2_1 (hP : Ch_P tc bc ec) (hA : wok A (Ch_d tc bc ec) m) (h0 : 0 ≤ i ∧ i < tc) : pm_pf pm_tab (wput A (Ch_d tc bc ec) S h) (A (2, i, 0)) 57 1 1 (.long u) = some (wput A (Ch_d tc bc ec) (sl S (2, i, 0) 1 u) h) := w_p1 (q := (0, 0, 0)) hA (Ch_d2 h0) rfl rfl (Nat.le_of_ble_eq_true rfl)
theorem Ch_g2_2 (hP : Ch_P tc bc ec) (hA : wok A (Ch_d tc bc ec) m) (h0 : 0 ≤ i ∧ i < tc) : pm_gf pm_tab (wput A (Ch_d tc bc ec) S h) (A (2, i, 0)) 57 2 = some (.int (S.1 (2, i, 0) 2)) := w_g (f := (0, (0, 0, 0))) hA (Ch_d2 h0) rfl rfl
theorem Ch_p2_2 (hP : Ch_P tc bc ec) (hA : wok A (Ch_d tc bc ec) m) (h0 : 0 ≤ i ∧ i < tc) : pm_pf pm_tab (wput A (Ch_d tc bc ec) S h) (A (2, i, 0)) 57 2 0 (.int v) = some (wput A (Ch_d tc bc ec) (sz S (2, i, 0) 2 v) h) := w_p0 (q := (0, 0, 0)) (t := 0) hA (Ch_d2 h0) rfl rfl (Nat.le_of_ble_eq_true rfl)
theorem Ch_g2_3 (hP : Ch_P tc bc ec) (hA : wok A (Ch_d tc bc ec) m) (h0 : 0 ≤ i ∧ i < tc) : pm_gf pm_tab (wput A (Ch_d tc bc ec) S h) (A (2, i, 0)) 57 3 = some (.int (S.1 (2, i, 0) 3)) := w_g (f := (0, (0, 0, 0))) hA (Ch_d2 h0) rfl rfl
theorem Ch_p2_3 (hP : Ch_P tc bc ec) (hA : wok A (Ch_d tc bc ec) m) (h0 : 0 ≤ i ∧ i < tc) : pm_pf pm_tab (wput A (Ch_d tc bc ec) S h) (A (2, i, 0)) 57 3 0 (.int v) = some (wput A (Ch_d tc bc ec) (sz S (2, i, 0) 3 v) h) := w_p0 (q := (0, 0, 0)) (t := 0) hA (Ch_d2 h0) rfl rfl (Nat.le_of_ble_eq_true rfl)
theorem Ch_g2_4 (hP : Ch_P tc bc ec) (hA : wok A (Ch_d tc bc ec) m) (h0 : 0 ≤ i ∧ i < tc) : pm_gf pm_tab (wput A (Ch_d tc bc ec) S h) (A (2, i, 0)) 57 4 = some (.long (S.2 (2, i, 0) 4)) := w_g (f := (1, (0, 0, 0))) hA (Ch_d2 h0) rfl rfl
theorem Ch_p2_4 (hP : Ch_P tc bc ec) (hA : wok A (Ch_d tc bc ec) m) (h0 : 0 ≤ i ∧ i < tc) : pm_pf pm_tab (wput A (Ch_d tc bc ec) S h) (A (2, i, 0)) 57 4 1 (.long u) = some (wput A (Ch_d tc bc ec) (sl S (2, i, 0) 4 u) h) := w_p1 (q := (0, 0, 0)) hA (Ch_d2 h0) rfl rfl (Nat.le_of_ble_eq_true rfl)
theorem Ch_g2_5 (hP : Ch_P tc bc ec) (hA : wok A (Ch_d tc bc ec) m) (h0 : 0 ≤ i ∧ i < tc) : pm_gf pm_tab (wput A (Ch_d tc bc ec) S h) (A (2, i, 0)) 57 5 = some (.long (S.2 (2, i, 0) 5)) := w_g (f := (1, (0, 0, 0))) hA (Ch_d2 h0) rfl rfl
theorem Ch_p2_5 (hP : Ch_P tc bc ec) (hA : wok A (Ch_d tc bc ec) m) (h0 : 0 ≤ i ∧ i < tc) : pm_pf pm_tab (wput A (Ch_d tc bc ec) S h) (A (2, i, 0)) 57 5 1 (.long u) = some (wput A (Ch_d tc bc ec) (sl S (2, i, 0) 5 u) h) := w_p1 (q := (0, 0, 0)) hA (Ch_d2 h0) rfl rfl (Nat.le_of_ble_eq_true rfl)
theorem Ch_l3 (hP : Ch_P tc bc ec) (hA : wok A (Ch_d tc bc ec) m) : pm_len (wput A (Ch_d tc bc ec) S h) (A (3, 0, 0)) = some 8 := w_lenR hA (Ch_d3) (by decide)
theorem Ch_r3 (hP : Ch_P tc bc ec) (hA : wok A (Ch_d tc bc ec) m) (hx : 0 ≤ x ∧ x < 8) (hn : x < bc) : pm_rdR (wput A (Ch_d tc bc ec) S h) (A (3, 0, 0)) x = some (some (A (4, x, 0))) := ((w_rdR hA (Ch_d3) rfl (by decide)).trans (if_pos hx)).trans (congrArg some (congrArg (Option.map A) (if_pos hn)))
theorem Ch_c4 (hP : Ch_P tc bc ec) (hA : wok A (Ch_d tc bc ec) m) (h0 : 0 ≤ i ∧ i < bc) : pm_cls (wput A (Ch_d tc bc ec) S h) (A (4, i, 0)) = some 58 := w_cls hA (Ch_d4 h0)
theorem Ch_k4 {cl : pm_C} {k b c : Nat} {r : List Instr} {ls s : List Value} (hP : Ch_P tc bc ec) (hA : wok A (Ch_d tc bc ec) m) (h0 : 0 ≤ i ∧ i < bc) (h2 : pm_sub 58 c = true) : pm_ev pm_prog cl k b (.checkcast c :: r) ls (.ref (A (4, i, 0)) :: s) (wput A (Ch_d tc bc ec) S h) = pm_ev pm_prog cl k b r ls (.ref (A (4, i, 0)) :: s) (wput A (Ch_d tc bc ec) S h) := pe_checkcast (w_cls hA (Ch_d4 h0)) h2
theorem Ch_g4_0 (hP : Ch_P tc bc ec) (hA : wok A (Ch_d tc bc ec) m) (h0 : 0 ≤ i ∧ i < bc) : pm_gf pm_tab (wput A (Ch_d tc bc ec) S h) (A (4, i, 0)) 58 0 = some (.ref (A (1, 0, 0))) := w_g (f := (2, (1, 0, 0))) hA (Ch_d4 h0) rfl rfl
theorem Ch_g4_1 (hP : Ch_P tc bc ec) (hA : wok A (Ch_d tc bc ec) m) (h0 : 0 ≤ i ∧ i < bc) : pm_gf pm_tab (wput A (Ch_d tc bc ec) S h) (A (4, i, 0)) 58 1 = some (.ref (A (5, i, 0))) := w_g (f := (2, (5, i, 0))) hA (Ch_d4 h0) rfl rfl
theorem Ch_g4_2 (hP : Ch_P tc bc ec) (hA : wok A (Ch_d tc bc ec) m) (h0 : 0 ≤ i ∧ i < bc) : pm_gf pm_tab (wput A (Ch_d tc bc ec) S h) (A (4, i, 0)) 58 2 = some (.ref (A (6, i, 0))) := w_g (f := (2, (6, i, 0))) hA (Ch_d4 h0) rfl rfl
theorem Ch_g4_3 (hP : Ch_P tc bc ec) (hA : wok A (Ch_d tc bc ec) m) (h0 : 0 ≤ i ∧ i < bc) : pm_gf pm_tab (wput A (Ch_d tc bc ec) S h) (A (4, i, 0)) 58 3 = some (.int (S.1 (4, i, 0) 3)) := w_g (f := (0, (0, 0, 0))) hA (Ch_d4 h0) rfl rfl
theorem Ch_p4_3 (hP : Ch_P tc bc ec) (hA : wok A (Ch_d tc bc ec) m) (h0 : 0 ≤ i ∧ i < bc) : pm_pf pm_tab (wput A (Ch_d tc bc ec) S h) (A (4, i, 0)) 58 3 0 (.int v) = some (wput A (Ch_d tc bc ec) (sz S (4, i, 0) 3 v) h) := w_p0 (q := (0, 0, 0)) (t := 0) hA (Ch_d4 h0) rfl rfl (Nat.le_of_ble_eq_true rfl)
theorem Ch_g4_4 (hP : Ch_P tc bc ec) (hA : wok A (Ch_d tc bc ec) m) (h0 : 0 ≤ i ∧ i < bc) : pm_gf pm_tab (wput A (Ch_d tc bc ec) S h) (A (4, i, 0)) 58 4 = some (.int (S.1 (4, i, 0) 4)) := w_g (f := (0, (0, 0, 0))) hA (Ch_d4 h0) rfl rfl
theorem Ch_p4_4 (hP : Ch_P tc bc ec) (hA : wok A (Ch_d tc bc ec) m) (h0 : 0 ≤ i ∧ i < bc) : pm_pf pm_tab (wput A (Ch_d tc bc ec) S h) (A (4, i, 0)) 58 4 0 (.int v) = some (wput A (Ch_d tc bc ec) (sz S (4, i, 0) 4 v) h) := w_p0 (q := (0, 0, 0)) (t := 0) hA (Ch_d4 h0) rfl rfl (Nat.le_of_ble_eq_true rfl)
theorem Ch_l5 (hP : Ch_P tc bc ec) (hA : wok A (Ch_d tc bc ec) m) (h0 : 0 ≤ i ∧ i < bc) : pm_len (wput A (Ch_d tc bc ec) S h) (A (5, i, 0)) = some 300 := w_len hA (Ch_d5 h0) (by decide)
theorem Ch_r5 (hP : Ch_P tc bc ec) (hA : wok A (Ch_d tc bc ec) m) (h0 : 0 ≤ i ∧ i < bc) (hx : 0 ≤ x ∧ x < 300) : pm_rd pm_isS (wput A (Ch_d tc bc ec) S h) (A (5, i, 0)) x = some (S.1 (5, i, 0) x) := (w_rd (t := .short) hA (Ch_d5 h0) rfl (by decide) (by decide)).trans (if_pos hx)
theorem Ch_w5 (hP : Ch_P tc bc ec) (hA : wok A (Ch_d tc bc ec) m) (h0 : 0 ≤ i ∧ i < bc) (hx : 0 ≤ x ∧ x < 300) : pm_wr pm_isS (wput A (Ch_d tc bc ec) S h) (A (5, i, 0)) x v = some (wput A (Ch_d tc bc ec) (sz S (5, i, 0) x (vp_nar .short v)) h) := (w_wr (t := .short) hA (Ch_d5 h0) rfl (by decide) (by decide)).trans (if_pos hx)
theorem Ch_l6 (hP : Ch_P tc bc ec) (hA : wok A (Ch_d tc bc ec) m) (h0 : 0 ≤ i ∧ i < bc) : pm_len (wput A (Ch_d tc bc ec) S h) (A (6, i, 0)) = some 5 := w_len hA (Ch_d6 h0) (by decide)
theorem Ch_r6 (hP : Ch_P tc bc ec) (hA : wok A (Ch_d tc bc ec) m) (h0 : 0 ≤ i ∧ i < bc) (hx : 0 ≤ x ∧ x < 5) : pm_rdL (wput A (Ch_d tc bc ec) S h) (A (6, i, 0)) x = some (S.2 (6, i, 0) x) := (w_rdL hA (Ch_d6 h0) (by decide)).trans (if_pos hx)
theorem Ch_w6 (hP : Ch_P tc bc ec) (hA : wok A (Ch_d tc bc ec) m) (h0 : 0 ≤ i ∧ i < bc) (hx : 0 ≤ x ∧ x < 5) : pm_wrL (wput A (Ch_d tc bc ec) S h) (A (6, i, 0)) x u = some (wput A (Ch_d tc bc ec) (sl S (6, i, 0) x u) h) := (w_wrL hA (Ch_d6 h0) (by decide)).trans (if_pos hx)
theorem Ch_l7 (hP : Ch_P tc bc ec) (hA : wok A (Ch_d tc bc ec) m) : pm_len (wput A (Ch_d tc bc ec) S h) (A (7, 0, 0)) = some 4 := w_lenR hA (Ch_d7) (by decide)
theorem Ch_r7 (hP : Ch_P tc bc ec) (hA : wok A (Ch_d tc bc ec) m) (hx : 0 ≤ x ∧ x < 4) : pm_rdR (wput A (Ch_d tc bc ec) S h) (A (7, 0, 0)) x = some (some (A (8, x, 0))) := ((w_rdR hA (Ch_d7) rfl (by decide)).trans (if_pos hx)).trans rfl
theorem Ch_l8 (hP : Ch_P tc bc ec) (hA : wok A (Ch_d tc bc ec) m) (h0 : 0 ≤ i ∧ i < 4) : pm_len (wput A (Ch_d tc bc ec) S h) (A (8, i, 0)) = some 4 := w_len hA (Ch_d8 h0) (by decide)
theorem Ch_r8 (hP : Ch_P tc bc ec) (hA : wok A (Ch_d tc bc ec) m) (h0 : 0 ≤ i ∧ i < 4) (hx : 0 ≤ x ∧ x < 4) : pm_rd pm_isB (wput A (Ch_d tc bc ec) S h) (A (8, i, 0)) x = some (S.1 (8, i, 0) x) := (w_rd (t := .boolean) hA (Ch_d8 h0) rfl (by decide) (by decide)).trans (if_pos hx)
theorem Ch_w8 (hP : Ch_P tc bc ec) (hA : wok A (Ch_d tc bc ec) m) (h0 : 0 ≤ i ∧ i < 4) (hx : 0 ≤ x ∧ x < 4) : pm_wr pm_wB (wput A (Ch_d tc bc ec) S h) (A (8, i, 0)) x v = some (wput A (Ch_d tc bc ec) (sz S (8, i, 0) x (vp_nar .boolean v)) h) := (w_wr (t := .boolean) hA (Ch_d8 h0) rfl (by decide) (by decide)).trans (if_pos hx)
theorem Ch_l9 (hP : Ch_P tc bc ec) (hA : wok A (Ch_d tc bc ec) m) : pm_len (wput A (Ch_d tc bc ec) S h) (A (9, 0, 0)) = some 60 := w_lenR hA (Ch_d9) (by decide)
theorem Ch_r9 (hP : Ch_P tc bc ec) (hA : wok A (Ch_d tc bc ec) m) (hx : 0 ≤ x ∧ x < 60) (hn : x < ec) : pm_rdR (wput A (Ch_d tc bc ec) S h) (A (9, 0, 0)) x = some (some (A (10, x, 0))) := ((w_rdR hA (Ch_d9) rfl (by decide)).trans (if_pos hx)).trans (congrArg some (congrArg (Option.map A) (if_pos hn)))
theorem Ch_c10 (hP : Ch_P tc bc ec) (hA : wok A (Ch_d tc bc ec) m) (h0 : 0 ≤ i ∧ i < ec) : pm_cls (wput A (Ch_d tc bc ec) S h) (A (10, i, 0)) = some 59 := w_cls hA (Ch_d10 h0)
theorem Ch_k10 {cl : pm_C} {k b c : Nat} {r : List Instr} {ls s : List Value} (hP : Ch_P tc bc ec) (hA : wok A (Ch_d tc bc ec) m) (h0 : 0 ≤ i ∧ i < ec) (h2 : pm_sub 59 c = true) : pm_ev pm_prog cl k b (.checkcast c :: r) ls (.ref (A (10, i, 0)) :: s) (wput A (Ch_d tc bc ec) S h) = pm_ev pm_prog cl k b r ls (.ref (A (10, i, 0)) :: s) (wput A (Ch_d tc bc ec) S h) := pe_checkcast (w_cls hA (Ch_d10 h0)) h2
theorem Ch_g10_0 (hP : Ch_P tc bc ec) (hA : wok A (Ch_d tc bc ec) m) (h0 : 0 ≤ i ∧ i < ec) : pm_gf pm_tab (wput A (Ch_d tc bc ec) S h) (A (10, i, 0)) 59 0 = some (.int (S.1 (10, i, 0) 0)) := w_g (f := (0, (0, 0, 0))) hA (Ch_d10 h0) rfl rfl
theorem Ch_p10_0 (hP : Ch_P tc bc ec) (hA : wok A (Ch_d tc bc ec) m) (h0 : 0 ≤ i ∧ i < ec) : pm_pf pm_tab (wput A (Ch_d tc bc ec) S h) (A (10, i, 0)) 59 0 0 (.int v) = some (wput A (Ch_d tc bc ec) (sz S (10, i, 0) 0 v) h) := w_p0 (q := (0, 0, 0)) (t := 0) hA (Ch_d10 h0) rfl rfl (Nat.le_of_ble_eq_true rfl)
theorem Ch_g10_1 (hP : Ch_P tc bc ec) (hA : wok A (Ch_d tc bc ec) m) (h0 : 0 ≤ i ∧ i < ec) : pm_gf pm_tab (wput A (Ch_d tc bc ec) S h) (A (10, i, 0)) 59 1 = some (.ref (A (11, i, 0))) := w_g (f := (2, (11, i, 0))) hA (Ch_d10 h0) rfl rfl
theorem Ch_g10_2 (hP : Ch_P tc bc ec) (hA : wok A (Ch_d tc bc ec) m) (h0 : 0 ≤ i ∧ i < ec) : pm_gf pm_tab (wput A (Ch_d tc bc ec) S h) (A (10, i, 0)) 59 2 = some (.ref (A (12, i, 0))) := w_g (f := (2, (12, i, 0))) hA (Ch_d10 h0) rfl rfl
theorem Ch_g10_3 (hP : Ch_P tc bc ec) (hA : wok A (Ch_d tc bc ec) m) (h0 : 0 ≤ i ∧ i < ec) : pm_gf pm_tab (wput A (Ch_d tc bc ec) S h) (A (10, i, 0)) 59 3 = some (.int (S.1 (10, i, 0) 3)) := w_g (f := (0, (0, 0, 0))) hA (Ch_d10 h0) rfl rfl
theorem Ch_p10_3 (hP : Ch_P tc bc ec) (hA : wok A (Ch_d tc bc ec) m) (h0 : 0 ≤ i ∧ i < ec) : pm_pf pm_tab (wput A (Ch_d tc bc ec) S h) (A (10, i, 0)) 59 3 0 (.int v) = some (wput A (Ch_d tc bc ec) (sz S (10, i, 0) 3 v) h) := w_p0 (q := (0, 0, 0)) (t := 0) hA (Ch_d10 h0) rfl rfl (Nat.le_of_ble_eq_true rfl)
theorem Ch_g10_4 (hP : Ch_P tc bc ec) (hA : wok A (Ch_d tc bc ec) m) (h0 : 0 ≤ i ∧ i < ec) : pm_gf pm_tab (wput A (Ch_d tc bc ec) S h) (A (10, i, 0)) 59 4 = some (.int (S.1 (10, i, 0) 4)) := w_g (f := (0, (0, 0, 0))) hA (Ch_d10 h0) rfl rfl
theorem Ch_p10_4 (hP : Ch_P tc bc ec) (hA : wok A (Ch_d tc bc ec) m) (h0 : 0 ≤ i ∧ i < ec) : pm_pf pm_tab (wput A (Ch_d tc bc ec) S h) (A (10, i, 0)) 59 4 0 (.int v) = some (wput A (Ch_d tc bc ec) (sz S (10, i, 0) 4 v) h) := w_p0 (q := (0, 0, 0)) (t := 0) hA (Ch_d10 h0) rfl rfl (Nat.le_of_ble_eq_true rfl)
theorem Ch_g10_5 (hP : Ch_P tc bc ec) (hA : wok A (Ch_d tc bc ec) m) (h0 : 0 ≤ i ∧ i < ec) : pm_gf pm_tab (wput A (Ch_d tc bc ec) S h) (A (10, i, 0)) 59 5 = some (.int (S.1 (10, i, 0) 5)) := w_g (f := (0, (0, 0, 0))) hA (Ch_d10 h0) rfl rfl
theorem Ch_p10_5 (hP : Ch_P tc bc ec) (hA : wok A (Ch_d tc bc ec) m) (h0 : 0 ≤ i ∧ i < ec) (hv : v = 0 ∨ v = 1) : pm_pf pm_tab (wput A (Ch_d tc bc ec) S h) (A (10, i, 0)) 59 5 2 (.int v) = some (wput A (Ch_d tc bc ec) (sz S (10, i, 0) 5 v) h) := (w_p0 (q := (0, 0, 0)) (t := 2) hA (Ch_d10 h0) rfl rfl (Nat.le_of_ble_eq_true rfl)).trans (if_pos (by rw [pm_ok2]; exact hv))
theorem Ch_l11 (hP : Ch_P tc bc ec) (hA : wok A (Ch_d tc bc ec) m) (h0 : 0 ≤ i ∧ i < ec) : pm_len (wput A (Ch_d tc bc ec) S h) (A (11, i, 0)) = some 6 := w_len hA (Ch_d11 h0) (by decide)
theorem Ch_r11 (hP : Ch_P tc bc ec) (hA : wok A (Ch_d tc bc ec) m) (h0 : 0 ≤ i ∧ i < ec) (hx : 0 ≤ x ∧ x < 6) : pm_rd pm_isI (wput A (Ch_d tc bc ec) S h) (A (11, i, 0)) x = some (S.1 (11, i, 0) x) := (w_rd (t := .int) hA (Ch_d11 h0) rfl (by decide) (by decide)).trans (if_pos hx)
theorem Ch_w11 (hP : Ch_P tc bc ec) (hA : wok A (Ch_d tc bc ec) m) (h0 : 0 ≤ i ∧ i < ec) (hx : 0 ≤ x ∧ x < 6) : pm_wr pm_wI (wput A (Ch_d tc bc ec) S h) (A (11, i, 0)) x v = some (wput A (Ch_d tc bc ec) (sz S (11, i, 0) x v) h) := (w_wr (t := .int) hA (Ch_d11 h0) rfl (by decide) (by decide)).trans (if_pos hx)
theorem Ch_l12 (hP : Ch_P tc bc ec) (hA : wok A (Ch_d tc bc ec) m) (h0 : 0 ≤ i ∧ i < ec) : pm_len (wput A (Ch_d tc bc ec) S h) (A (12, i, 0)) = some 6 := w_len hA (Ch_d12 h0) (by decide)
theorem Ch_r12 (hP : Ch_P tc bc ec) (hA : wok A (Ch_d tc bc ec) m) (h0 : 0 ≤ i ∧ i < ec) (hx : 0 ≤ x ∧ x < 6) : pm_rdL (wput A (Ch_d tc bc ec) S h) (A (12, i, 0)) x = some (S.2 (12, i, 0) x) := (w_rdL hA (Ch_d12 h0) (by decide)).trans (if_pos hx)
theorem Ch_w12 (hP : Ch_P tc bc ec) (hA : wok A (Ch_d tc bc ec) m) (h0 : 0 ≤ i ∧ i < ec) (hx : 0 ≤ x ∧ x < 6) : pm_wrL (wput A (Ch_d tc bc ec) S h) (A (12, i, 0)) x u = some (wput A (Ch_d tc bc ec) (sl S (12, i, 0) x u) h) := (w_wrL hA (Ch_d12 h0) (by decide)).trans (if_pos hx)
end
/-- TimberHouse$ShopDesks.isIn(JJJ)Z -/
theorem c1538 {d : Nat} {h : pm_H} {x0 : Int64} {x1 : Int64} {x2 : Int64} : pm_call pm_prog (d + 1) 1538 [.long x0, .long x1, .long x2] h = pm_ev pm_prog (pm_call pm_prog d) 1538 0 b1538_0 [.long x0, pm_junk, .long x1, pm_junk, .long x2, pm_junk] [] h := pm_cal (pm_rc0 rfl) rfl rfl rfl
theorem g1538_1 {cl : pm_C} {ls st : List Value} {h : pm_H} : pm_go pm_prog cl 1538 1 ls st h = pm_ev pm_prog cl 1538 1 b1538_1 ls st h := pm_go_eq pm_prog cl 1538 1 ls st h
theorem g1538_2 {cl : pm_C} {ls st : List Value} {h : pm_H} : pm_go pm_prog cl 1538 2 ls st h = pm_ev pm_prog cl 1538 2 b1538_2 ls st h := pm_go_eq pm_prog cl 1538 2 ls st h
/-- TimberHouse$ShopDesks.isIn(JJJ)Z -/
noncomputable def f1538 (x0 : Int64) (x2 : Int64) (x4 : Int64) : Option (Int32) :=
  if x0 < x2 then
    some 0
  else
    if x0 ≤ x4 then
      some 1
    else
      some 0
theorem x1538 {h : pm_H} {D : Nat} {x0 : Int64} {x2 : Int64} {x4 : Int64} {r : Int32} (hD : 1 ≤ D) (e : f1538 x0 x2 x4 = some r) : pm_call pm_prog D 1538 [.long x0, .long x2, .long x4] h = some (Outcome.returned (some (.int r)), h) := by
  obtain ⟨D, rfl⟩ : ∃ D', D = D' + 1 := ⟨D - 1, by omega⟩
  have hD : 0 ≤ D := by omega
  simp only [f1538] at e
  rw [c1538, b1538_0]
  by_cases k1 : x0 < x2
  · rw [if_pos k1] at e
    have e := Option.some.inj e; subst e
    simp -implicitDefEqProofs (disch := first | assumption | exact Nat.le_of_ble_eq_true rfl | decide) only [b1538_0, g1538_1, b1538_1, g1538_2, b1538_2, pe_lload0, pe_lload2, pe_lcmp, pe_if_lt, pe_lload4, pe_if_gt, pe_sipush, pe_goto, pe_goto_w, pe_aastoreN, pe_areturnN, pe_null, pm_prog_1, pm_ob_some, Nat.reduceDiv, Nat.reduceMod, Nat.reduceMul, Nat.reduceAdd, Int.reduceToNat, pm_kill_i, pm_kill_r, pm_kill_n, pm_kill_j, pm_kill_l, pm_kill_d, pm_cats_nil, pm_cats_i, pm_cats_r, pm_cats_n, pm_cats_l, pm_cats_d, sz_1, sz_2, sl_1, sl_2, lc_0, lc_lt, lc_le, li_ne, va_rf, wr_m1, we_m1, pm_kill_w, Int32.reduceOfInt, Int64.reduceOfInt, Int32.reduceOfNat, Int32.reduceLT, Int32.reduceLE, Prod.mk.injEq, Nat.reduceEqDiff, reduceCtorEq, and_true, true_and, and_false, false_and, and_self, ite_true, ite_false, ↓reduceIte, not_true_eq_false, not_false_eq_true, pe_ri, pe_rz, pe_rc, eq_true k1]
  · rw [if_neg k1] at e
    by_cases k2 : x0 ≤ x4
    · rw [if_pos k2] at e
      have e := Option.some.inj e; subst e
      simp -implicitDefEqProofs (disch := first | assumption | exact Nat.le_of_ble_eq_true rfl | decide) only [b1538_0, g1538_1, b1538_1, g1538_2, b1538_2, pe_lload0, pe_lload2, pe_lcmp, pe_if_lt, pe_lload4, pe_if_gt, pe_sipush, pe_goto, pe_goto_w, pe_aastoreN, pe_areturnN, pe_null, pm_prog_1, pm_ob_some, Nat.reduceDiv, Nat.reduceMod, Nat.reduceMul, Nat.reduceAdd, Int.reduceToNat, pm_kill_i, pm_kill_r, pm_kill_n, pm_kill_j, pm_kill_l, pm_kill_d, pm_cats_nil, pm_cats_i, pm_cats_r, pm_cats_n, pm_cats_l, pm_cats_d, sz_1, sz_2, sl_1, sl_2, lc_0, lc_lt, lc_le, li_ne, va_rf, wr_m1, we_m1, pm_kill_w, Int32.reduceOfInt, Int64.reduceOfInt, Int32.reduceOfNat, Int32.reduceLT, Int32.reduceLE, Prod.mk.injEq, Nat.reduceEqDiff, reduceCtorEq, and_true, true_and, and_false, false_and, and_self, ite_true, ite_false, ↓reduceIte, not_true_eq_false, not_false_eq_true, pe_ri, pe_rz, pe_rc, eq_false k1, eq_true k2]
    · rw [if_neg k2] at e
      have e := Option.some.inj e; subst e
      simp -implicitDefEqProofs (disch := first | assumption | exact Nat.le_of_ble_eq_true rfl | decide) only [b1538_0, g1538_1, b1538_1, g1538_2, b1538_2, pe_lload0, pe_lload2, pe_lcmp, pe_if_lt, pe_lload4, pe_if_gt, pe_sipush, pe_goto, pe_goto_w, pe_aastoreN, pe_areturnN, pe_null, pm_prog_1, pm_ob_some, Nat.reduceDiv, Nat.reduceMod, Nat.reduceMul, Nat.reduceAdd, Int.reduceToNat, pm_kill_i, pm_kill_r, pm_kill_n, pm_kill_j, pm_kill_l, pm_kill_d, pm_cats_nil, pm_cats_i, pm_cats_r, pm_cats_n, pm_cats_l, pm_cats_d, sz_1, sz_2, sl_1, sl_2, lc_0, lc_lt, lc_le, li_ne, va_rf, wr_m1, we_m1, pm_kill_w, Int32.reduceOfInt, Int64.reduceOfInt, Int32.reduceOfNat, Int32.reduceLT, Int32.reduceLE, Prod.mk.injEq, Nat.reduceEqDiff, reduceCtorEq, and_true, true_and, and_false, false_and, and_self, ite_true, ite_false, ↓reduceIte, not_true_eq_false, not_false_eq_true, pe_ri, pe_rz, pe_rc, eq_false k1, eq_false k2]
/-- TimberHouse$ShopDesks.proper(Z)V -/
theorem c1539 {d : Nat} {h : pm_H} {x0 : Int32} : pm_call pm_prog (d + 1) 1539 [.int x0] h = pm_ev pm_prog (pm_call pm_prog d) 1539 0 b1539_0 [.int x0] [] h := pm_cal (pm_rc0 rfl) rfl rfl rfl
theorem g1539_1 {cl : pm_C} {ls st : List Value} {h : pm_H} : pm_go pm_prog cl 1539 1 ls st h = pm_ev pm_prog cl 1539 1 b1539_1 ls st h := pm_go_eq pm_prog cl 1539 1 ls st h
theorem t1539 {cl : pm_C} {j : Nat} {ls : List Value} {c : Nat} {h : pm_H} : pm_thr pm_prog cl 1539 j ls c h = some (.threw c, h) := rfl
/-- TimberHouse$ShopDesks.proper(Z)V -/
noncomputable def f1539 (x0 : Int32) : Option (Nat ⊕ (Unit)) :=
  if x0 = 0 then
    some (.inl 70)
  else
    some (.inr ())
theorem x1539 {h : pm_H} {D : Nat} {x0 : Int32} {r : Nat ⊕ (Unit)} (hD : 1 ≤ D) (e : f1539 x0 = some r) : pm_call pm_prog D 1539 [.int x0] h = some (match (generalizing := false) r with | .inl c => (Outcome.threw c, (pm_new h 6 (.inr (c, [])))) | .inr _ => (Outcome.returned none, h)) := by
  obtain ⟨D, rfl⟩ : ∃ D', D = D' + 1 := ⟨D - 1, by omega⟩
  have hD : 0 ≤ D := by omega
  simp only [f1539] at e
  rw [c1539, b1539_0]
  by_cases k1 : x0 = 0
  · rw [if_pos k1] at e
    have e := Option.some.inj e; subst e
    simp -implicitDefEqProofs (disch := first | assumption | exact Nat.le_of_ble_eq_true rfl | decide) only [b1539_0, g1539_1, b1539_1, pe_iload0, pe_if_ne, pe_return, pe_aastoreN, pe_areturnN, pe_null, pm_prog_1, pm_ob_some, Nat.reduceDiv, Nat.reduceMod, Nat.reduceMul, Nat.reduceAdd, Int.reduceToNat, pm_kill_i, pm_kill_r, pm_kill_n, pm_kill_j, pm_kill_l, pm_kill_d, pm_cats_nil, pm_cats_i, pm_cats_r, pm_cats_n, pm_cats_l, pm_cats_d, sz_1, sz_2, sl_1, sl_2, lc_0, lc_lt, lc_le, li_ne, va_rf, wr_m1, we_m1, pm_kill_w, Int32.reduceOfInt, Int64.reduceOfInt, Int32.reduceOfNat, Int32.reduceLT, Int32.reduceLE, Prod.mk.injEq, Nat.reduceEqDiff, reduceCtorEq, and_true, true_and, and_false, false_and, and_self, ite_true, ite_false, ↓reduceIte, not_true_eq_false, not_false_eq_true, pe_ri, pe_rz, pe_rc, p_throw, t1539, eq_true k1]
  · rw [if_neg k1] at e
    have e := Option.some.inj e; subst e
    simp -implicitDefEqProofs (disch := first | assumption | exact Nat.le_of_ble_eq_true rfl | decide) only [b1539_0, g1539_1, b1539_1, pe_iload0, pe_if_ne, pe_return, pe_aastoreN, pe_areturnN, pe_null, pm_prog_1, pm_ob_some, Nat.reduceDiv, Nat.reduceMod, Nat.reduceMul, Nat.reduceAdd, Int.reduceToNat, pm_kill_i, pm_kill_r, pm_kill_n, pm_kill_j, pm_kill_l, pm_kill_d, pm_cats_nil, pm_cats_i, pm_cats_r, pm_cats_n, pm_cats_l, pm_cats_d, sz_1, sz_2, sl_1, sl_2, lc_0, lc_lt, lc_le, li_ne, va_rf, wr_m1, we_m1, pm_kill_w, Int32.reduceOfInt, Int64.reduceOfInt, Int32.reduceOfNat, Int32.reduceLT, Int32.reduceLE, Prod.mk.injEq, Nat.reduceEqDiff, reduceCtorEq, and_true, true_and, and_false, false_and, and_self, ite_true, ite_false, ↓reduceIte, not_true_eq_false, not_false_eq_true, pe_ri, pe_rz, pe_rc, p_throw, t1539, eq_false k1]
/-- TimberHouse$ShopDesks.can(Z)V -/
theorem c1540 {d : Nat} {h : pm_H} {x0 : Int32} : pm_call pm_prog (d + 1) 1540 [.int x0] h = pm_ev pm_prog (pm_call pm_prog d) 1540 0 b1540_0 [.int x0] [] h := pm_cal (pm_rc0 rfl) rfl rfl rfl
theorem g1540_1 {cl : pm_C} {ls st : List Value} {h : pm_H} : pm_go pm_prog cl 1540 1 ls st h = pm_ev pm_prog cl 1540 1 b1540_1 ls st h := pm_go_eq pm_prog cl 1540 1 ls st h
theorem t1540 {cl : pm_C} {j : Nat} {ls : List Value} {c : Nat} {h : pm_H} : pm_thr pm_prog cl 1540 j ls c h = some (.threw c, h) := rfl
/-- TimberHouse$ShopDesks.can(Z)V -/
noncomputable def f1540 (x0 : Int32) : Option (Nat ⊕ (Unit)) :=
  if x0 = 0 then
    some (.inl 71)
  else
    some (.inr ())
theorem x1540 {h : pm_H} {D : Nat} {x0 : Int32} {r : Nat ⊕ (Unit)} (hD : 1 ≤ D) (e : f1540 x0 = some r) : pm_call pm_prog D 1540 [.int x0] h = some (match (generalizing := false) r with | .inl c => (Outcome.threw c, (pm_new h 6 (.inr (c, [])))) | .inr _ => (Outcome.returned none, h)) := by
  obtain ⟨D, rfl⟩ : ∃ D', D = D' + 1 := ⟨D - 1, by omega⟩
  have hD : 0 ≤ D := by omega
  simp only [f1540] at e
  rw [c1540, b1540_0]
  by_cases k1 : x0 = 0
  · rw [if_pos k1] at e
    have e := Option.some.inj e; subst e
    simp -implicitDefEqProofs (disch := first | assumption | exact Nat.le_of_ble_eq_true rfl | decide) only [b1540_0, g1540_1, b1540_1, pe_iload0, pe_if_ne, pe_return, pe_aastoreN, pe_areturnN, pe_null, pm_prog_1, pm_ob_some, Nat.reduceDiv, Nat.reduceMod, Nat.reduceMul, Nat.reduceAdd, Int.reduceToNat, pm_kill_i, pm_kill_r, pm_kill_n, pm_kill_j, pm_kill_l, pm_kill_d, pm_cats_nil, pm_cats_i, pm_cats_r, pm_cats_n, pm_cats_l, pm_cats_d, sz_1, sz_2, sl_1, sl_2, lc_0, lc_lt, lc_le, li_ne, va_rf, wr_m1, we_m1, pm_kill_w, Int32.reduceOfInt, Int64.reduceOfInt, Int32.reduceOfNat, Int32.reduceLT, Int32.reduceLE, Prod.mk.injEq, Nat.reduceEqDiff, reduceCtorEq, and_true, true_and, and_false, false_and, and_self, ite_true, ite_false, ↓reduceIte, not_true_eq_false, not_false_eq_true, pe_ri, pe_rz, pe_rc, p_throw, t1540, eq_true k1]
  · rw [if_neg k1] at e
    have e := Option.some.inj e; subst e
    simp -implicitDefEqProofs (disch := first | assumption | exact Nat.le_of_ble_eq_true rfl | decide) only [b1540_0, g1540_1, b1540_1, pe_iload0, pe_if_ne, pe_return, pe_aastoreN, pe_areturnN, pe_null, pm_prog_1, pm_ob_some, Nat.reduceDiv, Nat.reduceMod, Nat.reduceMul, Nat.reduceAdd, Int.reduceToNat, pm_kill_i, pm_kill_r, pm_kill_n, pm_kill_j, pm_kill_l, pm_kill_d, pm_cats_nil, pm_cats_i, pm_cats_r, pm_cats_n, pm_cats_l, pm_cats_d, sz_1, sz_2, sl_1, sl_2, lc_0, lc_lt, lc_le, li_ne, va_rf, wr_m1, we_m1, pm_kill_w, Int32.reduceOfInt, Int64.reduceOfInt, Int32.reduceOfNat, Int32.reduceLT, Int32.reduceLE, Prod.mk.injEq, Nat.reduceEqDiff, reduceCtorEq, and_true, true_and, and_false, false_and, and_self, ite_true, ite_false, ↓reduceIte, not_true_eq_false, not_false_eq_true, pe_ri, pe_rz, pe_rc, p_throw, t1540, eq_false k1]
/-- TimberHouse$ShopDesks.there(Z)V -/
theorem c1543 {d : Nat} {h : pm_H} {x0 : Int32} : pm_call pm_prog (d + 1) 1543 [.int x0] h = pm_ev pm_prog (pm_call pm_prog d) 1543 0 b1543_0 [.int x0] [] h := pm_cal (pm_rc0 rfl) rfl rfl rfl
theorem g1543_1 {cl : pm_C} {ls st : List Value} {h : pm_H} : pm_go pm_prog cl 1543 1 ls st h = pm_ev pm_prog cl 1543 1 b1543_1 ls st h := pm_go_eq pm_prog cl 1543 1 ls st h
theorem t1543 {cl : pm_C} {j : Nat} {ls : List Value} {c : Nat} {h : pm_H} : pm_thr pm_prog cl 1543 j ls c h = some (.threw c, h) := rfl
/-- TimberHouse$ShopDesks.there(Z)V -/
noncomputable def f1543 (x0 : Int32) : Option (Nat ⊕ (Unit)) :=
  if x0 = 0 then
    some (.inl 67)
  else
    some (.inr ())
theorem x1543 {h : pm_H} {D : Nat} {x0 : Int32} {r : Nat ⊕ (Unit)} (hD : 1 ≤ D) (e : f1543 x0 = some r) : pm_call pm_prog D 1543 [.int x0] h = some (match (generalizing := false) r with | .inl c => (Outcome.threw c, (pm_new h 6 (.inr (c, [])))) | .inr _ => (Outcome.returned none, h)) := by
  obtain ⟨D, rfl⟩ : ∃ D', D = D' + 1 := ⟨D - 1, by omega⟩
  have hD : 0 ≤ D := by omega
  simp only [f1543] at e
  rw [c1543, b1543_0]
  by_cases k1 : x0 = 0
  · rw [if_pos k1] at e
    have e := Option.some.inj e; subst e
    simp -implicitDefEqProofs (disch := first | assumption | exact Nat.le_of_ble_eq_true rfl | decide) only [b1543_0, g1543_1, b1543_1, pe_iload0, pe_if_ne, pe_return, pe_aastoreN, pe_areturnN, pe_null, pm_prog_1, pm_ob_some, Nat.reduceDiv, Nat.reduceMod, Nat.reduceMul, Nat.reduceAdd, Int.reduceToNat, pm_kill_i, pm_kill_r, pm_kill_n, pm_kill_j, pm_kill_l, pm_kill_d, pm_cats_nil, pm_cats_i, pm_cats_r, pm_cats_n, pm_cats_l, pm_cats_d, sz_1, sz_2, sl_1, sl_2, lc_0, lc_lt, lc_le, li_ne, va_rf, wr_m1, we_m1, pm_kill_w, Int32.reduceOfInt, Int64.reduceOfInt, Int32.reduceOfNat, Int32.reduceLT, Int32.reduceLE, Prod.mk.injEq, Nat.reduceEqDiff, reduceCtorEq, and_true, true_and, and_false, false_and, and_self, ite_true, ite_false, ↓reduceIte, not_true_eq_false, not_false_eq_true, pe_ri, pe_rz, pe_rc, p_throw, t1543, eq_true k1]
  · rw [if_neg k1] at e
    have e := Option.some.inj e; subst e
    simp -implicitDefEqProofs (disch := first | assumption | exact Nat.le_of_ble_eq_true rfl | decide) only [b1543_0, g1543_1, b1543_1, pe_iload0, pe_if_ne, pe_return, pe_aastoreN, pe_areturnN, pe_null, pm_prog_1, pm_ob_some, Nat.reduceDiv, Nat.reduceMod, Nat.reduceMul, Nat.reduceAdd, Int.reduceToNat, pm_kill_i, pm_kill_r, pm_kill_n, pm_kill_j, pm_kill_l, pm_kill_d, pm_cats_nil, pm_cats_i, pm_cats_r, pm_cats_n, pm_cats_l, pm_cats_d, sz_1, sz_2, sl_1, sl_2, lc_0, lc_lt, lc_le, li_ne, va_rf, wr_m1, we_m1, pm_kill_w, Int32.reduceOfInt, Int64.reduceOfInt, Int32.reduceOfNat, Int32.reduceLT, Int32.reduceLE, Prod.mk.injEq, Nat.reduceEqDiff, reduceCtorEq, and_true, true_and, and_false, false_and, and_self, ite_true, ite_false, ↓reduceIte, not_true_eq_false, not_false_eq_true, pe_ri, pe_rz, pe_rc, p_throw, t1543, eq_false k1]
/-- TimberHouse$ShopDesks.entryAt(I)LTimberHouse$ShopDesks$Entry; -/
theorem c1542 {d : Nat} {h : pm_H} {a : Nat} {x0 : Int32} (hc : pm_cls h a = some 24) : pm_call pm_prog (d + 1) 1542 [.ref a, .int x0] h = pm_ev pm_prog (pm_call pm_prog d) 1542 0 b1542_0 [.ref a, .int x0] [] h := pm_cal (pm_rc1 hc rfl) rfl rfl rfl
theorem t1542 {cl : pm_C} {j : Nat} {ls : List Value} {c : Nat} {h : pm_H} : pm_thr pm_prog cl 1542 j ls c h = some (.threw c, h) := rfl
/-- TimberHouse$ShopDesks.entryAt(I)LTimberHouse$ShopDesks$Entry; -/
noncomputable def f1542 (tc : Int32) (bc : Int32) (ec : Int32) (S : wS) (x1 : Int32) : Option (Nat ⊕ (Int32)) :=
  (f1538 (Int32.toInt64 x1) 0 ((Int32.toInt64 (S.1 (0, 0, 0) 6)) - 1)).bind fun v1 =>
  (f1543 v1).bind fun r => match r with
  | .inl c2 =>
    some (.inl c2)
  | .inr _ =>
  if 0 ≤ x1 ∧ x1 < 60 then
    if x1 < ec then
      if 0 ≤ x1 ∧ x1 < ec then
        some (.inr x1)
      else none
    else none
  else none
theorem x1542 {tc : Int32} {bc : Int32} {ec : Int32} {A : wK → Nat} {h : pm_H} {D : Nat} {S : wS} {x1 : Int32} {r : Nat ⊕ (Int32)} (hP : Ch_P tc bc ec) (hA : wok A (Ch_d tc bc ec) h.1) (hD : 2 ≤ D) (e : f1542 tc bc ec S x1 = some r) : pm_call pm_prog D 1542 [.ref (A (0, 0, 0)), .int x1] (wput A (Ch_d tc bc ec) S h) = some (match (generalizing := false) r with | .inl c => (Outcome.threw c, (wput A (Ch_d tc bc ec) S (pm_new h 6 (.inr (c, []))))) | .inr w0 => (Outcome.returned (some (.ref (A (10, w0, 0)))), (wput A (Ch_d tc bc ec) S h))) := by
  obtain ⟨D, rfl⟩ : ∃ D', D = D' + 1 := ⟨D - 1, by omega⟩
  have hD : 1 ≤ D := by omega
  simp only [f1542] at e
  rw [c1542 (Ch_c0 hP hA), b1542_0]
  obtain ⟨v1, k1, e⟩ := Option.bind_eq_some_iff.mp e
  try dsimp only at e
  have z1 := fun h => x1538 (D := D) (h := h) (by omega) k1
  obtain ⟨r, k2, e⟩ := Option.bind_eq_some_iff.mp e
  have z2 := fun h => x1543 (D := D) (h := h) (by omega) k2
  rcases r with c2 | _
  · dsimp only at e z2
    have e := Option.some.inj e; subst e
    simp -implicitDefEqProofs (disch := first | assumption | exact Nat.le_of_ble_eq_true rfl | decide) only [b1542_0, pe_iload1, pe_i2l, pe_bipush, pe_aload0, pe_getfield, pe_lsub, pe_call3, pm_af_ret, pm_af_void, pm_af_thr, pe_call1, pe_aaload, pe_areturn, pe_aloadN0, pe_aastoreN, pe_areturnN, pe_null, pm_prog_1, pm_ob_some, Nat.reduceDiv, Nat.reduceMod, Nat.reduceMul, Nat.reduceAdd, Int.reduceToNat, pm_kill_i, pm_kill_r, pm_kill_n, pm_kill_j, pm_kill_l, pm_kill_d, pm_cats_nil, pm_cats_i, pm_cats_r, pm_cats_n, pm_cats_l, pm_cats_d, sz_1, sz_2, sl_1, sl_2, lc_0, lc_lt, lc_le, li_ne, va_rf, wr_m1, we_m1, pm_kill_w, Int32.reduceOfInt, Int64.reduceOfInt, Int32.reduceOfNat, Int32.reduceLT, Int32.reduceLE, Prod.mk.injEq, Nat.reduceEqDiff, reduceCtorEq, and_true, true_and, and_false, false_and, and_self, ite_true, ite_false, ↓reduceIte, not_true_eq_false, not_false_eq_true, pe_ri, pe_rz, pe_rc, p_throw, t1542, w_junk hA, Ch_g0_5 hP hA, Ch_g0_6 hP hA, Ch_r9 hP hA, z1, z2]
  · dsimp only at e z2
    by_cases k3 : 0 ≤ x1 ∧ x1 < 60
    · rw [if_pos k3] at e
      by_cases k4 : x1 < ec
      · rw [if_pos k4] at e
        by_cases k5 : 0 ≤ x1 ∧ x1 < ec
        · rw [if_pos k5] at e
          have e := Option.some.inj e; subst e
          simp -implicitDefEqProofs (disch := first | assumption | exact Nat.le_of_ble_eq_true rfl | decide) only [b1542_0, pe_iload1, pe_i2l, pe_bipush, pe_aload0, pe_getfield, pe_lsub, pe_call3, pm_af_ret, pm_af_void, pm_af_thr, pe_call1, pe_aaload, pe_areturn, pe_aloadN0, pe_aastoreN, pe_areturnN, pe_null, pm_prog_1, pm_ob_some, Nat.reduceDiv, Nat.reduceMod, Nat.reduceMul, Nat.reduceAdd, Int.reduceToNat, pm_kill_i, pm_kill_r, pm_kill_n, pm_kill_j, pm_kill_l, pm_kill_d, pm_cats_nil, pm_cats_i, pm_cats_r, pm_cats_n, pm_cats_l, pm_cats_d, sz_1, sz_2, sl_1, sl_2, lc_0, lc_lt, lc_le, li_ne, va_rf, wr_m1, we_m1, pm_kill_w, Int32.reduceOfInt, Int64.reduceOfInt, Int32.reduceOfNat, Int32.reduceLT, Int32.reduceLE, Prod.mk.injEq, Nat.reduceEqDiff, reduceCtorEq, and_true, true_and, and_false, false_and, and_self, ite_true, ite_false, ↓reduceIte, not_true_eq_false, not_false_eq_true, pe_ri, pe_rz, pe_rc, p_throw, t1542, w_junk hA, Ch_g0_5 hP hA, Ch_g0_6 hP hA, Ch_r9 hP hA, z1, z2]
        · rw [if_neg k5] at e; cases e
      · rw [if_neg k4] at e; cases e
    · rw [if_neg k3] at e; cases e
/-- TimberHouse$ShopDesks$Entry.add(IJ)V -/
theorem c3777 {d : Nat} {h : pm_H} {a : Nat} {x0 : Int32} {x1 : Int64} (hc : pm_cls h a = some 59) : pm_call pm_prog (d + 1) 3777 [.ref a, .int x0, .long x1] h = pm_ev pm_prog (pm_call pm_prog d) 3777 0 b3777_0 [.ref a, .int x0, .long x1, pm_junk] [] h := pm_cal (pm_rc1 hc rfl) rfl rfl rfl
/-- TimberHouse$ShopDesks$Entry.add(IJ)V -/
noncomputable def f3777 (tc : Int32) (bc : Int32) (ec : Int32) (S : wS) (x0i : Int32) (x1 : Int32) (x2 : Int64) : Option (wS) :=
  if 0 ≤ x0i ∧ x0i < ec then
    if 0 ≤ (S.1 (10, x0i, 0) 3) ∧ (S.1 (10, x0i, 0) 3) < 6 then
      some (sl (sz (sz S (11, x0i, 0) (S.1 (10, x0i, 0) 3) x1) (10, x0i, 0) 3 ((S.1 (10, x0i, 0) 3) + 1)) (12, x0i, 0) (S.1 (10, x0i, 0) 3) x2)
    else none
  else none
theorem x3777 {tc : Int32} {bc : Int32} {ec : Int32} {A : wK → Nat} {h : pm_H} {D : Nat} {S : wS} {x0i : Int32} {x1 : Int32} {x2 : Int64} {r : wS} (hP : Ch_P tc bc ec) (hA : wok A (Ch_d tc bc ec) h.1) (hD : 1 ≤ D) (e : f3777 tc bc ec S x0i x1 x2 = some r) : pm_call pm_prog D 3777 [.ref (A (10, x0i, 0)), .int x1, .long x2] (wput A (Ch_d tc bc ec) S h) = some (Outcome.returned none, (wput A (Ch_d tc bc ec) r h)) := by
  obtain ⟨D, rfl⟩ : ∃ D', D = D' + 1 := ⟨D - 1, by omega⟩
  have hD : 0 ≤ D := by omega
  simp only [f3777] at e
  have k1 : 0 ≤ x0i ∧ x0i < ec := by
    by_cases q : 0 ≤ x0i ∧ x0i < ec
    · exact q
    · rw [if_neg q] at e; cases e
  rw [if_pos k1] at e
  rw [c3777 (Ch_c10 hP hA k1), b3777_0]
  by_cases k2 : 0 ≤ (S.1 (10, x0i, 0) 3) ∧ (S.1 (10, x0i, 0) 3) < 6
  · rw [if_pos k2] at e
    have e := Option.some.inj e; subst e
    simp -implicitDefEqProofs (disch := first | assumption | exact Nat.le_of_ble_eq_true rfl | decide) only [b3777_0, pe_aload0, pe_getfield, pe_iload1, pe_iastore, pe_dup_i, pe_dup_r, pe_dup_x1_ii, pe_dup_x1_ir, pe_dup_x1_ri, pe_dup_x1_rr, pe_sipush, pe_iadd, pe_putfield, pe_lload2, pe_lastore, pe_return, pe_aloadN0, pe_aastoreN, pe_areturnN, pe_null, pm_prog_1, pm_ob_some, Nat.reduceDiv, Nat.reduceMod, Nat.reduceMul, Nat.reduceAdd, Int.reduceToNat, pm_kill_i, pm_kill_r, pm_kill_n, pm_kill_j, pm_kill_l, pm_kill_d, pm_cats_nil, pm_cats_i, pm_cats_r, pm_cats_n, pm_cats_l, pm_cats_d, sz_1, sz_2, sl_1, sl_2, lc_0, lc_lt, lc_le, li_ne, va_rf, wr_m1, we_m1, pm_kill_w, Int32.reduceOfInt, Int64.reduceOfInt, Int32.reduceOfNat, Int32.reduceLT, Int32.reduceLE, Prod.mk.injEq, Nat.reduceEqDiff, reduceCtorEq, and_true, true_and, and_false, false_and, and_self, ite_true, ite_false, ↓reduceIte, not_true_eq_false, not_false_eq_true, pe_ri, pe_rz, pe_rc, Ch_g10_1 hP hA, Ch_g10_2 hP hA, Ch_g10_3 hP hA, Ch_p10_3 hP hA, Ch_w11 hP hA, Ch_w12 hP hA]
  · rw [if_neg k2] at e; cases e
/-- TimberHouse$ShopDesks.row(IIJ)I -/
theorem c1541 {d : Nat} {h : pm_H} {a : Nat} {x0 : Int32} {x1 : Int32} {x2 : Int64} (hc : pm_cls h a = some 24) : pm_call pm_prog (d + 1) 1541 [.ref a, .int x0, .int x1, .long x2] h = pm_ev pm_prog (pm_call pm_prog d) 1541 0 b1541_0 [.ref a, .int x0, .int x1, .long x2, pm_junk, pm_junk] [] h := pm_cal (pm_rc1 hc rfl) rfl rfl rfl
theorem g1541_1 {cl : pm_C} {ls st : List Value} {h : pm_H} : pm_go pm_prog cl 1541 1 ls st h = pm_ev pm_prog cl 1541 1 b1541_1 ls st h := pm_go_eq pm_prog cl 1541 1 ls st h
theorem g1541_2 {cl : pm_C} {ls st : List Value} {h : pm_H} : pm_go pm_prog cl 1541 2 ls st h = pm_ev pm_prog cl 1541 2 b1541_2 ls st h := pm_go_eq pm_prog cl 1541 2 ls st h
theorem t1541 {cl : pm_C} {j : Nat} {ls : List Value} {c : Nat} {h : pm_H} : pm_thr pm_prog cl 1541 j ls c h = some (.threw c, h) := rfl
noncomputable def f1541_2 (tc : Int32) (bc : Int32) (ec : Int32) (S : wS) (x2 : Int32) (x3 : Int64) (x5i : Int32) (y0 : Int32) : Option ((Nat × wS) ⊕ (Int32 × wS)) :=
  if 0 ≤ x5i ∧ x5i < ec then
    (f1540 y0).bind fun r => match r with
    | .inl c5 =>
      some (.inl (c5, S))
    | .inr _ =>
    (f3777 tc bc ec S x5i x2 x3).bind fun S4 =>
    some (.inr ((S4.1 (10, x5i, 0) 3), S4))
  else none
/-- TimberHouse$ShopDesks.row(IIJ)I -/
noncomputable def f1541 (tc : Int32) (bc : Int32) (ec : Int32) (S : wS) (x1 : Int32) (x2 : Int32) (x3 : Int64) : Option ((Nat × wS) ⊕ (Int32 × wS)) :=
  (f1542 tc bc ec S x1).bind fun r => match r with
  | .inl c8 =>
    some (.inl (c8, S))
  | .inr v1i =>
  if 0 ≤ v1i ∧ v1i < ec then
    (f1538 (Int32.toInt64 x2) 0 9).bind fun v2 =>
    (f1543 v2).bind fun r => match r with
    | .inl c7 =>
      some (.inl (c7, S))
    | .inr _ =>
    (f1538 x3 (-1000000000) 1000000000).bind fun v3 =>
    (f1539 v3).bind fun r => match r with
    | .inl c6 =>
      some (.inl (c6, S))
    | .inr _ =>
    if (S.1 (10, v1i, 0) 3) < 6 then
      if (S.1 (10, v1i, 0) 4) = 0 then
        f1541_2 tc bc ec S x2 x3 v1i 1
      else
        f1541_2 tc bc ec S x2 x3 v1i 0
    else
      f1541_2 tc bc ec S x2 x3 v1i 0
  else none
theorem y1541_2 {tc : Int32} {bc : Int32} {ec : Int32} {A : wK → Nat} {h : pm_H} {D : Nat} {S : wS} {x2 : Int32} {x3 : Int64} {x5i : Int32} {y0 : Int32} {r : (Nat × wS) ⊕ (Int32 × wS)} (hP : Ch_P tc bc ec) (hA : wok A (Ch_d tc bc ec) h.1) (hD : 2 ≤ D) (e : f1541_2 tc bc ec S x2 x3 x5i y0 = some r) : ∀ q0 q1 : Value, pm_go pm_prog (pm_call pm_prog D) 1541 2 [q0, q1, .int x2, .long x3, pm_junk, .ref (A (10, x5i, 0))] [.int y0] (wput A (Ch_d tc bc ec) S h) = some (match (generalizing := false) r with | .inl (c, S1) => (Outcome.threw c, (wput A (Ch_d tc bc ec) S1 (pm_new h 6 (.inr (c, []))))) | .inr (w0, S1) => (Outcome.returned (some (.int w0)), (wput A (Ch_d tc bc ec) S1 h))) := by
  intro q0 q1
  simp only [f1541_2] at e
  rw [g1541_2, b1541_2]
  by_cases k1 : 0 ≤ x5i ∧ x5i < ec
  · rw [if_pos k1] at e
    obtain ⟨r, k2, e⟩ := Option.bind_eq_some_iff.mp e
    have z2 := fun h => x1540 (D := D) (h := h) (by omega) k2
    rcases r with c5 | _
    · dsimp only at e z2
      have e := Option.some.inj e; subst e
      simp -implicitDefEqProofs (disch := first | assumption | exact Nat.le_of_ble_eq_true rfl | decide) only [b1541_0, g1541_1, b1541_1, pe_aload0, pe_iload1, pe_call2, pm_af_ret, pm_af_void, pm_af_thr, pe_astore5, pe_iload2, pe_i2l, pe_bipush, pe_call3, pe_call1, pe_lload3, pe_aload5, pe_getfield, pe_sipush, pe_icmp_ge, pe_if_ne, pe_goto, pe_goto_w, pe_aloadN0, pe_astoreN5, pe_aloadN5, pe_aastoreN, pe_areturnN, pe_null, pm_prog_1, pm_ob_some, Nat.reduceDiv, Nat.reduceMod, Nat.reduceMul, Nat.reduceAdd, Int.reduceToNat, pm_kill_i, pm_kill_r, pm_kill_n, pm_kill_j, pm_kill_l, pm_kill_d, pm_cats_nil, pm_cats_i, pm_cats_r, pm_cats_n, pm_cats_l, pm_cats_d, sz_1, sz_2, sl_1, sl_2, lc_0, lc_lt, lc_le, li_ne, va_rf, wr_m1, we_m1, pm_kill_w, Int32.reduceOfInt, Int64.reduceOfInt, Int32.reduceOfNat, Int32.reduceLT, Int32.reduceLE, Prod.mk.injEq, Nat.reduceEqDiff, reduceCtorEq, and_true, true_and, and_false, false_and, and_self, ite_true, ite_false, ↓reduceIte, not_true_eq_false, not_false_eq_true, pe_ri, pe_rz, pe_rc, p_throw, t1541, w_junk hA, Ch_g10_3 hP hA, Ch_g10_4 hP hA, z2]
    · dsimp only at e z2
      obtain ⟨S4, k3, e⟩ := Option.bind_eq_some_iff.mp e
      try dsimp only at e
      have z3 := x3777 (D := D) (h := h) hP hA (by omega) k3
      have e := Option.some.inj e; subst e
      simp -implicitDefEqProofs (disch := first | assumption | exact Nat.le_of_ble_eq_true rfl | decide) only [b1541_0, g1541_1, b1541_1, pe_aload0, pe_iload1, pe_call2, pm_af_ret, pm_af_void, pm_af_thr, pe_astore5, pe_iload2, pe_i2l, pe_bipush, pe_call3, pe_call1, pe_lload3, pe_aload5, pe_getfield, pe_sipush, pe_icmp_ge, pe_if_ne, pe_goto, pe_goto_w, pe_aloadN0, pe_astoreN5, pe_aloadN5, pe_aastoreN, pe_areturnN, pe_null, pm_prog_1, pm_ob_some, Nat.reduceDiv, Nat.reduceMod, Nat.reduceMul, Nat.reduceAdd, Int.reduceToNat, pm_kill_i, pm_kill_r, pm_kill_n, pm_kill_j, pm_kill_l, pm_kill_d, pm_cats_nil, pm_cats_i, pm_cats_r, pm_cats_n, pm_cats_l, pm_cats_d, sz_1, sz_2, sl_1, sl_2, lc_0, lc_lt, lc_le, li_ne, va_rf, wr_m1, we_m1, pm_kill_w, Int32.reduceOfInt, Int64.reduceOfInt, Int32.reduceOfNat, Int32.reduceLT, Int32.reduceLE, Prod.mk.injEq, Nat.reduceEqDiff, reduceCtorEq, and_true, true_and, and_false, false_and, and_self, ite_true, ite_false, ↓reduceIte, not_true_eq_false, not_false_eq_true, pe_ri, pe_rz, pe_rc, p_throw, t1541, w_junk hA, Ch_g10_3 hP hA, Ch_g10_4 hP hA, z2, z3]
  · rw [if_neg k1] at e; cases e
theorem x1541 {tc : Int32} {bc : Int32} {ec : Int32} {A : wK → Nat} {h : pm_H} {D : Nat} {S : wS} {x1 : Int32} {x2 : Int32} {x3 : Int64} {r : (Nat × wS) ⊕ (Int32 × wS)} (hP : Ch_P tc bc ec) (hA : wok A (Ch_d tc bc ec) h.1) (hD : 3 ≤ D) (e : f1541 tc bc ec S x1 x2 x3 = some r) : pm_call pm_prog D 1541 [.ref (A (0, 0, 0)), .int x1, .int x2, .long x3] (wput A (Ch_d tc bc ec) S h) = some (match (generalizing := false) r with | .inl (c, S1) => (Outcome.threw c, (wput A (Ch_d tc bc ec) S1 (pm_new h 6 (.inr (c, []))))) | .inr (w0, S1) => (Outcome.returned (some (.int w0)), (wput A (Ch_d tc bc ec) S1 h))) := by
  obtain ⟨D, rfl⟩ : ∃ D', D = D' + 1 := ⟨D - 1, by omega⟩
  have hD : 2 ≤ D := by omega
  simp only [f1541] at e
  rw [c1541 (Ch_c0 hP hA), b1541_0]
  obtain ⟨r, k1, e⟩ := Option.bind_eq_some_iff.mp e
  have z1 := x1542 (D := D) (h := h) hP hA (by omega) k1
  rcases r with c8 | v1i
  · dsimp only at e z1
    have e := Option.some.inj e; subst e
    simp -implicitDefEqProofs (disch := first | assumption | exact Nat.le_of_ble_eq_true rfl | decide) only [b1541_0, g1541_1, b1541_1, pe_aload0, pe_iload1, pe_call2, pm_af_ret, pm_af_void, pm_af_thr, pe_astore5, pe_iload2, pe_i2l, pe_bipush, pe_call3, pe_call1, pe_lload3, pe_aload5, pe_getfield, pe_sipush, pe_icmp_ge, pe_if_ne, pe_goto, pe_goto_w, pe_aloadN0, pe_astoreN5, pe_aloadN5, pe_aastoreN, pe_areturnN, pe_null, pm_prog_1, pm_ob_some, Nat.reduceDiv, Nat.reduceMod, Nat.reduceMul, Nat.reduceAdd, Int.reduceToNat, pm_kill_i, pm_kill_r, pm_kill_n, pm_kill_j, pm_kill_l, pm_kill_d, pm_cats_nil, pm_cats_i, pm_cats_r, pm_cats_n, pm_cats_l, pm_cats_d, sz_1, sz_2, sl_1, sl_2, lc_0, lc_lt, lc_le, li_ne, va_rf, wr_m1, we_m1, pm_kill_w, Int32.reduceOfInt, Int64.reduceOfInt, Int32.reduceOfNat, Int32.reduceLT, Int32.reduceLE, Prod.mk.injEq, Nat.reduceEqDiff, reduceCtorEq, and_true, true_and, and_false, false_and, and_self, ite_true, ite_false, ↓reduceIte, not_true_eq_false, not_false_eq_true, pe_ri, pe_rz, pe_rc, p_throw, t1541, w_junk hA, Ch_g10_3 hP hA, Ch_g10_4 hP hA, z1]
  · dsimp only at e z1
    by_cases k2 : 0 ≤ v1i ∧ v1i < ec
    · rw [if_pos k2] at e
      obtain ⟨v2, k3, e⟩ := Option.bind_eq_some_iff.mp e
      try dsimp only at e
      have z3 := fun h => x1538 (D := D) (h := h) (by omega) k3
      obtain ⟨r, k4, e⟩ := Option.bind_eq_some_iff.mp e
      have z4 := fun h => x1543 (D := D) (h := h) (by omega) k4
      rcases r with c7 | _
      · dsimp only at e z4
        have e := Option.some.inj e; subst e
        simp -implicitDefEqProofs (disch := first | assumption | exact Nat.le_of_ble_eq_true rfl | decide) only [b1541_0, g1541_1, b1541_1, pe_aload0, pe_iload1, pe_call2, pm_af_ret, pm_af_void, pm_af_thr, pe_astore5, pe_iload2, pe_i2l, pe_bipush, pe_call3, pe_call1, pe_lload3, pe_aload5, pe_getfield, pe_sipush, pe_icmp_ge, pe_if_ne, pe_goto, pe_goto_w, pe_aloadN0, pe_astoreN5, pe_aloadN5, pe_aastoreN, pe_areturnN, pe_null, pm_prog_1, pm_ob_some, Nat.reduceDiv, Nat.reduceMod, Nat.reduceMul, Nat.reduceAdd, Int.reduceToNat, pm_kill_i, pm_kill_r, pm_kill_n, pm_kill_j, pm_kill_l, pm_kill_d, pm_cats_nil, pm_cats_i, pm_cats_r, pm_cats_n, pm_cats_l, pm_cats_d, sz_1, sz_2, sl_1, sl_2, lc_0, lc_lt, lc_le, li_ne, va_rf, wr_m1, we_m1, pm_kill_w, Int32.reduceOfInt, Int64.reduceOfInt, Int32.reduceOfNat, Int32.reduceLT, Int32.reduceLE, Prod.mk.injEq, Nat.reduceEqDiff, reduceCtorEq, and_true, true_and, and_false, false_and, and_self, ite_true, ite_false, ↓reduceIte, not_true_eq_false, not_false_eq_true, pe_ri, pe_rz, pe_rc, p_throw, t1541, w_junk hA, Ch_g10_3 hP hA, Ch_g10_4 hP hA, z1, z3, z4]
      · dsimp only at e z4
        obtain ⟨v3, k5, e⟩ := Option.bind_eq_some_iff.mp e
        try dsimp only at e
        have z5 := fun h => x1538 (D := D) (h := h) (by omega) k5
        obtain ⟨r, k6, e⟩ := Option.bind_eq_some_iff.mp e
        have z6 := fun h => x1539 (D := D) (h := h) (by omega) k6
        rcases r with c6 | _
        · dsimp only at e z6
          have e := Option.some.inj e; subst e
          simp -implicitDefEqProofs (disch := first | assumption | exact Nat.le_of_ble_eq_true rfl | decide) only [b1541_0, g1541_1, b1541_1, pe_aload0, pe_iload1, pe_call2, pm_af_ret, pm_af_void, pm_af_thr, pe_astore5, pe_iload2, pe_i2l, pe_bipush, pe_call3, pe_call1, pe_lload3, pe_aload5, pe_getfield, pe_sipush, pe_icmp_ge, pe_if_ne, pe_goto, pe_goto_w, pe_aloadN0, pe_astoreN5, pe_aloadN5, pe_aastoreN, pe_areturnN, pe_null, pm_prog_1, pm_ob_some, Nat.reduceDiv, Nat.reduceMod, Nat.reduceMul, Nat.reduceAdd, Int.reduceToNat, pm_kill_i, pm_kill_r, pm_kill_n, pm_kill_j, pm_kill_l, pm_kill_d, pm_cats_nil, pm_cats_i, pm_cats_r, pm_cats_n, pm_cats_l, pm_cats_d, sz_1, sz_2, sl_1, sl_2, lc_0, lc_lt, lc_le, li_ne, va_rf, wr_m1, we_m1, pm_kill_w, Int32.reduceOfInt, Int64.reduceOfInt, Int32.reduceOfNat, Int32.reduceLT, Int32.reduceLE, Prod.mk.injEq, Nat.reduceEqDiff, reduceCtorEq, and_true, true_and, and_false, false_and, and_self, ite_true, ite_false, ↓reduceIte, not_true_eq_false, not_false_eq_true, pe_ri, pe_rz, pe_rc, p_throw, t1541, w_junk hA, Ch_g10_3 hP hA, Ch_g10_4 hP hA, z1, z3, z4, z5, z6]
        · dsimp only at e z6
          by_cases k7 : (S.1 (10, v1i, 0) 3) < 6
          · rw [if_pos k7] at e
            by_cases k8 : (S.1 (10, v1i, 0) 4) = 0
            · rw [if_pos k8] at e
              have k9 := y1541_2 (h := h) hP hA hD e
              simp -implicitDefEqProofs (disch := first | assumption | exact Nat.le_of_ble_eq_true rfl | decide) only [b1541_0, g1541_1, b1541_1, pe_aload0, pe_iload1, pe_call2, pm_af_ret, pm_af_void, pm_af_thr, pe_astore5, pe_iload2, pe_i2l, pe_bipush, pe_call3, pe_call1, pe_lload3, pe_aload5, pe_getfield, pe_sipush, pe_icmp_ge, pe_if_ne, pe_goto, pe_goto_w, pe_aloadN0, pe_astoreN5, pe_aloadN5, pe_aastoreN, pe_areturnN, pe_null, pm_prog_1, pm_ob_some, Nat.reduceDiv, Nat.reduceMod, Nat.reduceMul, Nat.reduceAdd, Int.reduceToNat, pm_kill_i, pm_kill_r, pm_kill_n, pm_kill_j, pm_kill_l, pm_kill_d, pm_cats_nil, pm_cats_i, pm_cats_r, pm_cats_n, pm_cats_l, pm_cats_d, sz_1, sz_2, sl_1, sl_2, lc_0, lc_lt, lc_le, li_ne, va_rf, wr_m1, we_m1, pm_kill_w, Int32.reduceOfInt, Int64.reduceOfInt, Int32.reduceOfNat, Int32.reduceLT, Int32.reduceLE, Prod.mk.injEq, Nat.reduceEqDiff, reduceCtorEq, and_true, true_and, and_false, false_and, and_self, ite_true, ite_false, ↓reduceIte, not_true_eq_false, not_false_eq_true, pe_ri, pe_rz, pe_rc, p_throw, t1541, w_junk hA, Ch_g10_3 hP hA, Ch_g10_4 hP hA, z1, z3, z4, z5, z6, eq_true k7, eq_true k8, k9]
            · rw [if_neg k8] at e
              have k10 := y1541_2 (h := h) hP hA hD e
              simp -implicitDefEqProofs (disch := first | assumption | exact Nat.le_of_ble_eq_true rfl | decide) only [b1541_0, g1541_1, b1541_1, pe_aload0, pe_iload1, pe_call2, pm_af_ret, pm_af_void, pm_af_thr, pe_astore5, pe_iload2, pe_i2l, pe_bipush, pe_call3, pe_call1, pe_lload3, pe_aload5, pe_getfield, pe_sipush, pe_icmp_ge, pe_if_ne, pe_goto, pe_goto_w, pe_aloadN0, pe_astoreN5, pe_aloadN5, pe_aastoreN, pe_areturnN, pe_null, pm_prog_1, pm_ob_some, Nat.reduceDiv, Nat.reduceMod, Nat.reduceMul, Nat.reduceAdd, Int.reduceToNat, pm_kill_i, pm_kill_r, pm_kill_n, pm_kill_j, pm_kill_l, pm_kill_d, pm_cats_nil, pm_cats_i, pm_cats_r, pm_cats_n, pm_cats_l, pm_cats_d, sz_1, sz_2, sl_1, sl_2, lc_0, lc_lt, lc_le, li_ne, va_rf, wr_m1, we_m1, pm_kill_w, Int32.reduceOfInt, Int64.reduceOfInt, Int32.reduceOfNat, Int32.reduceLT, Int32.reduceLE, Prod.mk.injEq, Nat.reduceEqDiff, reduceCtorEq, and_true, true_and, and_false, false_and, and_self, ite_true, ite_false, ↓reduceIte, not_true_eq_false, not_false_eq_true, pe_ri, pe_rz, pe_rc, p_throw, t1541, w_junk hA, Ch_g10_3 hP hA, Ch_g10_4 hP hA, z1, z3, z4, z5, z6, eq_true k7, eq_false k8, k10]
          · rw [if_neg k7] at e
            have k11 := y1541_2 (h := h) hP hA hD e
            simp -implicitDefEqProofs (disch := first | assumption | exact Nat.le_of_ble_eq_true rfl | decide) only [b1541_0, g1541_1, b1541_1, pe_aload0, pe_iload1, pe_call2, pm_af_ret, pm_af_void, pm_af_thr, pe_astore5, pe_iload2, pe_i2l, pe_bipush, pe_call3, pe_call1, pe_lload3, pe_aload5, pe_getfield, pe_sipush, pe_icmp_ge, pe_if_ne, pe_goto, pe_goto_w, pe_aloadN0, pe_astoreN5, pe_aloadN5, pe_aastoreN, pe_areturnN, pe_null, pm_prog_1, pm_ob_some, Nat.reduceDiv, Nat.reduceMod, Nat.reduceMul, Nat.reduceAdd, Int.reduceToNat, pm_kill_i, pm_kill_r, pm_kill_n, pm_kill_j, pm_kill_l, pm_kill_d, pm_cats_nil, pm_cats_i, pm_cats_r, pm_cats_n, pm_cats_l, pm_cats_d, sz_1, sz_2, sl_1, sl_2, lc_0, lc_lt, lc_le, li_ne, va_rf, wr_m1, we_m1, pm_kill_w, Int32.reduceOfInt, Int64.reduceOfInt, Int32.reduceOfNat, Int32.reduceLT, Int32.reduceLE, Prod.mk.injEq, Nat.reduceEqDiff, reduceCtorEq, and_true, true_and, and_false, false_and, and_self, ite_true, ite_false, ↓reduceIte, not_true_eq_false, not_false_eq_true, pe_ri, pe_rz, pe_rc, p_throw, t1541, w_junk hA, Ch_g10_3 hP hA, Ch_g10_4 hP hA, z1, z3, z4, z5, z6, eq_false k7, k11]
    · rw [if_neg k2] at e; cases e
/-- TimberHouse$ShopDesks$Entry.sum()J -/
theorem c3778 {d : Nat} {h : pm_H} {a : Nat} (hc : pm_cls h a = some 59) : pm_call pm_prog (d + 1) 3778 [.ref a] h = pm_ev pm_prog (pm_call pm_prog d) 3778 0 b3778_0 [.ref a, pm_junk, pm_junk, pm_junk] [] h := pm_cal (pm_rc1 hc rfl) rfl rfl rfl
theorem g3778_1 {cl : pm_C} {ls st : List Value} {h : pm_H} : pm_go pm_prog cl 3778 1 ls st h = pm_ev pm_prog cl 3778 1 b3778_1 ls st h := pm_go_eq pm_prog cl 3778 1 ls st h
theorem g3778_2 {cl : pm_C} {ls st : List Value} {h : pm_H} : pm_go pm_prog cl 3778 2 ls st h = pm_ev pm_prog cl 3778 2 b3778_2 ls st h := pm_go_eq pm_prog cl 3778 2 ls st h
noncomputable def f3778_b1 (tc : Int32) (bc : Int32) (ec : Int32) (S : wS) : Int32 × Int64 × Int32 → Option ((Int32 × Int64 × Int32) ⊕ ((Int64))) := fun (x0i, x1, x3) =>
  if 0 ≤ x0i ∧ x0i < ec then
    if x3 < (S.1 (10, x0i, 0) 3) then
      if 0 ≤ x3 ∧ x3 < 6 then
        some (.inl (x0i, (x1 + (S.2 (12, x0i, 0) x3)), (x3 + 1)))
      else none
    else
      some (.inr x1)
  else none
/-- TimberHouse$ShopDesks$Entry.sum()J -/
noncomputable def f3778 (tc : Int32) (bc : Int32) (ec : Int32) (S : wS) (x0i : Int32) : Option (Int64) :=
  if 0 ≤ x0i ∧ x0i < ec then
    (lp (f3778_b1 tc bc ec S) FU (x0i, 0, 0)).bind fun v1 =>
    some v1
  else none
def go3778_1 (tc : Int32) (bc : Int32) (ec : Int32) (A : wK → Nat) (h : pm_H) (D : Nat) (R : Outcome × pm_H) (S : wS) : Int32 × Int64 × Int32 → Prop := fun (x0i, x1, x3) => pm_go pm_prog (pm_call pm_prog D) 3778 1 [.ref (A (10, x0i, 0)), .long x1, pm_junk, .int x3] [] (wput A (Ch_d tc bc ec) S h) = some R
def ex3778_1 (tc : Int32) (bc : Int32) (ec : Int32) (A : wK → Nat) (h : pm_H) (D : Nat) (R : Outcome × pm_H) (S : wS) : (Int64) → Prop := fun x1 => ∀ q0 q3 : Value, pm_go pm_prog (pm_call pm_prog D) 3778 2 [q0, .long x1, pm_junk, q3] [] (wput A (Ch_d tc bc ec) S h) = some R
theorem y3778_b1 {tc : Int32} {bc : Int32} {ec : Int32} {A : wK → Nat} {h : pm_H} {D : Nat} {R : Outcome × pm_H} {S : wS} (hP : Ch_P tc bc ec) (hA : wok A (Ch_d tc bc ec) h.1) (hD : 0 ≤ D) (a : Int32 × Int64 × Int32) (r : (Int32 × Int64 × Int32) ⊕ ((Int64))) (e : f3778_b1 tc bc ec S a = some r) (hc : Sum.elim (go3778_1 tc bc ec A h D R S) (ex3778_1 tc bc ec A h D R S) r) : go3778_1 tc bc ec A h D R S a := by
  obtain ⟨x0i, x1, x3⟩ := a
  dsimp only [go3778_1]
  simp only [f3778_b1] at e
  rw [g3778_1, b3778_1]
  by_cases k1 : 0 ≤ x0i ∧ x0i < ec
  · rw [if_pos k1] at e
    by_cases k2 : x3 < (S.1 (10, x0i, 0) 3)
    · rw [if_pos k2] at e
      by_cases k3 : 0 ≤ x3 ∧ x3 < 6
      · rw [if_pos k3] at e
        have e := Option.some.inj e; subst e
        dsimp only [Sum.elim_inl, go3778_1] at hc
        simp -implicitDefEqProofs (disch := first | assumption | exact Nat.le_of_ble_eq_true rfl | decide) only [b3778_0, g3778_2, b3778_2, pe_bipush, pe_lstore1, pe_sipush, pe_istore3, pe_goto_w, pe_iload3, pe_aload0, pe_getfield, pe_icmp_ge, pe_lload1, pe_laload, pe_ladd, pe_iinc3, pe_goto, pe_lreturn, pe_aloadN0, pe_aastoreN, pe_areturnN, pe_null, pm_prog_1, pm_ob_some, Nat.reduceDiv, Nat.reduceMod, Nat.reduceMul, Nat.reduceAdd, Int.reduceToNat, pm_kill_i, pm_kill_r, pm_kill_n, pm_kill_j, pm_kill_l, pm_kill_d, pm_cats_nil, pm_cats_i, pm_cats_r, pm_cats_n, pm_cats_l, pm_cats_d, sz_1, sz_2, sl_1, sl_2, lc_0, lc_lt, lc_le, li_ne, va_rf, wr_m1, we_m1, pm_kill_w, Int32.reduceOfInt, Int64.reduceOfInt, Int32.reduceOfNat, Int32.reduceLT, Int32.reduceLE, Prod.mk.injEq, Nat.reduceEqDiff, reduceCtorEq, and_true, true_and, and_false, false_and, and_self, ite_true, ite_false, ↓reduceIte, not_true_eq_false, not_false_eq_true, pe_ri, pe_rz, pe_rc, Ch_g10_2 hP hA, Ch_g10_3 hP hA, Ch_r12 hP hA, eq_true k2, hc]
      · rw [if_neg k3] at e; cases e
    · rw [if_neg k2] at e
      have e := Option.some.inj e; subst e
      dsimp only [Sum.elim_inr, ex3778_1] at hc
      simp -implicitDefEqProofs (disch := first | assumption | exact Nat.le_of_ble_eq_true rfl | decide) only [b3778_0, g3778_2, b3778_2, pe_bipush, pe_lstore1, pe_sipush, pe_istore3, pe_goto_w, pe_iload3, pe_aload0, pe_getfield, pe_icmp_ge, pe_lload1, pe_laload, pe_ladd, pe_iinc3, pe_goto, pe_lreturn, pe_aloadN0, pe_aastoreN, pe_areturnN, pe_null, pm_prog_1, pm_ob_some, Nat.reduceDiv, Nat.reduceMod, Nat.reduceMul, Nat.reduceAdd, Int.reduceToNat, pm_kill_i, pm_kill_r, pm_kill_n, pm_kill_j, pm_kill_l, pm_kill_d, pm_cats_nil, pm_cats_i, pm_cats_r, pm_cats_n, pm_cats_l, pm_cats_d, sz_1, sz_2, sl_1, sl_2, lc_0, lc_lt, lc_le, li_ne, va_rf, wr_m1, we_m1, pm_kill_w, Int32.reduceOfInt, Int64.reduceOfInt, Int32.reduceOfNat, Int32.reduceLT, Int32.reduceLE, Prod.mk.injEq, Nat.reduceEqDiff, reduceCtorEq, and_true, true_and, and_false, false_and, and_self, ite_true, ite_false, ↓reduceIte, not_true_eq_false, not_false_eq_true, pe_ri, pe_rz, pe_rc, Ch_g10_2 hP hA, Ch_g10_3 hP hA, Ch_r12 hP hA, eq_false k2, hc]
  · rw [if_neg k1] at e; cases e
theorem z3778_1 {tc : Int32} {bc : Int32} {ec : Int32} {A : wK → Nat} {h : pm_H} {D : Nat} {R : Outcome × pm_H} {S : wS} (hP : Ch_P tc bc ec) (hA : wok A (Ch_d tc bc ec) h.1) (hD : 0 ≤ D) {n : Nat} {a : Int32 × Int64 × Int32} {b : (Int64)} (e : lp (f3778_b1 tc bc ec S) n a = some b) (hx : ex3778_1 tc bc ec A h D R S b) : go3778_1 tc bc ec A h D R S a := lp_run (fun a r => y3778_b1 hP hA hD a r) n a b e hx
theorem x3778 {tc : Int32} {bc : Int32} {ec : Int32} {A : wK → Nat} {h : pm_H} {D : Nat} {S : wS} {x0i : Int32} {r : Int64} (hP : Ch_P tc bc ec) (hA : wok A (Ch_d tc bc ec) h.1) (hD : 1 ≤ D) (e : f3778 tc bc ec S x0i = some r) : pm_call pm_prog D 3778 [.ref (A (10, x0i, 0))] (wput A (Ch_d tc bc ec) S h) = some (Outcome.returned (some (.long r)), (wput A (Ch_d tc bc ec) S h)) := by
  obtain ⟨D, rfl⟩ : ∃ D', D = D' + 1 := ⟨D - 1, by omega⟩
  have hD : 0 ≤ D := by omega
  simp only [f3778] at e
  have k1 : 0 ≤ x0i ∧ x0i < ec := by
    by_cases q : 0 ≤ x0i ∧ x0i < ec
    · exact q
    · rw [if_neg q] at e; cases e
  rw [if_pos k1] at e
  rw [c3778 (Ch_c10 hP hA k1), b3778_0]
  obtain ⟨v1, k2, e⟩ := Option.bind_eq_some_iff.mp e
  try dsimp only at e
  try simp -implicitDefEqProofs (disch := first | assumption | exact Nat.le_of_ble_eq_true rfl | decide) only [b3778_0, g3778_2, b3778_2, pe_bipush, pe_lstore1, pe_sipush, pe_istore3, pe_goto_w, pe_iload3, pe_aload0, pe_getfield, pe_icmp_ge, pe_lload1, pe_laload, pe_ladd, pe_iinc3, pe_goto, pe_lreturn, pe_aloadN0, pe_aastoreN, pe_areturnN, pe_null, pm_prog_1, pm_ob_some, Nat.reduceDiv, Nat.reduceMod, Nat.reduceMul, Nat.reduceAdd, Int.reduceToNat, pm_kill_i, pm_kill_r, pm_kill_n, pm_kill_j, pm_kill_l, pm_kill_d, pm_cats_nil, pm_cats_i, pm_cats_r, pm_cats_n, pm_cats_l, pm_cats_d, sz_1, sz_2, sl_1, sl_2, lc_0, lc_lt, lc_le, li_ne, va_rf, wr_m1, we_m1, pm_kill_w, Int32.reduceOfInt, Int64.reduceOfInt, Int32.reduceOfNat, Int32.reduceLT, Int32.reduceLE, Prod.mk.injEq, Nat.reduceEqDiff, reduceCtorEq, and_true, true_and, and_false, false_and, and_self, ite_true, ite_false, ↓reduceIte, not_true_eq_false, not_false_eq_true, pe_ri, pe_rz, pe_rc, Ch_g10_2 hP hA, Ch_g10_3 hP hA, Ch_r12 hP hA]
  refine z3778_1 hP hA hD k2 ?_
  dsimp only [ex3778_1]
  intro q0 q3
  have e := Option.some.inj e; subst e
  simp -implicitDefEqProofs (disch := first | assumption | exact Nat.le_of_ble_eq_true rfl | decide) only [b3778_0, g3778_2, b3778_2, pe_bipush, pe_lstore1, pe_sipush, pe_istore3, pe_goto_w, pe_iload3, pe_aload0, pe_getfield, pe_icmp_ge, pe_lload1, pe_laload, pe_ladd, pe_iinc3, pe_goto, pe_lreturn, pe_aloadN0, pe_aastoreN, pe_areturnN, pe_null, pm_prog_1, pm_ob_some, Nat.reduceDiv, Nat.reduceMod, Nat.reduceMul, Nat.reduceAdd, Int.reduceToNat, pm_kill_i, pm_kill_r, pm_kill_n, pm_kill_j, pm_kill_l, pm_kill_d, pm_cats_nil, pm_cats_i, pm_cats_r, pm_cats_n, pm_cats_l, pm_cats_d, sz_1, sz_2, sl_1, sl_2, lc_0, lc_lt, lc_le, li_ne, va_rf, wr_m1, we_m1, pm_kill_w, Int32.reduceOfInt, Int64.reduceOfInt, Int32.reduceOfNat, Int32.reduceLT, Int32.reduceLE, Prod.mk.injEq, Nat.reduceEqDiff, reduceCtorEq, and_true, true_and, and_false, false_and, and_self, ite_true, ite_false, ↓reduceIte, not_true_eq_false, not_false_eq_true, pe_ri, pe_rz, pe_rc, Ch_g10_2 hP hA, Ch_g10_3 hP hA, Ch_r12 hP hA]
/-- TimberHouse$ShopDesks.isClosed(I)Z -/
theorem c1545 {d : Nat} {h : pm_H} {a : Nat} {x0 : Int32} (hc : pm_cls h a = some 24) : pm_call pm_prog (d + 1) 1545 [.ref a, .int x0] h = pm_ev pm_prog (pm_call pm_prog d) 1545 0 b1545_0 [.ref a, .int x0] [] h := pm_cal (pm_rc1 hc rfl) rfl rfl rfl
theorem g1545_1 {cl : pm_C} {ls st : List Value} {h : pm_H} : pm_go pm_prog cl 1545 1 ls st h = pm_ev pm_prog cl 1545 1 b1545_1 ls st h := pm_go_eq pm_prog cl 1545 1 ls st h
theorem g1545_2 {cl : pm_C} {ls st : List Value} {h : pm_H} : pm_go pm_prog cl 1545 2 ls st h = pm_ev pm_prog cl 1545 2 b1545_2 ls st h := pm_go_eq pm_prog cl 1545 2 ls st h
/-- TimberHouse$ShopDesks.isClosed(I)Z -/
noncomputable def f1545 (tc : Int32) (bc : Int32) (ec : Int32) (S : wS) (x1 : Int32) : Option (Int32) :=
  if (x1 / 30) ≤ (S.1 (0, 0, 0) 8) then
    some 1
  else
    some 0
theorem x1545 {tc : Int32} {bc : Int32} {ec : Int32} {A : wK → Nat} {h : pm_H} {D : Nat} {S : wS} {x1 : Int32} {r : Int32} (hP : Ch_P tc bc ec) (hA : wok A (Ch_d tc bc ec) h.1) (hD : 1 ≤ D) (e : f1545 tc bc ec S x1 = some r) : pm_call pm_prog D 1545 [.ref (A (0, 0, 0)), .int x1] (wput A (Ch_d tc bc ec) S h) = some (Outcome.returned (some (.int r)), (wput A (Ch_d tc bc ec) S h)) := by
  obtain ⟨D, rfl⟩ : ∃ D', D = D' + 1 := ⟨D - 1, by omega⟩
  have hD : 0 ≤ D := by omega
  simp only [f1545] at e
  rw [c1545 (Ch_c0 hP hA), b1545_0]
  by_cases k1 : (x1 / 30) ≤ (S.1 (0, 0, 0) 8)
  · rw [if_pos k1] at e
    have e := Option.some.inj e; subst e
    simp -implicitDefEqProofs (disch := first | assumption | exact Nat.le_of_ble_eq_true rfl | decide) only [b1545_0, g1545_1, b1545_1, g1545_2, b1545_2, pe_iload1, pe_sipush, pe_idiv, pe_aload0, pe_getfield, pe_icmp_gt, pe_goto, pe_goto_w, pe_aloadN0, pe_aastoreN, pe_areturnN, pe_null, pm_prog_1, pm_ob_some, Nat.reduceDiv, Nat.reduceMod, Nat.reduceMul, Nat.reduceAdd, Int.reduceToNat, pm_kill_i, pm_kill_r, pm_kill_n, pm_kill_j, pm_kill_l, pm_kill_d, pm_cats_nil, pm_cats_i, pm_cats_r, pm_cats_n, pm_cats_l, pm_cats_d, sz_1, sz_2, sl_1, sl_2, lc_0, lc_lt, lc_le, li_ne, va_rf, wr_m1, we_m1, pm_kill_w, Int32.reduceOfInt, Int64.reduceOfInt, Int32.reduceOfNat, Int32.reduceLT, Int32.reduceLE, Prod.mk.injEq, Nat.reduceEqDiff, reduceCtorEq, and_true, true_and, and_false, false_and, and_self, ite_true, ite_false, ↓reduceIte, not_true_eq_false, not_false_eq_true, pe_ri, pe_rz, pe_rc, Ch_g0_8 hP hA, eq_true k1]
  · rw [if_neg k1] at e
    have e := Option.some.inj e; subst e
    simp -implicitDefEqProofs (disch := first | assumption | exact Nat.le_of_ble_eq_true rfl | decide) only [b1545_0, g1545_1, b1545_1, g1545_2, b1545_2, pe_iload1, pe_sipush, pe_idiv, pe_aload0, pe_getfield, pe_icmp_gt, pe_goto, pe_goto_w, pe_aloadN0, pe_aastoreN, pe_areturnN, pe_null, pm_prog_1, pm_ob_some, Nat.reduceDiv, Nat.reduceMod, Nat.reduceMul, Nat.reduceAdd, Int.reduceToNat, pm_kill_i, pm_kill_r, pm_kill_n, pm_kill_j, pm_kill_l, pm_kill_d, pm_cats_nil, pm_cats_i, pm_cats_r, pm_cats_n, pm_cats_l, pm_cats_d, sz_1, sz_2, sl_1, sl_2, lc_0, lc_lt, lc_le, li_ne, va_rf, wr_m1, we_m1, pm_kill_w, Int32.reduceOfInt, Int64.reduceOfInt, Int32.reduceOfNat, Int32.reduceLT, Int32.reduceLE, Prod.mk.injEq, Nat.reduceEqDiff, reduceCtorEq, and_true, true_and, and_false, false_and, and_self, ite_true, ite_false, ↓reduceIte, not_true_eq_false, not_false_eq_true, pe_ri, pe_rz, pe_rc, Ch_g0_8 hP hA, eq_false k1]
/-- TimberHouse$ShopDesks.close(I)I -/
theorem c1544 {d : Nat} {h : pm_H} {a : Nat} {x0 : Int32} (hc : pm_cls h a = some 24) : pm_call pm_prog (d + 1) 1544 [.ref a, .int x0] h = pm_ev pm_prog (pm_call pm_prog d) 1544 0 b1544_0 [.ref a, .int x0, pm_junk] [] h := pm_cal (pm_rc1 hc rfl) rfl rfl rfl
theorem g1544_1 {cl : pm_C} {ls st : List Value} {h : pm_H} : pm_go pm_prog cl 1544 1 ls st h = pm_ev pm_prog cl 1544 1 b1544_1 ls st h := pm_go_eq pm_prog cl 1544 1 ls st h
theorem g1544_2 {cl : pm_C} {ls st : List Value} {h : pm_H} : pm_go pm_prog cl 1544 2 ls st h = pm_ev pm_prog cl 1544 2 b1544_2 ls st h := pm_go_eq pm_prog cl 1544 2 ls st h
theorem g1544_3 {cl : pm_C} {ls st : List Value} {h : pm_H} : pm_go pm_prog cl 1544 3 ls st h = pm_ev pm_prog cl 1544 3 b1544_3 ls st h := pm_go_eq pm_prog cl 1544 3 ls st h
theorem g1544_4 {cl : pm_C} {ls st : List Value} {h : pm_H} : pm_go pm_prog cl 1544 4 ls st h = pm_ev pm_prog cl 1544 4 b1544_4 ls st h := pm_go_eq pm_prog cl 1544 4 ls st h
theorem t1544 {cl : pm_C} {j : Nat} {ls : List Value} {c : Nat} {h : pm_H} : pm_thr pm_prog cl 1544 j ls c h = some (.threw c, h) := rfl
noncomputable def f1544_2 (tc : Int32) (bc : Int32) (ec : Int32) (S : wS) (x2i : Int32) (y0 : Int32) : Option ((Nat × wS) ⊕ (Int32 × wS)) :=
  if 0 ≤ x2i ∧ x2i < ec then
    (f1540 y0).bind fun r => match r with
    | .inl c4 =>
      some (.inl (c4, S))
    | .inr _ =>
    if (S.1 (10, x2i, 0) 3) = 0 then
      some (.inr (0, S))
    else
      (f3778 tc bc ec S x2i).bind fun v2 =>
      if v2 = 0 then
        (f1545 tc bc ec S (S.1 (10, x2i, 0) 0)).bind fun v3 =>
        if v3 = 0 then
          some (.inr (((S.1 (0, 0, 0) 7) + 1), (sz (sz S (0, 0, 0) 7 ((S.1 (0, 0, 0) 7) + 1)) (10, x2i, 0) 4 ((S.1 (0, 0, 0) 7) + 1))))
        else
          some (.inr (0, S))
      else
        some (.inr (0, S))
  else none
/-- TimberHouse$ShopDesks.close(I)I -/
noncomputable def f1544 (tc : Int32) (bc : Int32) (ec : Int32) (S : wS) (x1 : Int32) : Option ((Nat × wS) ⊕ (Int32 × wS)) :=
  (f1542 tc bc ec S x1).bind fun r => match r with
  | .inl c5 =>
    some (.inl (c5, S))
  | .inr v1i =>
  if 0 ≤ v1i ∧ v1i < ec then
    if (S.1 (10, v1i, 0) 4) = 0 then
      f1544_2 tc bc ec S v1i 1
    else
      f1544_2 tc bc ec S v1i 0
  else none
theorem y1544_2 {tc : Int32} {bc : Int32} {ec : Int32} {A : wK → Nat} {h : pm_H} {D : Nat} {S : wS} {x2i : Int32} {y0 : Int32} {r : (Nat × wS) ⊕ (Int32 × wS)} (hP : Ch_P tc bc ec) (hA : wok A (Ch_d tc bc ec) h.1) (hD : 2 ≤ D) (e : f1544_2 tc bc ec S x2i y0 = some r) : ∀ q1 : Value, pm_go pm_prog (pm_call pm_prog D) 1544 2 [.ref (A (0, 0, 0)), q1, .ref (A (10, x2i, 0))] [.int y0] (wput A (Ch_d tc bc ec) S h) = some (match (generalizing := false) r with | .inl (c, S1) => (Outcome.threw c, (wput A (Ch_d tc bc ec) S1 (pm_new h 6 (.inr (c, []))))) | .inr (w0, S1) => (Outcome.returned (some (.int w0)), (wput A (Ch_d tc bc ec) S1 h))) := by
  intro q1
  simp only [f1544_2] at e
  rw [g1544_2, b1544_2]
  by_cases k1 : 0 ≤ x2i ∧ x2i < ec
  · rw [if_pos k1] at e
    obtain ⟨r, k2, e⟩ := Option.bind_eq_some_iff.mp e
    have z2 := fun h => x1540 (D := D) (h := h) (by omega) k2
    rcases r with c4 | _
    · dsimp only at e z2
      have e := Option.some.inj e; subst e
      simp -implicitDefEqProofs (disch := first | assumption | exact Nat.le_of_ble_eq_true rfl | decide) only [b1544_0, g1544_1, b1544_1, g1544_3, b1544_3, g1544_4, b1544_4, pe_aload0, pe_iload1, pe_call2, pm_af_ret, pm_af_void, pm_af_thr, pe_astore2, pe_aload2, pe_getfield, pe_if_ne, pe_sipush, pe_goto, pe_goto_w, pe_call1, pe_if_eq, pe_bipush, pe_lcmp, pe_dup_i, pe_dup_r, pe_iadd, pe_dup_x1_ii, pe_dup_x1_ir, pe_dup_x1_ri, pe_dup_x1_rr, pe_putfield, pe_aloadN0, pe_astoreN2, pe_aloadN2, pe_aastoreN, pe_areturnN, pe_null, pm_prog_1, pm_ob_some, Nat.reduceDiv, Nat.reduceMod, Nat.reduceMul, Nat.reduceAdd, Int.reduceToNat, pm_kill_i, pm_kill_r, pm_kill_n, pm_kill_j, pm_kill_l, pm_kill_d, pm_cats_nil, pm_cats_i, pm_cats_r, pm_cats_n, pm_cats_l, pm_cats_d, sz_1, sz_2, sl_1, sl_2, lc_0, lc_lt, lc_le, li_ne, va_rf, wr_m1, we_m1, pm_kill_w, Int32.reduceOfInt, Int64.reduceOfInt, Int32.reduceOfNat, Int32.reduceLT, Int32.reduceLE, Prod.mk.injEq, Nat.reduceEqDiff, reduceCtorEq, and_true, true_and, and_false, false_and, and_self, ite_true, ite_false, ↓reduceIte, not_true_eq_false, not_false_eq_true, pe_ri, pe_rz, pe_rc, p_throw, t1544, w_junk hA, Ch_g0_7 hP hA, Ch_g10_0 hP hA, Ch_g10_3 hP hA, Ch_g10_4 hP hA, Ch_p0_7 hP hA, Ch_p10_4 hP hA, z2]
    · dsimp only at e z2
      by_cases k3 : (S.1 (10, x2i, 0) 3) = 0
      · rw [if_pos k3] at e
        have e := Option.some.inj e; subst e
        simp -implicitDefEqProofs (disch := first | assumption | exact Nat.le_of_ble_eq_true rfl | decide) only [b1544_0, g1544_1, b1544_1, g1544_3, b1544_3, g1544_4, b1544_4, pe_aload0, pe_iload1, pe_call2, pm_af_ret, pm_af_void, pm_af_thr, pe_astore2, pe_aload2, pe_getfield, pe_if_ne, pe_sipush, pe_goto, pe_goto_w, pe_call1, pe_if_eq, pe_bipush, pe_lcmp, pe_dup_i, pe_dup_r, pe_iadd, pe_dup_x1_ii, pe_dup_x1_ir, pe_dup_x1_ri, pe_dup_x1_rr, pe_putfield, pe_aloadN0, pe_astoreN2, pe_aloadN2, pe_aastoreN, pe_areturnN, pe_null, pm_prog_1, pm_ob_some, Nat.reduceDiv, Nat.reduceMod, Nat.reduceMul, Nat.reduceAdd, Int.reduceToNat, pm_kill_i, pm_kill_r, pm_kill_n, pm_kill_j, pm_kill_l, pm_kill_d, pm_cats_nil, pm_cats_i, pm_cats_r, pm_cats_n, pm_cats_l, pm_cats_d, sz_1, sz_2, sl_1, sl_2, lc_0, lc_lt, lc_le, li_ne, va_rf, wr_m1, we_m1, pm_kill_w, Int32.reduceOfInt, Int64.reduceOfInt, Int32.reduceOfNat, Int32.reduceLT, Int32.reduceLE, Prod.mk.injEq, Nat.reduceEqDiff, reduceCtorEq, and_true, true_and, and_false, false_and, and_self, ite_true, ite_false, ↓reduceIte, not_true_eq_false, not_false_eq_true, pe_ri, pe_rz, pe_rc, p_throw, t1544, w_junk hA, Ch_g0_7 hP hA, Ch_g10_0 hP hA, Ch_g10_3 hP hA, Ch_g10_4 hP hA, Ch_p0_7 hP hA, Ch_p10_4 hP hA, z2, eq_true k3]
      · rw [if_neg k3] at e
        obtain ⟨v2, k4, e⟩ := Option.bind_eq_some_iff.mp e
        try dsimp only at e
        have z4 := x3778 (D := D) (h := h) hP hA (by omega) k4
        by_cases k5 : v2 = 0
        · rw [if_pos k5] at e
          obtain ⟨v3, k6, e⟩ := Option.bind_eq_some_iff.mp e
          try dsimp only at e
          have z6 := x1545 (D := D) (h := h) hP hA (by omega) k6
          by_cases k7 : v3 = 0
          · rw [if_pos k7] at e
            have e := Option.some.inj e; subst e
            simp -implicitDefEqProofs (disch := first | assumption | exact Nat.le_of_ble_eq_true rfl | decide) only [b1544_0, g1544_1, b1544_1, g1544_3, b1544_3, g1544_4, b1544_4, pe_aload0, pe_iload1, pe_call2, pm_af_ret, pm_af_void, pm_af_thr, pe_astore2, pe_aload2, pe_getfield, pe_if_ne, pe_sipush, pe_goto, pe_goto_w, pe_call1, pe_if_eq, pe_bipush, pe_lcmp, pe_dup_i, pe_dup_r, pe_iadd, pe_dup_x1_ii, pe_dup_x1_ir, pe_dup_x1_ri, pe_dup_x1_rr, pe_putfield, pe_aloadN0, pe_astoreN2, pe_aloadN2, pe_aastoreN, pe_areturnN, pe_null, pm_prog_1, pm_ob_some, Nat.reduceDiv, Nat.reduceMod, Nat.reduceMul, Nat.reduceAdd, Int.reduceToNat, pm_kill_i, pm_kill_r, pm_kill_n, pm_kill_j, pm_kill_l, pm_kill_d, pm_cats_nil, pm_cats_i, pm_cats_r, pm_cats_n, pm_cats_l, pm_cats_d, sz_1, sz_2, sl_1, sl_2, lc_0, lc_lt, lc_le, li_ne, va_rf, wr_m1, we_m1, pm_kill_w, Int32.reduceOfInt, Int64.reduceOfInt, Int32.reduceOfNat, Int32.reduceLT, Int32.reduceLE, Prod.mk.injEq, Nat.reduceEqDiff, reduceCtorEq, and_true, true_and, and_false, false_and, and_self, ite_true, ite_false, ↓reduceIte, not_true_eq_false, not_false_eq_true, pe_ri, pe_rz, pe_rc, p_throw, t1544, w_junk hA, Ch_g0_7 hP hA, Ch_g10_0 hP hA, Ch_g10_3 hP hA, Ch_g10_4 hP hA, Ch_p0_7 hP hA, Ch_p10_4 hP hA, z2, eq_false k3, z4, eq_true k5, z6, eq_true k7]
          · rw [if_neg k7] at e
            have e := Option.some.inj e; subst e
            simp -implicitDefEqProofs (disch := first | assumption | exact Nat.le_of_ble_eq_true rfl | decide) only [b1544_0, g1544_1, b1544_1, g1544_3, b1544_3, g1544_4, b1544_4, pe_aload0, pe_iload1, pe_call2, pm_af_ret, pm_af_void, pm_af_thr, pe_astore2, pe_aload2, pe_getfield, pe_if_ne, pe_sipush, pe_goto, pe_goto_w, pe_call1, pe_if_eq, pe_bipush, pe_lcmp, pe_dup_i, pe_dup_r, pe_iadd, pe_dup_x1_ii, pe_dup_x1_ir, pe_dup_x1_ri, pe_dup_x1_rr, pe_putfield, pe_aloadN0, pe_astoreN2, pe_aloadN2, pe_aastoreN, pe_areturnN, pe_null, pm_prog_1, pm_ob_some, Nat.reduceDiv, Nat.reduceMod, Nat.reduceMul, Nat.reduceAdd, Int.reduceToNat, pm_kill_i, pm_kill_r, pm_kill_n, pm_kill_j, pm_kill_l, pm_kill_d, pm_cats_nil, pm_cats_i, pm_cats_r, pm_cats_n, pm_cats_l, pm_cats_d, sz_1, sz_2, sl_1, sl_2, lc_0, lc_lt, lc_le, li_ne, va_rf, wr_m1, we_m1, pm_kill_w, Int32.reduceOfInt, Int64.reduceOfInt, Int32.reduceOfNat, Int32.reduceLT, Int32.reduceLE, Prod.mk.injEq, Nat.reduceEqDiff, reduceCtorEq, and_true, true_and, and_false, false_and, and_self, ite_true, ite_false, ↓reduceIte, not_true_eq_false, not_false_eq_true, pe_ri, pe_rz, pe_rc, p_throw, t1544, w_junk hA, Ch_g0_7 hP hA, Ch_g10_0 hP hA, Ch_g10_3 hP hA, Ch_g10_4 hP hA, Ch_p0_7 hP hA, Ch_p10_4 hP hA, z2, eq_false k3, z4, eq_true k5, z6, eq_false k7]
        · rw [if_neg k5] at e
          have e := Option.some.inj e; subst e
          simp -implicitDefEqProofs (disch := first | assumption | exact Nat.le_of_ble_eq_true rfl | decide) only [b1544_0, g1544_1, b1544_1, g1544_3, b1544_3, g1544_4, b1544_4, pe_aload0, pe_iload1, pe_call2, pm_af_ret, pm_af_void, pm_af_thr, pe_astore2, pe_aload2, pe_getfield, pe_if_ne, pe_sipush, pe_goto, pe_goto_w, pe_call1, pe_if_eq, pe_bipush, pe_lcmp, pe_dup_i, pe_dup_r, pe_iadd, pe_dup_x1_ii, pe_dup_x1_ir, pe_dup_x1_ri, pe_dup_x1_rr, pe_putfield, pe_aloadN0, pe_astoreN2, pe_aloadN2, pe_aastoreN, pe_areturnN, pe_null, pm_prog_1, pm_ob_some, Nat.reduceDiv, Nat.reduceMod, Nat.reduceMul, Nat.reduceAdd, Int.reduceToNat, pm_kill_i, pm_kill_r, pm_kill_n, pm_kill_j, pm_kill_l, pm_kill_d, pm_cats_nil, pm_cats_i, pm_cats_r, pm_cats_n, pm_cats_l, pm_cats_d, sz_1, sz_2, sl_1, sl_2, lc_0, lc_lt, lc_le, li_ne, va_rf, wr_m1, we_m1, pm_kill_w, Int32.reduceOfInt, Int64.reduceOfInt, Int32.reduceOfNat, Int32.reduceLT, Int32.reduceLE, Prod.mk.injEq, Nat.reduceEqDiff, reduceCtorEq, and_true, true_and, and_false, false_and, and_self, ite_true, ite_false, ↓reduceIte, not_true_eq_false, not_false_eq_true, pe_ri, pe_rz, pe_rc, p_throw, t1544, w_junk hA, Ch_g0_7 hP hA, Ch_g10_0 hP hA, Ch_g10_3 hP hA, Ch_g10_4 hP hA, Ch_p0_7 hP hA, Ch_p10_4 hP hA, z2, eq_false k3, z4, eq_false k5]
  · rw [if_neg k1] at e; cases e
theorem x1544 {tc : Int32} {bc : Int32} {ec : Int32} {A : wK → Nat} {h : pm_H} {D : Nat} {S : wS} {x1 : Int32} {r : (Nat × wS) ⊕ (Int32 × wS)} (hP : Ch_P tc bc ec) (hA : wok A (Ch_d tc bc ec) h.1) (hD : 3 ≤ D) (e : f1544 tc bc ec S x1 = some r) : pm_call pm_prog D 1544 [.ref (A (0, 0, 0)), .int x1] (wput A (Ch_d tc bc ec) S h) = some (match (generalizing := false) r with | .inl (c, S1) => (Outcome.threw c, (wput A (Ch_d tc bc ec) S1 (pm_new h 6 (.inr (c, []))))) | .inr (w0, S1) => (Outcome.returned (some (.int w0)), (wput A (Ch_d tc bc ec) S1 h))) := by
  obtain ⟨D, rfl⟩ : ∃ D', D = D' + 1 := ⟨D - 1, by omega⟩
  have hD : 2 ≤ D := by omega
  simp only [f1544] at e
  rw [c1544 (Ch_c0 hP hA), b1544_0]
  obtain ⟨r, k1, e⟩ := Option.bind_eq_some_iff.mp e
  have z1 := x1542 (D := D) (h := h) hP hA (by omega) k1
  rcases r with c5 | v1i
  · dsimp only at e z1
    have e := Option.some.inj e; subst e
    simp -implicitDefEqProofs (disch := first | assumption | exact Nat.le_of_ble_eq_true rfl | decide) only [b1544_0, g1544_1, b1544_1, g1544_3, b1544_3, g1544_4, b1544_4, pe_aload0, pe_iload1, pe_call2, pm_af_ret, pm_af_void, pm_af_thr, pe_astore2, pe_aload2, pe_getfield, pe_if_ne, pe_sipush, pe_goto, pe_goto_w, pe_call1, pe_if_eq, pe_bipush, pe_lcmp, pe_dup_i, pe_dup_r, pe_iadd, pe_dup_x1_ii, pe_dup_x1_ir, pe_dup_x1_ri, pe_dup_x1_rr, pe_putfield, pe_aloadN0, pe_astoreN2, pe_aloadN2, pe_aastoreN, pe_areturnN, pe_null, pm_prog_1, pm_ob_some, Nat.reduceDiv, Nat.reduceMod, Nat.reduceMul, Nat.reduceAdd, Int.reduceToNat, pm_kill_i, pm_kill_r, pm_kill_n, pm_kill_j, pm_kill_l, pm_kill_d, pm_cats_nil, pm_cats_i, pm_cats_r, pm_cats_n, pm_cats_l, pm_cats_d, sz_1, sz_2, sl_1, sl_2, lc_0, lc_lt, lc_le, li_ne, va_rf, wr_m1, we_m1, pm_kill_w, Int32.reduceOfInt, Int64.reduceOfInt, Int32.reduceOfNat, Int32.reduceLT, Int32.reduceLE, Prod.mk.injEq, Nat.reduceEqDiff, reduceCtorEq, and_true, true_and, and_false, false_and, and_self, ite_true, ite_false, ↓reduceIte, not_true_eq_false, not_false_eq_true, pe_ri, pe_rz, pe_rc, p_throw, t1544, w_junk hA, Ch_g0_7 hP hA, Ch_g10_0 hP hA, Ch_g10_3 hP hA, Ch_g10_4 hP hA, Ch_p0_7 hP hA, Ch_p10_4 hP hA, z1]
  · dsimp only at e z1
    by_cases k2 : 0 ≤ v1i ∧ v1i < ec
    · rw [if_pos k2] at e
      by_cases k3 : (S.1 (10, v1i, 0) 4) = 0
      · rw [if_pos k3] at e
        have k4 := y1544_2 (h := h) hP hA hD e
        simp -implicitDefEqProofs (disch := first | assumption | exact Nat.le_of_ble_eq_true rfl | decide) only [b1544_0, g1544_1, b1544_1, g1544_3, b1544_3, g1544_4, b1544_4, pe_aload0, pe_iload1, pe_call2, pm_af_ret, pm_af_void, pm_af_thr, pe_astore2, pe_aload2, pe_getfield, pe_if_ne, pe_sipush, pe_goto, pe_goto_w, pe_call1, pe_if_eq, pe_bipush, pe_lcmp, pe_dup_i, pe_dup_r, pe_iadd, pe_dup_x1_ii, pe_dup_x1_ir, pe_dup_x1_ri, pe_dup_x1_rr, pe_putfield, pe_aloadN0, pe_astoreN2, pe_aloadN2, pe_aastoreN, pe_areturnN, pe_null, pm_prog_1, pm_ob_some, Nat.reduceDiv, Nat.reduceMod, Nat.reduceMul, Nat.reduceAdd, Int.reduceToNat, pm_kill_i, pm_kill_r, pm_kill_n, pm_kill_j, pm_kill_l, pm_kill_d, pm_cats_nil, pm_cats_i, pm_cats_r, pm_cats_n, pm_cats_l, pm_cats_d, sz_1, sz_2, sl_1, sl_2, lc_0, lc_lt, lc_le, li_ne, va_rf, wr_m1, we_m1, pm_kill_w, Int32.reduceOfInt, Int64.reduceOfInt, Int32.reduceOfNat, Int32.reduceLT, Int32.reduceLE, Prod.mk.injEq, Nat.reduceEqDiff, reduceCtorEq, and_true, true_and, and_false, false_and, and_self, ite_true, ite_false, ↓reduceIte, not_true_eq_false, not_false_eq_true, pe_ri, pe_rz, pe_rc, p_throw, t1544, w_junk hA, Ch_g0_7 hP hA, Ch_g10_0 hP hA, Ch_g10_3 hP hA, Ch_g10_4 hP hA, Ch_p0_7 hP hA, Ch_p10_4 hP hA, z1, eq_true k3, k4]
      · rw [if_neg k3] at e
        have k5 := y1544_2 (h := h) hP hA hD e
        simp -implicitDefEqProofs (disch := first | assumption | exact Nat.le_of_ble_eq_true rfl | decide) only [b1544_0, g1544_1, b1544_1, g1544_3, b1544_3, g1544_4, b1544_4, pe_aload0, pe_iload1, pe_call2, pm_af_ret, pm_af_void, pm_af_thr, pe_astore2, pe_aload2, pe_getfield, pe_if_ne, pe_sipush, pe_goto, pe_goto_w, pe_call1, pe_if_eq, pe_bipush, pe_lcmp, pe_dup_i, pe_dup_r, pe_iadd, pe_dup_x1_ii, pe_dup_x1_ir, pe_dup_x1_ri, pe_dup_x1_rr, pe_putfield, pe_aloadN0, pe_astoreN2, pe_aloadN2, pe_aastoreN, pe_areturnN, pe_null, pm_prog_1, pm_ob_some, Nat.reduceDiv, Nat.reduceMod, Nat.reduceMul, Nat.reduceAdd, Int.reduceToNat, pm_kill_i, pm_kill_r, pm_kill_n, pm_kill_j, pm_kill_l, pm_kill_d, pm_cats_nil, pm_cats_i, pm_cats_r, pm_cats_n, pm_cats_l, pm_cats_d, sz_1, sz_2, sl_1, sl_2, lc_0, lc_lt, lc_le, li_ne, va_rf, wr_m1, we_m1, pm_kill_w, Int32.reduceOfInt, Int64.reduceOfInt, Int32.reduceOfNat, Int32.reduceLT, Int32.reduceLE, Prod.mk.injEq, Nat.reduceEqDiff, reduceCtorEq, and_true, true_and, and_false, false_and, and_self, ite_true, ite_false, ↓reduceIte, not_true_eq_false, not_false_eq_true, pe_ri, pe_rz, pe_rc, p_throw, t1544, w_junk hA, Ch_g0_7 hP hA, Ch_g10_0 hP hA, Ch_g10_3 hP hA, Ch_g10_4 hP hA, Ch_p0_7 hP hA, Ch_p10_4 hP hA, z1, eq_false k3, k5]
    · rw [if_neg k2] at e; cases e
/-- TimberHouse$ShopDesks.isKind(I)Z -/
theorem c1547 {d : Nat} {h : pm_H} {x0 : Int32} : pm_call pm_prog (d + 1) 1547 [.int x0] h = pm_ev pm_prog (pm_call pm_prog d) 1547 0 b1547_0 [.int x0] [] h := pm_cal (pm_rc0 rfl) rfl rfl rfl
/-- TimberHouse$ShopDesks.isKind(I)Z -/
noncomputable def f1547 (x0 : Int32) : Option (Int32) :=
  (f1538 (Int32.toInt64 x0) 0 3).bind fun v1 =>
  if v1 = 0 ∨ v1 = 1 then
    some v1
  else none
theorem x1547 {h : pm_H} {D : Nat} {x0 : Int32} {r : Int32} (hD : 2 ≤ D) (e : f1547 x0 = some r) : pm_call pm_prog D 1547 [.int x0] h = some (Outcome.returned (some (.int r)), h) := by
  obtain ⟨D, rfl⟩ : ∃ D', D = D' + 1 := ⟨D - 1, by omega⟩
  have hD : 1 ≤ D := by omega
  simp only [f1547] at e
  rw [c1547, b1547_0]
  obtain ⟨v1, k1, e⟩ := Option.bind_eq_some_iff.mp e
  try dsimp only at e
  have z1 := fun h => x1538 (D := D) (h := h) (by omega) k1
  by_cases k2 : v1 = 0 ∨ v1 = 1
  · rw [if_pos k2] at e
    have e := Option.some.inj e; subst e
    simp -implicitDefEqProofs (disch := first | assumption | exact Nat.le_of_ble_eq_true rfl | decide) only [b1547_0, pe_iload0, pe_i2l, pe_bipush, pe_call3, pm_af_ret, pm_af_void, pm_af_thr, pe_aastoreN, pe_areturnN, pe_null, pm_prog_1, pm_ob_some, Nat.reduceDiv, Nat.reduceMod, Nat.reduceMul, Nat.reduceAdd, Int.reduceToNat, pm_kill_i, pm_kill_r, pm_kill_n, pm_kill_j, pm_kill_l, pm_kill_d, pm_cats_nil, pm_cats_i, pm_cats_r, pm_cats_n, pm_cats_l, pm_cats_d, sz_1, sz_2, sl_1, sl_2, lc_0, lc_lt, lc_le, li_ne, va_rf, wr_m1, we_m1, pm_kill_w, Int32.reduceOfInt, Int64.reduceOfInt, Int32.reduceOfNat, Int32.reduceLT, Int32.reduceLE, Prod.mk.injEq, Nat.reduceEqDiff, reduceCtorEq, and_true, true_and, and_false, false_and, and_self, ite_true, ite_false, ↓reduceIte, not_true_eq_false, not_false_eq_true, pe_ri, pe_rz, pe_rc, z1]
  · rw [if_neg k2] at e; cases e
/-- TimberHouse$ShopDesks$Bag.has(I)Z -/
theorem c3713 {d : Nat} {h : pm_H} {a : Nat} {x0 : Int32} (hc : pm_cls h a = some 58) : pm_call pm_prog (d + 1) 3713 [.ref a, .int x0] h = pm_ev pm_prog (pm_call pm_prog d) 3713 0 b3713_0 [.ref a, .int x0] [] h := pm_cal (pm_rc1 hc rfl) rfl rfl rfl
theorem g3713_1 {cl : pm_C} {ls st : List Value} {h : pm_H} : pm_go pm_prog cl 3713 1 ls st h = pm_ev pm_prog cl 3713 1 b3713_1 ls st h := pm_go_eq pm_prog cl 3713 1 ls st h
theorem g3713_2 {cl : pm_C} {ls st : List Value} {h : pm_H} : pm_go pm_prog cl 3713 2 ls st h = pm_ev pm_prog cl 3713 2 b3713_2 ls st h := pm_go_eq pm_prog cl 3713 2 ls st h
/-- TimberHouse$ShopDesks$Bag.has(I)Z -/
noncomputable def f3713 (tc : Int32) (bc : Int32) (ec : Int32) (S : wS) (x0i : Int32) (x1 : Int32) : Option (Int32) :=
  if 0 ≤ x0i ∧ x0i < bc then
    if 0 ≤ (x1 >>> ((6 : Int32) &&& 31)) ∧ (x1 >>> ((6 : Int32) &&& 31)) < 5 then
      if ((UInt64.toInt64 (Int64.toUInt64 (S.2 (6, x0i, 0) (x1 >>> ((6 : Int32) &&& 31))) >>> (Int64.toUInt64 (Int32.toInt64 (x1 : Int32)) &&& Int64.toUInt64 63))) &&& 1) = 1 then
        some 1
      else
        some 0
    else none
  else none
theorem x3713 {tc : Int32} {bc : Int32} {ec : Int32} {A : wK → Nat} {h : pm_H} {D : Nat} {S : wS} {x0i : Int32} {x1 : Int32} {r : Int32} (hP : Ch_P tc bc ec) (hA : wok A (Ch_d tc bc ec) h.1) (hD : 1 ≤ D) (e : f3713 tc bc ec S x0i x1 = some r) : pm_call pm_prog D 3713 [.ref (A (4, x0i, 0)), .int x1] (wput A (Ch_d tc bc ec) S h) = some (Outcome.returned (some (.int r)), (wput A (Ch_d tc bc ec) S h)) := by
  obtain ⟨D, rfl⟩ : ∃ D', D = D' + 1 := ⟨D - 1, by omega⟩
  have hD : 0 ≤ D := by omega
  simp only [f3713] at e
  have k1 : 0 ≤ x0i ∧ x0i < bc := by
    by_cases q : 0 ≤ x0i ∧ x0i < bc
    · exact q
    · rw [if_neg q] at e; cases e
  rw [if_pos k1] at e
  rw [c3713 (Ch_c4 hP hA k1), b3713_0]
  by_cases k2 : 0 ≤ (x1 >>> ((6 : Int32) &&& 31)) ∧ (x1 >>> ((6 : Int32) &&& 31)) < 5
  · rw [if_pos k2] at e
    by_cases k3 : ((UInt64.toInt64 (Int64.toUInt64 (S.2 (6, x0i, 0) (x1 >>> ((6 : Int32) &&& 31))) >>> (Int64.toUInt64 (Int32.toInt64 (x1 : Int32)) &&& Int64.toUInt64 63))) &&& 1) = 1
    · rw [if_pos k3] at e
      have e := Option.some.inj e; subst e
      simp -implicitDefEqProofs (disch := first | assumption | exact Nat.le_of_ble_eq_true rfl | decide) only [b3713_0, g3713_1, b3713_1, g3713_2, b3713_2, pe_aload0, pe_getfield, pe_iload1, pe_sipush, pe_ishr, pe_laload, pe_lushr, pe_bipush, pe_land, pe_lcmp, pe_if_ne, pe_goto, pe_goto_w, pe_aloadN0, pe_aastoreN, pe_areturnN, pe_null, pm_prog_1, pm_ob_some, Nat.reduceDiv, Nat.reduceMod, Nat.reduceMul, Nat.reduceAdd, Int.reduceToNat, pm_kill_i, pm_kill_r, pm_kill_n, pm_kill_j, pm_kill_l, pm_kill_d, pm_cats_nil, pm_cats_i, pm_cats_r, pm_cats_n, pm_cats_l, pm_cats_d, sz_1, sz_2, sl_1, sl_2, lc_0, lc_lt, lc_le, li_ne, va_rf, wr_m1, we_m1, pm_kill_w, Int32.reduceOfInt, Int64.reduceOfInt, Int32.reduceOfNat, Int32.reduceLT, Int32.reduceLE, Prod.mk.injEq, Nat.reduceEqDiff, reduceCtorEq, and_true, true_and, and_false, false_and, and_self, ite_true, ite_false, ↓reduceIte, not_true_eq_false, not_false_eq_true, pe_ri, pe_rz, pe_rc, Ch_g4_2 hP hA, Ch_r6 hP hA, eq_true k3]
    · rw [if_neg k3] at e
      have e := Option.some.inj e; subst e
      simp -implicitDefEqProofs (disch := first | assumption | exact Nat.le_of_ble_eq_true rfl | decide) only [b3713_0, g3713_1, b3713_1, g3713_2, b3713_2, pe_aload0, pe_getfield, pe_iload1, pe_sipush, pe_ishr, pe_laload, pe_lushr, pe_bipush, pe_land, pe_lcmp, pe_if_ne, pe_goto, pe_goto_w, pe_aloadN0, pe_aastoreN, pe_areturnN, pe_null, pm_prog_1, pm_ob_some, Nat.reduceDiv, Nat.reduceMod, Nat.reduceMul, Nat.reduceAdd, Int.reduceToNat, pm_kill_i, pm_kill_r, pm_kill_n, pm_kill_j, pm_kill_l, pm_kill_d, pm_cats_nil, pm_cats_i, pm_cats_r, pm_cats_n, pm_cats_l, pm_cats_d, sz_1, sz_2, sl_1, sl_2, lc_0, lc_lt, lc_le, li_ne, va_rf, wr_m1, we_m1, pm_kill_w, Int32.reduceOfInt, Int64.reduceOfInt, Int32.reduceOfNat, Int32.reduceLT, Int32.reduceLE, Prod.mk.injEq, Nat.reduceEqDiff, reduceCtorEq, and_true, true_and, and_false, false_and, and_self, ite_true, ite_false, ↓reduceIte, not_true_eq_false, not_false_eq_true, pe_ri, pe_rz, pe_rc, Ch_g4_2 hP hA, Ch_r6 hP hA, eq_false k3]
  · rw [if_neg k2] at e; cases e
/-- TimberHouse$ShopDesks.least(ILTimberHouse$ShopDesks$Bag;)I -/
theorem c1549 {d : Nat} {h : pm_H} {a : Nat} {x0 : Int32} {r1 : Nat} (hc : pm_cls h a = some 24) : pm_call pm_prog (d + 1) 1549 [.ref a, .int x0, .ref r1] h = pm_ev pm_prog (pm_call pm_prog d) 1549 0 b1549_0 [.ref a, .int x0, .ref r1, pm_junk, pm_junk] [] h := pm_cal (pm_rc1 hc rfl) rfl rfl rfl
theorem g1549_1 {cl : pm_C} {ls st : List Value} {h : pm_H} : pm_go pm_prog cl 1549 1 ls st h = pm_ev pm_prog cl 1549 1 b1549_1 ls st h := pm_go_eq pm_prog cl 1549 1 ls st h
theorem g1549_2 {cl : pm_C} {ls st : List Value} {h : pm_H} : pm_go pm_prog cl 1549 2 ls st h = pm_ev pm_prog cl 1549 2 b1549_2 ls st h := pm_go_eq pm_prog cl 1549 2 ls st h
theorem g1549_3 {cl : pm_C} {ls st : List Value} {h : pm_H} : pm_go pm_prog cl 1549 3 ls st h = pm_ev pm_prog cl 1549 3 b1549_3 ls st h := pm_go_eq pm_prog cl 1549 3 ls st h
theorem g1549_4 {cl : pm_C} {ls st : List Value} {h : pm_H} : pm_go pm_prog cl 1549 4 ls st h = pm_ev pm_prog cl 1549 4 b1549_4 ls st h := pm_go_eq pm_prog cl 1549 4 ls st h
noncomputable def f1549_b1 (tc : Int32) (bc : Int32) (ec : Int32) (S : wS) : Int32 × Int32 × Int32 × Int32 → Option ((Int32 × Int32 × Int32 × Int32) ⊕ ((Int32))) := fun (x1, x2i, x3, x4) =>
  if 0 ≤ x2i ∧ x2i < bc then
    if x4 < (S.1 (0, 0, 0) 1) then
      if 0 ≤ x4 ∧ x4 < 300 then
        if x4 < tc then
          if 0 ≤ x4 ∧ x4 < tc then
            if (S.1 (2, x4, 0) 0) = x1 then
              (f3713 tc bc ec S x2i x4).bind fun v1 =>
              if v1 = 0 then
                if x3 = (-1) then
                  some (.inl (x1, x2i, x4, (x4 + 1)))
                else
                  if 0 ≤ x3 ∧ x3 < 300 then
                    if x3 < tc then
                      if 0 ≤ x3 ∧ x3 < tc then
                        if (S.2 (2, x4, 0) 1) < (S.2 (2, x3, 0) 1) then
                          some (.inl (x1, x2i, x4, (x4 + 1)))
                        else
                          some (.inl (x1, x2i, x3, (x4 + 1)))
                      else none
                    else none
                  else none
              else
                some (.inl (x1, x2i, x3, (x4 + 1)))
            else
              some (.inl (x1, x2i, x3, (x4 + 1)))
          else none
        else none
      else none
    else
      some (.inr x3)
  else none
/-- TimberHouse$ShopDesks.least(ILTimberHouse$ShopDesks$Bag;)I -/
noncomputable def f1549 (tc : Int32) (bc : Int32) (ec : Int32) (S : wS) (x1 : Int32) (x2i : Int32) : Option (Int32) :=
  if 0 ≤ x2i ∧ x2i < bc then
    (lp (f1549_b1 tc bc ec S) FU (x1, x2i, (-1), 0)).bind fun v2 =>
    some v2
  else none
def go1549_1 (tc : Int32) (bc : Int32) (ec : Int32) (A : wK → Nat) (h : pm_H) (D : Nat) (R : Outcome × pm_H) (S : wS) : Int32 × Int32 × Int32 × Int32 → Prop := fun (x1, x2i, x3, x4) => pm_go pm_prog (pm_call pm_prog D) 1549 1 [.ref (A (0, 0, 0)), .int x1, .ref (A (4, x2i, 0)), .int x3, .int x4] [] (wput A (Ch_d tc bc ec) S h) = some R
def ex1549_1 (tc : Int32) (bc : Int32) (ec : Int32) (A : wK → Nat) (h : pm_H) (D : Nat) (R : Outcome × pm_H) (S : wS) : (Int32) → Prop := fun x3 => ∀ q0 q1 q2 q4 : Value, pm_go pm_prog (pm_call pm_prog D) 1549 4 [q0, q1, q2, .int x3, q4] [] (wput A (Ch_d tc bc ec) S h) = some R
theorem y1549_b1 {tc : Int32} {bc : Int32} {ec : Int32} {A : wK → Nat} {h : pm_H} {D : Nat} {R : Outcome × pm_H} {S : wS} (hP : Ch_P tc bc ec) (hA : wok A (Ch_d tc bc ec) h.1) (hD : 1 ≤ D) (a : Int32 × Int32 × Int32 × Int32) (r : (Int32 × Int32 × Int32 × Int32) ⊕ ((Int32))) (e : f1549_b1 tc bc ec S a = some r) (hc : Sum.elim (go1549_1 tc bc ec A h D R S) (ex1549_1 tc bc ec A h D R S) r) : go1549_1 tc bc ec A h D R S a := by
  obtain ⟨x1, x2i, x3, x4⟩ := a
  dsimp only [go1549_1]
  simp only [f1549_b1] at e
  rw [g1549_1, b1549_1]
  by_cases k1 : 0 ≤ x2i ∧ x2i < bc
  · rw [if_pos k1] at e
    by_cases k2 : x4 < (S.1 (0, 0, 0) 1)
    · rw [if_pos k2] at e
      by_cases k3 : 0 ≤ x4 ∧ x4 < 300
      · rw [if_pos k3] at e
        by_cases k4 : x4 < tc
        · rw [if_pos k4] at e
          by_cases k5 : 0 ≤ x4 ∧ x4 < tc
          · rw [if_pos k5] at e
            by_cases k6 : (S.1 (2, x4, 0) 0) = x1
            · rw [if_pos k6] at e
              obtain ⟨v1, k7, e⟩ := Option.bind_eq_some_iff.mp e
              try dsimp only at e
              have z7 := x3713 (D := D) (h := h) hP hA (by omega) k7
              by_cases k8 : v1 = 0
              · rw [if_pos k8] at e
                by_cases k9 : x3 = (-1)
                · rw [if_pos k9] at e
                  have e := Option.some.inj e; subst e
                  dsimp only [Sum.elim_inl, go1549_1] at hc
                  simp -implicitDefEqProofs (disch := first | assumption | exact Nat.le_of_ble_eq_true rfl | decide) only [b1549_0, g1549_2, b1549_2, g1549_3, b1549_3, g1549_4, b1549_4, pe_sipush, pe_istore3, pe_istore4, pe_goto_w, pe_iload4, pe_aload0, pe_getfield, pe_icmp_ge, pe_aaload, pe_iload1, pe_icmp_ne, pe_aload2, pe_call2, pm_af_ret, pm_af_void, pm_af_thr, pe_if_ne, pe_iload3, pe_icmp_eq, pe_lcmp, pe_if_ge, pe_iinc4, pe_goto, pe_aloadN0, pe_aloadN2, pe_aastoreN, pe_areturnN, pe_null, pm_prog_1, pm_ob_some, Nat.reduceDiv, Nat.reduceMod, Nat.reduceMul, Nat.reduceAdd, Int.reduceToNat, pm_kill_i, pm_kill_r, pm_kill_n, pm_kill_j, pm_kill_l, pm_kill_d, pm_cats_nil, pm_cats_i, pm_cats_r, pm_cats_n, pm_cats_l, pm_cats_d, sz_1, sz_2, sl_1, sl_2, lc_0, lc_lt, lc_le, li_ne, va_rf, wr_m1, we_m1, pm_kill_w, Int32.reduceOfInt, Int64.reduceOfInt, Int32.reduceOfNat, Int32.reduceLT, Int32.reduceLE, Prod.mk.injEq, Nat.reduceEqDiff, reduceCtorEq, and_true, true_and, and_false, false_and, and_self, ite_true, ite_false, ↓reduceIte, not_true_eq_false, not_false_eq_true, pe_ri, pe_rz, pe_rc, Ch_g0_0 hP hA, Ch_g0_1 hP hA, Ch_g2_0 hP hA, Ch_g2_1 hP hA, Ch_r1 hP hA, eq_true k2, eq_true k6, z7, eq_true k8, eq_true k9, hc]
                · rw [if_neg k9] at e
                  by_cases k10 : 0 ≤ x3 ∧ x3 < 300
                  · rw [if_pos k10] at e
                    by_cases k11 : x3 < tc
                    · rw [if_pos k11] at e
                      by_cases k12 : 0 ≤ x3 ∧ x3 < tc
                      · rw [if_pos k12] at e
                        by_cases k13 : (S.2 (2, x4, 0) 1) < (S.2 (2, x3, 0) 1)
                        · rw [if_pos k13] at e
                          have e := Option.some.inj e; subst e
                          dsimp only [Sum.elim_inl, go1549_1] at hc
                          simp -implicitDefEqProofs (disch := first | assumption | exact Nat.le_of_ble_eq_true rfl | decide) only [b1549_0, g1549_2, b1549_2, g1549_3, b1549_3, g1549_4, b1549_4, pe_sipush, pe_istore3, pe_istore4, pe_goto_w, pe_iload4, pe_aload0, pe_getfield, pe_icmp_ge, pe_aaload, pe_iload1, pe_icmp_ne, pe_aload2, pe_call2, pm_af_ret, pm_af_void, pm_af_thr, pe_if_ne, pe_iload3, pe_icmp_eq, pe_lcmp, pe_if_ge, pe_iinc4, pe_goto, pe_aloadN0, pe_aloadN2, pe_aastoreN, pe_areturnN, pe_null, pm_prog_1, pm_ob_some, Nat.reduceDiv, Nat.reduceMod, Nat.reduceMul, Nat.reduceAdd, Int.reduceToNat, pm_kill_i, pm_kill_r, pm_kill_n, pm_kill_j, pm_kill_l, pm_kill_d, pm_cats_nil, pm_cats_i, pm_cats_r, pm_cats_n, pm_cats_l, pm_cats_d, sz_1, sz_2, sl_1, sl_2, lc_0, lc_lt, lc_le, li_ne, va_rf, wr_m1, we_m1, pm_kill_w, Int32.reduceOfInt, Int64.reduceOfInt, Int32.reduceOfNat, Int32.reduceLT, Int32.reduceLE, Prod.mk.injEq, Nat.reduceEqDiff, reduceCtorEq, and_true, true_and, and_false, false_and, and_self, ite_true, ite_false, ↓reduceIte, not_true_eq_false, not_false_eq_true, pe_ri, pe_rz, pe_rc, Ch_g0_0 hP hA, Ch_g0_1 hP hA, Ch_g2_0 hP hA, Ch_g2_1 hP hA, Ch_r1 hP hA, eq_true k2, eq_true k6, z7, eq_true k8, eq_false k9, eq_true k13, hc]
                        · rw [if_neg k13] at e
                          have e := Option.some.inj e; subst e
                          dsimp only [Sum.elim_inl, go1549_1] at hc
                          simp -implicitDefEqProofs (disch := first | assumption | exact Nat.le_of_ble_eq_true rfl | decide) only [b1549_0, g1549_2, b1549_2, g1549_3, b1549_3, g1549_4, b1549_4, pe_sipush, pe_istore3, pe_istore4, pe_goto_w, pe_iload4, pe_aload0, pe_getfield, pe_icmp_ge, pe_aaload, pe_iload1, pe_icmp_ne, pe_aload2, pe_call2, pm_af_ret, pm_af_void, pm_af_thr, pe_if_ne, pe_iload3, pe_icmp_eq, pe_lcmp, pe_if_ge, pe_iinc4, pe_goto, pe_aloadN0, pe_aloadN2, pe_aastoreN, pe_areturnN, pe_null, pm_prog_1, pm_ob_some, Nat.reduceDiv, Nat.reduceMod, Nat.reduceMul, Nat.reduceAdd, Int.reduceToNat, pm_kill_i, pm_kill_r, pm_kill_n, pm_kill_j, pm_kill_l, pm_kill_d, pm_cats_nil, pm_cats_i, pm_cats_r, pm_cats_n, pm_cats_l, pm_cats_d, sz_1, sz_2, sl_1, sl_2, lc_0, lc_lt, lc_le, li_ne, va_rf, wr_m1, we_m1, pm_kill_w, Int32.reduceOfInt, Int64.reduceOfInt, Int32.reduceOfNat, Int32.reduceLT, Int32.reduceLE, Prod.mk.injEq, Nat.reduceEqDiff, reduceCtorEq, and_true, true_and, and_false, false_and, and_self, ite_true, ite_false, ↓reduceIte, not_true_eq_false, not_false_eq_true, pe_ri, pe_rz, pe_rc, Ch_g0_0 hP hA, Ch_g0_1 hP hA, Ch_g2_0 hP hA, Ch_g2_1 hP hA, Ch_r1 hP hA, eq_true k2, eq_true k6, z7, eq_true k8, eq_false k9, eq_false k13, hc]
                      · rw [if_neg k12] at e; cases e
                    · rw [if_neg k11] at e; cases e
                  · rw [if_neg k10] at e; cases e
              · rw [if_neg k8] at e
                have e := Option.some.inj e; subst e
                dsimp only [Sum.elim_inl, go1549_1] at hc
                simp -implicitDefEqProofs (disch := first | assumption | exact Nat.le_of_ble_eq_true rfl | decide) only [b1549_0, g1549_2, b1549_2, g1549_3, b1549_3, g1549_4, b1549_4, pe_sipush, pe_istore3, pe_istore4, pe_goto_w, pe_iload4, pe_aload0, pe_getfield, pe_icmp_ge, pe_aaload, pe_iload1, pe_icmp_ne, pe_aload2, pe_call2, pm_af_ret, pm_af_void, pm_af_thr, pe_if_ne, pe_iload3, pe_icmp_eq, pe_lcmp, pe_if_ge, pe_iinc4, pe_goto, pe_aloadN0, pe_aloadN2, pe_aastoreN, pe_areturnN, pe_null, pm_prog_1, pm_ob_some, Nat.reduceDiv, Nat.reduceMod, Nat.reduceMul, Nat.reduceAdd, Int.reduceToNat, pm_kill_i, pm_kill_r, pm_kill_n, pm_kill_j, pm_kill_l, pm_kill_d, pm_cats_nil, pm_cats_i, pm_cats_r, pm_cats_n, pm_cats_l, pm_cats_d, sz_1, sz_2, sl_1, sl_2, lc_0, lc_lt, lc_le, li_ne, va_rf, wr_m1, we_m1, pm_kill_w, Int32.reduceOfInt, Int64.reduceOfInt, Int32.reduceOfNat, Int32.reduceLT, Int32.reduceLE, Prod.mk.injEq, Nat.reduceEqDiff, reduceCtorEq, and_true, true_and, and_false, false_and, and_self, ite_true, ite_false, ↓reduceIte, not_true_eq_false, not_false_eq_true, pe_ri, pe_rz, pe_rc, Ch_g0_0 hP hA, Ch_g0_1 hP hA, Ch_g2_0 hP hA, Ch_g2_1 hP hA, Ch_r1 hP hA, eq_true k2, eq_true k6, z7, eq_false k8, hc]
            · rw [if_neg k6] at e
              have e := Option.some.inj e; subst e
              dsimp only [Sum.elim_inl, go1549_1] at hc
              simp -implicitDefEqProofs (disch := first | assumption | exact Nat.le_of_ble_eq_true rfl | decide) only [b1549_0, g1549_2, b1549_2, g1549_3, b1549_3, g1549_4, b1549_4, pe_sipush, pe_istore3, pe_istore4, pe_goto_w, pe_iload4, pe_aload0, pe_getfield, pe_icmp_ge, pe_aaload, pe_iload1, pe_icmp_ne, pe_aload2, pe_call2, pm_af_ret, pm_af_void, pm_af_thr, pe_if_ne, pe_iload3, pe_icmp_eq, pe_lcmp, pe_if_ge, pe_iinc4, pe_goto, pe_aloadN0, pe_aloadN2, pe_aastoreN, pe_areturnN, pe_null, pm_prog_1, pm_ob_some, Nat.reduceDiv, Nat.reduceMod, Nat.reduceMul, Nat.reduceAdd, Int.reduceToNat, pm_kill_i, pm_kill_r, pm_kill_n, pm_kill_j, pm_kill_l, pm_kill_d, pm_cats_nil, pm_cats_i, pm_cats_r, pm_cats_n, pm_cats_l, pm_cats_d, sz_1, sz_2, sl_1, sl_2, lc_0, lc_lt, lc_le, li_ne, va_rf, wr_m1, we_m1, pm_kill_w, Int32.reduceOfInt, Int64.reduceOfInt, Int32.reduceOfNat, Int32.reduceLT, Int32.reduceLE, Prod.mk.injEq, Nat.reduceEqDiff, reduceCtorEq, and_true, true_and, and_false, false_and, and_self, ite_true, ite_false, ↓reduceIte, not_true_eq_false, not_false_eq_true, pe_ri, pe_rz, pe_rc, Ch_g0_0 hP hA, Ch_g0_1 hP hA, Ch_g2_0 hP hA, Ch_g2_1 hP hA, Ch_r1 hP hA, eq_true k2, eq_false k6, hc]
          · rw [if_neg k5] at e; cases e
        · rw [if_neg k4] at e; cases e
      · rw [if_neg k3] at e; cases e
    · rw [if_neg k2] at e
      have e := Option.some.inj e; subst e
      dsimp only [Sum.elim_inr, ex1549_1] at hc
      simp -implicitDefEqProofs (disch := first | assumption | exact Nat.le_of_ble_eq_true rfl | decide) only [b1549_0, g1549_2, b1549_2, g1549_3, b1549_3, g1549_4, b1549_4, pe_sipush, pe_istore3, pe_istore4, pe_goto_w, pe_iload4, pe_aload0, pe_getfield, pe_icmp_ge, pe_aaload, pe_iload1, pe_icmp_ne, pe_aload2, pe_call2, pm_af_ret, pm_af_void, pm_af_thr, pe_if_ne, pe_iload3, pe_icmp_eq, pe_lcmp, pe_if_ge, pe_iinc4, pe_goto, pe_aloadN0, pe_aloadN2, pe_aastoreN, pe_areturnN, pe_null, pm_prog_1, pm_ob_some, Nat.reduceDiv, Nat.reduceMod, Nat.reduceMul, Nat.reduceAdd, Int.reduceToNat, pm_kill_i, pm_kill_r, pm_kill_n, pm_kill_j, pm_kill_l, pm_kill_d, pm_cats_nil, pm_cats_i, pm_cats_r, pm_cats_n, pm_cats_l, pm_cats_d, sz_1, sz_2, sl_1, sl_2, lc_0, lc_lt, lc_le, li_ne, va_rf, wr_m1, we_m1, pm_kill_w, Int32.reduceOfInt, Int64.reduceOfInt, Int32.reduceOfNat, Int32.reduceLT, Int32.reduceLE, Prod.mk.injEq, Nat.reduceEqDiff, reduceCtorEq, and_true, true_and, and_false, false_and, and_self, ite_true, ite_false, ↓reduceIte, not_true_eq_false, not_false_eq_true, pe_ri, pe_rz, pe_rc, Ch_g0_0 hP hA, Ch_g0_1 hP hA, Ch_g2_0 hP hA, Ch_g2_1 hP hA, Ch_r1 hP hA, eq_false k2, hc]
  · rw [if_neg k1] at e; cases e
theorem z1549_1 {tc : Int32} {bc : Int32} {ec : Int32} {A : wK → Nat} {h : pm_H} {D : Nat} {R : Outcome × pm_H} {S : wS} (hP : Ch_P tc bc ec) (hA : wok A (Ch_d tc bc ec) h.1) (hD : 1 ≤ D) {n : Nat} {a : Int32 × Int32 × Int32 × Int32} {b : (Int32)} (e : lp (f1549_b1 tc bc ec S) n a = some b) (hx : ex1549_1 tc bc ec A h D R S b) : go1549_1 tc bc ec A h D R S a := lp_run (fun a r => y1549_b1 hP hA hD a r) n a b e hx
theorem x1549 {tc : Int32} {bc : Int32} {ec : Int32} {A : wK → Nat} {h : pm_H} {D : Nat} {S : wS} {x1 : Int32} {x2i : Int32} {r : Int32} (hP : Ch_P tc bc ec) (hA : wok A (Ch_d tc bc ec) h.1) (hD : 2 ≤ D) (e : f1549 tc bc ec S x1 x2i = some r) : pm_call pm_prog D 1549 [.ref (A (0, 0, 0)), .int x1, .ref (A (4, x2i, 0))] (wput A (Ch_d tc bc ec) S h) = some (Outcome.returned (some (.int r)), (wput A (Ch_d tc bc ec) S h)) := by
  obtain ⟨D, rfl⟩ : ∃ D', D = D' + 1 := ⟨D - 1, by omega⟩
  have hD : 1 ≤ D := by omega
  simp only [f1549] at e
  have k1 : 0 ≤ x2i ∧ x2i < bc := by
    by_cases q : 0 ≤ x2i ∧ x2i < bc
    · exact q
    · rw [if_neg q] at e; cases e
  rw [if_pos k1] at e
  rw [c1549 (Ch_c0 hP hA), b1549_0]
  obtain ⟨v2, k2, e⟩ := Option.bind_eq_some_iff.mp e
  try dsimp only at e
  try simp -implicitDefEqProofs (disch := first | assumption | exact Nat.le_of_ble_eq_true rfl | decide) only [b1549_0, g1549_2, b1549_2, g1549_3, b1549_3, g1549_4, b1549_4, pe_sipush, pe_istore3, pe_istore4, pe_goto_w, pe_iload4, pe_aload0, pe_getfield, pe_icmp_ge, pe_aaload, pe_iload1, pe_icmp_ne, pe_aload2, pe_call2, pm_af_ret, pm_af_void, pm_af_thr, pe_if_ne, pe_iload3, pe_icmp_eq, pe_lcmp, pe_if_ge, pe_iinc4, pe_goto, pe_aloadN0, pe_aloadN2, pe_aastoreN, pe_areturnN, pe_null, pm_prog_1, pm_ob_some, Nat.reduceDiv, Nat.reduceMod, Nat.reduceMul, Nat.reduceAdd, Int.reduceToNat, pm_kill_i, pm_kill_r, pm_kill_n, pm_kill_j, pm_kill_l, pm_kill_d, pm_cats_nil, pm_cats_i, pm_cats_r, pm_cats_n, pm_cats_l, pm_cats_d, sz_1, sz_2, sl_1, sl_2, lc_0, lc_lt, lc_le, li_ne, va_rf, wr_m1, we_m1, pm_kill_w, Int32.reduceOfInt, Int64.reduceOfInt, Int32.reduceOfNat, Int32.reduceLT, Int32.reduceLE, Prod.mk.injEq, Nat.reduceEqDiff, reduceCtorEq, and_true, true_and, and_false, false_and, and_self, ite_true, ite_false, ↓reduceIte, not_true_eq_false, not_false_eq_true, pe_ri, pe_rz, pe_rc, Ch_g0_0 hP hA, Ch_g0_1 hP hA, Ch_g2_0 hP hA, Ch_g2_1 hP hA, Ch_r1 hP hA]
  refine z1549_1 hP hA hD k2 ?_
  dsimp only [ex1549_1]
  intro q0 q1 q2 q4
  have e := Option.some.inj e; subst e
  simp -implicitDefEqProofs (disch := first | assumption | exact Nat.le_of_ble_eq_true rfl | decide) only [b1549_0, g1549_2, b1549_2, g1549_3, b1549_3, g1549_4, b1549_4, pe_sipush, pe_istore3, pe_istore4, pe_goto_w, pe_iload4, pe_aload0, pe_getfield, pe_icmp_ge, pe_aaload, pe_iload1, pe_icmp_ne, pe_aload2, pe_call2, pm_af_ret, pm_af_void, pm_af_thr, pe_if_ne, pe_iload3, pe_icmp_eq, pe_lcmp, pe_if_ge, pe_iinc4, pe_goto, pe_aloadN0, pe_aloadN2, pe_aastoreN, pe_areturnN, pe_null, pm_prog_1, pm_ob_some, Nat.reduceDiv, Nat.reduceMod, Nat.reduceMul, Nat.reduceAdd, Int.reduceToNat, pm_kill_i, pm_kill_r, pm_kill_n, pm_kill_j, pm_kill_l, pm_kill_d, pm_cats_nil, pm_cats_i, pm_cats_r, pm_cats_n, pm_cats_l, pm_cats_d, sz_1, sz_2, sl_1, sl_2, lc_0, lc_lt, lc_le, li_ne, va_rf, wr_m1, we_m1, pm_kill_w, Int32.reduceOfInt, Int64.reduceOfInt, Int32.reduceOfNat, Int32.reduceLT, Int32.reduceLE, Prod.mk.injEq, Nat.reduceEqDiff, reduceCtorEq, and_true, true_and, and_false, false_and, and_self, ite_true, ite_false, ↓reduceIte, not_true_eq_false, not_false_eq_true, pe_ri, pe_rz, pe_rc, Ch_g0_0 hP hA, Ch_g0_1 hP hA, Ch_g2_0 hP hA, Ch_g2_1 hP hA, Ch_r1 hP hA]
/-- TimberHouse$ShopDesks.isSet(I)Z -/
theorem c1551 {d : Nat} {h : pm_H} {a : Nat} {x0 : Int32} (hc : pm_cls h a = some 24) : pm_call pm_prog (d + 1) 1551 [.ref a, .int x0] h = pm_ev pm_prog (pm_call pm_prog d) 1551 0 b1551_0 [.ref a, .int x0] [] h := pm_cal (pm_rc1 hc rfl) rfl rfl rfl
/-- TimberHouse$ShopDesks.isSet(I)Z -/
noncomputable def f1551 (tc : Int32) (bc : Int32) (ec : Int32) (S : wS) (x1 : Int32) : Option (Int32) :=
  (f1538 (Int32.toInt64 x1) 0 ((Int32.toInt64 (S.1 (0, 0, 0) 3)) - 1)).bind fun v1 =>
  if v1 = 0 ∨ v1 = 1 then
    some v1
  else none
theorem x1551 {tc : Int32} {bc : Int32} {ec : Int32} {A : wK → Nat} {h : pm_H} {D : Nat} {S : wS} {x1 : Int32} {r : Int32} (hP : Ch_P tc bc ec) (hA : wok A (Ch_d tc bc ec) h.1) (hD : 2 ≤ D) (e : f1551 tc bc ec S x1 = some r) : pm_call pm_prog D 1551 [.ref (A (0, 0, 0)), .int x1] (wput A (Ch_d tc bc ec) S h) = some (Outcome.returned (some (.int r)), (wput A (Ch_d tc bc ec) S h)) := by
  obtain ⟨D, rfl⟩ : ∃ D', D = D' + 1 := ⟨D - 1, by omega⟩
  have hD : 1 ≤ D := by omega
  simp only [f1551] at e
  rw [c1551 (Ch_c0 hP hA), b1551_0]
  obtain ⟨v1, k1, e⟩ := Option.bind_eq_some_iff.mp e
  try dsimp only at e
  have z1 := fun h => x1538 (D := D) (h := h) (by omega) k1
  by_cases k2 : v1 = 0 ∨ v1 = 1
  · rw [if_pos k2] at e
    have e := Option.some.inj e; subst e
    simp -implicitDefEqProofs (disch := first | assumption | exact Nat.le_of_ble_eq_true rfl | decide) only [b1551_0, pe_iload1, pe_i2l, pe_bipush, pe_aload0, pe_getfield, pe_lsub, pe_call3, pm_af_ret, pm_af_void, pm_af_thr, pe_aloadN0, pe_aastoreN, pe_areturnN, pe_null, pm_prog_1, pm_ob_some, Nat.reduceDiv, Nat.reduceMod, Nat.reduceMul, Nat.reduceAdd, Int.reduceToNat, pm_kill_i, pm_kill_r, pm_kill_n, pm_kill_j, pm_kill_l, pm_kill_d, pm_cats_nil, pm_cats_i, pm_cats_r, pm_cats_n, pm_cats_l, pm_cats_d, sz_1, sz_2, sl_1, sl_2, lc_0, lc_lt, lc_le, li_ne, va_rf, wr_m1, we_m1, pm_kill_w, Int32.reduceOfInt, Int64.reduceOfInt, Int32.reduceOfNat, Int32.reduceLT, Int32.reduceLE, Prod.mk.injEq, Nat.reduceEqDiff, reduceCtorEq, and_true, true_and, and_false, false_and, and_self, ite_true, ite_false, ↓reduceIte, not_true_eq_false, not_false_eq_true, pe_ri, pe_rz, pe_rc, Ch_g0_3 hP hA, z1]
  · rw [if_neg k2] at e; cases e
/-- TimberHouse$ShopDesks$Bag.add(I)Z -/
theorem c3714 {d : Nat} {h : pm_H} {a : Nat} {x0 : Int32} (hc : pm_cls h a = some 58) : pm_call pm_prog (d + 1) 3714 [.ref a, .int x0] h = pm_ev pm_prog (pm_call pm_prog d) 3714 0 b3714_0 [.ref a, .int x0, pm_junk] [] h := pm_cal (pm_rc1 hc rfl) rfl rfl rfl
theorem g3714_1 {cl : pm_C} {ls st : List Value} {h : pm_H} : pm_go pm_prog cl 3714 1 ls st h = pm_ev pm_prog cl 3714 1 b3714_1 ls st h := pm_go_eq pm_prog cl 3714 1 ls st h
theorem g3714_2 {cl : pm_C} {ls st : List Value} {h : pm_H} : pm_go pm_prog cl 3714 2 ls st h = pm_ev pm_prog cl 3714 2 b3714_2 ls st h := pm_go_eq pm_prog cl 3714 2 ls st h
theorem g3714_3 {cl : pm_C} {ls st : List Value} {h : pm_H} : pm_go pm_prog cl 3714 3 ls st h = pm_ev pm_prog cl 3714 3 b3714_3 ls st h := pm_go_eq pm_prog cl 3714 3 ls st h
noncomputable def f3714_2 (tc : Int32) (bc : Int32) (ec : Int32) (S : wS) (x0i : Int32) (x1 : Int32) (y0 : Int32) : Option (Int32 × wS) :=
  if 0 ≤ x0i ∧ x0i < bc then
    if y0 = 0 then
      if y0 = 0 ∨ y0 = 1 then
        some (y0, S)
      else none
    else
      if 0 ≤ (x1 >>> ((6 : Int32) &&& 31)) ∧ (x1 >>> ((6 : Int32) &&& 31)) < 5 then
        if 0 ≤ (S.1 (4, x0i, 0) 3) ∧ (S.1 (4, x0i, 0) 3) < 300 then
          if y0 = 0 ∨ y0 = 1 then
            some (y0, (sz (sz (sl S (6, x0i, 0) (x1 >>> ((6 : Int32) &&& 31)) ((S.2 (6, x0i, 0) (x1 >>> ((6 : Int32) &&& 31))) ||| (1 <<< (Int32.toInt64 (x1 : Int32) &&& (63 : Int64))))) (4, x0i, 0) 3 ((S.1 (4, x0i, 0) 3) + 1)) (5, x0i, 0) (S.1 (4, x0i, 0) 3) (vp_nar .short (Int16.toInt32 (Int32.toInt16 x1)))))
          else none
        else none
      else none
  else none
/-- TimberHouse$ShopDesks$Bag.add(I)Z -/
noncomputable def f3714 (tc : Int32) (bc : Int32) (ec : Int32) (S : wS) (x0i : Int32) (x1 : Int32) : Option (Int32 × wS) :=
  if 0 ≤ x0i ∧ x0i < bc then
    (f3713 tc bc ec S x0i x1).bind fun v1 =>
    if v1 = 0 then
      f3714_2 tc bc ec S x0i x1 1
    else
      f3714_2 tc bc ec S x0i x1 0
  else none
theorem y3714_2 {tc : Int32} {bc : Int32} {ec : Int32} {A : wK → Nat} {h : pm_H} {D : Nat} {S : wS} {x0i : Int32} {x1 : Int32} {y0 : Int32} {r : Int32 × wS} (hP : Ch_P tc bc ec) (hA : wok A (Ch_d tc bc ec) h.1) (hD : 1 ≤ D) (e : f3714_2 tc bc ec S x0i x1 y0 = some r) : ∀ q2 : Value, pm_go pm_prog (pm_call pm_prog D) 3714 2 [.ref (A (4, x0i, 0)), .int x1, q2] [.int y0] (wput A (Ch_d tc bc ec) S h) = some (match (generalizing := false) r with | (w0, S1) => (Outcome.returned (some (.int w0)), (wput A (Ch_d tc bc ec) S1 h))) := by
  intro q2
  simp only [f3714_2] at e
  rw [g3714_2, b3714_2]
  by_cases k1 : 0 ≤ x0i ∧ x0i < bc
  · rw [if_pos k1] at e
    by_cases k2 : y0 = 0
    · rw [if_pos k2] at e
      by_cases k3 : y0 = 0 ∨ y0 = 1
      · rw [if_pos k3] at e
        have e := Option.some.inj e; subst e
        simp -implicitDefEqProofs (disch := first | assumption | exact Nat.le_of_ble_eq_true rfl | decide) only [b3714_0, g3714_1, b3714_1, g3714_3, b3714_3, pe_aload0, pe_iload1, pe_call2, pm_af_ret, pm_af_void, pm_af_thr, pe_if_ne, pe_sipush, pe_goto, pe_goto_w, pe_istore2, pe_iload2, pe_if_eq, pe_getfield, pe_ishr, pe_dup2_ii, pe_dup2_ir, pe_dup2_l, pe_laload, pe_bipush, pe_lshl, pe_lor, pe_lastore, pe_dup_i, pe_dup_r, pe_dup_x1_ii, pe_dup_x1_ir, pe_dup_x1_ri, pe_dup_x1_rr, pe_iadd, pe_putfield, pe_i2s, pe_sastore, pe_aloadN0, pe_aastoreN, pe_areturnN, pe_null, pm_prog_1, pm_ob_some, Nat.reduceDiv, Nat.reduceMod, Nat.reduceMul, Nat.reduceAdd, Int.reduceToNat, pm_kill_i, pm_kill_r, pm_kill_n, pm_kill_j, pm_kill_l, pm_kill_d, pm_cats_nil, pm_cats_i, pm_cats_r, pm_cats_n, pm_cats_l, pm_cats_d, sz_1, sz_2, sl_1, sl_2, lc_0, lc_lt, lc_le, li_ne, va_rf, wr_m1, we_m1, pm_kill_w, Int32.reduceOfInt, Int64.reduceOfInt, Int32.reduceOfNat, Int32.reduceLT, Int32.reduceLE, Prod.mk.injEq, Nat.reduceEqDiff, reduceCtorEq, and_true, true_and, and_false, false_and, and_self, ite_true, ite_false, ↓reduceIte, not_true_eq_false, not_false_eq_true, pe_ri, pe_rz, pe_rc, Ch_g4_1 hP hA, Ch_g4_2 hP hA, Ch_g4_3 hP hA, Ch_p4_3 hP hA, Ch_r6 hP hA, Ch_w5 hP hA, Ch_w6 hP hA, eq_true k2]
      · rw [if_neg k3] at e; cases e
    · rw [if_neg k2] at e
      by_cases k4 : 0 ≤ (x1 >>> ((6 : Int32) &&& 31)) ∧ (x1 >>> ((6 : Int32) &&& 31)) < 5
      · rw [if_pos k4] at e
        by_cases k5 : 0 ≤ (S.1 (4, x0i, 0) 3) ∧ (S.1 (4, x0i, 0) 3) < 300
        · rw [if_pos k5] at e
          by_cases k6 : y0 = 0 ∨ y0 = 1
          · rw [if_pos k6] at e
            have e := Option.some.inj e; subst e
            simp -implicitDefEqProofs (disch := first | assumption | exact Nat.le_of_ble_eq_true rfl | decide) only [b3714_0, g3714_1, b3714_1, g3714_3, b3714_3, pe_aload0, pe_iload1, pe_call2, pm_af_ret, pm_af_void, pm_af_thr, pe_if_ne, pe_sipush, pe_goto, pe_goto_w, pe_istore2, pe_iload2, pe_if_eq, pe_getfield, pe_ishr, pe_dup2_ii, pe_dup2_ir, pe_dup2_l, pe_laload, pe_bipush, pe_lshl, pe_lor, pe_lastore, pe_dup_i, pe_dup_r, pe_dup_x1_ii, pe_dup_x1_ir, pe_dup_x1_ri, pe_dup_x1_rr, pe_iadd, pe_putfield, pe_i2s, pe_sastore, pe_aloadN0, pe_aastoreN, pe_areturnN, pe_null, pm_prog_1, pm_ob_some, Nat.reduceDiv, Nat.reduceMod, Nat.reduceMul, Nat.reduceAdd, Int.reduceToNat, pm_kill_i, pm_kill_r, pm_kill_n, pm_kill_j, pm_kill_l, pm_kill_d, pm_cats_nil, pm_cats_i, pm_cats_r, pm_cats_n, pm_cats_l, pm_cats_d, sz_1, sz_2, sl_1, sl_2, lc_0, lc_lt, lc_le, li_ne, va_rf, wr_m1, we_m1, pm_kill_w, Int32.reduceOfInt, Int64.reduceOfInt, Int32.reduceOfNat, Int32.reduceLT, Int32.reduceLE, Prod.mk.injEq, Nat.reduceEqDiff, reduceCtorEq, and_true, true_and, and_false, false_and, and_self, ite_true, ite_false, ↓reduceIte, not_true_eq_false, not_false_eq_true, pe_ri, pe_rz, pe_rc, Ch_g4_1 hP hA, Ch_g4_2 hP hA, Ch_g4_3 hP hA, Ch_p4_3 hP hA, Ch_r6 hP hA, Ch_w5 hP hA, Ch_w6 hP hA, eq_false k2]
          · rw [if_neg k6] at e; cases e
        · rw [if_neg k5] at e; cases e
      · rw [if_neg k4] at e; cases e
  · rw [if_neg k1] at e; cases e
theorem x3714 {tc : Int32} {bc : Int32} {ec : Int32} {A : wK → Nat} {h : pm_H} {D : Nat} {S : wS} {x0i : Int32} {x1 : Int32} {r : Int32 × wS} (hP : Ch_P tc bc ec) (hA : wok A (Ch_d tc bc ec) h.1) (hD : 2 ≤ D) (e : f3714 tc bc ec S x0i x1 = some r) : pm_call pm_prog D 3714 [.ref (A (4, x0i, 0)), .int x1] (wput A (Ch_d tc bc ec) S h) = some (match (generalizing := false) r with | (w0, S1) => (Outcome.returned (some (.int w0)), (wput A (Ch_d tc bc ec) S1 h))) := by
  obtain ⟨D, rfl⟩ : ∃ D', D = D' + 1 := ⟨D - 1, by omega⟩
  have hD : 1 ≤ D := by omega
  simp only [f3714] at e
  have k1 : 0 ≤ x0i ∧ x0i < bc := by
    by_cases q : 0 ≤ x0i ∧ x0i < bc
    · exact q
    · rw [if_neg q] at e; cases e
  rw [if_pos k1] at e
  rw [c3714 (Ch_c4 hP hA k1), b3714_0]
  obtain ⟨v1, k2, e⟩ := Option.bind_eq_some_iff.mp e
  try dsimp only at e
  have z2 := x3713 (D := D) (h := h) hP hA (by omega) k2
  by_cases k3 : v1 = 0
  · rw [if_pos k3] at e
    have k4 := y3714_2 (h := h) hP hA hD e
    simp -implicitDefEqProofs (disch := first | assumption | exact Nat.le_of_ble_eq_true rfl | decide) only [b3714_0, g3714_1, b3714_1, g3714_3, b3714_3, pe_aload0, pe_iload1, pe_call2, pm_af_ret, pm_af_void, pm_af_thr, pe_if_ne, pe_sipush, pe_goto, pe_goto_w, pe_istore2, pe_iload2, pe_if_eq, pe_getfield, pe_ishr, pe_dup2_ii, pe_dup2_ir, pe_dup2_l, pe_laload, pe_bipush, pe_lshl, pe_lor, pe_lastore, pe_dup_i, pe_dup_r, pe_dup_x1_ii, pe_dup_x1_ir, pe_dup_x1_ri, pe_dup_x1_rr, pe_iadd, pe_putfield, pe_i2s, pe_sastore, pe_aloadN0, pe_aastoreN, pe_areturnN, pe_null, pm_prog_1, pm_ob_some, Nat.reduceDiv, Nat.reduceMod, Nat.reduceMul, Nat.reduceAdd, Int.reduceToNat, pm_kill_i, pm_kill_r, pm_kill_n, pm_kill_j, pm_kill_l, pm_kill_d, pm_cats_nil, pm_cats_i, pm_cats_r, pm_cats_n, pm_cats_l, pm_cats_d, sz_1, sz_2, sl_1, sl_2, lc_0, lc_lt, lc_le, li_ne, va_rf, wr_m1, we_m1, pm_kill_w, Int32.reduceOfInt, Int64.reduceOfInt, Int32.reduceOfNat, Int32.reduceLT, Int32.reduceLE, Prod.mk.injEq, Nat.reduceEqDiff, reduceCtorEq, and_true, true_and, and_false, false_and, and_self, ite_true, ite_false, ↓reduceIte, not_true_eq_false, not_false_eq_true, pe_ri, pe_rz, pe_rc, Ch_g4_1 hP hA, Ch_g4_2 hP hA, Ch_g4_3 hP hA, Ch_p4_3 hP hA, Ch_r6 hP hA, Ch_w5 hP hA, Ch_w6 hP hA, z2, eq_true k3, k4]
  · rw [if_neg k3] at e
    have k5 := y3714_2 (h := h) hP hA hD e
    simp -implicitDefEqProofs (disch := first | assumption | exact Nat.le_of_ble_eq_true rfl | decide) only [b3714_0, g3714_1, b3714_1, g3714_3, b3714_3, pe_aload0, pe_iload1, pe_call2, pm_af_ret, pm_af_void, pm_af_thr, pe_if_ne, pe_sipush, pe_goto, pe_goto_w, pe_istore2, pe_iload2, pe_if_eq, pe_getfield, pe_ishr, pe_dup2_ii, pe_dup2_ir, pe_dup2_l, pe_laload, pe_bipush, pe_lshl, pe_lor, pe_lastore, pe_dup_i, pe_dup_r, pe_dup_x1_ii, pe_dup_x1_ir, pe_dup_x1_ri, pe_dup_x1_rr, pe_iadd, pe_putfield, pe_i2s, pe_sastore, pe_aloadN0, pe_aastoreN, pe_areturnN, pe_null, pm_prog_1, pm_ob_some, Nat.reduceDiv, Nat.reduceMod, Nat.reduceMul, Nat.reduceAdd, Int.reduceToNat, pm_kill_i, pm_kill_r, pm_kill_n, pm_kill_j, pm_kill_l, pm_kill_d, pm_cats_nil, pm_cats_i, pm_cats_r, pm_cats_n, pm_cats_l, pm_cats_d, sz_1, sz_2, sl_1, sl_2, lc_0, lc_lt, lc_le, li_ne, va_rf, wr_m1, we_m1, pm_kill_w, Int32.reduceOfInt, Int64.reduceOfInt, Int32.reduceOfNat, Int32.reduceLT, Int32.reduceLE, Prod.mk.injEq, Nat.reduceEqDiff, reduceCtorEq, and_true, true_and, and_false, false_and, and_self, ite_true, ite_false, ↓reduceIte, not_true_eq_false, not_false_eq_true, pe_ri, pe_rz, pe_rc, Ch_g4_1 hP hA, Ch_g4_2 hP hA, Ch_g4_3 hP hA, Ch_p4_3 hP hA, Ch_r6 hP hA, Ch_w5 hP hA, Ch_w6 hP hA, z2, eq_false k3, k5]
/-- TimberHouse$ShopDesks.join(II)I -/
theorem c1550 {d : Nat} {h : pm_H} {a : Nat} {x0 : Int32} {x1 : Int32} (hc : pm_cls h a = some 24) : pm_call pm_prog (d + 1) 1550 [.ref a, .int x0, .int x1] h = pm_ev pm_prog (pm_call pm_prog d) 1550 0 b1550_0 [.ref a, .int x0, .int x1, pm_junk, pm_junk, pm_junk] [] h := pm_cal (pm_rc1 hc rfl) rfl rfl rfl
theorem g1550_1 {cl : pm_C} {ls st : List Value} {h : pm_H} : pm_go pm_prog cl 1550 1 ls st h = pm_ev pm_prog cl 1550 1 b1550_1 ls st h := pm_go_eq pm_prog cl 1550 1 ls st h
theorem g1550_2 {cl : pm_C} {ls st : List Value} {h : pm_H} : pm_go pm_prog cl 1550 2 ls st h = pm_ev pm_prog cl 1550 2 b1550_2 ls st h := pm_go_eq pm_prog cl 1550 2 ls st h
theorem g1550_3 {cl : pm_C} {ls st : List Value} {h : pm_H} : pm_go pm_prog cl 1550 3 ls st h = pm_ev pm_prog cl 1550 3 b1550_3 ls st h := pm_go_eq pm_prog cl 1550 3 ls st h
theorem g1550_4 {cl : pm_C} {ls st : List Value} {h : pm_H} : pm_go pm_prog cl 1550 4 ls st h = pm_ev pm_prog cl 1550 4 b1550_4 ls st h := pm_go_eq pm_prog cl 1550 4 ls st h
theorem g1550_5 {cl : pm_C} {ls st : List Value} {h : pm_H} : pm_go pm_prog cl 1550 5 ls st h = pm_ev pm_prog cl 1550 5 b1550_5 ls st h := pm_go_eq pm_prog cl 1550 5 ls st h
theorem g1550_6 {cl : pm_C} {ls st : List Value} {h : pm_H} : pm_go pm_prog cl 1550 6 ls st h = pm_ev pm_prog cl 1550 6 b1550_6 ls st h := pm_go_eq pm_prog cl 1550 6 ls st h
theorem t1550 {cl : pm_C} {j : Nat} {ls : List Value} {c : Nat} {h : pm_H} : pm_thr pm_prog cl 1550 j ls c h = some (.threw c, h) := rfl
noncomputable def f1550_b3 (tc : Int32) (bc : Int32) (ec : Int32) : Int32 × Int32 × Int32 × Int32 × Int32 × wS → Option ((Int32 × Int32 × Int32 × Int32 × Int32 × wS) ⊕ ((Int32 × wS))) := fun (x1, x2, x3, x4, x5, S) =>
  if x5 < x4 then
    if 0 ≤ x1 ∧ x1 < 8 then
      if x1 < bc then
        if 0 ≤ x1 ∧ x1 < bc then
          if 0 ≤ x2 ∧ x2 < 8 then
            if x2 < bc then
              if 0 ≤ x2 ∧ x2 < bc then
                if 0 ≤ x5 ∧ x5 < 300 then
                  (f3714 tc bc ec S x1 (S.1 (5, x2, 0) x5)).bind fun (v2, S3) =>
                  if v2 = 0 then
                    some (.inl (x1, x2, (x3 + 0), x4, (x5 + 1), S3))
                  else
                    some (.inl (x1, x2, (x3 + 1), x4, (x5 + 1), S3))
                else none
              else none
            else none
          else none
        else none
      else none
    else none
  else
    some (.inr (x3, S))
noncomputable def f1550_2 (tc : Int32) (bc : Int32) (ec : Int32) (S : wS) (x1 : Int32) (x2 : Int32) (y0 : Int32) : Option ((Nat × wS) ⊕ (Int32 × wS)) :=
  (f1543 y0).bind fun r => match r with
  | .inl c6 =>
    some (.inl (c6, S))
  | .inr _ =>
  if 0 ≤ x2 ∧ x2 < 8 then
    if x2 < bc then
      if 0 ≤ x2 ∧ x2 < bc then
        (lp (f1550_b3 tc bc ec) FU (x1, x2, 0, (S.1 (4, x2, 0) 3), 0, S)).bind fun (v5, S4) =>
        some (.inr (v5, S4))
      else none
    else none
  else none
/-- TimberHouse$ShopDesks.join(II)I -/
noncomputable def f1550 (tc : Int32) (bc : Int32) (ec : Int32) (S : wS) (x1 : Int32) (x2 : Int32) : Option ((Nat × wS) ⊕ (Int32 × wS)) :=
  (f1551 tc bc ec S x1).bind fun v1 =>
  if v1 = 0 then
    f1550_2 tc bc ec S x1 x2 0
  else
    (f1551 tc bc ec S x2).bind fun v7 =>
    if v7 = 0 then
      f1550_2 tc bc ec S x1 x2 0
    else
      f1550_2 tc bc ec S x1 x2 1
def go1550_3 (tc : Int32) (bc : Int32) (ec : Int32) (A : wK → Nat) (h : pm_H) (D : Nat) (R : Outcome × pm_H) : Int32 × Int32 × Int32 × Int32 × Int32 × wS → Prop := fun (x1, x2, x3, x4, x5, S) => pm_go pm_prog (pm_call pm_prog D) 1550 3 [.ref (A (0, 0, 0)), .int x1, .int x2, .int x3, .int x4, .int x5] [] (wput A (Ch_d tc bc ec) S h) = some R
def ex1550_3 (tc : Int32) (bc : Int32) (ec : Int32) (A : wK → Nat) (h : pm_H) (D : Nat) (R : Outcome × pm_H) : (Int32 × wS) → Prop := fun (x3, S) => ∀ q0 q1 q2 q4 q5 : Value, pm_go pm_prog (pm_call pm_prog D) 1550 6 [q0, q1, q2, .int x3, q4, q5] [] (wput A (Ch_d tc bc ec) S h) = some R
theorem y1550_b3 {tc : Int32} {bc : Int32} {ec : Int32} {A : wK → Nat} {h : pm_H} {D : Nat} {R : Outcome × pm_H} (hP : Ch_P tc bc ec) (hA : wok A (Ch_d tc bc ec) h.1) (hD : 2 ≤ D) (a : Int32 × Int32 × Int32 × Int32 × Int32 × wS) (r : (Int32 × Int32 × Int32 × Int32 × Int32 × wS) ⊕ ((Int32 × wS))) (e : f1550_b3 tc bc ec a = some r) (hc : Sum.elim (go1550_3 tc bc ec A h D R) (ex1550_3 tc bc ec A h D R) r) : go1550_3 tc bc ec A h D R a := by
  obtain ⟨x1, x2, x3, x4, x5, S⟩ := a
  dsimp only [go1550_3]
  simp only [f1550_b3] at e
  rw [g1550_3, b1550_3]
  by_cases k1 : x5 < x4
  · rw [if_pos k1] at e
    by_cases k2 : 0 ≤ x1 ∧ x1 < 8
    · rw [if_pos k2] at e
      by_cases k3 : x1 < bc
      · rw [if_pos k3] at e
        by_cases k4 : 0 ≤ x1 ∧ x1 < bc
        · rw [if_pos k4] at e
          by_cases k5 : 0 ≤ x2 ∧ x2 < 8
          · rw [if_pos k5] at e
            by_cases k6 : x2 < bc
            · rw [if_pos k6] at e
              by_cases k7 : 0 ≤ x2 ∧ x2 < bc
              · rw [if_pos k7] at e
                by_cases k8 : 0 ≤ x5 ∧ x5 < 300
                · rw [if_pos k8] at e
                  obtain ⟨⟨v2, S3⟩, k9, e⟩ := Option.bind_eq_some_iff.mp e
                  try dsimp only at e
                  have z9 := x3714 (D := D) (h := h) hP hA (by omega) k9
                  dsimp only at z9
                  by_cases k10 : v2 = 0
                  · rw [if_pos k10] at e
                    have e := Option.some.inj e; subst e
                    dsimp only [Sum.elim_inl, go1550_3] at hc
                    simp -implicitDefEqProofs (disch := first | assumption | exact Nat.le_of_ble_eq_true rfl | decide) only [b1550_0, g1550_1, b1550_1, g1550_4, b1550_4, g1550_5, b1550_5, g1550_6, b1550_6, pe_aload0, pe_iload1, pe_call2, pm_af_ret, pm_af_void, pm_af_thr, pe_if_eq, pe_iload2, pe_sipush, pe_goto, pe_goto_w, pe_call1, pe_istore3, pe_getfield, pe_aaload, pe_istore4, pe_istore5, pe_iload5, pe_iload4, pe_icmp_ge, pe_iload3, pe_saload, pe_iadd, pe_iinc5, pe_aloadN0, pe_aastoreN, pe_areturnN, pe_null, pm_prog_1, pm_ob_some, Nat.reduceDiv, Nat.reduceMod, Nat.reduceMul, Nat.reduceAdd, Int.reduceToNat, pm_kill_i, pm_kill_r, pm_kill_n, pm_kill_j, pm_kill_l, pm_kill_d, pm_cats_nil, pm_cats_i, pm_cats_r, pm_cats_n, pm_cats_l, pm_cats_d, sz_1, sz_2, sl_1, sl_2, lc_0, lc_lt, lc_le, li_ne, va_rf, wr_m1, we_m1, pm_kill_w, Int32.reduceOfInt, Int64.reduceOfInt, Int32.reduceOfNat, Int32.reduceLT, Int32.reduceLE, Prod.mk.injEq, Nat.reduceEqDiff, reduceCtorEq, and_true, true_and, and_false, false_and, and_self, ite_true, ite_false, ↓reduceIte, not_true_eq_false, not_false_eq_true, pe_ri, pe_rz, pe_rc, p_throw, t1550, w_junk hA, Ch_g0_2 hP hA, Ch_g4_1 hP hA, Ch_g4_3 hP hA, Ch_r3 hP hA, Ch_r5 hP hA, eq_true k1, z9, eq_true k10, hc]
                  · rw [if_neg k10] at e
                    have e := Option.some.inj e; subst e
                    dsimp only [Sum.elim_inl, go1550_3] at hc
                    simp -implicitDefEqProofs (disch := first | assumption | exact Nat.le_of_ble_eq_true rfl | decide) only [b1550_0, g1550_1, b1550_1, g1550_4, b1550_4, g1550_5, b1550_5, g1550_6, b1550_6, pe_aload0, pe_iload1, pe_call2, pm_af_ret, pm_af_void, pm_af_thr, pe_if_eq, pe_iload2, pe_sipush, pe_goto, pe_goto_w, pe_call1, pe_istore3, pe_getfield, pe_aaload, pe_istore4, pe_istore5, pe_iload5, pe_iload4, pe_icmp_ge, pe_iload3, pe_saload, pe_iadd, pe_iinc5, pe_aloadN0, pe_aastoreN, pe_areturnN, pe_null, pm_prog_1, pm_ob_some, Nat.reduceDiv, Nat.reduceMod, Nat.reduceMul, Nat.reduceAdd, Int.reduceToNat, pm_kill_i, pm_kill_r, pm_kill_n, pm_kill_j, pm_kill_l, pm_kill_d, pm_cats_nil, pm_cats_i, pm_cats_r, pm_cats_n, pm_cats_l, pm_cats_d, sz_1, sz_2, sl_1, sl_2, lc_0, lc_lt, lc_le, li_ne, va_rf, wr_m1, we_m1, pm_kill_w, Int32.reduceOfInt, Int64.reduceOfInt, Int32.reduceOfNat, Int32.reduceLT, Int32.reduceLE, Prod.mk.injEq, Nat.reduceEqDiff, reduceCtorEq, and_true, true_and, and_false, false_and, and_self, ite_true, ite_false, ↓reduceIte, not_true_eq_false, not_false_eq_true, pe_ri, pe_rz, pe_rc, p_throw, t1550, w_junk hA, Ch_g0_2 hP hA, Ch_g4_1 hP hA, Ch_g4_3 hP hA, Ch_r3 hP hA, Ch_r5 hP hA, eq_true k1, z9, eq_false k10, hc]
                · rw [if_neg k8] at e; cases e
              · rw [if_neg k7] at e; cases e
            · rw [if_neg k6] at e; cases e
          · rw [if_neg k5] at e; cases e
        · rw [if_neg k4] at e; cases e
      · rw [if_neg k3] at e; cases e
    · rw [if_neg k2] at e; cases e
  · rw [if_neg k1] at e
    have e := Option.some.inj e; subst e
    dsimp only [Sum.elim_inr, ex1550_3] at hc
    simp -implicitDefEqProofs (disch := first | assumption | exact Nat.le_of_ble_eq_true rfl | decide) only [b1550_0, g1550_1, b1550_1, g1550_4, b1550_4, g1550_5, b1550_5, g1550_6, b1550_6, pe_aload0, pe_iload1, pe_call2, pm_af_ret, pm_af_void, pm_af_thr, pe_if_eq, pe_iload2, pe_sipush, pe_goto, pe_goto_w, pe_call1, pe_istore3, pe_getfield, pe_aaload, pe_istore4, pe_istore5, pe_iload5, pe_iload4, pe_icmp_ge, pe_iload3, pe_saload, pe_iadd, pe_iinc5, pe_aloadN0, pe_aastoreN, pe_areturnN, pe_null, pm_prog_1, pm_ob_some, Nat.reduceDiv, Nat.reduceMod, Nat.reduceMul, Nat.reduceAdd, Int.reduceToNat, pm_kill_i, pm_kill_r, pm_kill_n, pm_kill_j, pm_kill_l, pm_kill_d, pm_cats_nil, pm_cats_i, pm_cats_r, pm_cats_n, pm_cats_l, pm_cats_d, sz_1, sz_2, sl_1, sl_2, lc_0, lc_lt, lc_le, li_ne, va_rf, wr_m1, we_m1, pm_kill_w, Int32.reduceOfInt, Int64.reduceOfInt, Int32.reduceOfNat, Int32.reduceLT, Int32.reduceLE, Prod.mk.injEq, Nat.reduceEqDiff, reduceCtorEq, and_true, true_and, and_false, false_and, and_self, ite_true, ite_false, ↓reduceIte, not_true_eq_false, not_false_eq_true, pe_ri, pe_rz, pe_rc, p_throw, t1550, w_junk hA, Ch_g0_2 hP hA, Ch_g4_1 hP hA, Ch_g4_3 hP hA, Ch_r3 hP hA, Ch_r5 hP hA, eq_false k1, hc]
theorem z1550_3 {tc : Int32} {bc : Int32} {ec : Int32} {A : wK → Nat} {h : pm_H} {D : Nat} {R : Outcome × pm_H} (hP : Ch_P tc bc ec) (hA : wok A (Ch_d tc bc ec) h.1) (hD : 2 ≤ D) {n : Nat} {a : Int32 × Int32 × Int32 × Int32 × Int32 × wS} {b : (Int32 × wS)} (e : lp (f1550_b3 tc bc ec) n a = some b) (hx : ex1550_3 tc bc ec A h D R b) : go1550_3 tc bc ec A h D R a := lp_run (fun a r => y1550_b3 hP hA hD a r) n a b e hx
theorem y1550_2 {tc : Int32} {bc : Int32} {ec : Int32} {A : wK → Nat} {h : pm_H} {D : Nat} {S : wS} {x1 : Int32} {x2 : Int32} {y0 : Int32} {r : (Nat × wS) ⊕ (Int32 × wS)} (hP : Ch_P tc bc ec) (hA : wok A (Ch_d tc bc ec) h.1) (hD : 2 ≤ D) (e : f1550_2 tc bc ec S x1 x2 y0 = some r) : ∀ q3 q4 q5 : Value, pm_go pm_prog (pm_call pm_prog D) 1550 2 [.ref (A (0, 0, 0)), .int x1, .int x2, q3, q4, q5] [.int y0] (wput A (Ch_d tc bc ec) S h) = some (match (generalizing := false) r with | .inl (c, S1) => (Outcome.threw c, (wput A (Ch_d tc bc ec) S1 (pm_new h 6 (.inr (c, []))))) | .inr (w0, S1) => (Outcome.returned (some (.int w0)), (wput A (Ch_d tc bc ec) S1 h))) := by
  intro q3 q4 q5
  simp only [f1550_2] at e
  rw [g1550_2, b1550_2]
  obtain ⟨r, k1, e⟩ := Option.bind_eq_some_iff.mp e
  have z1 := fun h => x1543 (D := D) (h := h) (by omega) k1
  rcases r with c6 | _
  · dsimp only at e z1
    have e := Option.some.inj e; subst e
    simp -implicitDefEqProofs (disch := first | assumption | exact Nat.le_of_ble_eq_true rfl | decide) only [b1550_0, g1550_1, b1550_1, g1550_4, b1550_4, g1550_5, b1550_5, g1550_6, b1550_6, pe_aload0, pe_iload1, pe_call2, pm_af_ret, pm_af_void, pm_af_thr, pe_if_eq, pe_iload2, pe_sipush, pe_goto, pe_goto_w, pe_call1, pe_istore3, pe_getfield, pe_aaload, pe_istore4, pe_istore5, pe_iload5, pe_iload4, pe_icmp_ge, pe_iload3, pe_saload, pe_iadd, pe_iinc5, pe_aloadN0, pe_aastoreN, pe_areturnN, pe_null, pm_prog_1, pm_ob_some, Nat.reduceDiv, Nat.reduceMod, Nat.reduceMul, Nat.reduceAdd, Int.reduceToNat, pm_kill_i, pm_kill_r, pm_kill_n, pm_kill_j, pm_kill_l, pm_kill_d, pm_cats_nil, pm_cats_i, pm_cats_r, pm_cats_n, pm_cats_l, pm_cats_d, sz_1, sz_2, sl_1, sl_2, lc_0, lc_lt, lc_le, li_ne, va_rf, wr_m1, we_m1, pm_kill_w, Int32.reduceOfInt, Int64.reduceOfInt, Int32.reduceOfNat, Int32.reduceLT, Int32.reduceLE, Prod.mk.injEq, Nat.reduceEqDiff, reduceCtorEq, and_true, true_and, and_false, false_and, and_self, ite_true, ite_false, ↓reduceIte, not_true_eq_false, not_false_eq_true, pe_ri, pe_rz, pe_rc, p_throw, t1550, w_junk hA, Ch_g0_2 hP hA, Ch_g4_1 hP hA, Ch_g4_3 hP hA, Ch_r3 hP hA, Ch_r5 hP hA, z1]
  · dsimp only at e z1
    by_cases k2 : 0 ≤ x2 ∧ x2 < 8
    · rw [if_pos k2] at e
      by_cases k3 : x2 < bc
      · rw [if_pos k3] at e
        by_cases k4 : 0 ≤ x2 ∧ x2 < bc
        · rw [if_pos k4] at e
          obtain ⟨⟨v5, S4⟩, k5, e⟩ := Option.bind_eq_some_iff.mp e
          try dsimp only at e
          try simp -implicitDefEqProofs (disch := first | assumption | exact Nat.le_of_ble_eq_true rfl | decide) only [b1550_0, g1550_1, b1550_1, g1550_4, b1550_4, g1550_5, b1550_5, g1550_6, b1550_6, pe_aload0, pe_iload1, pe_call2, pm_af_ret, pm_af_void, pm_af_thr, pe_if_eq, pe_iload2, pe_sipush, pe_goto, pe_goto_w, pe_call1, pe_istore3, pe_getfield, pe_aaload, pe_istore4, pe_istore5, pe_iload5, pe_iload4, pe_icmp_ge, pe_iload3, pe_saload, pe_iadd, pe_iinc5, pe_aloadN0, pe_aastoreN, pe_areturnN, pe_null, pm_prog_1, pm_ob_some, Nat.reduceDiv, Nat.reduceMod, Nat.reduceMul, Nat.reduceAdd, Int.reduceToNat, pm_kill_i, pm_kill_r, pm_kill_n, pm_kill_j, pm_kill_l, pm_kill_d, pm_cats_nil, pm_cats_i, pm_cats_r, pm_cats_n, pm_cats_l, pm_cats_d, sz_1, sz_2, sl_1, sl_2, lc_0, lc_lt, lc_le, li_ne, va_rf, wr_m1, we_m1, pm_kill_w, Int32.reduceOfInt, Int64.reduceOfInt, Int32.reduceOfNat, Int32.reduceLT, Int32.reduceLE, Prod.mk.injEq, Nat.reduceEqDiff, reduceCtorEq, and_true, true_and, and_false, false_and, and_self, ite_true, ite_false, ↓reduceIte, not_true_eq_false, not_false_eq_true, pe_ri, pe_rz, pe_rc, p_throw, t1550, w_junk hA, Ch_g0_2 hP hA, Ch_g4_1 hP hA, Ch_g4_3 hP hA, Ch_r3 hP hA, Ch_r5 hP hA, z1]
          refine z1550_3 hP hA hD k5 ?_
          dsimp only [ex1550_3]
          intro q0 q1 q2 q4 q5
          have e := Option.some.inj e; subst e
          simp -implicitDefEqProofs (disch := first | assumption | exact Nat.le_of_ble_eq_true rfl | decide) only [b1550_0, g1550_1, b1550_1, g1550_4, b1550_4, g1550_5, b1550_5, g1550_6, b1550_6, pe_aload0, pe_iload1, pe_call2, pm_af_ret, pm_af_void, pm_af_thr, pe_if_eq, pe_iload2, pe_sipush, pe_goto, pe_goto_w, pe_call1, pe_istore3, pe_getfield, pe_aaload, pe_istore4, pe_istore5, pe_iload5, pe_iload4, pe_icmp_ge, pe_iload3, pe_saload, pe_iadd, pe_iinc5, pe_aloadN0, pe_aastoreN, pe_areturnN, pe_null, pm_prog_1, pm_ob_some, Nat.reduceDiv, Nat.reduceMod, Nat.reduceMul, Nat.reduceAdd, Int.reduceToNat, pm_kill_i, pm_kill_r, pm_kill_n, pm_kill_j, pm_kill_l, pm_kill_d, pm_cats_nil, pm_cats_i, pm_cats_r, pm_cats_n, pm_cats_l, pm_cats_d, sz_1, sz_2, sl_1, sl_2, lc_0, lc_lt, lc_le, li_ne, va_rf, wr_m1, we_m1, pm_kill_w, Int32.reduceOfInt, Int64.reduceOfInt, Int32.reduceOfNat, Int32.reduceLT, Int32.reduceLE, Prod.mk.injEq, Nat.reduceEqDiff, reduceCtorEq, and_true, true_and, and_false, false_and, and_self, ite_true, ite_false, ↓reduceIte, not_true_eq_false, not_false_eq_true, pe_ri, pe_rz, pe_rc, p_throw, t1550, w_junk hA, Ch_g0_2 hP hA, Ch_g4_1 hP hA, Ch_g4_3 hP hA, Ch_r3 hP hA, Ch_r5 hP hA, z1]
        · rw [if_neg k4] at e; cases e
      · rw [if_neg k3] at e; cases e
    · rw [if_neg k2] at e; cases e
theorem x1550 {tc : Int32} {bc : Int32} {ec : Int32} {A : wK → Nat} {h : pm_H} {D : Nat} {S : wS} {x1 : Int32} {x2 : Int32} {r : (Nat × wS) ⊕ (Int32 × wS)} (hP : Ch_P tc bc ec) (hA : wok A (Ch_d tc bc ec) h.1) (hD : 3 ≤ D) (e : f1550 tc bc ec S x1 x2 = some r) : pm_call pm_prog D 1550 [.ref (A (0, 0, 0)), .int x1, .int x2] (wput A (Ch_d tc bc ec) S h) = some (match (generalizing := false) r with | .inl (c, S1) => (Outcome.threw c, (wput A (Ch_d tc bc ec) S1 (pm_new h 6 (.inr (c, []))))) | .inr (w0, S1) => (Outcome.returned (some (.int w0)), (wput A (Ch_d tc bc ec) S1 h))) := by
  obtain ⟨D, rfl⟩ : ∃ D', D = D' + 1 := ⟨D - 1, by omega⟩
  have hD : 2 ≤ D := by omega
  simp only [f1550] at e
  rw [c1550 (Ch_c0 hP hA), b1550_0]
  obtain ⟨v1, k1, e⟩ := Option.bind_eq_some_iff.mp e
  try dsimp only at e
  have z1 := x1551 (D := D) (h := h) hP hA (by omega) k1
  by_cases k2 : v1 = 0
  · rw [if_pos k2] at e
    have k3 := y1550_2 (h := h) hP hA hD e
    simp -implicitDefEqProofs (disch := first | assumption | exact Nat.le_of_ble_eq_true rfl | decide) only [b1550_0, g1550_1, b1550_1, g1550_4, b1550_4, g1550_5, b1550_5, g1550_6, b1550_6, pe_aload0, pe_iload1, pe_call2, pm_af_ret, pm_af_void, pm_af_thr, pe_if_eq, pe_iload2, pe_sipush, pe_goto, pe_goto_w, pe_call1, pe_istore3, pe_getfield, pe_aaload, pe_istore4, pe_istore5, pe_iload5, pe_iload4, pe_icmp_ge, pe_iload3, pe_saload, pe_iadd, pe_iinc5, pe_aloadN0, pe_aastoreN, pe_areturnN, pe_null, pm_prog_1, pm_ob_some, Nat.reduceDiv, Nat.reduceMod, Nat.reduceMul, Nat.reduceAdd, Int.reduceToNat, pm_kill_i, pm_kill_r, pm_kill_n, pm_kill_j, pm_kill_l, pm_kill_d, pm_cats_nil, pm_cats_i, pm_cats_r, pm_cats_n, pm_cats_l, pm_cats_d, sz_1, sz_2, sl_1, sl_2, lc_0, lc_lt, lc_le, li_ne, va_rf, wr_m1, we_m1, pm_kill_w, Int32.reduceOfInt, Int64.reduceOfInt, Int32.reduceOfNat, Int32.reduceLT, Int32.reduceLE, Prod.mk.injEq, Nat.reduceEqDiff, reduceCtorEq, and_true, true_and, and_false, false_and, and_self, ite_true, ite_false, ↓reduceIte, not_true_eq_false, not_false_eq_true, pe_ri, pe_rz, pe_rc, p_throw, t1550, w_junk hA, Ch_g0_2 hP hA, Ch_g4_1 hP hA, Ch_g4_3 hP hA, Ch_r3 hP hA, Ch_r5 hP hA, z1, eq_true k2, k3]
  · rw [if_neg k2] at e
    obtain ⟨v7, k4, e⟩ := Option.bind_eq_some_iff.mp e
    try dsimp only at e
    have z4 := x1551 (D := D) (h := h) hP hA (by omega) k4
    by_cases k5 : v7 = 0
    · rw [if_pos k5] at e
      have k6 := y1550_2 (h := h) hP hA hD e
      simp -implicitDefEqProofs (disch := first | assumption | exact Nat.le_of_ble_eq_true rfl | decide) only [b1550_0, g1550_1, b1550_1, g1550_4, b1550_4, g1550_5, b1550_5, g1550_6, b1550_6, pe_aload0, pe_iload1, pe_call2, pm_af_ret, pm_af_void, pm_af_thr, pe_if_eq, pe_iload2, pe_sipush, pe_goto, pe_goto_w, pe_call1, pe_istore3, pe_getfield, pe_aaload, pe_istore4, pe_istore5, pe_iload5, pe_iload4, pe_icmp_ge, pe_iload3, pe_saload, pe_iadd, pe_iinc5, pe_aloadN0, pe_aastoreN, pe_areturnN, pe_null, pm_prog_1, pm_ob_some, Nat.reduceDiv, Nat.reduceMod, Nat.reduceMul, Nat.reduceAdd, Int.reduceToNat, pm_kill_i, pm_kill_r, pm_kill_n, pm_kill_j, pm_kill_l, pm_kill_d, pm_cats_nil, pm_cats_i, pm_cats_r, pm_cats_n, pm_cats_l, pm_cats_d, sz_1, sz_2, sl_1, sl_2, lc_0, lc_lt, lc_le, li_ne, va_rf, wr_m1, we_m1, pm_kill_w, Int32.reduceOfInt, Int64.reduceOfInt, Int32.reduceOfNat, Int32.reduceLT, Int32.reduceLE, Prod.mk.injEq, Nat.reduceEqDiff, reduceCtorEq, and_true, true_and, and_false, false_and, and_self, ite_true, ite_false, ↓reduceIte, not_true_eq_false, not_false_eq_true, pe_ri, pe_rz, pe_rc, p_throw, t1550, w_junk hA, Ch_g0_2 hP hA, Ch_g4_1 hP hA, Ch_g4_3 hP hA, Ch_r3 hP hA, Ch_r5 hP hA, z1, eq_false k2, z4, eq_true k5, k6]
    · rw [if_neg k5] at e
      have k7 := y1550_2 (h := h) hP hA hD e
      simp -implicitDefEqProofs (disch := first | assumption | exact Nat.le_of_ble_eq_true rfl | decide) only [b1550_0, g1550_1, b1550_1, g1550_4, b1550_4, g1550_5, b1550_5, g1550_6, b1550_6, pe_aload0, pe_iload1, pe_call2, pm_af_ret, pm_af_void, pm_af_thr, pe_if_eq, pe_iload2, pe_sipush, pe_goto, pe_goto_w, pe_call1, pe_istore3, pe_getfield, pe_aaload, pe_istore4, pe_istore5, pe_iload5, pe_iload4, pe_icmp_ge, pe_iload3, pe_saload, pe_iadd, pe_iinc5, pe_aloadN0, pe_aastoreN, pe_areturnN, pe_null, pm_prog_1, pm_ob_some, Nat.reduceDiv, Nat.reduceMod, Nat.reduceMul, Nat.reduceAdd, Int.reduceToNat, pm_kill_i, pm_kill_r, pm_kill_n, pm_kill_j, pm_kill_l, pm_kill_d, pm_cats_nil, pm_cats_i, pm_cats_r, pm_cats_n, pm_cats_l, pm_cats_d, sz_1, sz_2, sl_1, sl_2, lc_0, lc_lt, lc_le, li_ne, va_rf, wr_m1, we_m1, pm_kill_w, Int32.reduceOfInt, Int64.reduceOfInt, Int32.reduceOfNat, Int32.reduceLT, Int32.reduceLE, Prod.mk.injEq, Nat.reduceEqDiff, reduceCtorEq, and_true, true_and, and_false, false_and, and_self, ite_true, ite_false, ↓reduceIte, not_true_eq_false, not_false_eq_true, pe_ri, pe_rz, pe_rc, p_throw, t1550, w_junk hA, Ch_g0_2 hP hA, Ch_g4_1 hP hA, Ch_g4_3 hP hA, Ch_r3 hP hA, Ch_r5 hP hA, z1, eq_false k2, z4, eq_false k5, k7]
/-- TimberHouse$ShopDesks.equal(II)Z -/
theorem c1552 {d : Nat} {h : pm_H} {a : Nat} {x0 : Int32} {x1 : Int32} (hc : pm_cls h a = some 24) : pm_call pm_prog (d + 1) 1552 [.ref a, .int x0, .int x1] h = pm_ev pm_prog (pm_call pm_prog d) 1552 0 b1552_0 [.ref a, .int x0, .int x1, pm_junk, pm_junk] [] h := pm_cal (pm_rc1 hc rfl) rfl rfl rfl
theorem g1552_1 {cl : pm_C} {ls st : List Value} {h : pm_H} : pm_go pm_prog cl 1552 1 ls st h = pm_ev pm_prog cl 1552 1 b1552_1 ls st h := pm_go_eq pm_prog cl 1552 1 ls st h
theorem g1552_2 {cl : pm_C} {ls st : List Value} {h : pm_H} : pm_go pm_prog cl 1552 2 ls st h = pm_ev pm_prog cl 1552 2 b1552_2 ls st h := pm_go_eq pm_prog cl 1552 2 ls st h
theorem g1552_3 {cl : pm_C} {ls st : List Value} {h : pm_H} : pm_go pm_prog cl 1552 3 ls st h = pm_ev pm_prog cl 1552 3 b1552_3 ls st h := pm_go_eq pm_prog cl 1552 3 ls st h
theorem g1552_4 {cl : pm_C} {ls st : List Value} {h : pm_H} : pm_go pm_prog cl 1552 4 ls st h = pm_ev pm_prog cl 1552 4 b1552_4 ls st h := pm_go_eq pm_prog cl 1552 4 ls st h
theorem g1552_5 {cl : pm_C} {ls st : List Value} {h : pm_H} : pm_go pm_prog cl 1552 5 ls st h = pm_ev pm_prog cl 1552 5 b1552_5 ls st h := pm_go_eq pm_prog cl 1552 5 ls st h
theorem g1552_6 {cl : pm_C} {ls st : List Value} {h : pm_H} : pm_go pm_prog cl 1552 6 ls st h = pm_ev pm_prog cl 1552 6 b1552_6 ls st h := pm_go_eq pm_prog cl 1552 6 ls st h
theorem t1552 {cl : pm_C} {j : Nat} {ls : List Value} {c : Nat} {h : pm_H} : pm_thr pm_prog cl 1552 j ls c h = some (.threw c, h) := rfl
noncomputable def f1552_b3 (tc : Int32) (bc : Int32) (ec : Int32) (S : wS) : Int32 × Int32 × Int32 × Int32 → Option ((Int32 × Int32 × Int32 × Int32) ⊕ ((Int32))) := fun (x1, x2, x3, x4) =>
  if 0 ≤ x1 ∧ x1 < 8 then
    if x1 < bc then
      if 0 ≤ x1 ∧ x1 < bc then
        if x4 < 5 then
          if 0 ≤ x4 ∧ x4 < 5 then
            if 0 ≤ x2 ∧ x2 < 8 then
              if x2 < bc then
                if 0 ≤ x2 ∧ x2 < bc then
                  if (S.2 (6, x1, 0) x4) = (S.2 (6, x2, 0) x4) then
                    some (.inl (x1, x2, (x3 &&& 1), (x4 + 1)))
                  else
                    some (.inl (x1, x2, (x3 &&& 0), (x4 + 1)))
                else none
              else none
            else none
          else none
        else
          some (.inr x3)
      else none
    else none
  else none
noncomputable def f1552_2 (tc : Int32) (bc : Int32) (ec : Int32) (S : wS) (x1 : Int32) (x2 : Int32) (y0 : Int32) : Option (Nat ⊕ (Int32)) :=
  (f1543 y0).bind fun r => match r with
  | .inl c3 =>
    some (.inl c3)
  | .inr _ =>
  (lp (f1552_b3 tc bc ec S) FU (x1, x2, 1, 0)).bind fun v2 =>
  if v2 = 0 ∨ v2 = 1 then
    some (.inr v2)
  else none
/-- TimberHouse$ShopDesks.equal(II)Z -/
noncomputable def f1552 (tc : Int32) (bc : Int32) (ec : Int32) (S : wS) (x1 : Int32) (x2 : Int32) : Option (Nat ⊕ (Int32)) :=
  (f1551 tc bc ec S x1).bind fun v1 =>
  if v1 = 0 then
    f1552_2 tc bc ec S x1 x2 0
  else
    (f1551 tc bc ec S x2).bind fun v4 =>
    if v4 = 0 then
      f1552_2 tc bc ec S x1 x2 0
    else
      f1552_2 tc bc ec S x1 x2 1
def go1552_3 (tc : Int32) (bc : Int32) (ec : Int32) (A : wK → Nat) (h : pm_H) (D : Nat) (R : Outcome × pm_H) (S : wS) : Int32 × Int32 × Int32 × Int32 → Prop := fun (x1, x2, x3, x4) => pm_go pm_prog (pm_call pm_prog D) 1552 3 [.ref (A (0, 0, 0)), .int x1, .int x2, .int x3, .int x4] [] (wput A (Ch_d tc bc ec) S h) = some R
def ex1552_3 (tc : Int32) (bc : Int32) (ec : Int32) (A : wK → Nat) (h : pm_H) (D : Nat) (R : Outcome × pm_H) (S : wS) : (Int32) → Prop := fun x3 => ∀ q0 q1 q2 q4 : Value, pm_go pm_prog (pm_call pm_prog D) 1552 6 [q0, q1, q2, .int x3, q4] [] (wput A (Ch_d tc bc ec) S h) = some R
theorem y1552_b3 {tc : Int32} {bc : Int32} {ec : Int32} {A : wK → Nat} {h : pm_H} {D : Nat} {R : Outcome × pm_H} {S : wS} (hP : Ch_P tc bc ec) (hA : wok A (Ch_d tc bc ec) h.1) (hD : 2 ≤ D) (a : Int32 × Int32 × Int32 × Int32) (r : (Int32 × Int32 × Int32 × Int32) ⊕ ((Int32))) (e : f1552_b3 tc bc ec S a = some r) (hc : Sum.elim (go1552_3 tc bc ec A h D R S) (ex1552_3 tc bc ec A h D R S) r) : go1552_3 tc bc ec A h D R S a := by
  obtain ⟨x1, x2, x3, x4⟩ := a
  dsimp only [go1552_3]
  simp only [f1552_b3] at e
  rw [g1552_3, b1552_3]
  by_cases k1 : 0 ≤ x1 ∧ x1 < 8
  · rw [if_pos k1] at e
    by_cases k2 : x1 < bc
    · rw [if_pos k2] at e
      by_cases k3 : 0 ≤ x1 ∧ x1 < bc
      · rw [if_pos k3] at e
        by_cases k4 : x4 < 5
        · rw [if_pos k4] at e
          by_cases k5 : 0 ≤ x4 ∧ x4 < 5
          · rw [if_pos k5] at e
            by_cases k6 : 0 ≤ x2 ∧ x2 < 8
            · rw [if_pos k6] at e
              by_cases k7 : x2 < bc
              · rw [if_pos k7] at e
                by_cases k8 : 0 ≤ x2 ∧ x2 < bc
                · rw [if_pos k8] at e
                  by_cases k9 : (S.2 (6, x1, 0) x4) = (S.2 (6, x2, 0) x4)
                  · rw [if_pos k9] at e
                    have e := Option.some.inj e; subst e
                    dsimp only [Sum.elim_inl, go1552_3] at hc
                    simp -implicitDefEqProofs (disch := first | assumption | exact Nat.le_of_ble_eq_true rfl | decide) only [b1552_0, g1552_1, b1552_1, g1552_4, b1552_4, g1552_5, b1552_5, g1552_6, b1552_6, pe_aload0, pe_iload1, pe_call2, pm_af_ret, pm_af_void, pm_af_thr, pe_if_eq, pe_iload2, pe_sipush, pe_goto, pe_goto_w, pe_call1, pe_istore3, pe_istore4, pe_iload4, pe_getfield, pe_aaload, pe_arraylength, pe_icmp_ge, pe_iload3, pe_laload, pe_lcmp, pe_if_ne, pe_iand, pe_iinc4, pe_aloadN0, pe_aastoreN, pe_areturnN, pe_null, pm_prog_1, pm_ob_some, Nat.reduceDiv, Nat.reduceMod, Nat.reduceMul, Nat.reduceAdd, Int.reduceToNat, pm_kill_i, pm_kill_r, pm_kill_n, pm_kill_j, pm_kill_l, pm_kill_d, pm_cats_nil, pm_cats_i, pm_cats_r, pm_cats_n, pm_cats_l, pm_cats_d, sz_1, sz_2, sl_1, sl_2, lc_0, lc_lt, lc_le, li_ne, va_rf, wr_m1, we_m1, pm_kill_w, Int32.reduceOfInt, Int64.reduceOfInt, Int32.reduceOfNat, Int32.reduceLT, Int32.reduceLE, Prod.mk.injEq, Nat.reduceEqDiff, reduceCtorEq, and_true, true_and, and_false, false_and, and_self, ite_true, ite_false, ↓reduceIte, not_true_eq_false, not_false_eq_true, pe_ri, pe_rz, pe_rc, p_throw, t1552, w_junk hA, Ch_g0_2 hP hA, Ch_g4_2 hP hA, Ch_l6 hP hA, Ch_r3 hP hA, Ch_r6 hP hA, eq_true k4, eq_true k9, hc]
                  · rw [if_neg k9] at e
                    have e := Option.some.inj e; subst e
                    dsimp only [Sum.elim_inl, go1552_3] at hc
                    simp -implicitDefEqProofs (disch := first | assumption | exact Nat.le_of_ble_eq_true rfl | decide) only [b1552_0, g1552_1, b1552_1, g1552_4, b1552_4, g1552_5, b1552_5, g1552_6, b1552_6, pe_aload0, pe_iload1, pe_call2, pm_af_ret, pm_af_void, pm_af_thr, pe_if_eq, pe_iload2, pe_sipush, pe_goto, pe_goto_w, pe_call1, pe_istore3, pe_istore4, pe_iload4, pe_getfield, pe_aaload, pe_arraylength, pe_icmp_ge, pe_iload3, pe_laload, pe_lcmp, pe_if_ne, pe_iand, pe_iinc4, pe_aloadN0, pe_aastoreN, pe_areturnN, pe_null, pm_prog_1, pm_ob_some, Nat.reduceDiv, Nat.reduceMod, Nat.reduceMul, Nat.reduceAdd, Int.reduceToNat, pm_kill_i, pm_kill_r, pm_kill_n, pm_kill_j, pm_kill_l, pm_kill_d, pm_cats_nil, pm_cats_i, pm_cats_r, pm_cats_n, pm_cats_l, pm_cats_d, sz_1, sz_2, sl_1, sl_2, lc_0, lc_lt, lc_le, li_ne, va_rf, wr_m1, we_m1, pm_kill_w, Int32.reduceOfInt, Int64.reduceOfInt, Int32.reduceOfNat, Int32.reduceLT, Int32.reduceLE, Prod.mk.injEq, Nat.reduceEqDiff, reduceCtorEq, and_true, true_and, and_false, false_and, and_self, ite_true, ite_false, ↓reduceIte, not_true_eq_false, not_false_eq_true, pe_ri, pe_rz, pe_rc, p_throw, t1552, w_junk hA, Ch_g0_2 hP hA, Ch_g4_2 hP hA, Ch_l6 hP hA, Ch_r3 hP hA, Ch_r6 hP hA, eq_true k4, eq_false k9, hc]
                · rw [if_neg k8] at e; cases e
              · rw [if_neg k7] at e; cases e
            · rw [if_neg k6] at e; cases e
          · rw [if_neg k5] at e; cases e
        · rw [if_neg k4] at e
          have e := Option.some.inj e; subst e
          dsimp only [Sum.elim_inr, ex1552_3] at hc
          simp -implicitDefEqProofs (disch := first | assumption | exact Nat.le_of_ble_eq_true rfl | decide) only [b1552_0, g1552_1, b1552_1, g1552_4, b1552_4, g1552_5, b1552_5, g1552_6, b1552_6, pe_aload0, pe_iload1, pe_call2, pm_af_ret, pm_af_void, pm_af_thr, pe_if_eq, pe_iload2, pe_sipush, pe_goto, pe_goto_w, pe_call1, pe_istore3, pe_istore4, pe_iload4, pe_getfield, pe_aaload, pe_arraylength, pe_icmp_ge, pe_iload3, pe_laload, pe_lcmp, pe_if_ne, pe_iand, pe_iinc4, pe_aloadN0, pe_aastoreN, pe_areturnN, pe_null, pm_prog_1, pm_ob_some, Nat.reduceDiv, Nat.reduceMod, Nat.reduceMul, Nat.reduceAdd, Int.reduceToNat, pm_kill_i, pm_kill_r, pm_kill_n, pm_kill_j, pm_kill_l, pm_kill_d, pm_cats_nil, pm_cats_i, pm_cats_r, pm_cats_n, pm_cats_l, pm_cats_d, sz_1, sz_2, sl_1, sl_2, lc_0, lc_lt, lc_le, li_ne, va_rf, wr_m1, we_m1, pm_kill_w, Int32.reduceOfInt, Int64.reduceOfInt, Int32.reduceOfNat, Int32.reduceLT, Int32.reduceLE, Prod.mk.injEq, Nat.reduceEqDiff, reduceCtorEq, and_true, true_and, and_false, false_and, and_self, ite_true, ite_false, ↓reduceIte, not_true_eq_false, not_false_eq_true, pe_ri, pe_rz, pe_rc, p_throw, t1552, w_junk hA, Ch_g0_2 hP hA, Ch_g4_2 hP hA, Ch_l6 hP hA, Ch_r3 hP hA, Ch_r6 hP hA, eq_false k4, hc]
      · rw [if_neg k3] at e; cases e
    · rw [if_neg k2] at e; cases e
  · rw [if_neg k1] at e; cases e
theorem z1552_3 {tc : Int32} {bc : Int32} {ec : Int32} {A : wK → Nat} {h : pm_H} {D : Nat} {R : Outcome × pm_H} {S : wS} (hP : Ch_P tc bc ec) (hA : wok A (Ch_d tc bc ec) h.1) (hD : 2 ≤ D) {n : Nat} {a : Int32 × Int32 × Int32 × Int32} {b : (Int32)} (e : lp (f1552_b3 tc bc ec S) n a = some b) (hx : ex1552_3 tc bc ec A h D R S b) : go1552_3 tc bc ec A h D R S a := lp_run (fun a r => y1552_b3 hP hA hD a r) n a b e hx
theorem y1552_2 {tc : Int32} {bc : Int32} {ec : Int32} {A : wK → Nat} {h : pm_H} {D : Nat} {S : wS} {x1 : Int32} {x2 : Int32} {y0 : Int32} {r : Nat ⊕ (Int32)} (hP : Ch_P tc bc ec) (hA : wok A (Ch_d tc bc ec) h.1) (hD : 2 ≤ D) (e : f1552_2 tc bc ec S x1 x2 y0 = some r) : ∀ q3 q4 : Value, pm_go pm_prog (pm_call pm_prog D) 1552 2 [.ref (A (0, 0, 0)), .int x1, .int x2, q3, q4] [.int y0] (wput A (Ch_d tc bc ec) S h) = some (match (generalizing := false) r with | .inl c => (Outcome.threw c, (wput A (Ch_d tc bc ec) S (pm_new h 6 (.inr (c, []))))) | .inr w0 => (Outcome.returned (some (.int w0)), (wput A (Ch_d tc bc ec) S h))) := by
  intro q3 q4
  simp only [f1552_2] at e
  rw [g1552_2, b1552_2]
  obtain ⟨r, k1, e⟩ := Option.bind_eq_some_iff.mp e
  have z1 := fun h => x1543 (D := D) (h := h) (by omega) k1
  rcases r with c3 | _
  · dsimp only at e z1
    have e := Option.some.inj e; subst e
    simp -implicitDefEqProofs (disch := first | assumption | exact Nat.le_of_ble_eq_true rfl | decide) only [b1552_0, g1552_1, b1552_1, g1552_4, b1552_4, g1552_5, b1552_5, g1552_6, b1552_6, pe_aload0, pe_iload1, pe_call2, pm_af_ret, pm_af_void, pm_af_thr, pe_if_eq, pe_iload2, pe_sipush, pe_goto, pe_goto_w, pe_call1, pe_istore3, pe_istore4, pe_iload4, pe_getfield, pe_aaload, pe_arraylength, pe_icmp_ge, pe_iload3, pe_laload, pe_lcmp, pe_if_ne, pe_iand, pe_iinc4, pe_aloadN0, pe_aastoreN, pe_areturnN, pe_null, pm_prog_1, pm_ob_some, Nat.reduceDiv, Nat.reduceMod, Nat.reduceMul, Nat.reduceAdd, Int.reduceToNat, pm_kill_i, pm_kill_r, pm_kill_n, pm_kill_j, pm_kill_l, pm_kill_d, pm_cats_nil, pm_cats_i, pm_cats_r, pm_cats_n, pm_cats_l, pm_cats_d, sz_1, sz_2, sl_1, sl_2, lc_0, lc_lt, lc_le, li_ne, va_rf, wr_m1, we_m1, pm_kill_w, Int32.reduceOfInt, Int64.reduceOfInt, Int32.reduceOfNat, Int32.reduceLT, Int32.reduceLE, Prod.mk.injEq, Nat.reduceEqDiff, reduceCtorEq, and_true, true_and, and_false, false_and, and_self, ite_true, ite_false, ↓reduceIte, not_true_eq_false, not_false_eq_true, pe_ri, pe_rz, pe_rc, p_throw, t1552, w_junk hA, Ch_g0_2 hP hA, Ch_g4_2 hP hA, Ch_l6 hP hA, Ch_r3 hP hA, Ch_r6 hP hA, z1]
  · dsimp only at e z1
    obtain ⟨v2, k2, e⟩ := Option.bind_eq_some_iff.mp e
    try dsimp only at e
    try simp -implicitDefEqProofs (disch := first | assumption | exact Nat.le_of_ble_eq_true rfl | decide) only [b1552_0, g1552_1, b1552_1, g1552_4, b1552_4, g1552_5, b1552_5, g1552_6, b1552_6, pe_aload0, pe_iload1, pe_call2, pm_af_ret, pm_af_void, pm_af_thr, pe_if_eq, pe_iload2, pe_sipush, pe_goto, pe_goto_w, pe_call1, pe_istore3, pe_istore4, pe_iload4, pe_getfield, pe_aaload, pe_arraylength, pe_icmp_ge, pe_iload3, pe_laload, pe_lcmp, pe_if_ne, pe_iand, pe_iinc4, pe_aloadN0, pe_aastoreN, pe_areturnN, pe_null, pm_prog_1, pm_ob_some, Nat.reduceDiv, Nat.reduceMod, Nat.reduceMul, Nat.reduceAdd, Int.reduceToNat, pm_kill_i, pm_kill_r, pm_kill_n, pm_kill_j, pm_kill_l, pm_kill_d, pm_cats_nil, pm_cats_i, pm_cats_r, pm_cats_n, pm_cats_l, pm_cats_d, sz_1, sz_2, sl_1, sl_2, lc_0, lc_lt, lc_le, li_ne, va_rf, wr_m1, we_m1, pm_kill_w, Int32.reduceOfInt, Int64.reduceOfInt, Int32.reduceOfNat, Int32.reduceLT, Int32.reduceLE, Prod.mk.injEq, Nat.reduceEqDiff, reduceCtorEq, and_true, true_and, and_false, false_and, and_self, ite_true, ite_false, ↓reduceIte, not_true_eq_false, not_false_eq_true, pe_ri, pe_rz, pe_rc, p_throw, t1552, w_junk hA, Ch_g0_2 hP hA, Ch_g4_2 hP hA, Ch_l6 hP hA, Ch_r3 hP hA, Ch_r6 hP hA, z1]
    refine z1552_3 hP hA hD k2 ?_
    dsimp only [ex1552_3]
    intro q0 q1 q2 q4
    by_cases k3 : v2 = 0 ∨ v2 = 1
    · rw [if_pos k3] at e
      have e := Option.some.inj e; subst e
      simp -implicitDefEqProofs (disch := first | assumption | exact Nat.le_of_ble_eq_true rfl | decide) only [b1552_0, g1552_1, b1552_1, g1552_4, b1552_4, g1552_5, b1552_5, g1552_6, b1552_6, pe_aload0, pe_iload1, pe_call2, pm_af_ret, pm_af_void, pm_af_thr, pe_if_eq, pe_iload2, pe_sipush, pe_goto, pe_goto_w, pe_call1, pe_istore3, pe_istore4, pe_iload4, pe_getfield, pe_aaload, pe_arraylength, pe_icmp_ge, pe_iload3, pe_laload, pe_lcmp, pe_if_ne, pe_iand, pe_iinc4, pe_aloadN0, pe_aastoreN, pe_areturnN, pe_null, pm_prog_1, pm_ob_some, Nat.reduceDiv, Nat.reduceMod, Nat.reduceMul, Nat.reduceAdd, Int.reduceToNat, pm_kill_i, pm_kill_r, pm_kill_n, pm_kill_j, pm_kill_l, pm_kill_d, pm_cats_nil, pm_cats_i, pm_cats_r, pm_cats_n, pm_cats_l, pm_cats_d, sz_1, sz_2, sl_1, sl_2, lc_0, lc_lt, lc_le, li_ne, va_rf, wr_m1, we_m1, pm_kill_w, Int32.reduceOfInt, Int64.reduceOfInt, Int32.reduceOfNat, Int32.reduceLT, Int32.reduceLE, Prod.mk.injEq, Nat.reduceEqDiff, reduceCtorEq, and_true, true_and, and_false, false_and, and_self, ite_true, ite_false, ↓reduceIte, not_true_eq_false, not_false_eq_true, pe_ri, pe_rz, pe_rc, p_throw, t1552, w_junk hA, Ch_g0_2 hP hA, Ch_g4_2 hP hA, Ch_l6 hP hA, Ch_r3 hP hA, Ch_r6 hP hA, z1]
    · rw [if_neg k3] at e; cases e
theorem x1552 {tc : Int32} {bc : Int32} {ec : Int32} {A : wK → Nat} {h : pm_H} {D : Nat} {S : wS} {x1 : Int32} {x2 : Int32} {r : Nat ⊕ (Int32)} (hP : Ch_P tc bc ec) (hA : wok A (Ch_d tc bc ec) h.1) (hD : 3 ≤ D) (e : f1552 tc bc ec S x1 x2 = some r) : pm_call pm_prog D 1552 [.ref (A (0, 0, 0)), .int x1, .int x2] (wput A (Ch_d tc bc ec) S h) = some (match (generalizing := false) r with | .inl c => (Outcome.threw c, (wput A (Ch_d tc bc ec) S (pm_new h 6 (.inr (c, []))))) | .inr w0 => (Outcome.returned (some (.int w0)), (wput A (Ch_d tc bc ec) S h))) := by
  obtain ⟨D, rfl⟩ : ∃ D', D = D' + 1 := ⟨D - 1, by omega⟩
  have hD : 2 ≤ D := by omega
  simp only [f1552] at e
  rw [c1552 (Ch_c0 hP hA), b1552_0]
  obtain ⟨v1, k1, e⟩ := Option.bind_eq_some_iff.mp e
  try dsimp only at e
  have z1 := x1551 (D := D) (h := h) hP hA (by omega) k1
  by_cases k2 : v1 = 0
  · rw [if_pos k2] at e
    have k3 := y1552_2 (h := h) hP hA hD e
    simp -implicitDefEqProofs (disch := first | assumption | exact Nat.le_of_ble_eq_true rfl | decide) only [b1552_0, g1552_1, b1552_1, g1552_4, b1552_4, g1552_5, b1552_5, g1552_6, b1552_6, pe_aload0, pe_iload1, pe_call2, pm_af_ret, pm_af_void, pm_af_thr, pe_if_eq, pe_iload2, pe_sipush, pe_goto, pe_goto_w, pe_call1, pe_istore3, pe_istore4, pe_iload4, pe_getfield, pe_aaload, pe_arraylength, pe_icmp_ge, pe_iload3, pe_laload, pe_lcmp, pe_if_ne, pe_iand, pe_iinc4, pe_aloadN0, pe_aastoreN, pe_areturnN, pe_null, pm_prog_1, pm_ob_some, Nat.reduceDiv, Nat.reduceMod, Nat.reduceMul, Nat.reduceAdd, Int.reduceToNat, pm_kill_i, pm_kill_r, pm_kill_n, pm_kill_j, pm_kill_l, pm_kill_d, pm_cats_nil, pm_cats_i, pm_cats_r, pm_cats_n, pm_cats_l, pm_cats_d, sz_1, sz_2, sl_1, sl_2, lc_0, lc_lt, lc_le, li_ne, va_rf, wr_m1, we_m1, pm_kill_w, Int32.reduceOfInt, Int64.reduceOfInt, Int32.reduceOfNat, Int32.reduceLT, Int32.reduceLE, Prod.mk.injEq, Nat.reduceEqDiff, reduceCtorEq, and_true, true_and, and_false, false_and, and_self, ite_true, ite_false, ↓reduceIte, not_true_eq_false, not_false_eq_true, pe_ri, pe_rz, pe_rc, p_throw, t1552, w_junk hA, Ch_g0_2 hP hA, Ch_g4_2 hP hA, Ch_l6 hP hA, Ch_r3 hP hA, Ch_r6 hP hA, z1, eq_true k2, k3]
  · rw [if_neg k2] at e
    obtain ⟨v4, k4, e⟩ := Option.bind_eq_some_iff.mp e
    try dsimp only at e
    have z4 := x1551 (D := D) (h := h) hP hA (by omega) k4
    by_cases k5 : v4 = 0
    · rw [if_pos k5] at e
      have k6 := y1552_2 (h := h) hP hA hD e
      simp -implicitDefEqProofs (disch := first | assumption | exact Nat.le_of_ble_eq_true rfl | decide) only [b1552_0, g1552_1, b1552_1, g1552_4, b1552_4, g1552_5, b1552_5, g1552_6, b1552_6, pe_aload0, pe_iload1, pe_call2, pm_af_ret, pm_af_void, pm_af_thr, pe_if_eq, pe_iload2, pe_sipush, pe_goto, pe_goto_w, pe_call1, pe_istore3, pe_istore4, pe_iload4, pe_getfield, pe_aaload, pe_arraylength, pe_icmp_ge, pe_iload3, pe_laload, pe_lcmp, pe_if_ne, pe_iand, pe_iinc4, pe_aloadN0, pe_aastoreN, pe_areturnN, pe_null, pm_prog_1, pm_ob_some, Nat.reduceDiv, Nat.reduceMod, Nat.reduceMul, Nat.reduceAdd, Int.reduceToNat, pm_kill_i, pm_kill_r, pm_kill_n, pm_kill_j, pm_kill_l, pm_kill_d, pm_cats_nil, pm_cats_i, pm_cats_r, pm_cats_n, pm_cats_l, pm_cats_d, sz_1, sz_2, sl_1, sl_2, lc_0, lc_lt, lc_le, li_ne, va_rf, wr_m1, we_m1, pm_kill_w, Int32.reduceOfInt, Int64.reduceOfInt, Int32.reduceOfNat, Int32.reduceLT, Int32.reduceLE, Prod.mk.injEq, Nat.reduceEqDiff, reduceCtorEq, and_true, true_and, and_false, false_and, and_self, ite_true, ite_false, ↓reduceIte, not_true_eq_false, not_false_eq_true, pe_ri, pe_rz, pe_rc, p_throw, t1552, w_junk hA, Ch_g0_2 hP hA, Ch_g4_2 hP hA, Ch_l6 hP hA, Ch_r3 hP hA, Ch_r6 hP hA, z1, eq_false k2, z4, eq_true k5, k6]
    · rw [if_neg k5] at e
      have k7 := y1552_2 (h := h) hP hA hD e
      simp -implicitDefEqProofs (disch := first | assumption | exact Nat.le_of_ble_eq_true rfl | decide) only [b1552_0, g1552_1, b1552_1, g1552_4, b1552_4, g1552_5, b1552_5, g1552_6, b1552_6, pe_aload0, pe_iload1, pe_call2, pm_af_ret, pm_af_void, pm_af_thr, pe_if_eq, pe_iload2, pe_sipush, pe_goto, pe_goto_w, pe_call1, pe_istore3, pe_istore4, pe_iload4, pe_getfield, pe_aaload, pe_arraylength, pe_icmp_ge, pe_iload3, pe_laload, pe_lcmp, pe_if_ne, pe_iand, pe_iinc4, pe_aloadN0, pe_aastoreN, pe_areturnN, pe_null, pm_prog_1, pm_ob_some, Nat.reduceDiv, Nat.reduceMod, Nat.reduceMul, Nat.reduceAdd, Int.reduceToNat, pm_kill_i, pm_kill_r, pm_kill_n, pm_kill_j, pm_kill_l, pm_kill_d, pm_cats_nil, pm_cats_i, pm_cats_r, pm_cats_n, pm_cats_l, pm_cats_d, sz_1, sz_2, sl_1, sl_2, lc_0, lc_lt, lc_le, li_ne, va_rf, wr_m1, we_m1, pm_kill_w, Int32.reduceOfInt, Int64.reduceOfInt, Int32.reduceOfNat, Int32.reduceLT, Int32.reduceLE, Prod.mk.injEq, Nat.reduceEqDiff, reduceCtorEq, and_true, true_and, and_false, false_and, and_self, ite_true, ite_false, ↓reduceIte, not_true_eq_false, not_false_eq_true, pe_ri, pe_rz, pe_rc, p_throw, t1552, w_junk hA, Ch_g0_2 hP hA, Ch_g4_2 hP hA, Ch_l6 hP hA, Ch_r3 hP hA, Ch_r6 hP hA, z1, eq_false k2, z4, eq_false k5, k7]
/-- TimberHouse$ShopDesks$Bag.sum(IIJ)J -/
theorem c3716 {d : Nat} {h : pm_H} {a : Nat} {x0 : Int32} {x1 : Int32} {x2 : Int64} (hc : pm_cls h a = some 58) : pm_call pm_prog (d + 1) 3716 [.ref a, .int x0, .int x1, .long x2] h = pm_ev pm_prog (pm_call pm_prog d) 3716 0 b3716_0 [.ref a, .int x0, .int x1, .long x2, pm_junk, pm_junk, pm_junk, pm_junk, pm_junk] [] h := pm_cal (pm_rc1 hc rfl) rfl rfl rfl
theorem g3716_1 {cl : pm_C} {ls st : List Value} {h : pm_H} : pm_go pm_prog cl 3716 1 ls st h = pm_ev pm_prog cl 3716 1 b3716_1 ls st h := pm_go_eq pm_prog cl 3716 1 ls st h
theorem g3716_2 {cl : pm_C} {ls st : List Value} {h : pm_H} : pm_go pm_prog cl 3716 2 ls st h = pm_ev pm_prog cl 3716 2 b3716_2 ls st h := pm_go_eq pm_prog cl 3716 2 ls st h
theorem g3716_3 {cl : pm_C} {ls st : List Value} {h : pm_H} : pm_go pm_prog cl 3716 3 ls st h = pm_ev pm_prog cl 3716 3 b3716_3 ls st h := pm_go_eq pm_prog cl 3716 3 ls st h
theorem g3716_4 {cl : pm_C} {ls st : List Value} {h : pm_H} : pm_go pm_prog cl 3716 4 ls st h = pm_ev pm_prog cl 3716 4 b3716_4 ls st h := pm_go_eq pm_prog cl 3716 4 ls st h
noncomputable def f3716_b1 (tc : Int32) (bc : Int32) (ec : Int32) (S : wS) : Int32 × Int32 × Int32 × Int64 × Int64 × Int32 → Option ((Int32 × Int32 × Int32 × Int64 × Int64 × Int32) ⊕ ((Int64))) := fun (x0i, x1, x2, x3, x5, x7) =>
  if 0 ≤ x0i ∧ x0i < bc then
    if x7 < x1 then
      if 0 ≤ x7 ∧ x7 < 300 then
        if 0 ≤ (S.1 (5, x0i, 0) x7) ∧ (S.1 (5, x0i, 0) x7) < 300 then
          if (S.1 (5, x0i, 0) x7) < tc then
            if 0 ≤ (S.1 (5, x0i, 0) x7) ∧ (S.1 (5, x0i, 0) x7) < tc then
              if (S.1 (2, (S.1 (5, x0i, 0) x7), 0) 2) = x2 then
                if (S.1 (2, (S.1 (5, x0i, 0) x7), 0) 3) = 0 then
                  if (S.2 (2, (S.1 (5, x0i, 0) x7), 0) 5) ≤ x3 then
                    some (.inl (x0i, x1, x2, x3, (x5 + (S.2 (2, (S.1 (5, x0i, 0) x7), 0) 4)), (x7 + 1)))
                  else
                    some (.inl (x0i, x1, x2, x3, (x5 + 0), (x7 + 1)))
                else
                  some (.inl (x0i, x1, x2, x3, (x5 + 0), (x7 + 1)))
              else
                some (.inl (x0i, x1, x2, x3, (x5 + 0), (x7 + 1)))
            else none
          else none
        else none
      else none
    else
      some (.inr x5)
  else none
/-- TimberHouse$ShopDesks$Bag.sum(IIJ)J -/
noncomputable def f3716 (tc : Int32) (bc : Int32) (ec : Int32) (S : wS) (x0i : Int32) (x1 : Int32) (x2 : Int32) (x3 : Int64) : Option (Int64) :=
  if 0 ≤ x0i ∧ x0i < bc then
    (lp (f3716_b1 tc bc ec S) FU (x0i, x1, x2, x3, 0, 0)).bind fun v1 =>
    some v1
  else none
def go3716_1 (tc : Int32) (bc : Int32) (ec : Int32) (A : wK → Nat) (h : pm_H) (D : Nat) (R : Outcome × pm_H) (S : wS) : Int32 × Int32 × Int32 × Int64 × Int64 × Int32 → Prop := fun (x0i, x1, x2, x3, x5, x7) => ∀ q8 : Value, pm_go pm_prog (pm_call pm_prog D) 3716 1 [.ref (A (4, x0i, 0)), .int x1, .int x2, .long x3, pm_junk, .long x5, pm_junk, .int x7, q8] [] (wput A (Ch_d tc bc ec) S h) = some R
def ex3716_1 (tc : Int32) (bc : Int32) (ec : Int32) (A : wK → Nat) (h : pm_H) (D : Nat) (R : Outcome × pm_H) (S : wS) : (Int64) → Prop := fun x5 => ∀ q0 q1 q2 q3 q4 q7 q8 : Value, pm_go pm_prog (pm_call pm_prog D) 3716 4 [q0, q1, q2, q3, q4, .long x5, pm_junk, q7, q8] [] (wput A (Ch_d tc bc ec) S h) = some R
theorem y3716_b1 {tc : Int32} {bc : Int32} {ec : Int32} {A : wK → Nat} {h : pm_H} {D : Nat} {R : Outcome × pm_H} {S : wS} (hP : Ch_P tc bc ec) (hA : wok A (Ch_d tc bc ec) h.1) (hD : 0 ≤ D) (a : Int32 × Int32 × Int32 × Int64 × Int64 × Int32) (r : (Int32 × Int32 × Int32 × Int64 × Int64 × Int32) ⊕ ((Int64))) (e : f3716_b1 tc bc ec S a = some r) (hc : Sum.elim (go3716_1 tc bc ec A h D R S) (ex3716_1 tc bc ec A h D R S) r) : go3716_1 tc bc ec A h D R S a := by
  obtain ⟨x0i, x1, x2, x3, x5, x7⟩ := a
  dsimp only [go3716_1]
  intro q8
  simp only [f3716_b1] at e
  rw [g3716_1, b3716_1]
  by_cases k1 : 0 ≤ x0i ∧ x0i < bc
  · rw [if_pos k1] at e
    by_cases k2 : x7 < x1
    · rw [if_pos k2] at e
      by_cases k3 : 0 ≤ x7 ∧ x7 < 300
      · rw [if_pos k3] at e
        by_cases k4 : 0 ≤ (S.1 (5, x0i, 0) x7) ∧ (S.1 (5, x0i, 0) x7) < 300
        · rw [if_pos k4] at e
          by_cases k5 : (S.1 (5, x0i, 0) x7) < tc
          · rw [if_pos k5] at e
            by_cases k6 : 0 ≤ (S.1 (5, x0i, 0) x7) ∧ (S.1 (5, x0i, 0) x7) < tc
            · rw [if_pos k6] at e
              by_cases k7 : (S.1 (2, (S.1 (5, x0i, 0) x7), 0) 2) = x2
              · rw [if_pos k7] at e
                by_cases k8 : (S.1 (2, (S.1 (5, x0i, 0) x7), 0) 3) = 0
                · rw [if_pos k8] at e
                  by_cases k9 : (S.2 (2, (S.1 (5, x0i, 0) x7), 0) 5) ≤ x3
                  · rw [if_pos k9] at e
                    have e := Option.some.inj e; subst e
                    dsimp only [Sum.elim_inl, go3716_1] at hc
                    simp -implicitDefEqProofs (disch := first | assumption | exact Nat.le_of_ble_eq_true rfl | decide) only [b3716_0, g3716_2, b3716_2, g3716_3, b3716_3, g3716_4, b3716_4, pe_bipush, pe_lstore5, pe_sipush, pe_istore7, pe_goto_w, pe_iload7, pe_iload1, pe_icmp_ge, pe_aload0, pe_getfield, pe_saload, pe_aaload, pe_astore8, pe_lload5, pe_aload8, pe_iload2, pe_icmp_ne, pe_if_ne, pe_lload3, pe_lcmp, pe_if_gt, pe_goto, pe_ladd, pe_iinc7, pe_lreturn, pe_aloadN0, pe_astoreN8, pe_aloadN8, pe_aastoreN, pe_areturnN, pe_null, pm_prog_1, pm_ob_some, Nat.reduceDiv, Nat.reduceMod, Nat.reduceMul, Nat.reduceAdd, Int.reduceToNat, pm_kill_i, pm_kill_r, pm_kill_n, pm_kill_j, pm_kill_l, pm_kill_d, pm_cats_nil, pm_cats_i, pm_cats_r, pm_cats_n, pm_cats_l, pm_cats_d, sz_1, sz_2, sl_1, sl_2, lc_0, lc_lt, lc_le, li_ne, va_rf, wr_m1, we_m1, pm_kill_w, Int32.reduceOfInt, Int64.reduceOfInt, Int32.reduceOfNat, Int32.reduceLT, Int32.reduceLE, Prod.mk.injEq, Nat.reduceEqDiff, reduceCtorEq, and_true, true_and, and_false, false_and, and_self, ite_true, ite_false, ↓reduceIte, not_true_eq_false, not_false_eq_true, pe_ri, pe_rz, pe_rc, Ch_g2_2 hP hA, Ch_g2_3 hP hA, Ch_g2_4 hP hA, Ch_g2_5 hP hA, Ch_g4_0 hP hA, Ch_g4_1 hP hA, Ch_r1 hP hA, Ch_r5 hP hA, eq_true k2, eq_true k7, eq_true k8, eq_true k9, hc]
                  · rw [if_neg k9] at e
                    have e := Option.some.inj e; subst e
                    dsimp only [Sum.elim_inl, go3716_1] at hc
                    simp -implicitDefEqProofs (disch := first | assumption | exact Nat.le_of_ble_eq_true rfl | decide) only [b3716_0, g3716_2, b3716_2, g3716_3, b3716_3, g3716_4, b3716_4, pe_bipush, pe_lstore5, pe_sipush, pe_istore7, pe_goto_w, pe_iload7, pe_iload1, pe_icmp_ge, pe_aload0, pe_getfield, pe_saload, pe_aaload, pe_astore8, pe_lload5, pe_aload8, pe_iload2, pe_icmp_ne, pe_if_ne, pe_lload3, pe_lcmp, pe_if_gt, pe_goto, pe_ladd, pe_iinc7, pe_lreturn, pe_aloadN0, pe_astoreN8, pe_aloadN8, pe_aastoreN, pe_areturnN, pe_null, pm_prog_1, pm_ob_some, Nat.reduceDiv, Nat.reduceMod, Nat.reduceMul, Nat.reduceAdd, Int.reduceToNat, pm_kill_i, pm_kill_r, pm_kill_n, pm_kill_j, pm_kill_l, pm_kill_d, pm_cats_nil, pm_cats_i, pm_cats_r, pm_cats_n, pm_cats_l, pm_cats_d, sz_1, sz_2, sl_1, sl_2, lc_0, lc_lt, lc_le, li_ne, va_rf, wr_m1, we_m1, pm_kill_w, Int32.reduceOfInt, Int64.reduceOfInt, Int32.reduceOfNat, Int32.reduceLT, Int32.reduceLE, Prod.mk.injEq, Nat.reduceEqDiff, reduceCtorEq, and_true, true_and, and_false, false_and, and_self, ite_true, ite_false, ↓reduceIte, not_true_eq_false, not_false_eq_true, pe_ri, pe_rz, pe_rc, Ch_g2_2 hP hA, Ch_g2_3 hP hA, Ch_g2_4 hP hA, Ch_g2_5 hP hA, Ch_g4_0 hP hA, Ch_g4_1 hP hA, Ch_r1 hP hA, Ch_r5 hP hA, eq_true k2, eq_true k7, eq_true k8, eq_false k9, hc]
                · rw [if_neg k8] at e
                  have e := Option.some.inj e; subst e
                  dsimp only [Sum.elim_inl, go3716_1] at hc
                  simp -implicitDefEqProofs (disch := first | assumption | exact Nat.le_of_ble_eq_true rfl | decide) only [b3716_0, g3716_2, b3716_2, g3716_3, b3716_3, g3716_4, b3716_4, pe_bipush, pe_lstore5, pe_sipush, pe_istore7, pe_goto_w, pe_iload7, pe_iload1, pe_icmp_ge, pe_aload0, pe_getfield, pe_saload, pe_aaload, pe_astore8, pe_lload5, pe_aload8, pe_iload2, pe_icmp_ne, pe_if_ne, pe_lload3, pe_lcmp, pe_if_gt, pe_goto, pe_ladd, pe_iinc7, pe_lreturn, pe_aloadN0, pe_astoreN8, pe_aloadN8, pe_aastoreN, pe_areturnN, pe_null, pm_prog_1, pm_ob_some, Nat.reduceDiv, Nat.reduceMod, Nat.reduceMul, Nat.reduceAdd, Int.reduceToNat, pm_kill_i, pm_kill_r, pm_kill_n, pm_kill_j, pm_kill_l, pm_kill_d, pm_cats_nil, pm_cats_i, pm_cats_r, pm_cats_n, pm_cats_l, pm_cats_d, sz_1, sz_2, sl_1, sl_2, lc_0, lc_lt, lc_le, li_ne, va_rf, wr_m1, we_m1, pm_kill_w, Int32.reduceOfInt, Int64.reduceOfInt, Int32.reduceOfNat, Int32.reduceLT, Int32.reduceLE, Prod.mk.injEq, Nat.reduceEqDiff, reduceCtorEq, and_true, true_and, and_false, false_and, and_self, ite_true, ite_false, ↓reduceIte, not_true_eq_false, not_false_eq_true, pe_ri, pe_rz, pe_rc, Ch_g2_2 hP hA, Ch_g2_3 hP hA, Ch_g2_4 hP hA, Ch_g2_5 hP hA, Ch_g4_0 hP hA, Ch_g4_1 hP hA, Ch_r1 hP hA, Ch_r5 hP hA, eq_true k2, eq_true k7, eq_false k8, hc]
              · rw [if_neg k7] at e
                have e := Option.some.inj e; subst e
                dsimp only [Sum.elim_inl, go3716_1] at hc
                simp -implicitDefEqProofs (disch := first | assumption | exact Nat.le_of_ble_eq_true rfl | decide) only [b3716_0, g3716_2, b3716_2, g3716_3, b3716_3, g3716_4, b3716_4, pe_bipush, pe_lstore5, pe_sipush, pe_istore7, pe_goto_w, pe_iload7, pe_iload1, pe_icmp_ge, pe_aload0, pe_getfield, pe_saload, pe_aaload, pe_astore8, pe_lload5, pe_aload8, pe_iload2, pe_icmp_ne, pe_if_ne, pe_lload3, pe_lcmp, pe_if_gt, pe_goto, pe_ladd, pe_iinc7, pe_lreturn, pe_aloadN0, pe_astoreN8, pe_aloadN8, pe_aastoreN, pe_areturnN, pe_null, pm_prog_1, pm_ob_some, Nat.reduceDiv, Nat.reduceMod, Nat.reduceMul, Nat.reduceAdd, Int.reduceToNat, pm_kill_i, pm_kill_r, pm_kill_n, pm_kill_j, pm_kill_l, pm_kill_d, pm_cats_nil, pm_cats_i, pm_cats_r, pm_cats_n, pm_cats_l, pm_cats_d, sz_1, sz_2, sl_1, sl_2, lc_0, lc_lt, lc_le, li_ne, va_rf, wr_m1, we_m1, pm_kill_w, Int32.reduceOfInt, Int64.reduceOfInt, Int32.reduceOfNat, Int32.reduceLT, Int32.reduceLE, Prod.mk.injEq, Nat.reduceEqDiff, reduceCtorEq, and_true, true_and, and_false, false_and, and_self, ite_true, ite_false, ↓reduceIte, not_true_eq_false, not_false_eq_true, pe_ri, pe_rz, pe_rc, Ch_g2_2 hP hA, Ch_g2_3 hP hA, Ch_g2_4 hP hA, Ch_g2_5 hP hA, Ch_g4_0 hP hA, Ch_g4_1 hP hA, Ch_r1 hP hA, Ch_r5 hP hA, eq_true k2, eq_false k7, hc]
            · rw [if_neg k6] at e; cases e
          · rw [if_neg k5] at e; cases e
        · rw [if_neg k4] at e; cases e
      · rw [if_neg k3] at e; cases e
    · rw [if_neg k2] at e
      have e := Option.some.inj e; subst e
      dsimp only [Sum.elim_inr, ex3716_1] at hc
      simp -implicitDefEqProofs (disch := first | assumption | exact Nat.le_of_ble_eq_true rfl | decide) only [b3716_0, g3716_2, b3716_2, g3716_3, b3716_3, g3716_4, b3716_4, pe_bipush, pe_lstore5, pe_sipush, pe_istore7, pe_goto_w, pe_iload7, pe_iload1, pe_icmp_ge, pe_aload0, pe_getfield, pe_saload, pe_aaload, pe_astore8, pe_lload5, pe_aload8, pe_iload2, pe_icmp_ne, pe_if_ne, pe_lload3, pe_lcmp, pe_if_gt, pe_goto, pe_ladd, pe_iinc7, pe_lreturn, pe_aloadN0, pe_astoreN8, pe_aloadN8, pe_aastoreN, pe_areturnN, pe_null, pm_prog_1, pm_ob_some, Nat.reduceDiv, Nat.reduceMod, Nat.reduceMul, Nat.reduceAdd, Int.reduceToNat, pm_kill_i, pm_kill_r, pm_kill_n, pm_kill_j, pm_kill_l, pm_kill_d, pm_cats_nil, pm_cats_i, pm_cats_r, pm_cats_n, pm_cats_l, pm_cats_d, sz_1, sz_2, sl_1, sl_2, lc_0, lc_lt, lc_le, li_ne, va_rf, wr_m1, we_m1, pm_kill_w, Int32.reduceOfInt, Int64.reduceOfInt, Int32.reduceOfNat, Int32.reduceLT, Int32.reduceLE, Prod.mk.injEq, Nat.reduceEqDiff, reduceCtorEq, and_true, true_and, and_false, false_and, and_self, ite_true, ite_false, ↓reduceIte, not_true_eq_false, not_false_eq_true, pe_ri, pe_rz, pe_rc, Ch_g2_2 hP hA, Ch_g2_3 hP hA, Ch_g2_4 hP hA, Ch_g2_5 hP hA, Ch_g4_0 hP hA, Ch_g4_1 hP hA, Ch_r1 hP hA, Ch_r5 hP hA, eq_false k2, hc]
  · rw [if_neg k1] at e; cases e
theorem z3716_1 {tc : Int32} {bc : Int32} {ec : Int32} {A : wK → Nat} {h : pm_H} {D : Nat} {R : Outcome × pm_H} {S : wS} (hP : Ch_P tc bc ec) (hA : wok A (Ch_d tc bc ec) h.1) (hD : 0 ≤ D) {n : Nat} {a : Int32 × Int32 × Int32 × Int64 × Int64 × Int32} {b : (Int64)} (e : lp (f3716_b1 tc bc ec S) n a = some b) (hx : ex3716_1 tc bc ec A h D R S b) : go3716_1 tc bc ec A h D R S a := lp_run (fun a r => y3716_b1 hP hA hD a r) n a b e hx
theorem x3716 {tc : Int32} {bc : Int32} {ec : Int32} {A : wK → Nat} {h : pm_H} {D : Nat} {S : wS} {x0i : Int32} {x1 : Int32} {x2 : Int32} {x3 : Int64} {r : Int64} (hP : Ch_P tc bc ec) (hA : wok A (Ch_d tc bc ec) h.1) (hD : 1 ≤ D) (e : f3716 tc bc ec S x0i x1 x2 x3 = some r) : pm_call pm_prog D 3716 [.ref (A (4, x0i, 0)), .int x1, .int x2, .long x3] (wput A (Ch_d tc bc ec) S h) = some (Outcome.returned (some (.long r)), (wput A (Ch_d tc bc ec) S h)) := by
  obtain ⟨D, rfl⟩ : ∃ D', D = D' + 1 := ⟨D - 1, by omega⟩
  have hD : 0 ≤ D := by omega
  simp only [f3716] at e
  have k1 : 0 ≤ x0i ∧ x0i < bc := by
    by_cases q : 0 ≤ x0i ∧ x0i < bc
    · exact q
    · rw [if_neg q] at e; cases e
  rw [if_pos k1] at e
  rw [c3716 (Ch_c4 hP hA k1), b3716_0]
  obtain ⟨v1, k2, e⟩ := Option.bind_eq_some_iff.mp e
  try dsimp only at e
  try simp -implicitDefEqProofs (disch := first | assumption | exact Nat.le_of_ble_eq_true rfl | decide) only [b3716_0, g3716_2, b3716_2, g3716_3, b3716_3, g3716_4, b3716_4, pe_bipush, pe_lstore5, pe_sipush, pe_istore7, pe_goto_w, pe_iload7, pe_iload1, pe_icmp_ge, pe_aload0, pe_getfield, pe_saload, pe_aaload, pe_astore8, pe_lload5, pe_aload8, pe_iload2, pe_icmp_ne, pe_if_ne, pe_lload3, pe_lcmp, pe_if_gt, pe_goto, pe_ladd, pe_iinc7, pe_lreturn, pe_aloadN0, pe_astoreN8, pe_aloadN8, pe_aastoreN, pe_areturnN, pe_null, pm_prog_1, pm_ob_some, Nat.reduceDiv, Nat.reduceMod, Nat.reduceMul, Nat.reduceAdd, Int.reduceToNat, pm_kill_i, pm_kill_r, pm_kill_n, pm_kill_j, pm_kill_l, pm_kill_d, pm_cats_nil, pm_cats_i, pm_cats_r, pm_cats_n, pm_cats_l, pm_cats_d, sz_1, sz_2, sl_1, sl_2, lc_0, lc_lt, lc_le, li_ne, va_rf, wr_m1, we_m1, pm_kill_w, Int32.reduceOfInt, Int64.reduceOfInt, Int32.reduceOfNat, Int32.reduceLT, Int32.reduceLE, Prod.mk.injEq, Nat.reduceEqDiff, reduceCtorEq, and_true, true_and, and_false, false_and, and_self, ite_true, ite_false, ↓reduceIte, not_true_eq_false, not_false_eq_true, pe_ri, pe_rz, pe_rc, Ch_g2_2 hP hA, Ch_g2_3 hP hA, Ch_g2_4 hP hA, Ch_g2_5 hP hA, Ch_g4_0 hP hA, Ch_g4_1 hP hA, Ch_r1 hP hA, Ch_r5 hP hA]
  refine z3716_1 hP hA hD k2 ?_ _
  dsimp only [ex3716_1]
  intro q0 q1 q2 q3 q4 q7 q8
  have e := Option.some.inj e; subst e
  simp -implicitDefEqProofs (disch := first | assumption | exact Nat.le_of_ble_eq_true rfl | decide) only [b3716_0, g3716_2, b3716_2, g3716_3, b3716_3, g3716_4, b3716_4, pe_bipush, pe_lstore5, pe_sipush, pe_istore7, pe_goto_w, pe_iload7, pe_iload1, pe_icmp_ge, pe_aload0, pe_getfield, pe_saload, pe_aaload, pe_astore8, pe_lload5, pe_aload8, pe_iload2, pe_icmp_ne, pe_if_ne, pe_lload3, pe_lcmp, pe_if_gt, pe_goto, pe_ladd, pe_iinc7, pe_lreturn, pe_aloadN0, pe_astoreN8, pe_aloadN8, pe_aastoreN, pe_areturnN, pe_null, pm_prog_1, pm_ob_some, Nat.reduceDiv, Nat.reduceMod, Nat.reduceMul, Nat.reduceAdd, Int.reduceToNat, pm_kill_i, pm_kill_r, pm_kill_n, pm_kill_j, pm_kill_l, pm_kill_d, pm_cats_nil, pm_cats_i, pm_cats_r, pm_cats_n, pm_cats_l, pm_cats_d, sz_1, sz_2, sl_1, sl_2, lc_0, lc_lt, lc_le, li_ne, va_rf, wr_m1, we_m1, pm_kill_w, Int32.reduceOfInt, Int64.reduceOfInt, Int32.reduceOfNat, Int32.reduceLT, Int32.reduceLE, Prod.mk.injEq, Nat.reduceEqDiff, reduceCtorEq, and_true, true_and, and_false, false_and, and_self, ite_true, ite_false, ↓reduceIte, not_true_eq_false, not_false_eq_true, pe_ri, pe_rz, pe_rc, Ch_g2_2 hP hA, Ch_g2_3 hP hA, Ch_g2_4 hP hA, Ch_g2_5 hP hA, Ch_g4_0 hP hA, Ch_g4_1 hP hA, Ch_r1 hP hA, Ch_r5 hP hA]
/-- TimberHouse$ShopDesks$Telling.isLater(LTimberHouse$ShopDesks$Telling;)Z -/
theorem c3649 {d : Nat} {h : pm_H} {a : Nat} {r0 : Nat} (hc : pm_cls h a = some 57) : pm_call pm_prog (d + 1) 3649 [.ref a, .ref r0] h = pm_ev pm_prog (pm_call pm_prog d) 3649 0 b3649_0 [.ref a, .ref r0] [] h := pm_cal (pm_rc1 hc rfl) rfl rfl rfl
theorem g3649_1 {cl : pm_C} {ls st : List Value} {h : pm_H} : pm_go pm_prog cl 3649 1 ls st h = pm_ev pm_prog cl 3649 1 b3649_1 ls st h := pm_go_eq pm_prog cl 3649 1 ls st h
theorem g3649_2 {cl : pm_C} {ls st : List Value} {h : pm_H} : pm_go pm_prog cl 3649 2 ls st h = pm_ev pm_prog cl 3649 2 b3649_2 ls st h := pm_go_eq pm_prog cl 3649 2 ls st h
theorem g3649_3 {cl : pm_C} {ls st : List Value} {h : pm_H} : pm_go pm_prog cl 3649 3 ls st h = pm_ev pm_prog cl 3649 3 b3649_3 ls st h := pm_go_eq pm_prog cl 3649 3 ls st h
theorem g3649_4 {cl : pm_C} {ls st : List Value} {h : pm_H} : pm_go pm_prog cl 3649 4 ls st h = pm_ev pm_prog cl 3649 4 b3649_4 ls st h := pm_go_eq pm_prog cl 3649 4 ls st h
theorem g3649_5 {cl : pm_C} {ls st : List Value} {h : pm_H} : pm_go pm_prog cl 3649 5 ls st h = pm_ev pm_prog cl 3649 5 b3649_5 ls st h := pm_go_eq pm_prog cl 3649 5 ls st h
theorem g3649_6 {cl : pm_C} {ls st : List Value} {h : pm_H} : pm_go pm_prog cl 3649 6 ls st h = pm_ev pm_prog cl 3649 6 b3649_6 ls st h := pm_go_eq pm_prog cl 3649 6 ls st h
/-- TimberHouse$ShopDesks$Telling.isLater(LTimberHouse$ShopDesks$Telling;)Z -/
noncomputable def f3649 (tc : Int32) (bc : Int32) (ec : Int32) (S : wS) (x0i : Int32) (x1i : Int32) : Option (Int32) :=
  if 0 ≤ x0i ∧ x0i < tc then
    if 0 ≤ x1i ∧ x1i < tc then
      if (S.2 (2, x0i, 0) 5) = (S.2 (2, x1i, 0) 5) then
        if (S.1 (2, x0i, 0) 0) = (S.1 (2, x1i, 0) 0) then
          if (S.2 (2, x0i, 0) 1) ≤ (S.2 (2, x1i, 0) 1) then
            some 0
          else
            some 1
        else
          if (S.1 (2, x0i, 0) 0) ≤ (S.1 (2, x1i, 0) 0) then
            some 0
          else
            some 1
      else
        if (S.2 (2, x0i, 0) 5) ≤ (S.2 (2, x1i, 0) 5) then
          some 0
        else
          some 1
    else none
  else none
theorem x3649 {tc : Int32} {bc : Int32} {ec : Int32} {A : wK → Nat} {h : pm_H} {D : Nat} {S : wS} {x0i : Int32} {x1i : Int32} {r : Int32} (hP : Ch_P tc bc ec) (hA : wok A (Ch_d tc bc ec) h.1) (hD : 1 ≤ D) (e : f3649 tc bc ec S x0i x1i = some r) : pm_call pm_prog D 3649 [.ref (A (2, x0i, 0)), .ref (A (2, x1i, 0))] (wput A (Ch_d tc bc ec) S h) = some (Outcome.returned (some (.int r)), (wput A (Ch_d tc bc ec) S h)) := by
  obtain ⟨D, rfl⟩ : ∃ D', D = D' + 1 := ⟨D - 1, by omega⟩
  have hD : 0 ≤ D := by omega
  simp only [f3649] at e
  have k1 : 0 ≤ x0i ∧ x0i < tc := by
    by_cases q : 0 ≤ x0i ∧ x0i < tc
    · exact q
    · rw [if_neg q] at e; cases e
  rw [if_pos k1] at e
  have k2 : 0 ≤ x1i ∧ x1i < tc := by
    by_cases q : 0 ≤ x1i ∧ x1i < tc
    · exact q
    · rw [if_neg q] at e; cases e
  rw [if_pos k2] at e
  rw [c3649 (Ch_c2 hP hA k1), b3649_0]
  by_cases k3 : (S.2 (2, x0i, 0) 5) = (S.2 (2, x1i, 0) 5)
  · rw [if_pos k3] at e
    by_cases k4 : (S.1 (2, x0i, 0) 0) = (S.1 (2, x1i, 0) 0)
    · rw [if_pos k4] at e
      by_cases k5 : (S.2 (2, x0i, 0) 1) ≤ (S.2 (2, x1i, 0) 1)
      · rw [if_pos k5] at e
        have e := Option.some.inj e; subst e
        simp -implicitDefEqProofs (disch := first | assumption | exact Nat.le_of_ble_eq_true rfl | decide) only [b3649_0, g3649_1, b3649_1, g3649_2, b3649_2, g3649_3, b3649_3, g3649_4, b3649_4, g3649_5, b3649_5, g3649_6, b3649_6, pe_aload0, pe_getfield, pe_aload1, pe_lcmp, pe_if_eq, pe_if_le, pe_sipush, pe_goto, pe_icmp_eq, pe_icmp_le, pe_goto_w, pe_aloadN0, pe_aloadN1, pe_aastoreN, pe_areturnN, pe_null, pm_prog_1, pm_ob_some, Nat.reduceDiv, Nat.reduceMod, Nat.reduceMul, Nat.reduceAdd, Int.reduceToNat, pm_kill_i, pm_kill_r, pm_kill_n, pm_kill_j, pm_kill_l, pm_kill_d, pm_cats_nil, pm_cats_i, pm_cats_r, pm_cats_n, pm_cats_l, pm_cats_d, sz_1, sz_2, sl_1, sl_2, lc_0, lc_lt, lc_le, li_ne, va_rf, wr_m1, we_m1, pm_kill_w, Int32.reduceOfInt, Int64.reduceOfInt, Int32.reduceOfNat, Int32.reduceLT, Int32.reduceLE, Prod.mk.injEq, Nat.reduceEqDiff, reduceCtorEq, and_true, true_and, and_false, false_and, and_self, ite_true, ite_false, ↓reduceIte, not_true_eq_false, not_false_eq_true, pe_ri, pe_rz, pe_rc, Ch_g2_0 hP hA, Ch_g2_1 hP hA, Ch_g2_5 hP hA, eq_true k3, eq_true k4, eq_true k5]
      · rw [if_neg k5] at e
        have e := Option.some.inj e; subst e
        simp -implicitDefEqProofs (disch := first | assumption | exact Nat.le_of_ble_eq_true rfl | decide) only [b3649_0, g3649_1, b3649_1, g3649_2, b3649_2, g3649_3, b3649_3, g3649_4, b3649_4, g3649_5, b3649_5, g3649_6, b3649_6, pe_aload0, pe_getfield, pe_aload1, pe_lcmp, pe_if_eq, pe_if_le, pe_sipush, pe_goto, pe_icmp_eq, pe_icmp_le, pe_goto_w, pe_aloadN0, pe_aloadN1, pe_aastoreN, pe_areturnN, pe_null, pm_prog_1, pm_ob_some, Nat.reduceDiv, Nat.reduceMod, Nat.reduceMul, Nat.reduceAdd, Int.reduceToNat, pm_kill_i, pm_kill_r, pm_kill_n, pm_kill_j, pm_kill_l, pm_kill_d, pm_cats_nil, pm_cats_i, pm_cats_r, pm_cats_n, pm_cats_l, pm_cats_d, sz_1, sz_2, sl_1, sl_2, lc_0, lc_lt, lc_le, li_ne, va_rf, wr_m1, we_m1, pm_kill_w, Int32.reduceOfInt, Int64.reduceOfInt, Int32.reduceOfNat, Int32.reduceLT, Int32.reduceLE, Prod.mk.injEq, Nat.reduceEqDiff, reduceCtorEq, and_true, true_and, and_false, false_and, and_self, ite_true, ite_false, ↓reduceIte, not_true_eq_false, not_false_eq_true, pe_ri, pe_rz, pe_rc, Ch_g2_0 hP hA, Ch_g2_1 hP hA, Ch_g2_5 hP hA, eq_true k3, eq_true k4, eq_false k5]
    · rw [if_neg k4] at e
      by_cases k6 : (S.1 (2, x0i, 0) 0) ≤ (S.1 (2, x1i, 0) 0)
      · rw [if_pos k6] at e
        have e := Option.some.inj e; subst e
        simp -implicitDefEqProofs (disch := first | assumption | exact Nat.le_of_ble_eq_true rfl | decide) only [b3649_0, g3649_1, b3649_1, g3649_2, b3649_2, g3649_3, b3649_3, g3649_4, b3649_4, g3649_5, b3649_5, g3649_6, b3649_6, pe_aload0, pe_getfield, pe_aload1, pe_lcmp, pe_if_eq, pe_if_le, pe_sipush, pe_goto, pe_icmp_eq, pe_icmp_le, pe_goto_w, pe_aloadN0, pe_aloadN1, pe_aastoreN, pe_areturnN, pe_null, pm_prog_1, pm_ob_some, Nat.reduceDiv, Nat.reduceMod, Nat.reduceMul, Nat.reduceAdd, Int.reduceToNat, pm_kill_i, pm_kill_r, pm_kill_n, pm_kill_j, pm_kill_l, pm_kill_d, pm_cats_nil, pm_cats_i, pm_cats_r, pm_cats_n, pm_cats_l, pm_cats_d, sz_1, sz_2, sl_1, sl_2, lc_0, lc_lt, lc_le, li_ne, va_rf, wr_m1, we_m1, pm_kill_w, Int32.reduceOfInt, Int64.reduceOfInt, Int32.reduceOfNat, Int32.reduceLT, Int32.reduceLE, Prod.mk.injEq, Nat.reduceEqDiff, reduceCtorEq, and_true, true_and, and_false, false_and, and_self, ite_true, ite_false, ↓reduceIte, not_true_eq_false, not_false_eq_true, pe_ri, pe_rz, pe_rc, Ch_g2_0 hP hA, Ch_g2_1 hP hA, Ch_g2_5 hP hA, eq_true k3, eq_false k4, eq_true k6]
      · rw [if_neg k6] at e
        have e := Option.some.inj e; subst e
        simp -implicitDefEqProofs (disch := first | assumption | exact Nat.le_of_ble_eq_true rfl | decide) only [b3649_0, g3649_1, b3649_1, g3649_2, b3649_2, g3649_3, b3649_3, g3649_4, b3649_4, g3649_5, b3649_5, g3649_6, b3649_6, pe_aload0, pe_getfield, pe_aload1, pe_lcmp, pe_if_eq, pe_if_le, pe_sipush, pe_goto, pe_icmp_eq, pe_icmp_le, pe_goto_w, pe_aloadN0, pe_aloadN1, pe_aastoreN, pe_areturnN, pe_null, pm_prog_1, pm_ob_some, Nat.reduceDiv, Nat.reduceMod, Nat.reduceMul, Nat.reduceAdd, Int.reduceToNat, pm_kill_i, pm_kill_r, pm_kill_n, pm_kill_j, pm_kill_l, pm_kill_d, pm_cats_nil, pm_cats_i, pm_cats_r, pm_cats_n, pm_cats_l, pm_cats_d, sz_1, sz_2, sl_1, sl_2, lc_0, lc_lt, lc_le, li_ne, va_rf, wr_m1, we_m1, pm_kill_w, Int32.reduceOfInt, Int64.reduceOfInt, Int32.reduceOfNat, Int32.reduceLT, Int32.reduceLE, Prod.mk.injEq, Nat.reduceEqDiff, reduceCtorEq, and_true, true_and, and_false, false_and, and_self, ite_true, ite_false, ↓reduceIte, not_true_eq_false, not_false_eq_true, pe_ri, pe_rz, pe_rc, Ch_g2_0 hP hA, Ch_g2_1 hP hA, Ch_g2_5 hP hA, eq_true k3, eq_false k4, eq_false k6]
  · rw [if_neg k3] at e
    by_cases k7 : (S.2 (2, x0i, 0) 5) ≤ (S.2 (2, x1i, 0) 5)
    · rw [if_pos k7] at e
      have e := Option.some.inj e; subst e
      simp -implicitDefEqProofs (disch := first | assumption | exact Nat.le_of_ble_eq_true rfl | decide) only [b3649_0, g3649_1, b3649_1, g3649_2, b3649_2, g3649_3, b3649_3, g3649_4, b3649_4, g3649_5, b3649_5, g3649_6, b3649_6, pe_aload0, pe_getfield, pe_aload1, pe_lcmp, pe_if_eq, pe_if_le, pe_sipush, pe_goto, pe_icmp_eq, pe_icmp_le, pe_goto_w, pe_aloadN0, pe_aloadN1, pe_aastoreN, pe_areturnN, pe_null, pm_prog_1, pm_ob_some, Nat.reduceDiv, Nat.reduceMod, Nat.reduceMul, Nat.reduceAdd, Int.reduceToNat, pm_kill_i, pm_kill_r, pm_kill_n, pm_kill_j, pm_kill_l, pm_kill_d, pm_cats_nil, pm_cats_i, pm_cats_r, pm_cats_n, pm_cats_l, pm_cats_d, sz_1, sz_2, sl_1, sl_2, lc_0, lc_lt, lc_le, li_ne, va_rf, wr_m1, we_m1, pm_kill_w, Int32.reduceOfInt, Int64.reduceOfInt, Int32.reduceOfNat, Int32.reduceLT, Int32.reduceLE, Prod.mk.injEq, Nat.reduceEqDiff, reduceCtorEq, and_true, true_and, and_false, false_and, and_self, ite_true, ite_false, ↓reduceIte, not_true_eq_false, not_false_eq_true, pe_ri, pe_rz, pe_rc, Ch_g2_0 hP hA, Ch_g2_1 hP hA, Ch_g2_5 hP hA, eq_false k3, eq_true k7]
    · rw [if_neg k7] at e
      have e := Option.some.inj e; subst e
      simp -implicitDefEqProofs (disch := first | assumption | exact Nat.le_of_ble_eq_true rfl | decide) only [b3649_0, g3649_1, b3649_1, g3649_2, b3649_2, g3649_3, b3649_3, g3649_4, b3649_4, g3649_5, b3649_5, g3649_6, b3649_6, pe_aload0, pe_getfield, pe_aload1, pe_lcmp, pe_if_eq, pe_if_le, pe_sipush, pe_goto, pe_icmp_eq, pe_icmp_le, pe_goto_w, pe_aloadN0, pe_aloadN1, pe_aastoreN, pe_areturnN, pe_null, pm_prog_1, pm_ob_some, Nat.reduceDiv, Nat.reduceMod, Nat.reduceMul, Nat.reduceAdd, Int.reduceToNat, pm_kill_i, pm_kill_r, pm_kill_n, pm_kill_j, pm_kill_l, pm_kill_d, pm_cats_nil, pm_cats_i, pm_cats_r, pm_cats_n, pm_cats_l, pm_cats_d, sz_1, sz_2, sl_1, sl_2, lc_0, lc_lt, lc_le, li_ne, va_rf, wr_m1, we_m1, pm_kill_w, Int32.reduceOfInt, Int64.reduceOfInt, Int32.reduceOfNat, Int32.reduceLT, Int32.reduceLE, Prod.mk.injEq, Nat.reduceEqDiff, reduceCtorEq, and_true, true_and, and_false, false_and, and_self, ite_true, ite_false, ↓reduceIte, not_true_eq_false, not_false_eq_true, pe_ri, pe_rz, pe_rc, Ch_g2_0 hP hA, Ch_g2_1 hP hA, Ch_g2_5 hP hA, eq_false k3, eq_false k7]
/-- TimberHouse$ShopDesks$Bag.latest(IIIJ)LTimberHouse$ShopDesks$Telling; -/
theorem c3719 {d : Nat} {h : pm_H} {a : Nat} {x0 : Int32} {x1 : Int32} {x2 : Int32} {x3 : Int64} (hc : pm_cls h a = some 58) : pm_call pm_prog (d + 1) 3719 [.ref a, .int x0, .int x1, .int x2, .long x3] h = pm_ev pm_prog (pm_call pm_prog d) 3719 0 b3719_0 [.ref a, .int x0, .int x1, .int x2, .long x3, pm_junk, pm_junk, pm_junk, pm_junk] [] h := pm_cal (pm_rc1 hc rfl) rfl rfl rfl
theorem g3719_1 {cl : pm_C} {ls st : List Value} {h : pm_H} : pm_go pm_prog cl 3719 1 ls st h = pm_ev pm_prog cl 3719 1 b3719_1 ls st h := pm_go_eq pm_prog cl 3719 1 ls st h
theorem g3719_2 {cl : pm_C} {ls st : List Value} {h : pm_H} : pm_go pm_prog cl 3719 2 ls st h = pm_ev pm_prog cl 3719 2 b3719_2 ls st h := pm_go_eq pm_prog cl 3719 2 ls st h
theorem g3719_3 {cl : pm_C} {ls st : List Value} {h : pm_H} : pm_go pm_prog cl 3719 3 ls st h = pm_ev pm_prog cl 3719 3 b3719_3 ls st h := pm_go_eq pm_prog cl 3719 3 ls st h
theorem g3719_4 {cl : pm_C} {ls st : List Value} {h : pm_H} : pm_go pm_prog cl 3719 4 ls st h = pm_ev pm_prog cl 3719 4 b3719_4 ls st h := pm_go_eq pm_prog cl 3719 4 ls st h
noncomputable def f3719_b1 (tc : Int32) (bc : Int32) (ec : Int32) (S : wS) : Int32 × Int32 × Int32 × Int32 × Int64 × Int32 × Int32 → Option ((Int32 × Int32 × Int32 × Int32 × Int64 × Int32 × Int32) ⊕ ((Int32))) := fun (x0i, x1, x2, x3, x4, x6i, x7) =>
  if 0 ≤ x0i ∧ x0i < bc then
    if x7 < x1 then
      if 0 ≤ x7 ∧ x7 < 300 then
        if 0 ≤ (S.1 (5, x0i, 0) x7) ∧ (S.1 (5, x0i, 0) x7) < 300 then
          if (S.1 (5, x0i, 0) x7) < tc then
            if 0 ≤ (S.1 (5, x0i, 0) x7) ∧ (S.1 (5, x0i, 0) x7) < tc then
              if (S.1 (2, (S.1 (5, x0i, 0) x7), 0) 2) = x2 then
                if (S.1 (2, (S.1 (5, x0i, 0) x7), 0) 3) = x3 then
                  if (S.2 (2, (S.1 (5, x0i, 0) x7), 0) 5) ≤ x4 then
                    if x6i < 0 then
                      some (.inl (x0i, x1, x2, x3, x4, (S.1 (5, x0i, 0) x7), (x7 + 1)))
                    else
                      if 0 ≤ x6i ∧ x6i < tc then
                        (f3649 tc bc ec S (S.1 (5, x0i, 0) x7) x6i).bind fun v1 =>
                        if v1 = 0 then
                          some (.inl (x0i, x1, x2, x3, x4, x6i, (x7 + 1)))
                        else
                          some (.inl (x0i, x1, x2, x3, x4, (S.1 (5, x0i, 0) x7), (x7 + 1)))
                      else none
                  else
                    some (.inl (x0i, x1, x2, x3, x4, x6i, (x7 + 1)))
                else
                  some (.inl (x0i, x1, x2, x3, x4, x6i, (x7 + 1)))
              else
                some (.inl (x0i, x1, x2, x3, x4, x6i, (x7 + 1)))
            else none
          else none
        else none
      else none
    else
      some (.inr x6i)
  else none
/-- TimberHouse$ShopDesks$Bag.latest(IIIJ)LTimberHouse$ShopDesks$Telling; -/
noncomputable def f3719 (tc : Int32) (bc : Int32) (ec : Int32) (S : wS) (x0i : Int32) (x1 : Int32) (x2 : Int32) (x3 : Int32) (x4 : Int64) : Option (Int32) :=
  if 0 ≤ x0i ∧ x0i < bc then
    (lp (f3719_b1 tc bc ec S) FU (x0i, x1, x2, x3, x4, (-1), 0)).bind fun v2i =>
    if 0 ≤ v2i ∧ v2i < tc then
      some v2i
    else none
  else none
def go3719_1 (tc : Int32) (bc : Int32) (ec : Int32) (A : wK → Nat) (h : pm_H) (D : Nat) (R : Outcome × pm_H) (S : wS) : Int32 × Int32 × Int32 × Int32 × Int64 × Int32 × Int32 → Prop := fun (x0i, x1, x2, x3, x4, x6i, x7) => ∀ q8 : Value, pm_go pm_prog (pm_call pm_prog D) 3719 1 [.ref (A (4, x0i, 0)), .int x1, .int x2, .int x3, .long x4, pm_junk, wr A 2 x6i, .int x7, q8] [] (wput A (Ch_d tc bc ec) S h) = some R
def ex3719_1 (tc : Int32) (bc : Int32) (ec : Int32) (A : wK → Nat) (h : pm_H) (D : Nat) (R : Outcome × pm_H) (S : wS) : (Int32) → Prop := fun x6i => ∀ q0 q1 q2 q3 q4 q5 q7 q8 : Value, pm_go pm_prog (pm_call pm_prog D) 3719 4 [q0, q1, q2, q3, q4, q5, wr A 2 x6i, q7, q8] [] (wput A (Ch_d tc bc ec) S h) = some R
theorem y3719_b1 {tc : Int32} {bc : Int32} {ec : Int32} {A : wK → Nat} {h : pm_H} {D : Nat} {R : Outcome × pm_H} {S : wS} (hP : Ch_P tc bc ec) (hA : wok A (Ch_d tc bc ec) h.1) (hD : 1 ≤ D) (a : Int32 × Int32 × Int32 × Int32 × Int64 × Int32 × Int32) (r : (Int32 × Int32 × Int32 × Int32 × Int64 × Int32 × Int32) ⊕ ((Int32))) (e : f3719_b1 tc bc ec S a = some r) (hc : Sum.elim (go3719_1 tc bc ec A h D R S) (ex3719_1 tc bc ec A h D R S) r) : go3719_1 tc bc ec A h D R S a := by
  obtain ⟨x0i, x1, x2, x3, x4, x6i, x7⟩ := a
  dsimp only [go3719_1]
  intro q8
  simp only [f3719_b1] at e
  rw [g3719_1, b3719_1]
  by_cases k1 : 0 ≤ x0i ∧ x0i < bc
  · rw [if_pos k1] at e
    by_cases k2 : x7 < x1
    · rw [if_pos k2] at e
      by_cases k3 : 0 ≤ x7 ∧ x7 < 300
      · rw [if_pos k3] at e
        by_cases k4 : 0 ≤ (S.1 (5, x0i, 0) x7) ∧ (S.1 (5, x0i, 0) x7) < 300
        · rw [if_pos k4] at e
          by_cases k5 : (S.1 (5, x0i, 0) x7) < tc
          · rw [if_pos k5] at e
            by_cases k6 : 0 ≤ (S.1 (5, x0i, 0) x7) ∧ (S.1 (5, x0i, 0) x7) < tc
            · rw [if_pos k6] at e
              by_cases k7 : (S.1 (2, (S.1 (5, x0i, 0) x7), 0) 2) = x2
              · rw [if_pos k7] at e
                by_cases k8 : (S.1 (2, (S.1 (5, x0i, 0) x7), 0) 3) = x3
                · rw [if_pos k8] at e
                  by_cases k9 : (S.2 (2, (S.1 (5, x0i, 0) x7), 0) 5) ≤ x4
                  · rw [if_pos k9] at e
                    by_cases k10 : x6i < 0
                    · rw [if_pos k10] at e
                      have e := Option.some.inj e; subst e
                      dsimp only [Sum.elim_inl, go3719_1] at hc
                      try simp only [wr_m1, wr_p (A := A) (f := 2) (wz_lt k6), wr_n (A := A) (f := 2) k10] at hc
                      simp -implicitDefEqProofs (disch := first | assumption | exact Nat.le_of_ble_eq_true rfl | decide) only [b3719_0, g3719_2, b3719_2, g3719_3, b3719_3, g3719_4, b3719_4, pe_null, pe_astore6, pe_sipush, pe_istore7, pe_goto_w, pe_iload7, pe_iload1, pe_icmp_ge, pe_aload0, pe_getfield, pe_saload, pe_aaload, pe_astore8, pe_aload8, pe_iload2, pe_icmp_ne, pe_iload3, pe_lload4, pe_lcmp, pe_if_gt, pe_aload6, pe_ifnull_n, pe_ifnull_r, pe_call2, pm_af_ret, pm_af_void, pm_af_thr, pe_if_eq, pe_iinc7, pe_goto, pe_areturn, pe_astoreN6, pe_aloadN0, pe_astoreN8, pe_aloadN8, pe_aloadN6, pe_aastoreN, pe_areturnN, pm_prog_1, pm_ob_some, Nat.reduceDiv, Nat.reduceMod, Nat.reduceMul, Nat.reduceAdd, Int.reduceToNat, pm_kill_i, pm_kill_r, pm_kill_n, pm_kill_j, pm_kill_l, pm_kill_d, pm_cats_nil, pm_cats_i, pm_cats_r, pm_cats_n, pm_cats_l, pm_cats_d, sz_1, sz_2, sl_1, sl_2, lc_0, lc_lt, lc_le, li_ne, va_rf, wr_m1, we_m1, pm_kill_w, Int32.reduceOfInt, Int64.reduceOfInt, Int32.reduceOfNat, Int32.reduceLT, Int32.reduceLE, Prod.mk.injEq, Nat.reduceEqDiff, reduceCtorEq, and_true, true_and, and_false, false_and, and_self, ite_true, ite_false, ↓reduceIte, not_true_eq_false, not_false_eq_true, pe_ri, pe_rz, pe_rc, Ch_g2_2 hP hA, Ch_g2_3 hP hA, Ch_g2_5 hP hA, Ch_g4_0 hP hA, Ch_g4_1 hP hA, Ch_r1 hP hA, Ch_r5 hP hA, eq_true k2, eq_true k7, eq_true k8, eq_true k9, wr_n (A := A) (f := 2) k10, we_n (A := A) (f := 2) k10, hc]
                    · rw [if_neg k10] at e
                      by_cases k11 : 0 ≤ x6i ∧ x6i < tc
                      · rw [if_pos k11] at e
                        obtain ⟨v1, k12, e⟩ := Option.bind_eq_some_iff.mp e
                        try dsimp only at e
                        have z12 := x3649 (D := D) (h := h) hP hA (by omega) k12
                        by_cases k13 : v1 = 0
                        · rw [if_pos k13] at e
                          have e := Option.some.inj e; subst e
                          dsimp only [Sum.elim_inl, go3719_1] at hc
                          try simp only [wr_m1, wr_p (A := A) (f := 2) k10, wr_p (A := A) (f := 2) (wz_lt k11)] at hc
                          simp -implicitDefEqProofs (disch := first | assumption | exact Nat.le_of_ble_eq_true rfl | decide) only [b3719_0, g3719_2, b3719_2, g3719_3, b3719_3, g3719_4, b3719_4, pe_null, pe_astore6, pe_sipush, pe_istore7, pe_goto_w, pe_iload7, pe_iload1, pe_icmp_ge, pe_aload0, pe_getfield, pe_saload, pe_aaload, pe_astore8, pe_aload8, pe_iload2, pe_icmp_ne, pe_iload3, pe_lload4, pe_lcmp, pe_if_gt, pe_aload6, pe_ifnull_n, pe_ifnull_r, pe_call2, pm_af_ret, pm_af_void, pm_af_thr, pe_if_eq, pe_iinc7, pe_goto, pe_areturn, pe_astoreN6, pe_aloadN0, pe_astoreN8, pe_aloadN8, pe_aloadN6, pe_aastoreN, pe_areturnN, pm_prog_1, pm_ob_some, Nat.reduceDiv, Nat.reduceMod, Nat.reduceMul, Nat.reduceAdd, Int.reduceToNat, pm_kill_i, pm_kill_r, pm_kill_n, pm_kill_j, pm_kill_l, pm_kill_d, pm_cats_nil, pm_cats_i, pm_cats_r, pm_cats_n, pm_cats_l, pm_cats_d, sz_1, sz_2, sl_1, sl_2, lc_0, lc_lt, lc_le, li_ne, va_rf, wr_m1, we_m1, pm_kill_w, Int32.reduceOfInt, Int64.reduceOfInt, Int32.reduceOfNat, Int32.reduceLT, Int32.reduceLE, Prod.mk.injEq, Nat.reduceEqDiff, reduceCtorEq, and_true, true_and, and_false, false_and, and_self, ite_true, ite_false, ↓reduceIte, not_true_eq_false, not_false_eq_true, pe_ri, pe_rz, pe_rc, Ch_g2_2 hP hA, Ch_g2_3 hP hA, Ch_g2_5 hP hA, Ch_g4_0 hP hA, Ch_g4_1 hP hA, Ch_r1 hP hA, Ch_r5 hP hA, eq_true k2, eq_true k7, eq_true k8, eq_true k9, wr_p (A := A) (f := 2) k10, we_p (A := A) (f := 2) k10, wr_p (A := A) (f := 2) (wz_lt k11), we_p (A := A) (f := 2) (wz_lt k11), z12, eq_true k13, hc]
                        · rw [if_neg k13] at e
                          have e := Option.some.inj e; subst e
                          dsimp only [Sum.elim_inl, go3719_1] at hc
                          try simp only [wr_m1, wr_p (A := A) (f := 2) (wz_lt k6), wr_p (A := A) (f := 2) k10, wr_p (A := A) (f := 2) (wz_lt k11)] at hc
                          simp -implicitDefEqProofs (disch := first | assumption | exact Nat.le_of_ble_eq_true rfl | decide) only [b3719_0, g3719_2, b3719_2, g3719_3, b3719_3, g3719_4, b3719_4, pe_null, pe_astore6, pe_sipush, pe_istore7, pe_goto_w, pe_iload7, pe_iload1, pe_icmp_ge, pe_aload0, pe_getfield, pe_saload, pe_aaload, pe_astore8, pe_aload8, pe_iload2, pe_icmp_ne, pe_iload3, pe_lload4, pe_lcmp, pe_if_gt, pe_aload6, pe_ifnull_n, pe_ifnull_r, pe_call2, pm_af_ret, pm_af_void, pm_af_thr, pe_if_eq, pe_iinc7, pe_goto, pe_areturn, pe_astoreN6, pe_aloadN0, pe_astoreN8, pe_aloadN8, pe_aloadN6, pe_aastoreN, pe_areturnN, pm_prog_1, pm_ob_some, Nat.reduceDiv, Nat.reduceMod, Nat.reduceMul, Nat.reduceAdd, Int.reduceToNat, pm_kill_i, pm_kill_r, pm_kill_n, pm_kill_j, pm_kill_l, pm_kill_d, pm_cats_nil, pm_cats_i, pm_cats_r, pm_cats_n, pm_cats_l, pm_cats_d, sz_1, sz_2, sl_1, sl_2, lc_0, lc_lt, lc_le, li_ne, va_rf, wr_m1, we_m1, pm_kill_w, Int32.reduceOfInt, Int64.reduceOfInt, Int32.reduceOfNat, Int32.reduceLT, Int32.reduceLE, Prod.mk.injEq, Nat.reduceEqDiff, reduceCtorEq, and_true, true_and, and_false, false_and, and_self, ite_true, ite_false, ↓reduceIte, not_true_eq_false, not_false_eq_true, pe_ri, pe_rz, pe_rc, Ch_g2_2 hP hA, Ch_g2_3 hP hA, Ch_g2_5 hP hA, Ch_g4_0 hP hA, Ch_g4_1 hP hA, Ch_r1 hP hA, Ch_r5 hP hA, eq_true k2, eq_true k7, eq_true k8, eq_true k9, wr_p (A := A) (f := 2) k10, we_p (A := A) (f := 2) k10, wr_p (A := A) (f := 2) (wz_lt k11), we_p (A := A) (f := 2) (wz_lt k11), z12, eq_false k13, hc]
                      · rw [if_neg k11] at e; cases e
                  · rw [if_neg k9] at e
                    have e := Option.some.inj e; subst e
                    dsimp only [Sum.elim_inl, go3719_1] at hc
                    simp -implicitDefEqProofs (disch := first | assumption | exact Nat.le_of_ble_eq_true rfl | decide) only [b3719_0, g3719_2, b3719_2, g3719_3, b3719_3, g3719_4, b3719_4, pe_null, pe_astore6, pe_sipush, pe_istore7, pe_goto_w, pe_iload7, pe_iload1, pe_icmp_ge, pe_aload0, pe_getfield, pe_saload, pe_aaload, pe_astore8, pe_aload8, pe_iload2, pe_icmp_ne, pe_iload3, pe_lload4, pe_lcmp, pe_if_gt, pe_aload6, pe_ifnull_n, pe_ifnull_r, pe_call2, pm_af_ret, pm_af_void, pm_af_thr, pe_if_eq, pe_iinc7, pe_goto, pe_areturn, pe_astoreN6, pe_aloadN0, pe_astoreN8, pe_aloadN8, pe_aloadN6, pe_aastoreN, pe_areturnN, pm_prog_1, pm_ob_some, Nat.reduceDiv, Nat.reduceMod, Nat.reduceMul, Nat.reduceAdd, Int.reduceToNat, pm_kill_i, pm_kill_r, pm_kill_n, pm_kill_j, pm_kill_l, pm_kill_d, pm_cats_nil, pm_cats_i, pm_cats_r, pm_cats_n, pm_cats_l, pm_cats_d, sz_1, sz_2, sl_1, sl_2, lc_0, lc_lt, lc_le, li_ne, va_rf, wr_m1, we_m1, pm_kill_w, Int32.reduceOfInt, Int64.reduceOfInt, Int32.reduceOfNat, Int32.reduceLT, Int32.reduceLE, Prod.mk.injEq, Nat.reduceEqDiff, reduceCtorEq, and_true, true_and, and_false, false_and, and_self, ite_true, ite_false, ↓reduceIte, not_true_eq_false, not_false_eq_true, pe_ri, pe_rz, pe_rc, Ch_g2_2 hP hA, Ch_g2_3 hP hA, Ch_g2_5 hP hA, Ch_g4_0 hP hA, Ch_g4_1 hP hA, Ch_r1 hP hA, Ch_r5 hP hA, eq_true k2, eq_true k7, eq_true k8, eq_false k9, hc]
                · rw [if_neg k8] at e
                  have e := Option.some.inj e; subst e
                  dsimp only [Sum.elim_inl, go3719_1] at hc
                  simp -implicitDefEqProofs (disch := first | assumption | exact Nat.le_of_ble_eq_true rfl | decide) only [b3719_0, g3719_2, b3719_2, g3719_3, b3719_3, g3719_4, b3719_4, pe_null, pe_astore6, pe_sipush, pe_istore7, pe_goto_w, pe_iload7, pe_iload1, pe_icmp_ge, pe_aload0, pe_getfield, pe_saload, pe_aaload, pe_astore8, pe_aload8, pe_iload2, pe_icmp_ne, pe_iload3, pe_lload4, pe_lcmp, pe_if_gt, pe_aload6, pe_ifnull_n, pe_ifnull_r, pe_call2, pm_af_ret, pm_af_void, pm_af_thr, pe_if_eq, pe_iinc7, pe_goto, pe_areturn, pe_astoreN6, pe_aloadN0, pe_astoreN8, pe_aloadN8, pe_aloadN6, pe_aastoreN, pe_areturnN, pm_prog_1, pm_ob_some, Nat.reduceDiv, Nat.reduceMod, Nat.reduceMul, Nat.reduceAdd, Int.reduceToNat, pm_kill_i, pm_kill_r, pm_kill_n, pm_kill_j, pm_kill_l, pm_kill_d, pm_cats_nil, pm_cats_i, pm_cats_r, pm_cats_n, pm_cats_l, pm_cats_d, sz_1, sz_2, sl_1, sl_2, lc_0, lc_lt, lc_le, li_ne, va_rf, wr_m1, we_m1, pm_kill_w, Int32.reduceOfInt, Int64.reduceOfInt, Int32.reduceOfNat, Int32.reduceLT, Int32.reduceLE, Prod.mk.injEq, Nat.reduceEqDiff, reduceCtorEq, and_true, true_and, and_false, false_and, and_self, ite_true, ite_false, ↓reduceIte, not_true_eq_false, not_false_eq_true, pe_ri, pe_rz, pe_rc, Ch_g2_2 hP hA, Ch_g2_3 hP hA, Ch_g2_5 hP hA, Ch_g4_0 hP hA, Ch_g4_1 hP hA, Ch_r1 hP hA, Ch_r5 hP hA, eq_true k2, eq_true k7, eq_false k8, hc]
              · rw [if_neg k7] at e
                have e := Option.some.inj e; subst e
                dsimp only [Sum.elim_inl, go3719_1] at hc
                simp -implicitDefEqProofs (disch := first | assumption | exact Nat.le_of_ble_eq_true rfl | decide) only [b3719_0, g3719_2, b3719_2, g3719_3, b3719_3, g3719_4, b3719_4, pe_null, pe_astore6, pe_sipush, pe_istore7, pe_goto_w, pe_iload7, pe_iload1, pe_icmp_ge, pe_aload0, pe_getfield, pe_saload, pe_aaload, pe_astore8, pe_aload8, pe_iload2, pe_icmp_ne, pe_iload3, pe_lload4, pe_lcmp, pe_if_gt, pe_aload6, pe_ifnull_n, pe_ifnull_r, pe_call2, pm_af_ret, pm_af_void, pm_af_thr, pe_if_eq, pe_iinc7, pe_goto, pe_areturn, pe_astoreN6, pe_aloadN0, pe_astoreN8, pe_aloadN8, pe_aloadN6, pe_aastoreN, pe_areturnN, pm_prog_1, pm_ob_some, Nat.reduceDiv, Nat.reduceMod, Nat.reduceMul, Nat.reduceAdd, Int.reduceToNat, pm_kill_i, pm_kill_r, pm_kill_n, pm_kill_j, pm_kill_l, pm_kill_d, pm_cats_nil, pm_cats_i, pm_cats_r, pm_cats_n, pm_cats_l, pm_cats_d, sz_1, sz_2, sl_1, sl_2, lc_0, lc_lt, lc_le, li_ne, va_rf, wr_m1, we_m1, pm_kill_w, Int32.reduceOfInt, Int64.reduceOfInt, Int32.reduceOfNat, Int32.reduceLT, Int32.reduceLE, Prod.mk.injEq, Nat.reduceEqDiff, reduceCtorEq, and_true, true_and, and_false, false_and, and_self, ite_true, ite_false, ↓reduceIte, not_true_eq_false, not_false_eq_true, pe_ri, pe_rz, pe_rc, Ch_g2_2 hP hA, Ch_g2_3 hP hA, Ch_g2_5 hP hA, Ch_g4_0 hP hA, Ch_g4_1 hP hA, Ch_r1 hP hA, Ch_r5 hP hA, eq_true k2, eq_false k7, hc]
            · rw [if_neg k6] at e; cases e
          · rw [if_neg k5] at e; cases e
        · rw [if_neg k4] at e; cases e
      · rw [if_neg k3] at e; cases e
    · rw [if_neg k2] at e
      have e := Option.some.inj e; subst e
      dsimp only [Sum.elim_inr, ex3719_1] at hc
      simp -implicitDefEqProofs (disch := first | assumption | exact Nat.le_of_ble_eq_true rfl | decide) only [b3719_0, g3719_2, b3719_2, g3719_3, b3719_3, g3719_4, b3719_4, pe_null, pe_astore6, pe_sipush, pe_istore7, pe_goto_w, pe_iload7, pe_iload1, pe_icmp_ge, pe_aload0, pe_getfield, pe_saload, pe_aaload, pe_astore8, pe_aload8, pe_iload2, pe_icmp_ne, pe_iload3, pe_lload4, pe_lcmp, pe_if_gt, pe_aload6, pe_ifnull_n, pe_ifnull_r, pe_call2, pm_af_ret, pm_af_void, pm_af_thr, pe_if_eq, pe_iinc7, pe_goto, pe_areturn, pe_astoreN6, pe_aloadN0, pe_astoreN8, pe_aloadN8, pe_aloadN6, pe_aastoreN, pe_areturnN, pm_prog_1, pm_ob_some, Nat.reduceDiv, Nat.reduceMod, Nat.reduceMul, Nat.reduceAdd, Int.reduceToNat, pm_kill_i, pm_kill_r, pm_kill_n, pm_kill_j, pm_kill_l, pm_kill_d, pm_cats_nil, pm_cats_i, pm_cats_r, pm_cats_n, pm_cats_l, pm_cats_d, sz_1, sz_2, sl_1, sl_2, lc_0, lc_lt, lc_le, li_ne, va_rf, wr_m1, we_m1, pm_kill_w, Int32.reduceOfInt, Int64.reduceOfInt, Int32.reduceOfNat, Int32.reduceLT, Int32.reduceLE, Prod.mk.injEq, Nat.reduceEqDiff, reduceCtorEq, and_true, true_and, and_false, false_and, and_self, ite_true, ite_false, ↓reduceIte, not_true_eq_false, not_false_eq_true, pe_ri, pe_rz, pe_rc, Ch_g2_2 hP hA, Ch_g2_3 hP hA, Ch_g2_5 hP hA, Ch_g4_0 hP hA, Ch_g4_1 hP hA, Ch_r1 hP hA, Ch_r5 hP hA, eq_false k2, hc]
  · rw [if_neg k1] at e; cases e
theorem z3719_1 {tc : Int32} {bc : Int32} {ec : Int32} {A : wK → Nat} {h : pm_H} {D : Nat} {R : Outcome × pm_H} {S : wS} (hP : Ch_P tc bc ec) (hA : wok A (Ch_d tc bc ec) h.1) (hD : 1 ≤ D) {n : Nat} {a : Int32 × Int32 × Int32 × Int32 × Int64 × Int32 × Int32} {b : (Int32)} (e : lp (f3719_b1 tc bc ec S) n a = some b) (hx : ex3719_1 tc bc ec A h D R S b) : go3719_1 tc bc ec A h D R S a := lp_run (fun a r => y3719_b1 hP hA hD a r) n a b e hx
theorem x3719 {tc : Int32} {bc : Int32} {ec : Int32} {A : wK → Nat} {h : pm_H} {D : Nat} {S : wS} {x0i : Int32} {x1 : Int32} {x2 : Int32} {x3 : Int32} {x4 : Int64} {r : Int32} (hP : Ch_P tc bc ec) (hA : wok A (Ch_d tc bc ec) h.1) (hD : 2 ≤ D) (e : f3719 tc bc ec S x0i x1 x2 x3 x4 = some r) : pm_call pm_prog D 3719 [.ref (A (4, x0i, 0)), .int x1, .int x2, .int x3, .long x4] (wput A (Ch_d tc bc ec) S h) = some (Outcome.returned (some (.ref (A (2, r, 0)))), (wput A (Ch_d tc bc ec) S h)) := by
  obtain ⟨D, rfl⟩ : ∃ D', D = D' + 1 := ⟨D - 1, by omega⟩
  have hD : 1 ≤ D := by omega
  simp only [f3719] at e
  have k1 : 0 ≤ x0i ∧ x0i < bc := by
    by_cases q : 0 ≤ x0i ∧ x0i < bc
    · exact q
    · rw [if_neg q] at e; cases e
  rw [if_pos k1] at e
  rw [c3719 (Ch_c4 hP hA k1), b3719_0]
  obtain ⟨v2i, k2, e⟩ := Option.bind_eq_some_iff.mp e
  try dsimp only at e
  try simp -implicitDefEqProofs (disch := first | assumption | exact Nat.le_of_ble_eq_true rfl | decide) only [b3719_0, g3719_2, b3719_2, g3719_3, b3719_3, g3719_4, b3719_4, pe_null, pe_astore6, pe_sipush, pe_istore7, pe_goto_w, pe_iload7, pe_iload1, pe_icmp_ge, pe_aload0, pe_getfield, pe_saload, pe_aaload, pe_astore8, pe_aload8, pe_iload2, pe_icmp_ne, pe_iload3, pe_lload4, pe_lcmp, pe_if_gt, pe_aload6, pe_ifnull_n, pe_ifnull_r, pe_call2, pm_af_ret, pm_af_void, pm_af_thr, pe_if_eq, pe_iinc7, pe_goto, pe_areturn, pe_astoreN6, pe_aloadN0, pe_astoreN8, pe_aloadN8, pe_aloadN6, pe_aastoreN, pe_areturnN, pm_prog_1, pm_ob_some, Nat.reduceDiv, Nat.reduceMod, Nat.reduceMul, Nat.reduceAdd, Int.reduceToNat, pm_kill_i, pm_kill_r, pm_kill_n, pm_kill_j, pm_kill_l, pm_kill_d, pm_cats_nil, pm_cats_i, pm_cats_r, pm_cats_n, pm_cats_l, pm_cats_d, sz_1, sz_2, sl_1, sl_2, lc_0, lc_lt, lc_le, li_ne, va_rf, wr_m1, we_m1, pm_kill_w, Int32.reduceOfInt, Int64.reduceOfInt, Int32.reduceOfNat, Int32.reduceLT, Int32.reduceLE, Prod.mk.injEq, Nat.reduceEqDiff, reduceCtorEq, and_true, true_and, and_false, false_and, and_self, ite_true, ite_false, ↓reduceIte, not_true_eq_false, not_false_eq_true, pe_ri, pe_rz, pe_rc, Ch_g2_2 hP hA, Ch_g2_3 hP hA, Ch_g2_5 hP hA, Ch_g4_0 hP hA, Ch_g4_1 hP hA, Ch_r1 hP hA, Ch_r5 hP hA]
  refine (show _ = _ → _ = _ by
    intro gg; try simp only [wr_m1] at gg
    exact gg) (z3719_1 hP hA hD k2 ?_ _)
  dsimp only [ex3719_1]
  intro q0 q1 q2 q3 q4 q5 q7 q8
  by_cases k3 : 0 ≤ v2i ∧ v2i < tc
  · rw [if_pos k3] at e
    have e := Option.some.inj e; subst e
    simp -implicitDefEqProofs (disch := first | assumption | exact Nat.le_of_ble_eq_true rfl | decide) only [b3719_0, g3719_2, b3719_2, g3719_3, b3719_3, g3719_4, b3719_4, pe_null, pe_astore6, pe_sipush, pe_istore7, pe_goto_w, pe_iload7, pe_iload1, pe_icmp_ge, pe_aload0, pe_getfield, pe_saload, pe_aaload, pe_astore8, pe_aload8, pe_iload2, pe_icmp_ne, pe_iload3, pe_lload4, pe_lcmp, pe_if_gt, pe_aload6, pe_ifnull_n, pe_ifnull_r, pe_call2, pm_af_ret, pm_af_void, pm_af_thr, pe_if_eq, pe_iinc7, pe_goto, pe_areturn, pe_astoreN6, pe_aloadN0, pe_astoreN8, pe_aloadN8, pe_aloadN6, pe_aastoreN, pe_areturnN, pm_prog_1, pm_ob_some, Nat.reduceDiv, Nat.reduceMod, Nat.reduceMul, Nat.reduceAdd, Int.reduceToNat, pm_kill_i, pm_kill_r, pm_kill_n, pm_kill_j, pm_kill_l, pm_kill_d, pm_cats_nil, pm_cats_i, pm_cats_r, pm_cats_n, pm_cats_l, pm_cats_d, sz_1, sz_2, sl_1, sl_2, lc_0, lc_lt, lc_le, li_ne, va_rf, wr_m1, we_m1, pm_kill_w, Int32.reduceOfInt, Int64.reduceOfInt, Int32.reduceOfNat, Int32.reduceLT, Int32.reduceLE, Prod.mk.injEq, Nat.reduceEqDiff, reduceCtorEq, and_true, true_and, and_false, false_and, and_self, ite_true, ite_false, ↓reduceIte, not_true_eq_false, not_false_eq_true, pe_ri, pe_rz, pe_rc, Ch_g2_2 hP hA, Ch_g2_3 hP hA, Ch_g2_5 hP hA, Ch_g4_0 hP hA, Ch_g4_1 hP hA, Ch_r1 hP hA, Ch_r5 hP hA, wr_p (A := A) (f := 2) (wz_lt k3), we_p (A := A) (f := 2) (wz_lt k3)]
  · rw [if_neg k3] at e; cases e
/-- TimberHouse$ShopDesks$Bag.isUnlike(IIJ)Z -/
theorem c3718 {d : Nat} {h : pm_H} {a : Nat} {x0 : Int32} {x1 : Int32} {x2 : Int64} (hc : pm_cls h a = some 58) : pm_call pm_prog (d + 1) 3718 [.ref a, .int x0, .int x1, .long x2] h = pm_ev pm_prog (pm_call pm_prog d) 3718 0 b3718_0 [.ref a, .int x0, .int x1, .long x2, pm_junk, pm_junk, pm_junk, pm_junk, pm_junk] [] h := pm_cal (pm_rc1 hc rfl) rfl rfl rfl
theorem g3718_1 {cl : pm_C} {ls st : List Value} {h : pm_H} : pm_go pm_prog cl 3718 1 ls st h = pm_ev pm_prog cl 3718 1 b3718_1 ls st h := pm_go_eq pm_prog cl 3718 1 ls st h
theorem g3718_2 {cl : pm_C} {ls st : List Value} {h : pm_H} : pm_go pm_prog cl 3718 2 ls st h = pm_ev pm_prog cl 3718 2 b3718_2 ls st h := pm_go_eq pm_prog cl 3718 2 ls st h
theorem g3718_3 {cl : pm_C} {ls st : List Value} {h : pm_H} : pm_go pm_prog cl 3718 3 ls st h = pm_ev pm_prog cl 3718 3 b3718_3 ls st h := pm_go_eq pm_prog cl 3718 3 ls st h
theorem g3718_4 {cl : pm_C} {ls st : List Value} {h : pm_H} : pm_go pm_prog cl 3718 4 ls st h = pm_ev pm_prog cl 3718 4 b3718_4 ls st h := pm_go_eq pm_prog cl 3718 4 ls st h
noncomputable def f3718_b1 (tc : Int32) (bc : Int32) (ec : Int32) (S : wS) : Int32 × Int32 × Int32 × Int64 × Int32 × Int32 × Int32 → Option ((Int32 × Int32 × Int32 × Int64 × Int32 × Int32 × Int32) ⊕ ((Int32))) := fun (x0i, x1, x2, x3, x5i, x6, x7) =>
  if 0 ≤ x0i ∧ x0i < bc then
    if 0 ≤ x5i ∧ x5i < tc then
      if x7 < x1 then
        if 0 ≤ x7 ∧ x7 < 300 then
          if 0 ≤ (S.1 (5, x0i, 0) x7) ∧ (S.1 (5, x0i, 0) x7) < 300 then
            if (S.1 (5, x0i, 0) x7) < tc then
              if 0 ≤ (S.1 (5, x0i, 0) x7) ∧ (S.1 (5, x0i, 0) x7) < tc then
                if (S.1 (2, (S.1 (5, x0i, 0) x7), 0) 2) = x2 then
                  if (S.1 (2, (S.1 (5, x0i, 0) x7), 0) 3) = 2 then
                    if (S.2 (2, (S.1 (5, x0i, 0) x7), 0) 5) ≤ x3 then
                      if (S.2 (2, (S.1 (5, x0i, 0) x7), 0) 4) = (S.2 (2, x5i, 0) 4) then
                        some (.inl (x0i, x1, x2, x3, x5i, (x6 ||| 0), (x7 + 1)))
                      else
                        some (.inl (x0i, x1, x2, x3, x5i, (x6 ||| 1), (x7 + 1)))
                    else
                      some (.inl (x0i, x1, x2, x3, x5i, (x6 ||| 0), (x7 + 1)))
                  else
                    some (.inl (x0i, x1, x2, x3, x5i, (x6 ||| 0), (x7 + 1)))
                else
                  some (.inl (x0i, x1, x2, x3, x5i, (x6 ||| 0), (x7 + 1)))
              else none
            else none
          else none
        else none
      else
        some (.inr x6)
    else none
  else none
/-- TimberHouse$ShopDesks$Bag.isUnlike(IIJ)Z -/
noncomputable def f3718 (tc : Int32) (bc : Int32) (ec : Int32) (S : wS) (x0i : Int32) (x1 : Int32) (x2 : Int32) (x3 : Int64) : Option (Int32) :=
  if 0 ≤ x0i ∧ x0i < bc then
    (f3719 tc bc ec S x0i x1 x2 2 x3).bind fun v1i =>
    if 0 ≤ v1i ∧ v1i < tc then
      (lp (f3718_b1 tc bc ec S) FU (x0i, x1, x2, x3, v1i, 0, 0)).bind fun v2 =>
      if v2 = 0 ∨ v2 = 1 then
        some v2
      else none
    else none
  else none
def go3718_1 (tc : Int32) (bc : Int32) (ec : Int32) (A : wK → Nat) (h : pm_H) (D : Nat) (R : Outcome × pm_H) (S : wS) : Int32 × Int32 × Int32 × Int64 × Int32 × Int32 × Int32 → Prop := fun (x0i, x1, x2, x3, x5i, x6, x7) => ∀ q8 : Value, pm_go pm_prog (pm_call pm_prog D) 3718 1 [.ref (A (4, x0i, 0)), .int x1, .int x2, .long x3, pm_junk, .ref (A (2, x5i, 0)), .int x6, .int x7, q8] [] (wput A (Ch_d tc bc ec) S h) = some R
def ex3718_1 (tc : Int32) (bc : Int32) (ec : Int32) (A : wK → Nat) (h : pm_H) (D : Nat) (R : Outcome × pm_H) (S : wS) : (Int32) → Prop := fun x6 => ∀ q0 q1 q2 q3 q4 q5 q7 q8 : Value, pm_go pm_prog (pm_call pm_prog D) 3718 4 [q0, q1, q2, q3, q4, q5, .int x6, q7, q8] [] (wput A (Ch_d tc bc ec) S h) = some R
theorem y3718_b1 {tc : Int32} {bc : Int32} {ec : Int32} {A : wK → Nat} {h : pm_H} {D : Nat} {R : Outcome × pm_H} {S : wS} (hP : Ch_P tc bc ec) (hA : wok A (Ch_d tc bc ec) h.1) (hD : 2 ≤ D) (a : Int32 × Int32 × Int32 × Int64 × Int32 × Int32 × Int32) (r : (Int32 × Int32 × Int32 × Int64 × Int32 × Int32 × Int32) ⊕ ((Int32))) (e : f3718_b1 tc bc ec S a = some r) (hc : Sum.elim (go3718_1 tc bc ec A h D R S) (ex3718_1 tc bc ec A h D R S) r) : go3718_1 tc bc ec A h D R S a := by
  obtain ⟨x0i, x1, x2, x3, x5i, x6, x7⟩ := a
  dsimp only [go3718_1]
  intro q8
  simp only [f3718_b1] at e
  rw [g3718_1, b3718_1]
  by_cases k1 : 0 ≤ x0i ∧ x0i < bc
  · rw [if_pos k1] at e
    by_cases k2 : 0 ≤ x5i ∧ x5i < tc
    · rw [if_pos k2] at e
      by_cases k3 : x7 < x1
      · rw [if_pos k3] at e
        by_cases k4 : 0 ≤ x7 ∧ x7 < 300
        · rw [if_pos k4] at e
          by_cases k5 : 0 ≤ (S.1 (5, x0i, 0) x7) ∧ (S.1 (5, x0i, 0) x7) < 300
          · rw [if_pos k5] at e
            by_cases k6 : (S.1 (5, x0i, 0) x7) < tc
            · rw [if_pos k6] at e
              by_cases k7 : 0 ≤ (S.1 (5, x0i, 0) x7) ∧ (S.1 (5, x0i, 0) x7) < tc
              · rw [if_pos k7] at e
                by_cases k8 : (S.1 (2, (S.1 (5, x0i, 0) x7), 0) 2) = x2
                · rw [if_pos k8] at e
                  by_cases k9 : (S.1 (2, (S.1 (5, x0i, 0) x7), 0) 3) = 2
                  · rw [if_pos k9] at e
                    by_cases k10 : (S.2 (2, (S.1 (5, x0i, 0) x7), 0) 5) ≤ x3
                    · rw [if_pos k10] at e
                      by_cases k11 : (S.2 (2, (S.1 (5, x0i, 0) x7), 0) 4) = (S.2 (2, x5i, 0) 4)
                      · rw [if_pos k11] at e
                        have e := Option.some.inj e; subst e
                        dsimp only [Sum.elim_inl, go3718_1] at hc
                        simp -implicitDefEqProofs (disch := first | assumption | exact Nat.le_of_ble_eq_true rfl | decide) only [b3718_0, g3718_2, b3718_2, g3718_3, b3718_3, g3718_4, b3718_4, pe_aload0, pe_iload1, pe_iload2, pe_sipush, pe_lload3, pe_call5, pm_af_ret, pm_af_void, pm_af_thr, pe_astore5, pe_istore6, pe_istore7, pe_goto_w, pe_iload7, pe_icmp_ge, pe_aload5, pe_ifnull_n, pe_ifnull_r, pe_getfield, pe_saload, pe_aaload, pe_astore8, pe_iload6, pe_aload8, pe_icmp_ne, pe_lcmp, pe_if_gt, pe_if_eq, pe_goto, pe_ior, pe_iinc7, pe_aloadN0, pe_astoreN5, pe_aloadN5, pe_astoreN8, pe_aloadN8, pe_aastoreN, pe_areturnN, pe_null, pm_prog_1, pm_ob_some, Nat.reduceDiv, Nat.reduceMod, Nat.reduceMul, Nat.reduceAdd, Int.reduceToNat, pm_kill_i, pm_kill_r, pm_kill_n, pm_kill_j, pm_kill_l, pm_kill_d, pm_cats_nil, pm_cats_i, pm_cats_r, pm_cats_n, pm_cats_l, pm_cats_d, sz_1, sz_2, sl_1, sl_2, lc_0, lc_lt, lc_le, li_ne, va_rf, wr_m1, we_m1, pm_kill_w, Int32.reduceOfInt, Int64.reduceOfInt, Int32.reduceOfNat, Int32.reduceLT, Int32.reduceLE, Prod.mk.injEq, Nat.reduceEqDiff, reduceCtorEq, and_true, true_and, and_false, false_and, and_self, ite_true, ite_false, ↓reduceIte, not_true_eq_false, not_false_eq_true, pe_ri, pe_rz, pe_rc, Ch_g2_2 hP hA, Ch_g2_3 hP hA, Ch_g2_4 hP hA, Ch_g2_5 hP hA, Ch_g4_0 hP hA, Ch_g4_1 hP hA, Ch_r1 hP hA, Ch_r5 hP hA, eq_true k3, eq_true k8, eq_true k9, eq_true k10, eq_true k11, hc]
                      · rw [if_neg k11] at e
                        have e := Option.some.inj e; subst e
                        dsimp only [Sum.elim_inl, go3718_1] at hc
                        simp -implicitDefEqProofs (disch := first | assumption | exact Nat.le_of_ble_eq_true rfl | decide) only [b3718_0, g3718_2, b3718_2, g3718_3, b3718_3, g3718_4, b3718_4, pe_aload0, pe_iload1, pe_iload2, pe_sipush, pe_lload3, pe_call5, pm_af_ret, pm_af_void, pm_af_thr, pe_astore5, pe_istore6, pe_istore7, pe_goto_w, pe_iload7, pe_icmp_ge, pe_aload5, pe_ifnull_n, pe_ifnull_r, pe_getfield, pe_saload, pe_aaload, pe_astore8, pe_iload6, pe_aload8, pe_icmp_ne, pe_lcmp, pe_if_gt, pe_if_eq, pe_goto, pe_ior, pe_iinc7, pe_aloadN0, pe_astoreN5, pe_aloadN5, pe_astoreN8, pe_aloadN8, pe_aastoreN, pe_areturnN, pe_null, pm_prog_1, pm_ob_some, Nat.reduceDiv, Nat.reduceMod, Nat.reduceMul, Nat.reduceAdd, Int.reduceToNat, pm_kill_i, pm_kill_r, pm_kill_n, pm_kill_j, pm_kill_l, pm_kill_d, pm_cats_nil, pm_cats_i, pm_cats_r, pm_cats_n, pm_cats_l, pm_cats_d, sz_1, sz_2, sl_1, sl_2, lc_0, lc_lt, lc_le, li_ne, va_rf, wr_m1, we_m1, pm_kill_w, Int32.reduceOfInt, Int64.reduceOfInt, Int32.reduceOfNat, Int32.reduceLT, Int32.reduceLE, Prod.mk.injEq, Nat.reduceEqDiff, reduceCtorEq, and_true, true_and, and_false, false_and, and_self, ite_true, ite_false, ↓reduceIte, not_true_eq_false, not_false_eq_true, pe_ri, pe_rz, pe_rc, Ch_g2_2 hP hA, Ch_g2_3 hP hA, Ch_g2_4 hP hA, Ch_g2_5 hP hA, Ch_g4_0 hP hA, Ch_g4_1 hP hA, Ch_r1 hP hA, Ch_r5 hP hA, eq_true k3, eq_true k8, eq_true k9, eq_true k10, eq_false k11, hc]
                    · rw [if_neg k10] at e
                      have e := Option.some.inj e; subst e
                      dsimp only [Sum.elim_inl, go3718_1] at hc
                      simp -implicitDefEqProofs (disch := first | assumption | exact Nat.le_of_ble_eq_true rfl | decide) only [b3718_0, g3718_2, b3718_2, g3718_3, b3718_3, g3718_4, b3718_4, pe_aload0, pe_iload1, pe_iload2, pe_sipush, pe_lload3, pe_call5, pm_af_ret, pm_af_void, pm_af_thr, pe_astore5, pe_istore6, pe_istore7, pe_goto_w, pe_iload7, pe_icmp_ge, pe_aload5, pe_ifnull_n, pe_ifnull_r, pe_getfield, pe_saload, pe_aaload, pe_astore8, pe_iload6, pe_aload8, pe_icmp_ne, pe_lcmp, pe_if_gt, pe_if_eq, pe_goto, pe_ior, pe_iinc7, pe_aloadN0, pe_astoreN5, pe_aloadN5, pe_astoreN8, pe_aloadN8, pe_aastoreN, pe_areturnN, pe_null, pm_prog_1, pm_ob_some, Nat.reduceDiv, Nat.reduceMod, Nat.reduceMul, Nat.reduceAdd, Int.reduceToNat, pm_kill_i, pm_kill_r, pm_kill_n, pm_kill_j, pm_kill_l, pm_kill_d, pm_cats_nil, pm_cats_i, pm_cats_r, pm_cats_n, pm_cats_l, pm_cats_d, sz_1, sz_2, sl_1, sl_2, lc_0, lc_lt, lc_le, li_ne, va_rf, wr_m1, we_m1, pm_kill_w, Int32.reduceOfInt, Int64.reduceOfInt, Int32.reduceOfNat, Int32.reduceLT, Int32.reduceLE, Prod.mk.injEq, Nat.reduceEqDiff, reduceCtorEq, and_true, true_and, and_false, false_and, and_self, ite_true, ite_false, ↓reduceIte, not_true_eq_false, not_false_eq_true, pe_ri, pe_rz, pe_rc, Ch_g2_2 hP hA, Ch_g2_3 hP hA, Ch_g2_4 hP hA, Ch_g2_5 hP hA, Ch_g4_0 hP hA, Ch_g4_1 hP hA, Ch_r1 hP hA, Ch_r5 hP hA, eq_true k3, eq_true k8, eq_true k9, eq_false k10, hc]
                  · rw [if_neg k9] at e
                    have e := Option.some.inj e; subst e
                    dsimp only [Sum.elim_inl, go3718_1] at hc
                    simp -implicitDefEqProofs (disch := first | assumption | exact Nat.le_of_ble_eq_true rfl | decide) only [b3718_0, g3718_2, b3718_2, g3718_3, b3718_3, g3718_4, b3718_4, pe_aload0, pe_iload1, pe_iload2, pe_sipush, pe_lload3, pe_call5, pm_af_ret, pm_af_void, pm_af_thr, pe_astore5, pe_istore6, pe_istore7, pe_goto_w, pe_iload7, pe_icmp_ge, pe_aload5, pe_ifnull_n, pe_ifnull_r, pe_getfield, pe_saload, pe_aaload, pe_astore8, pe_iload6, pe_aload8, pe_icmp_ne, pe_lcmp, pe_if_gt, pe_if_eq, pe_goto, pe_ior, pe_iinc7, pe_aloadN0, pe_astoreN5, pe_aloadN5, pe_astoreN8, pe_aloadN8, pe_aastoreN, pe_areturnN, pe_null, pm_prog_1, pm_ob_some, Nat.reduceDiv, Nat.reduceMod, Nat.reduceMul, Nat.reduceAdd, Int.reduceToNat, pm_kill_i, pm_kill_r, pm_kill_n, pm_kill_j, pm_kill_l, pm_kill_d, pm_cats_nil, pm_cats_i, pm_cats_r, pm_cats_n, pm_cats_l, pm_cats_d, sz_1, sz_2, sl_1, sl_2, lc_0, lc_lt, lc_le, li_ne, va_rf, wr_m1, we_m1, pm_kill_w, Int32.reduceOfInt, Int64.reduceOfInt, Int32.reduceOfNat, Int32.reduceLT, Int32.reduceLE, Prod.mk.injEq, Nat.reduceEqDiff, reduceCtorEq, and_true, true_and, and_false, false_and, and_self, ite_true, ite_false, ↓reduceIte, not_true_eq_false, not_false_eq_true, pe_ri, pe_rz, pe_rc, Ch_g2_2 hP hA, Ch_g2_3 hP hA, Ch_g2_4 hP hA, Ch_g2_5 hP hA, Ch_g4_0 hP hA, Ch_g4_1 hP hA, Ch_r1 hP hA, Ch_r5 hP hA, eq_true k3, eq_true k8, eq_false k9, hc]
                · rw [if_neg k8] at e
                  have e := Option.some.inj e; subst e
                  dsimp only [Sum.elim_inl, go3718_1] at hc
                  simp -implicitDefEqProofs (disch := first | assumption | exact Nat.le_of_ble_eq_true rfl | decide) only [b3718_0, g3718_2, b3718_2, g3718_3, b3718_3, g3718_4, b3718_4, pe_aload0, pe_iload1, pe_iload2, pe_sipush, pe_lload3, pe_call5, pm_af_ret, pm_af_void, pm_af_thr, pe_astore5, pe_istore6, pe_istore7, pe_goto_w, pe_iload7, pe_icmp_ge, pe_aload5, pe_ifnull_n, pe_ifnull_r, pe_getfield, pe_saload, pe_aaload, pe_astore8, pe_iload6, pe_aload8, pe_icmp_ne, pe_lcmp, pe_if_gt, pe_if_eq, pe_goto, pe_ior, pe_iinc7, pe_aloadN0, pe_astoreN5, pe_aloadN5, pe_astoreN8, pe_aloadN8, pe_aastoreN, pe_areturnN, pe_null, pm_prog_1, pm_ob_some, Nat.reduceDiv, Nat.reduceMod, Nat.reduceMul, Nat.reduceAdd, Int.reduceToNat, pm_kill_i, pm_kill_r, pm_kill_n, pm_kill_j, pm_kill_l, pm_kill_d, pm_cats_nil, pm_cats_i, pm_cats_r, pm_cats_n, pm_cats_l, pm_cats_d, sz_1, sz_2, sl_1, sl_2, lc_0, lc_lt, lc_le, li_ne, va_rf, wr_m1, we_m1, pm_kill_w, Int32.reduceOfInt, Int64.reduceOfInt, Int32.reduceOfNat, Int32.reduceLT, Int32.reduceLE, Prod.mk.injEq, Nat.reduceEqDiff, reduceCtorEq, and_true, true_and, and_false, false_and, and_self, ite_true, ite_false, ↓reduceIte, not_true_eq_false, not_false_eq_true, pe_ri, pe_rz, pe_rc, Ch_g2_2 hP hA, Ch_g2_3 hP hA, Ch_g2_4 hP hA, Ch_g2_5 hP hA, Ch_g4_0 hP hA, Ch_g4_1 hP hA, Ch_r1 hP hA, Ch_r5 hP hA, eq_true k3, eq_false k8, hc]
              · rw [if_neg k7] at e; cases e
            · rw [if_neg k6] at e; cases e
          · rw [if_neg k5] at e; cases e
        · rw [if_neg k4] at e; cases e
      · rw [if_neg k3] at e
        have e := Option.some.inj e; subst e
        dsimp only [Sum.elim_inr, ex3718_1] at hc
        simp -implicitDefEqProofs (disch := first | assumption | exact Nat.le_of_ble_eq_true rfl | decide) only [b3718_0, g3718_2, b3718_2, g3718_3, b3718_3, g3718_4, b3718_4, pe_aload0, pe_iload1, pe_iload2, pe_sipush, pe_lload3, pe_call5, pm_af_ret, pm_af_void, pm_af_thr, pe_astore5, pe_istore6, pe_istore7, pe_goto_w, pe_iload7, pe_icmp_ge, pe_aload5, pe_ifnull_n, pe_ifnull_r, pe_getfield, pe_saload, pe_aaload, pe_astore8, pe_iload6, pe_aload8, pe_icmp_ne, pe_lcmp, pe_if_gt, pe_if_eq, pe_goto, pe_ior, pe_iinc7, pe_aloadN0, pe_astoreN5, pe_aloadN5, pe_astoreN8, pe_aloadN8, pe_aastoreN, pe_areturnN, pe_null, pm_prog_1, pm_ob_some, Nat.reduceDiv, Nat.reduceMod, Nat.reduceMul, Nat.reduceAdd, Int.reduceToNat, pm_kill_i, pm_kill_r, pm_kill_n, pm_kill_j, pm_kill_l, pm_kill_d, pm_cats_nil, pm_cats_i, pm_cats_r, pm_cats_n, pm_cats_l, pm_cats_d, sz_1, sz_2, sl_1, sl_2, lc_0, lc_lt, lc_le, li_ne, va_rf, wr_m1, we_m1, pm_kill_w, Int32.reduceOfInt, Int64.reduceOfInt, Int32.reduceOfNat, Int32.reduceLT, Int32.reduceLE, Prod.mk.injEq, Nat.reduceEqDiff, reduceCtorEq, and_true, true_and, and_false, false_and, and_self, ite_true, ite_false, ↓reduceIte, not_true_eq_false, not_false_eq_true, pe_ri, pe_rz, pe_rc, Ch_g2_2 hP hA, Ch_g2_3 hP hA, Ch_g2_4 hP hA, Ch_g2_5 hP hA, Ch_g4_0 hP hA, Ch_g4_1 hP hA, Ch_r1 hP hA, Ch_r5 hP hA, eq_false k3, hc]
    · rw [if_neg k2] at e; cases e
  · rw [if_neg k1] at e; cases e
theorem z3718_1 {tc : Int32} {bc : Int32} {ec : Int32} {A : wK → Nat} {h : pm_H} {D : Nat} {R : Outcome × pm_H} {S : wS} (hP : Ch_P tc bc ec) (hA : wok A (Ch_d tc bc ec) h.1) (hD : 2 ≤ D) {n : Nat} {a : Int32 × Int32 × Int32 × Int64 × Int32 × Int32 × Int32} {b : (Int32)} (e : lp (f3718_b1 tc bc ec S) n a = some b) (hx : ex3718_1 tc bc ec A h D R S b) : go3718_1 tc bc ec A h D R S a := lp_run (fun a r => y3718_b1 hP hA hD a r) n a b e hx
theorem x3718 {tc : Int32} {bc : Int32} {ec : Int32} {A : wK → Nat} {h : pm_H} {D : Nat} {S : wS} {x0i : Int32} {x1 : Int32} {x2 : Int32} {x3 : Int64} {r : Int32} (hP : Ch_P tc bc ec) (hA : wok A (Ch_d tc bc ec) h.1) (hD : 3 ≤ D) (e : f3718 tc bc ec S x0i x1 x2 x3 = some r) : pm_call pm_prog D 3718 [.ref (A (4, x0i, 0)), .int x1, .int x2, .long x3] (wput A (Ch_d tc bc ec) S h) = some (Outcome.returned (some (.int r)), (wput A (Ch_d tc bc ec) S h)) := by
  obtain ⟨D, rfl⟩ : ∃ D', D = D' + 1 := ⟨D - 1, by omega⟩
  have hD : 2 ≤ D := by omega
  simp only [f3718] at e
  have k1 : 0 ≤ x0i ∧ x0i < bc := by
    by_cases q : 0 ≤ x0i ∧ x0i < bc
    · exact q
    · rw [if_neg q] at e; cases e
  rw [if_pos k1] at e
  rw [c3718 (Ch_c4 hP hA k1), b3718_0]
  obtain ⟨v1i, k2, e⟩ := Option.bind_eq_some_iff.mp e
  try dsimp only at e
  have z2 := x3719 (D := D) (h := h) hP hA (by omega) k2
  by_cases k3 : 0 ≤ v1i ∧ v1i < tc
  · rw [if_pos k3] at e
    obtain ⟨v2, k4, e⟩ := Option.bind_eq_some_iff.mp e
    try dsimp only at e
    try simp -implicitDefEqProofs (disch := first | assumption | exact Nat.le_of_ble_eq_true rfl | decide) only [b3718_0, g3718_2, b3718_2, g3718_3, b3718_3, g3718_4, b3718_4, pe_aload0, pe_iload1, pe_iload2, pe_sipush, pe_lload3, pe_call5, pm_af_ret, pm_af_void, pm_af_thr, pe_astore5, pe_istore6, pe_istore7, pe_goto_w, pe_iload7, pe_icmp_ge, pe_aload5, pe_ifnull_n, pe_ifnull_r, pe_getfield, pe_saload, pe_aaload, pe_astore8, pe_iload6, pe_aload8, pe_icmp_ne, pe_lcmp, pe_if_gt, pe_if_eq, pe_goto, pe_ior, pe_iinc7, pe_aloadN0, pe_astoreN5, pe_aloadN5, pe_astoreN8, pe_aloadN8, pe_aastoreN, pe_areturnN, pe_null, pm_prog_1, pm_ob_some, Nat.reduceDiv, Nat.reduceMod, Nat.reduceMul, Nat.reduceAdd, Int.reduceToNat, pm_kill_i, pm_kill_r, pm_kill_n, pm_kill_j, pm_kill_l, pm_kill_d, pm_cats_nil, pm_cats_i, pm_cats_r, pm_cats_n, pm_cats_l, pm_cats_d, sz_1, sz_2, sl_1, sl_2, lc_0, lc_lt, lc_le, li_ne, va_rf, wr_m1, we_m1, pm_kill_w, Int32.reduceOfInt, Int64.reduceOfInt, Int32.reduceOfNat, Int32.reduceLT, Int32.reduceLE, Prod.mk.injEq, Nat.reduceEqDiff, reduceCtorEq, and_true, true_and, and_false, false_and, and_self, ite_true, ite_false, ↓reduceIte, not_true_eq_false, not_false_eq_true, pe_ri, pe_rz, pe_rc, Ch_g2_2 hP hA, Ch_g2_3 hP hA, Ch_g2_4 hP hA, Ch_g2_5 hP hA, Ch_g4_0 hP hA, Ch_g4_1 hP hA, Ch_r1 hP hA, Ch_r5 hP hA, z2]
    refine z3718_1 hP hA hD k4 ?_ _
    dsimp only [ex3718_1]
    intro q0 q1 q2 q3 q4 q5 q7 q8
    by_cases k5 : v2 = 0 ∨ v2 = 1
    · rw [if_pos k5] at e
      have e := Option.some.inj e; subst e
      simp -implicitDefEqProofs (disch := first | assumption | exact Nat.le_of_ble_eq_true rfl | decide) only [b3718_0, g3718_2, b3718_2, g3718_3, b3718_3, g3718_4, b3718_4, pe_aload0, pe_iload1, pe_iload2, pe_sipush, pe_lload3, pe_call5, pm_af_ret, pm_af_void, pm_af_thr, pe_astore5, pe_istore6, pe_istore7, pe_goto_w, pe_iload7, pe_icmp_ge, pe_aload5, pe_ifnull_n, pe_ifnull_r, pe_getfield, pe_saload, pe_aaload, pe_astore8, pe_iload6, pe_aload8, pe_icmp_ne, pe_lcmp, pe_if_gt, pe_if_eq, pe_goto, pe_ior, pe_iinc7, pe_aloadN0, pe_astoreN5, pe_aloadN5, pe_astoreN8, pe_aloadN8, pe_aastoreN, pe_areturnN, pe_null, pm_prog_1, pm_ob_some, Nat.reduceDiv, Nat.reduceMod, Nat.reduceMul, Nat.reduceAdd, Int.reduceToNat, pm_kill_i, pm_kill_r, pm_kill_n, pm_kill_j, pm_kill_l, pm_kill_d, pm_cats_nil, pm_cats_i, pm_cats_r, pm_cats_n, pm_cats_l, pm_cats_d, sz_1, sz_2, sl_1, sl_2, lc_0, lc_lt, lc_le, li_ne, va_rf, wr_m1, we_m1, pm_kill_w, Int32.reduceOfInt, Int64.reduceOfInt, Int32.reduceOfNat, Int32.reduceLT, Int32.reduceLE, Prod.mk.injEq, Nat.reduceEqDiff, reduceCtorEq, and_true, true_and, and_false, false_and, and_self, ite_true, ite_false, ↓reduceIte, not_true_eq_false, not_false_eq_true, pe_ri, pe_rz, pe_rc, Ch_g2_2 hP hA, Ch_g2_3 hP hA, Ch_g2_4 hP hA, Ch_g2_5 hP hA, Ch_g4_0 hP hA, Ch_g4_1 hP hA, Ch_r1 hP hA, Ch_r5 hP hA, z2]
    · rw [if_neg k5] at e; cases e
  · rw [if_neg k3] at e; cases e
/-- TimberHouse$ShopDesks$Bag.isSettled(IIJ)Z -/
theorem c3720 {d : Nat} {h : pm_H} {a : Nat} {x0 : Int32} {x1 : Int32} {x2 : Int64} (hc : pm_cls h a = some 58) : pm_call pm_prog (d + 1) 3720 [.ref a, .int x0, .int x1, .long x2] h = pm_ev pm_prog (pm_call pm_prog d) 3720 0 b3720_0 [.ref a, .int x0, .int x1, .long x2, pm_junk, pm_junk, pm_junk] [] h := pm_cal (pm_rc1 hc rfl) rfl rfl rfl
theorem g3720_1 {cl : pm_C} {ls st : List Value} {h : pm_H} : pm_go pm_prog cl 3720 1 ls st h = pm_ev pm_prog cl 3720 1 b3720_1 ls st h := pm_go_eq pm_prog cl 3720 1 ls st h
theorem g3720_2 {cl : pm_C} {ls st : List Value} {h : pm_H} : pm_go pm_prog cl 3720 2 ls st h = pm_ev pm_prog cl 3720 2 b3720_2 ls st h := pm_go_eq pm_prog cl 3720 2 ls st h
theorem g3720_3 {cl : pm_C} {ls st : List Value} {h : pm_H} : pm_go pm_prog cl 3720 3 ls st h = pm_ev pm_prog cl 3720 3 b3720_3 ls st h := pm_go_eq pm_prog cl 3720 3 ls st h
/-- TimberHouse$ShopDesks$Bag.isSettled(IIJ)Z -/
noncomputable def f3720 (tc : Int32) (bc : Int32) (ec : Int32) (S : wS) (x0i : Int32) (x1 : Int32) (x2 : Int32) (x3 : Int64) : Option (Int32) :=
  if 0 ≤ x0i ∧ x0i < bc then
    (f3719 tc bc ec S x0i x1 x2 3 x3).bind fun v1i =>
    if 0 ≤ v1i ∧ v1i < tc then
      (f3719 tc bc ec S x0i x1 x2 2 x3).bind fun v2i =>
      if 0 ≤ v2i ∧ v2i < tc then
        if (S.2 (2, v1i, 0) 5) < (S.2 (2, v2i, 0) 5) then
          some 0
        else
          some 1
      else none
    else none
  else none
theorem x3720 {tc : Int32} {bc : Int32} {ec : Int32} {A : wK → Nat} {h : pm_H} {D : Nat} {S : wS} {x0i : Int32} {x1 : Int32} {x2 : Int32} {x3 : Int64} {r : Int32} (hP : Ch_P tc bc ec) (hA : wok A (Ch_d tc bc ec) h.1) (hD : 3 ≤ D) (e : f3720 tc bc ec S x0i x1 x2 x3 = some r) : pm_call pm_prog D 3720 [.ref (A (4, x0i, 0)), .int x1, .int x2, .long x3] (wput A (Ch_d tc bc ec) S h) = some (Outcome.returned (some (.int r)), (wput A (Ch_d tc bc ec) S h)) := by
  obtain ⟨D, rfl⟩ : ∃ D', D = D' + 1 := ⟨D - 1, by omega⟩
  have hD : 2 ≤ D := by omega
  simp only [f3720] at e
  have k1 : 0 ≤ x0i ∧ x0i < bc := by
    by_cases q : 0 ≤ x0i ∧ x0i < bc
    · exact q
    · rw [if_neg q] at e; cases e
  rw [if_pos k1] at e
  rw [c3720 (Ch_c4 hP hA k1), b3720_0]
  obtain ⟨v1i, k2, e⟩ := Option.bind_eq_some_iff.mp e
  try dsimp only at e
  have z2 := x3719 (D := D) (h := h) hP hA (by omega) k2
  by_cases k3 : 0 ≤ v1i ∧ v1i < tc
  · rw [if_pos k3] at e
    obtain ⟨v2i, k4, e⟩ := Option.bind_eq_some_iff.mp e
    try dsimp only at e
    have z4 := x3719 (D := D) (h := h) hP hA (by omega) k4
    by_cases k5 : 0 ≤ v2i ∧ v2i < tc
    · rw [if_pos k5] at e
      by_cases k6 : (S.2 (2, v1i, 0) 5) < (S.2 (2, v2i, 0) 5)
      · rw [if_pos k6] at e
        have e := Option.some.inj e; subst e
        simp -implicitDefEqProofs (disch := first | assumption | exact Nat.le_of_ble_eq_true rfl | decide) only [b3720_0, g3720_1, b3720_1, g3720_2, b3720_2, g3720_3, b3720_3, pe_aload0, pe_iload1, pe_iload2, pe_sipush, pe_lload3, pe_call5, pm_af_ret, pm_af_void, pm_af_thr, pe_astore5, pe_astore6, pe_aload5, pe_ifnull_n, pe_ifnull_r, pe_aload6, pe_getfield, pe_lcmp, pe_if_lt, pe_goto_w, pe_goto, pe_aloadN0, pe_astoreN5, pe_astoreN6, pe_aloadN5, pe_aloadN6, pe_aastoreN, pe_areturnN, pe_null, pm_prog_1, pm_ob_some, Nat.reduceDiv, Nat.reduceMod, Nat.reduceMul, Nat.reduceAdd, Int.reduceToNat, pm_kill_i, pm_kill_r, pm_kill_n, pm_kill_j, pm_kill_l, pm_kill_d, pm_cats_nil, pm_cats_i, pm_cats_r, pm_cats_n, pm_cats_l, pm_cats_d, sz_1, sz_2, sl_1, sl_2, lc_0, lc_lt, lc_le, li_ne, va_rf, wr_m1, we_m1, pm_kill_w, Int32.reduceOfInt, Int64.reduceOfInt, Int32.reduceOfNat, Int32.reduceLT, Int32.reduceLE, Prod.mk.injEq, Nat.reduceEqDiff, reduceCtorEq, and_true, true_and, and_false, false_and, and_self, ite_true, ite_false, ↓reduceIte, not_true_eq_false, not_false_eq_true, pe_ri, pe_rz, pe_rc, Ch_g2_5 hP hA, z2, z4, eq_true k6]
      · rw [if_neg k6] at e
        have e := Option.some.inj e; subst e
        simp -implicitDefEqProofs (disch := first | assumption | exact Nat.le_of_ble_eq_true rfl | decide) only [b3720_0, g3720_1, b3720_1, g3720_2, b3720_2, g3720_3, b3720_3, pe_aload0, pe_iload1, pe_iload2, pe_sipush, pe_lload3, pe_call5, pm_af_ret, pm_af_void, pm_af_thr, pe_astore5, pe_astore6, pe_aload5, pe_ifnull_n, pe_ifnull_r, pe_aload6, pe_getfield, pe_lcmp, pe_if_lt, pe_goto_w, pe_goto, pe_aloadN0, pe_astoreN5, pe_astoreN6, pe_aloadN5, pe_aloadN6, pe_aastoreN, pe_areturnN, pe_null, pm_prog_1, pm_ob_some, Nat.reduceDiv, Nat.reduceMod, Nat.reduceMul, Nat.reduceAdd, Int.reduceToNat, pm_kill_i, pm_kill_r, pm_kill_n, pm_kill_j, pm_kill_l, pm_kill_d, pm_cats_nil, pm_cats_i, pm_cats_r, pm_cats_n, pm_cats_l, pm_cats_d, sz_1, sz_2, sl_1, sl_2, lc_0, lc_lt, lc_le, li_ne, va_rf, wr_m1, we_m1, pm_kill_w, Int32.reduceOfInt, Int64.reduceOfInt, Int32.reduceOfNat, Int32.reduceLT, Int32.reduceLE, Prod.mk.injEq, Nat.reduceEqDiff, reduceCtorEq, and_true, true_and, and_false, false_and, and_self, ite_true, ite_false, ↓reduceIte, not_true_eq_false, not_false_eq_true, pe_ri, pe_rz, pe_rc, Ch_g2_5 hP hA, z2, z4, eq_false k6]
    · rw [if_neg k5] at e; cases e
  · rw [if_neg k3] at e; cases e
/-- TimberHouse$ShopDesks$Bag.conflicts(IIJ)Z -/
theorem c3717 {d : Nat} {h : pm_H} {a : Nat} {x0 : Int32} {x1 : Int32} {x2 : Int64} (hc : pm_cls h a = some 58) : pm_call pm_prog (d + 1) 3717 [.ref a, .int x0, .int x1, .long x2] h = pm_ev pm_prog (pm_call pm_prog d) 3717 0 b3717_0 [.ref a, .int x0, .int x1, .long x2, pm_junk] [] h := pm_cal (pm_rc1 hc rfl) rfl rfl rfl
theorem g3717_1 {cl : pm_C} {ls st : List Value} {h : pm_H} : pm_go pm_prog cl 3717 1 ls st h = pm_ev pm_prog cl 3717 1 b3717_1 ls st h := pm_go_eq pm_prog cl 3717 1 ls st h
theorem g3717_2 {cl : pm_C} {ls st : List Value} {h : pm_H} : pm_go pm_prog cl 3717 2 ls st h = pm_ev pm_prog cl 3717 2 b3717_2 ls st h := pm_go_eq pm_prog cl 3717 2 ls st h
/-- TimberHouse$ShopDesks$Bag.conflicts(IIJ)Z -/
noncomputable def f3717 (tc : Int32) (bc : Int32) (ec : Int32) (S : wS) (x0i : Int32) (x1 : Int32) (x2 : Int32) (x3 : Int64) : Option (Int32) :=
  if 0 ≤ x0i ∧ x0i < bc then
    (f3718 tc bc ec S x0i x1 x2 x3).bind fun v1 =>
    if v1 = 0 then
      some 0
    else
      (f3720 tc bc ec S x0i x1 x2 x3).bind fun v2 =>
      if v2 = 0 then
        some 1
      else
        some 0
  else none
theorem x3717 {tc : Int32} {bc : Int32} {ec : Int32} {A : wK → Nat} {h : pm_H} {D : Nat} {S : wS} {x0i : Int32} {x1 : Int32} {x2 : Int32} {x3 : Int64} {r : Int32} (hP : Ch_P tc bc ec) (hA : wok A (Ch_d tc bc ec) h.1) (hD : 4 ≤ D) (e : f3717 tc bc ec S x0i x1 x2 x3 = some r) : pm_call pm_prog D 3717 [.ref (A (4, x0i, 0)), .int x1, .int x2, .long x3] (wput A (Ch_d tc bc ec) S h) = some (Outcome.returned (some (.int r)), (wput A (Ch_d tc bc ec) S h)) := by
  obtain ⟨D, rfl⟩ : ∃ D', D = D' + 1 := ⟨D - 1, by omega⟩
  have hD : 3 ≤ D := by omega
  simp only [f3717] at e
  have k1 : 0 ≤ x0i ∧ x0i < bc := by
    by_cases q : 0 ≤ x0i ∧ x0i < bc
    · exact q
    · rw [if_neg q] at e; cases e
  rw [if_pos k1] at e
  rw [c3717 (Ch_c4 hP hA k1), b3717_0]
  obtain ⟨v1, k2, e⟩ := Option.bind_eq_some_iff.mp e
  try dsimp only at e
  have z2 := x3718 (D := D) (h := h) hP hA (by omega) k2
  by_cases k3 : v1 = 0
  · rw [if_pos k3] at e
    have e := Option.some.inj e; subst e
    simp -implicitDefEqProofs (disch := first | assumption | exact Nat.le_of_ble_eq_true rfl | decide) only [b3717_0, g3717_1, b3717_1, g3717_2, b3717_2, pe_aload0, pe_iload1, pe_iload2, pe_lload3, pe_call4, pm_af_ret, pm_af_void, pm_af_thr, pe_if_eq, pe_if_ne, pe_sipush, pe_goto, pe_goto_w, pe_aloadN0, pe_aastoreN, pe_areturnN, pe_null, pm_prog_1, pm_ob_some, Nat.reduceDiv, Nat.reduceMod, Nat.reduceMul, Nat.reduceAdd, Int.reduceToNat, pm_kill_i, pm_kill_r, pm_kill_n, pm_kill_j, pm_kill_l, pm_kill_d, pm_cats_nil, pm_cats_i, pm_cats_r, pm_cats_n, pm_cats_l, pm_cats_d, sz_1, sz_2, sl_1, sl_2, lc_0, lc_lt, lc_le, li_ne, va_rf, wr_m1, we_m1, pm_kill_w, Int32.reduceOfInt, Int64.reduceOfInt, Int32.reduceOfNat, Int32.reduceLT, Int32.reduceLE, Prod.mk.injEq, Nat.reduceEqDiff, reduceCtorEq, and_true, true_and, and_false, false_and, and_self, ite_true, ite_false, ↓reduceIte, not_true_eq_false, not_false_eq_true, pe_ri, pe_rz, pe_rc, z2, eq_true k3]
  · rw [if_neg k3] at e
    obtain ⟨v2, k4, e⟩ := Option.bind_eq_some_iff.mp e
    try dsimp only at e
    have z4 := x3720 (D := D) (h := h) hP hA (by omega) k4
    by_cases k5 : v2 = 0
    · rw [if_pos k5] at e
      have e := Option.some.inj e; subst e
      simp -implicitDefEqProofs (disch := first | assumption | exact Nat.le_of_ble_eq_true rfl | decide) only [b3717_0, g3717_1, b3717_1, g3717_2, b3717_2, pe_aload0, pe_iload1, pe_iload2, pe_lload3, pe_call4, pm_af_ret, pm_af_void, pm_af_thr, pe_if_eq, pe_if_ne, pe_sipush, pe_goto, pe_goto_w, pe_aloadN0, pe_aastoreN, pe_areturnN, pe_null, pm_prog_1, pm_ob_some, Nat.reduceDiv, Nat.reduceMod, Nat.reduceMul, Nat.reduceAdd, Int.reduceToNat, pm_kill_i, pm_kill_r, pm_kill_n, pm_kill_j, pm_kill_l, pm_kill_d, pm_cats_nil, pm_cats_i, pm_cats_r, pm_cats_n, pm_cats_l, pm_cats_d, sz_1, sz_2, sl_1, sl_2, lc_0, lc_lt, lc_le, li_ne, va_rf, wr_m1, we_m1, pm_kill_w, Int32.reduceOfInt, Int64.reduceOfInt, Int32.reduceOfNat, Int32.reduceLT, Int32.reduceLE, Prod.mk.injEq, Nat.reduceEqDiff, reduceCtorEq, and_true, true_and, and_false, false_and, and_self, ite_true, ite_false, ↓reduceIte, not_true_eq_false, not_false_eq_true, pe_ri, pe_rz, pe_rc, z2, eq_false k3, z4, eq_true k5]
    · rw [if_neg k5] at e
      have e := Option.some.inj e; subst e
      simp -implicitDefEqProofs (disch := first | assumption | exact Nat.le_of_ble_eq_true rfl | decide) only [b3717_0, g3717_1, b3717_1, g3717_2, b3717_2, pe_aload0, pe_iload1, pe_iload2, pe_lload3, pe_call4, pm_af_ret, pm_af_void, pm_af_thr, pe_if_eq, pe_if_ne, pe_sipush, pe_goto, pe_goto_w, pe_aloadN0, pe_aastoreN, pe_areturnN, pe_null, pm_prog_1, pm_ob_some, Nat.reduceDiv, Nat.reduceMod, Nat.reduceMul, Nat.reduceAdd, Int.reduceToNat, pm_kill_i, pm_kill_r, pm_kill_n, pm_kill_j, pm_kill_l, pm_kill_d, pm_cats_nil, pm_cats_i, pm_cats_r, pm_cats_n, pm_cats_l, pm_cats_d, sz_1, sz_2, sl_1, sl_2, lc_0, lc_lt, lc_le, li_ne, va_rf, wr_m1, we_m1, pm_kill_w, Int32.reduceOfInt, Int64.reduceOfInt, Int32.reduceOfNat, Int32.reduceLT, Int32.reduceLE, Prod.mk.injEq, Nat.reduceEqDiff, reduceCtorEq, and_true, true_and, and_false, false_and, and_self, ite_true, ite_false, ↓reduceIte, not_true_eq_false, not_false_eq_true, pe_ri, pe_rz, pe_rc, z2, eq_false k3, z4, eq_false k5]
/-- TimberHouse$ShopDesks$Bag.known(IIIJ)J -/
theorem c3715 {d : Nat} {h : pm_H} {a : Nat} {x0 : Int32} {x1 : Int32} {x2 : Int32} {x3 : Int64} (hc : pm_cls h a = some 58) : pm_call pm_prog (d + 1) 3715 [.ref a, .int x0, .int x1, .int x2, .long x3] h = pm_ev pm_prog (pm_call pm_prog d) 3715 0 b3715_0 [.ref a, .int x0, .int x1, .int x2, .long x3, pm_junk, pm_junk, pm_junk] [] h := pm_cal (pm_rc1 hc rfl) rfl rfl rfl
theorem g3715_1 {cl : pm_C} {ls st : List Value} {h : pm_H} : pm_go pm_prog cl 3715 1 ls st h = pm_ev pm_prog cl 3715 1 b3715_1 ls st h := pm_go_eq pm_prog cl 3715 1 ls st h
theorem g3715_2 {cl : pm_C} {ls st : List Value} {h : pm_H} : pm_go pm_prog cl 3715 2 ls st h = pm_ev pm_prog cl 3715 2 b3715_2 ls st h := pm_go_eq pm_prog cl 3715 2 ls st h
theorem g3715_3 {cl : pm_C} {ls st : List Value} {h : pm_H} : pm_go pm_prog cl 3715 3 ls st h = pm_ev pm_prog cl 3715 3 b3715_3 ls st h := pm_go_eq pm_prog cl 3715 3 ls st h
theorem g3715_4 {cl : pm_C} {ls st : List Value} {h : pm_H} : pm_go pm_prog cl 3715 4 ls st h = pm_ev pm_prog cl 3715 4 b3715_4 ls st h := pm_go_eq pm_prog cl 3715 4 ls st h
theorem g3715_5 {cl : pm_C} {ls st : List Value} {h : pm_H} : pm_go pm_prog cl 3715 5 ls st h = pm_ev pm_prog cl 3715 5 b3715_5 ls st h := pm_go_eq pm_prog cl 3715 5 ls st h
theorem g3715_6 {cl : pm_C} {ls st : List Value} {h : pm_H} : pm_go pm_prog cl 3715 6 ls st h = pm_ev pm_prog cl 3715 6 b3715_6 ls st h := pm_go_eq pm_prog cl 3715 6 ls st h
theorem g3715_7 {cl : pm_C} {ls st : List Value} {h : pm_H} : pm_go pm_prog cl 3715 7 ls st h = pm_ev pm_prog cl 3715 7 b3715_7 ls st h := pm_go_eq pm_prog cl 3715 7 ls st h
theorem g3715_8 {cl : pm_C} {ls st : List Value} {h : pm_H} : pm_go pm_prog cl 3715 8 ls st h = pm_ev pm_prog cl 3715 8 b3715_8 ls st h := pm_go_eq pm_prog cl 3715 8 ls st h
noncomputable def f3715_6 (tc : Int32) (bc : Int32) (ec : Int32) (S : wS) (x4 : Int64) (y0i : Int32) (y1 : Int32) (y2 : Int32) (y3 : Int32) : Option (Int64) :=
  if 0 ≤ y0i ∧ y0i < bc then
    (f3719 tc bc ec S y0i y1 y2 y3 x4).bind fun v4i =>
    if 0 ≤ v4i ∧ v4i < tc then
      some (S.2 (2, v4i, 0) 4)
    else none
  else none
noncomputable def f3715_4 (tc : Int32) (bc : Int32) (ec : Int32) (S : wS) (x0i : Int32) (x1 : Int32) (x2 : Int32) (x3 : Int32) (x4 : Int64) (y0 : Int32) : Option (Int64) :=
  if 0 ≤ x0i ∧ x0i < bc then
    if y0 = 0 then
      f3715_6 tc bc ec S x4 x0i x1 x2 x3
    else
      f3715_6 tc bc ec S x4 x0i x1 x2 3
  else none
noncomputable def f3715_2 (tc : Int32) (bc : Int32) (ec : Int32) (S : wS) (x0i : Int32) (x1 : Int32) (x2 : Int32) (x3 : Int32) (x4 : Int64) : Option (Int64) :=
  if 0 ≤ x0i ∧ x0i < bc then
    if x3 = 2 then
      (f3720 tc bc ec S x0i x1 x2 x4).bind fun v3 =>
      if v3 = 0 then
        f3715_4 tc bc ec S x0i x1 x2 x3 x4 0
      else
        f3715_4 tc bc ec S x0i x1 x2 x3 x4 1
    else
      f3715_4 tc bc ec S x0i x1 x2 x3 x4 0
  else none
/-- TimberHouse$ShopDesks$Bag.known(IIIJ)J -/
noncomputable def f3715 (tc : Int32) (bc : Int32) (ec : Int32) (S : wS) (x0i : Int32) (x1 : Int32) (x2 : Int32) (x3 : Int32) (x4 : Int64) : Option (Int64) :=
  if 0 ≤ x0i ∧ x0i < bc then
    if x3 = 0 then
      (f3716 tc bc ec S x0i x1 x2 x4).bind fun v1 =>
      some v1
    else
      if x3 = 2 then
        (f3717 tc bc ec S x0i x1 x2 x4).bind fun v2 =>
        if v2 = 0 then
          f3715_2 tc bc ec S x0i x1 x2 x3 x4
        else
          some 0
      else
        f3715_2 tc bc ec S x0i x1 x2 x3 x4
  else none
theorem y3715_6 {tc : Int32} {bc : Int32} {ec : Int32} {A : wK → Nat} {h : pm_H} {D : Nat} {S : wS} {x4 : Int64} {y0i : Int32} {y1 : Int32} {y2 : Int32} {y3 : Int32} {r : Int64} (hP : Ch_P tc bc ec) (hA : wok A (Ch_d tc bc ec) h.1) (hD : 4 ≤ D) (e : f3715_6 tc bc ec S x4 y0i y1 y2 y3 = some r) : ∀ q0 q1 q2 q3 q6 q7 : Value, pm_go pm_prog (pm_call pm_prog D) 3715 6 [q0, q1, q2, q3, .long x4, pm_junk, q6, q7] [.int y3, .int y2, .int y1, .ref (A (4, y0i, 0))] (wput A (Ch_d tc bc ec) S h) = some (Outcome.returned (some (.long r)), (wput A (Ch_d tc bc ec) S h)) := by
  intro q0 q1 q2 q3 q6 q7
  simp only [f3715_6] at e
  rw [g3715_6, b3715_6]
  by_cases k1 : 0 ≤ y0i ∧ y0i < bc
  · rw [if_pos k1] at e
    obtain ⟨v4i, k2, e⟩ := Option.bind_eq_some_iff.mp e
    try dsimp only at e
    have z2 := x3719 (D := D) (h := h) hP hA (by omega) k2
    by_cases k3 : 0 ≤ v4i ∧ v4i < tc
    · rw [if_pos k3] at e
      have e := Option.some.inj e; subst e
      simp -implicitDefEqProofs (disch := first | assumption | exact Nat.le_of_ble_eq_true rfl | decide) only [b3715_0, g3715_1, b3715_1, g3715_3, b3715_3, g3715_5, b3715_5, g3715_7, b3715_7, g3715_8, b3715_8, pe_iload3, pe_if_ne, pe_aload0, pe_iload1, pe_iload2, pe_lload4, pe_call4, pm_af_ret, pm_af_void, pm_af_thr, pe_lreturn, pe_sipush, pe_icmp_ne, pe_if_eq, pe_bipush, pe_goto, pe_goto_w, pe_istore6, pe_iload6, pe_call5, pe_astore7, pe_aload7, pe_ifnonnull_n, pe_ifnonnull_r, pe_getfield, pe_aloadN0, pe_astoreN7, pe_aloadN7, pe_aastoreN, pe_areturnN, pe_null, pm_prog_1, pm_ob_some, Nat.reduceDiv, Nat.reduceMod, Nat.reduceMul, Nat.reduceAdd, Int.reduceToNat, pm_kill_i, pm_kill_r, pm_kill_n, pm_kill_j, pm_kill_l, pm_kill_d, pm_cats_nil, pm_cats_i, pm_cats_r, pm_cats_n, pm_cats_l, pm_cats_d, sz_1, sz_2, sl_1, sl_2, lc_0, lc_lt, lc_le, li_ne, va_rf, wr_m1, we_m1, pm_kill_w, Int32.reduceOfInt, Int64.reduceOfInt, Int32.reduceOfNat, Int32.reduceLT, Int32.reduceLE, Prod.mk.injEq, Nat.reduceEqDiff, reduceCtorEq, and_true, true_and, and_false, false_and, and_self, ite_true, ite_false, ↓reduceIte, not_true_eq_false, not_false_eq_true, pe_ri, pe_rz, pe_rc, Ch_g2_4 hP hA, z2]
    · rw [if_neg k3] at e; cases e
  · rw [if_neg k1] at e; cases e
theorem y3715_4 {tc : Int32} {bc : Int32} {ec : Int32} {A : wK → Nat} {h : pm_H} {D : Nat} {S : wS} {x0i : Int32} {x1 : Int32} {x2 : Int32} {x3 : Int32} {x4 : Int64} {y0 : Int32} {r : Int64} (hP : Ch_P tc bc ec) (hA : wok A (Ch_d tc bc ec) h.1) (hD : 4 ≤ D) (e : f3715_4 tc bc ec S x0i x1 x2 x3 x4 y0 = some r) : ∀ q6 q7 : Value, pm_go pm_prog (pm_call pm_prog D) 3715 4 [.ref (A (4, x0i, 0)), .int x1, .int x2, .int x3, .long x4, pm_junk, q6, q7] [.int y0] (wput A (Ch_d tc bc ec) S h) = some (Outcome.returned (some (.long r)), (wput A (Ch_d tc bc ec) S h)) := by
  intro q6 q7
  simp only [f3715_4] at e
  rw [g3715_4, b3715_4]
  by_cases k1 : 0 ≤ x0i ∧ x0i < bc
  · rw [if_pos k1] at e
    by_cases k2 : y0 = 0
    · rw [if_pos k2] at e
      have k3 := y3715_6 (h := h) hP hA hD e
      simp -implicitDefEqProofs (disch := first | assumption | exact Nat.le_of_ble_eq_true rfl | decide) only [b3715_0, g3715_1, b3715_1, g3715_3, b3715_3, g3715_5, b3715_5, g3715_7, b3715_7, g3715_8, b3715_8, pe_iload3, pe_if_ne, pe_aload0, pe_iload1, pe_iload2, pe_lload4, pe_call4, pm_af_ret, pm_af_void, pm_af_thr, pe_lreturn, pe_sipush, pe_icmp_ne, pe_if_eq, pe_bipush, pe_goto, pe_goto_w, pe_istore6, pe_iload6, pe_call5, pe_astore7, pe_aload7, pe_ifnonnull_n, pe_ifnonnull_r, pe_getfield, pe_aloadN0, pe_astoreN7, pe_aloadN7, pe_aastoreN, pe_areturnN, pe_null, pm_prog_1, pm_ob_some, Nat.reduceDiv, Nat.reduceMod, Nat.reduceMul, Nat.reduceAdd, Int.reduceToNat, pm_kill_i, pm_kill_r, pm_kill_n, pm_kill_j, pm_kill_l, pm_kill_d, pm_cats_nil, pm_cats_i, pm_cats_r, pm_cats_n, pm_cats_l, pm_cats_d, sz_1, sz_2, sl_1, sl_2, lc_0, lc_lt, lc_le, li_ne, va_rf, wr_m1, we_m1, pm_kill_w, Int32.reduceOfInt, Int64.reduceOfInt, Int32.reduceOfNat, Int32.reduceLT, Int32.reduceLE, Prod.mk.injEq, Nat.reduceEqDiff, reduceCtorEq, and_true, true_and, and_false, false_and, and_self, ite_true, ite_false, ↓reduceIte, not_true_eq_false, not_false_eq_true, pe_ri, pe_rz, pe_rc, Ch_g2_4 hP hA, eq_true k2, k3]
    · rw [if_neg k2] at e
      have k4 := y3715_6 (h := h) hP hA hD e
      simp -implicitDefEqProofs (disch := first | assumption | exact Nat.le_of_ble_eq_true rfl | decide) only [b3715_0, g3715_1, b3715_1, g3715_3, b3715_3, g3715_5, b3715_5, g3715_7, b3715_7, g3715_8, b3715_8, pe_iload3, pe_if_ne, pe_aload0, pe_iload1, pe_iload2, pe_lload4, pe_call4, pm_af_ret, pm_af_void, pm_af_thr, pe_lreturn, pe_sipush, pe_icmp_ne, pe_if_eq, pe_bipush, pe_goto, pe_goto_w, pe_istore6, pe_iload6, pe_call5, pe_astore7, pe_aload7, pe_ifnonnull_n, pe_ifnonnull_r, pe_getfield, pe_aloadN0, pe_astoreN7, pe_aloadN7, pe_aastoreN, pe_areturnN, pe_null, pm_prog_1, pm_ob_some, Nat.reduceDiv, Nat.reduceMod, Nat.reduceMul, Nat.reduceAdd, Int.reduceToNat, pm_kill_i, pm_kill_r, pm_kill_n, pm_kill_j, pm_kill_l, pm_kill_d, pm_cats_nil, pm_cats_i, pm_cats_r, pm_cats_n, pm_cats_l, pm_cats_d, sz_1, sz_2, sl_1, sl_2, lc_0, lc_lt, lc_le, li_ne, va_rf, wr_m1, we_m1, pm_kill_w, Int32.reduceOfInt, Int64.reduceOfInt, Int32.reduceOfNat, Int32.reduceLT, Int32.reduceLE, Prod.mk.injEq, Nat.reduceEqDiff, reduceCtorEq, and_true, true_and, and_false, false_and, and_self, ite_true, ite_false, ↓reduceIte, not_true_eq_false, not_false_eq_true, pe_ri, pe_rz, pe_rc, Ch_g2_4 hP hA, eq_false k2, k4]
  · rw [if_neg k1] at e; cases e
theorem y3715_2 {tc : Int32} {bc : Int32} {ec : Int32} {A : wK → Nat} {h : pm_H} {D : Nat} {S : wS} {x0i : Int32} {x1 : Int32} {x2 : Int32} {x3 : Int32} {x4 : Int64} {r : Int64} (hP : Ch_P tc bc ec) (hA : wok A (Ch_d tc bc ec) h.1) (hD : 4 ≤ D) (e : f3715_2 tc bc ec S x0i x1 x2 x3 x4 = some r) : ∀ q6 q7 : Value, pm_go pm_prog (pm_call pm_prog D) 3715 2 [.ref (A (4, x0i, 0)), .int x1, .int x2, .int x3, .long x4, pm_junk, q6, q7] [] (wput A (Ch_d tc bc ec) S h) = some (Outcome.returned (some (.long r)), (wput A (Ch_d tc bc ec) S h)) := by
  intro q6 q7
  simp only [f3715_2] at e
  rw [g3715_2, b3715_2]
  by_cases k1 : 0 ≤ x0i ∧ x0i < bc
  · rw [if_pos k1] at e
    by_cases k2 : x3 = 2
    · rw [if_pos k2] at e
      obtain ⟨v3, k3, e⟩ := Option.bind_eq_some_iff.mp e
      try dsimp only at e
      have z3 := x3720 (D := D) (h := h) hP hA (by omega) k3
      by_cases k4 : v3 = 0
      · rw [if_pos k4] at e
        have k5 := y3715_4 (h := h) hP hA hD e
        simp -implicitDefEqProofs (disch := first | assumption | exact Nat.le_of_ble_eq_true rfl | decide) only [b3715_0, g3715_1, b3715_1, g3715_3, b3715_3, g3715_5, b3715_5, g3715_7, b3715_7, g3715_8, b3715_8, pe_iload3, pe_if_ne, pe_aload0, pe_iload1, pe_iload2, pe_lload4, pe_call4, pm_af_ret, pm_af_void, pm_af_thr, pe_lreturn, pe_sipush, pe_icmp_ne, pe_if_eq, pe_bipush, pe_goto, pe_goto_w, pe_istore6, pe_iload6, pe_call5, pe_astore7, pe_aload7, pe_ifnonnull_n, pe_ifnonnull_r, pe_getfield, pe_aloadN0, pe_astoreN7, pe_aloadN7, pe_aastoreN, pe_areturnN, pe_null, pm_prog_1, pm_ob_some, Nat.reduceDiv, Nat.reduceMod, Nat.reduceMul, Nat.reduceAdd, Int.reduceToNat, pm_kill_i, pm_kill_r, pm_kill_n, pm_kill_j, pm_kill_l, pm_kill_d, pm_cats_nil, pm_cats_i, pm_cats_r, pm_cats_n, pm_cats_l, pm_cats_d, sz_1, sz_2, sl_1, sl_2, lc_0, lc_lt, lc_le, li_ne, va_rf, wr_m1, we_m1, pm_kill_w, Int32.reduceOfInt, Int64.reduceOfInt, Int32.reduceOfNat, Int32.reduceLT, Int32.reduceLE, Prod.mk.injEq, Nat.reduceEqDiff, reduceCtorEq, and_true, true_and, and_false, false_and, and_self, ite_true, ite_false, ↓reduceIte, not_true_eq_false, not_false_eq_true, pe_ri, pe_rz, pe_rc, Ch_g2_4 hP hA, eq_true k2, z3, eq_true k4, k5]
      · rw [if_neg k4] at e
        have k6 := y3715_4 (h := h) hP hA hD e
        simp -implicitDefEqProofs (disch := first | assumption | exact Nat.le_of_ble_eq_true rfl | decide) only [b3715_0, g3715_1, b3715_1, g3715_3, b3715_3, g3715_5, b3715_5, g3715_7, b3715_7, g3715_8, b3715_8, pe_iload3, pe_if_ne, pe_aload0, pe_iload1, pe_iload2, pe_lload4, pe_call4, pm_af_ret, pm_af_void, pm_af_thr, pe_lreturn, pe_sipush, pe_icmp_ne, pe_if_eq, pe_bipush, pe_goto, pe_goto_w, pe_istore6, pe_iload6, pe_call5, pe_astore7, pe_aload7, pe_ifnonnull_n, pe_ifnonnull_r, pe_getfield, pe_aloadN0, pe_astoreN7, pe_aloadN7, pe_aastoreN, pe_areturnN, pe_null, pm_prog_1, pm_ob_some, Nat.reduceDiv, Nat.reduceMod, Nat.reduceMul, Nat.reduceAdd, Int.reduceToNat, pm_kill_i, pm_kill_r, pm_kill_n, pm_kill_j, pm_kill_l, pm_kill_d, pm_cats_nil, pm_cats_i, pm_cats_r, pm_cats_n, pm_cats_l, pm_cats_d, sz_1, sz_2, sl_1, sl_2, lc_0, lc_lt, lc_le, li_ne, va_rf, wr_m1, we_m1, pm_kill_w, Int32.reduceOfInt, Int64.reduceOfInt, Int32.reduceOfNat, Int32.reduceLT, Int32.reduceLE, Prod.mk.injEq, Nat.reduceEqDiff, reduceCtorEq, and_true, true_and, and_false, false_and, and_self, ite_true, ite_false, ↓reduceIte, not_true_eq_false, not_false_eq_true, pe_ri, pe_rz, pe_rc, Ch_g2_4 hP hA, eq_true k2, z3, eq_false k4, k6]
    · rw [if_neg k2] at e
      have k7 := y3715_4 (h := h) hP hA hD e
      simp -implicitDefEqProofs (disch := first | assumption | exact Nat.le_of_ble_eq_true rfl | decide) only [b3715_0, g3715_1, b3715_1, g3715_3, b3715_3, g3715_5, b3715_5, g3715_7, b3715_7, g3715_8, b3715_8, pe_iload3, pe_if_ne, pe_aload0, pe_iload1, pe_iload2, pe_lload4, pe_call4, pm_af_ret, pm_af_void, pm_af_thr, pe_lreturn, pe_sipush, pe_icmp_ne, pe_if_eq, pe_bipush, pe_goto, pe_goto_w, pe_istore6, pe_iload6, pe_call5, pe_astore7, pe_aload7, pe_ifnonnull_n, pe_ifnonnull_r, pe_getfield, pe_aloadN0, pe_astoreN7, pe_aloadN7, pe_aastoreN, pe_areturnN, pe_null, pm_prog_1, pm_ob_some, Nat.reduceDiv, Nat.reduceMod, Nat.reduceMul, Nat.reduceAdd, Int.reduceToNat, pm_kill_i, pm_kill_r, pm_kill_n, pm_kill_j, pm_kill_l, pm_kill_d, pm_cats_nil, pm_cats_i, pm_cats_r, pm_cats_n, pm_cats_l, pm_cats_d, sz_1, sz_2, sl_1, sl_2, lc_0, lc_lt, lc_le, li_ne, va_rf, wr_m1, we_m1, pm_kill_w, Int32.reduceOfInt, Int64.reduceOfInt, Int32.reduceOfNat, Int32.reduceLT, Int32.reduceLE, Prod.mk.injEq, Nat.reduceEqDiff, reduceCtorEq, and_true, true_and, and_false, false_and, and_self, ite_true, ite_false, ↓reduceIte, not_true_eq_false, not_false_eq_true, pe_ri, pe_rz, pe_rc, Ch_g2_4 hP hA, eq_false k2, k7]
  · rw [if_neg k1] at e; cases e
theorem x3715 {tc : Int32} {bc : Int32} {ec : Int32} {A : wK → Nat} {h : pm_H} {D : Nat} {S : wS} {x0i : Int32} {x1 : Int32} {x2 : Int32} {x3 : Int32} {x4 : Int64} {r : Int64} (hP : Ch_P tc bc ec) (hA : wok A (Ch_d tc bc ec) h.1) (hD : 5 ≤ D) (e : f3715 tc bc ec S x0i x1 x2 x3 x4 = some r) : pm_call pm_prog D 3715 [.ref (A (4, x0i, 0)), .int x1, .int x2, .int x3, .long x4] (wput A (Ch_d tc bc ec) S h) = some (Outcome.returned (some (.long r)), (wput A (Ch_d tc bc ec) S h)) := by
  obtain ⟨D, rfl⟩ : ∃ D', D = D' + 1 := ⟨D - 1, by omega⟩
  have hD : 4 ≤ D := by omega
  simp only [f3715] at e
  have k1 : 0 ≤ x0i ∧ x0i < bc := by
    by_cases q : 0 ≤ x0i ∧ x0i < bc
    · exact q
    · rw [if_neg q] at e; cases e
  rw [if_pos k1] at e
  rw [c3715 (Ch_c4 hP hA k1), b3715_0]
  by_cases k2 : x3 = 0
  · rw [if_pos k2] at e
    obtain ⟨v1, k3, e⟩ := Option.bind_eq_some_iff.mp e
    try dsimp only at e
    have z3 := x3716 (D := D) (h := h) hP hA (by omega) k3
    have e := Option.some.inj e; subst e
    simp -implicitDefEqProofs (disch := first | assumption | exact Nat.le_of_ble_eq_true rfl | decide) only [b3715_0, g3715_1, b3715_1, g3715_3, b3715_3, g3715_5, b3715_5, g3715_7, b3715_7, g3715_8, b3715_8, pe_iload3, pe_if_ne, pe_aload0, pe_iload1, pe_iload2, pe_lload4, pe_call4, pm_af_ret, pm_af_void, pm_af_thr, pe_lreturn, pe_sipush, pe_icmp_ne, pe_if_eq, pe_bipush, pe_goto, pe_goto_w, pe_istore6, pe_iload6, pe_call5, pe_astore7, pe_aload7, pe_ifnonnull_n, pe_ifnonnull_r, pe_getfield, pe_aloadN0, pe_astoreN7, pe_aloadN7, pe_aastoreN, pe_areturnN, pe_null, pm_prog_1, pm_ob_some, Nat.reduceDiv, Nat.reduceMod, Nat.reduceMul, Nat.reduceAdd, Int.reduceToNat, pm_kill_i, pm_kill_r, pm_kill_n, pm_kill_j, pm_kill_l, pm_kill_d, pm_cats_nil, pm_cats_i, pm_cats_r, pm_cats_n, pm_cats_l, pm_cats_d, sz_1, sz_2, sl_1, sl_2, lc_0, lc_lt, lc_le, li_ne, va_rf, wr_m1, we_m1, pm_kill_w, Int32.reduceOfInt, Int64.reduceOfInt, Int32.reduceOfNat, Int32.reduceLT, Int32.reduceLE, Prod.mk.injEq, Nat.reduceEqDiff, reduceCtorEq, and_true, true_and, and_false, false_and, and_self, ite_true, ite_false, ↓reduceIte, not_true_eq_false, not_false_eq_true, pe_ri, pe_rz, pe_rc, Ch_g2_4 hP hA, eq_true k2, z3]
  · rw [if_neg k2] at e
    by_cases k4 : x3 = 2
    · rw [if_pos k4] at e
      obtain ⟨v2, k5, e⟩ := Option.bind_eq_some_iff.mp e
      try dsimp only at e
      have z5 := x3717 (D := D) (h := h) hP hA (by omega) k5
      by_cases k6 : v2 = 0
      · rw [if_pos k6] at e
        have k7 := y3715_2 (h := h) hP hA hD e
        simp -implicitDefEqProofs (disch := first | assumption | exact Nat.le_of_ble_eq_true rfl | decide) only [b3715_0, g3715_1, b3715_1, g3715_3, b3715_3, g3715_5, b3715_5, g3715_7, b3715_7, g3715_8, b3715_8, pe_iload3, pe_if_ne, pe_aload0, pe_iload1, pe_iload2, pe_lload4, pe_call4, pm_af_ret, pm_af_void, pm_af_thr, pe_lreturn, pe_sipush, pe_icmp_ne, pe_if_eq, pe_bipush, pe_goto, pe_goto_w, pe_istore6, pe_iload6, pe_call5, pe_astore7, pe_aload7, pe_ifnonnull_n, pe_ifnonnull_r, pe_getfield, pe_aloadN0, pe_astoreN7, pe_aloadN7, pe_aastoreN, pe_areturnN, pe_null, pm_prog_1, pm_ob_some, Nat.reduceDiv, Nat.reduceMod, Nat.reduceMul, Nat.reduceAdd, Int.reduceToNat, pm_kill_i, pm_kill_r, pm_kill_n, pm_kill_j, pm_kill_l, pm_kill_d, pm_cats_nil, pm_cats_i, pm_cats_r, pm_cats_n, pm_cats_l, pm_cats_d, sz_1, sz_2, sl_1, sl_2, lc_0, lc_lt, lc_le, li_ne, va_rf, wr_m1, we_m1, pm_kill_w, Int32.reduceOfInt, Int64.reduceOfInt, Int32.reduceOfNat, Int32.reduceLT, Int32.reduceLE, Prod.mk.injEq, Nat.reduceEqDiff, reduceCtorEq, and_true, true_and, and_false, false_and, and_self, ite_true, ite_false, ↓reduceIte, not_true_eq_false, not_false_eq_true, pe_ri, pe_rz, pe_rc, Ch_g2_4 hP hA, eq_false k2, eq_true k4, z5, eq_true k6, k7]
      · rw [if_neg k6] at e
        have e := Option.some.inj e; subst e
        simp -implicitDefEqProofs (disch := first | assumption | exact Nat.le_of_ble_eq_true rfl | decide) only [b3715_0, g3715_1, b3715_1, g3715_3, b3715_3, g3715_5, b3715_5, g3715_7, b3715_7, g3715_8, b3715_8, pe_iload3, pe_if_ne, pe_aload0, pe_iload1, pe_iload2, pe_lload4, pe_call4, pm_af_ret, pm_af_void, pm_af_thr, pe_lreturn, pe_sipush, pe_icmp_ne, pe_if_eq, pe_bipush, pe_goto, pe_goto_w, pe_istore6, pe_iload6, pe_call5, pe_astore7, pe_aload7, pe_ifnonnull_n, pe_ifnonnull_r, pe_getfield, pe_aloadN0, pe_astoreN7, pe_aloadN7, pe_aastoreN, pe_areturnN, pe_null, pm_prog_1, pm_ob_some, Nat.reduceDiv, Nat.reduceMod, Nat.reduceMul, Nat.reduceAdd, Int.reduceToNat, pm_kill_i, pm_kill_r, pm_kill_n, pm_kill_j, pm_kill_l, pm_kill_d, pm_cats_nil, pm_cats_i, pm_cats_r, pm_cats_n, pm_cats_l, pm_cats_d, sz_1, sz_2, sl_1, sl_2, lc_0, lc_lt, lc_le, li_ne, va_rf, wr_m1, we_m1, pm_kill_w, Int32.reduceOfInt, Int64.reduceOfInt, Int32.reduceOfNat, Int32.reduceLT, Int32.reduceLE, Prod.mk.injEq, Nat.reduceEqDiff, reduceCtorEq, and_true, true_and, and_false, false_and, and_self, ite_true, ite_false, ↓reduceIte, not_true_eq_false, not_false_eq_true, pe_ri, pe_rz, pe_rc, Ch_g2_4 hP hA, eq_false k2, eq_true k4, z5, eq_false k6]
    · rw [if_neg k4] at e
      have k8 := y3715_2 (h := h) hP hA hD e
      simp -implicitDefEqProofs (disch := first | assumption | exact Nat.le_of_ble_eq_true rfl | decide) only [b3715_0, g3715_1, b3715_1, g3715_3, b3715_3, g3715_5, b3715_5, g3715_7, b3715_7, g3715_8, b3715_8, pe_iload3, pe_if_ne, pe_aload0, pe_iload1, pe_iload2, pe_lload4, pe_call4, pm_af_ret, pm_af_void, pm_af_thr, pe_lreturn, pe_sipush, pe_icmp_ne, pe_if_eq, pe_bipush, pe_goto, pe_goto_w, pe_istore6, pe_iload6, pe_call5, pe_astore7, pe_aload7, pe_ifnonnull_n, pe_ifnonnull_r, pe_getfield, pe_aloadN0, pe_astoreN7, pe_aloadN7, pe_aastoreN, pe_areturnN, pe_null, pm_prog_1, pm_ob_some, Nat.reduceDiv, Nat.reduceMod, Nat.reduceMul, Nat.reduceAdd, Int.reduceToNat, pm_kill_i, pm_kill_r, pm_kill_n, pm_kill_j, pm_kill_l, pm_kill_d, pm_cats_nil, pm_cats_i, pm_cats_r, pm_cats_n, pm_cats_l, pm_cats_d, sz_1, sz_2, sl_1, sl_2, lc_0, lc_lt, lc_le, li_ne, va_rf, wr_m1, we_m1, pm_kill_w, Int32.reduceOfInt, Int64.reduceOfInt, Int32.reduceOfNat, Int32.reduceLT, Int32.reduceLE, Prod.mk.injEq, Nat.reduceEqDiff, reduceCtorEq, and_true, true_and, and_false, false_and, and_self, ite_true, ite_false, ↓reduceIte, not_true_eq_false, not_false_eq_true, pe_ri, pe_rz, pe_rc, Ch_g2_4 hP hA, eq_false k2, eq_false k4, k8]
/-- TimberHouse$ShopDesks.at(IIIJ)J -/
theorem c1553 {d : Nat} {h : pm_H} {a : Nat} {x0 : Int32} {x1 : Int32} {x2 : Int32} {x3 : Int64} (hc : pm_cls h a = some 24) : pm_call pm_prog (d + 1) 1553 [.ref a, .int x0, .int x1, .int x2, .long x3] h = pm_ev pm_prog (pm_call pm_prog d) 1553 0 b1553_0 [.ref a, .int x0, .int x1, .int x2, .long x3, pm_junk] [] h := pm_cal (pm_rc1 hc rfl) rfl rfl rfl
theorem g1553_1 {cl : pm_C} {ls st : List Value} {h : pm_H} : pm_go pm_prog cl 1553 1 ls st h = pm_ev pm_prog cl 1553 1 b1553_1 ls st h := pm_go_eq pm_prog cl 1553 1 ls st h
theorem g1553_2 {cl : pm_C} {ls st : List Value} {h : pm_H} : pm_go pm_prog cl 1553 2 ls st h = pm_ev pm_prog cl 1553 2 b1553_2 ls st h := pm_go_eq pm_prog cl 1553 2 ls st h
theorem t1553 {cl : pm_C} {j : Nat} {ls : List Value} {c : Nat} {h : pm_H} : pm_thr pm_prog cl 1553 j ls c h = some (.threw c, h) := rfl
noncomputable def f1553_2 (tc : Int32) (bc : Int32) (ec : Int32) (S : wS) (x1 : Int32) (x2 : Int32) (x3 : Int32) (x4 : Int64) (y0 : Int32) : Option (Nat ⊕ (Int64)) :=
  (f1543 y0).bind fun r => match r with
  | .inl c5 =>
    some (.inl c5)
  | .inr _ =>
  (f1547 x3).bind fun v2 =>
  (f1539 v2).bind fun r => match r with
  | .inl c4 =>
    some (.inl c4)
  | .inr _ =>
  if 0 ≤ x1 ∧ x1 < 8 then
    if x1 < bc then
      if 0 ≤ x1 ∧ x1 < bc then
        (f3715 tc bc ec S x1 (S.1 (4, x1, 0) 3) x2 x3 x4).bind fun v3 =>
        some (.inr v3)
      else none
    else none
  else none
/-- TimberHouse$ShopDesks.at(IIIJ)J -/
noncomputable def f1553 (tc : Int32) (bc : Int32) (ec : Int32) (S : wS) (x1 : Int32) (x2 : Int32) (x3 : Int32) (x4 : Int64) : Option (Nat ⊕ (Int64)) :=
  (f1551 tc bc ec S x1).bind fun v1 =>
  if v1 = 0 then
    f1553_2 tc bc ec S x1 x2 x3 x4 0
  else
    (f1538 (Int32.toInt64 x2) 0 9).bind fun v6 =>
    if v6 = 0 then
      f1553_2 tc bc ec S x1 x2 x3 x4 0
    else
      f1553_2 tc bc ec S x1 x2 x3 x4 1
theorem y1553_2 {tc : Int32} {bc : Int32} {ec : Int32} {A : wK → Nat} {h : pm_H} {D : Nat} {S : wS} {x1 : Int32} {x2 : Int32} {x3 : Int32} {x4 : Int64} {y0 : Int32} {r : Nat ⊕ (Int64)} (hP : Ch_P tc bc ec) (hA : wok A (Ch_d tc bc ec) h.1) (hD : 5 ≤ D) (e : f1553_2 tc bc ec S x1 x2 x3 x4 y0 = some r) : pm_go pm_prog (pm_call pm_prog D) 1553 2 [.ref (A (0, 0, 0)), .int x1, .int x2, .int x3, .long x4, pm_junk] [.int y0] (wput A (Ch_d tc bc ec) S h) = some (match (generalizing := false) r with | .inl c => (Outcome.threw c, (wput A (Ch_d tc bc ec) S (pm_new h 6 (.inr (c, []))))) | .inr w0 => (Outcome.returned (some (.long w0)), (wput A (Ch_d tc bc ec) S h))) := by
  simp only [f1553_2] at e
  rw [g1553_2, b1553_2]
  obtain ⟨r, k1, e⟩ := Option.bind_eq_some_iff.mp e
  have z1 := fun h => x1543 (D := D) (h := h) (by omega) k1
  rcases r with c5 | _
  · dsimp only at e z1
    have e := Option.some.inj e; subst e
    simp -implicitDefEqProofs (disch := first | assumption | exact Nat.le_of_ble_eq_true rfl | decide) only [b1553_0, g1553_1, b1553_1, pe_aload0, pe_iload1, pe_call2, pm_af_ret, pm_af_void, pm_af_thr, pe_if_eq, pe_iload2, pe_i2l, pe_bipush, pe_call3, pe_sipush, pe_goto, pe_goto_w, pe_call1, pe_iload3, pe_getfield, pe_aaload, pe_lload4, pe_call5, pe_lreturn, pe_aloadN0, pe_aastoreN, pe_areturnN, pe_null, pm_prog_1, pm_ob_some, Nat.reduceDiv, Nat.reduceMod, Nat.reduceMul, Nat.reduceAdd, Int.reduceToNat, pm_kill_i, pm_kill_r, pm_kill_n, pm_kill_j, pm_kill_l, pm_kill_d, pm_cats_nil, pm_cats_i, pm_cats_r, pm_cats_n, pm_cats_l, pm_cats_d, sz_1, sz_2, sl_1, sl_2, lc_0, lc_lt, lc_le, li_ne, va_rf, wr_m1, we_m1, pm_kill_w, Int32.reduceOfInt, Int64.reduceOfInt, Int32.reduceOfNat, Int32.reduceLT, Int32.reduceLE, Prod.mk.injEq, Nat.reduceEqDiff, reduceCtorEq, and_true, true_and, and_false, false_and, and_self, ite_true, ite_false, ↓reduceIte, not_true_eq_false, not_false_eq_true, pe_ri, pe_rz, pe_rc, p_throw, t1553, w_junk hA, Ch_g0_2 hP hA, Ch_g4_3 hP hA, Ch_r3 hP hA, z1]
  · dsimp only at e z1
    obtain ⟨v2, k2, e⟩ := Option.bind_eq_some_iff.mp e
    try dsimp only at e
    have z2 := fun h => x1547 (D := D) (h := h) (by omega) k2
    obtain ⟨r, k3, e⟩ := Option.bind_eq_some_iff.mp e
    have z3 := fun h => x1539 (D := D) (h := h) (by omega) k3
    rcases r with c4 | _
    · dsimp only at e z3
      have e := Option.some.inj e; subst e
      simp -implicitDefEqProofs (disch := first | assumption | exact Nat.le_of_ble_eq_true rfl | decide) only [b1553_0, g1553_1, b1553_1, pe_aload0, pe_iload1, pe_call2, pm_af_ret, pm_af_void, pm_af_thr, pe_if_eq, pe_iload2, pe_i2l, pe_bipush, pe_call3, pe_sipush, pe_goto, pe_goto_w, pe_call1, pe_iload3, pe_getfield, pe_aaload, pe_lload4, pe_call5, pe_lreturn, pe_aloadN0, pe_aastoreN, pe_areturnN, pe_null, pm_prog_1, pm_ob_some, Nat.reduceDiv, Nat.reduceMod, Nat.reduceMul, Nat.reduceAdd, Int.reduceToNat, pm_kill_i, pm_kill_r, pm_kill_n, pm_kill_j, pm_kill_l, pm_kill_d, pm_cats_nil, pm_cats_i, pm_cats_r, pm_cats_n, pm_cats_l, pm_cats_d, sz_1, sz_2, sl_1, sl_2, lc_0, lc_lt, lc_le, li_ne, va_rf, wr_m1, we_m1, pm_kill_w, Int32.reduceOfInt, Int64.reduceOfInt, Int32.reduceOfNat, Int32.reduceLT, Int32.reduceLE, Prod.mk.injEq, Nat.reduceEqDiff, reduceCtorEq, and_true, true_and, and_false, false_and, and_self, ite_true, ite_false, ↓reduceIte, not_true_eq_false, not_false_eq_true, pe_ri, pe_rz, pe_rc, p_throw, t1553, w_junk hA, Ch_g0_2 hP hA, Ch_g4_3 hP hA, Ch_r3 hP hA, z1, z2, z3]
    · dsimp only at e z3
      by_cases k4 : 0 ≤ x1 ∧ x1 < 8
      · rw [if_pos k4] at e
        by_cases k5 : x1 < bc
        · rw [if_pos k5] at e
          by_cases k6 : 0 ≤ x1 ∧ x1 < bc
          · rw [if_pos k6] at e
            obtain ⟨v3, k7, e⟩ := Option.bind_eq_some_iff.mp e
            try dsimp only at e
            have z7 := x3715 (D := D) (h := h) hP hA (by omega) k7
            have e := Option.some.inj e; subst e
            simp -implicitDefEqProofs (disch := first | assumption | exact Nat.le_of_ble_eq_true rfl | decide) only [b1553_0, g1553_1, b1553_1, pe_aload0, pe_iload1, pe_call2, pm_af_ret, pm_af_void, pm_af_thr, pe_if_eq, pe_iload2, pe_i2l, pe_bipush, pe_call3, pe_sipush, pe_goto, pe_goto_w, pe_call1, pe_iload3, pe_getfield, pe_aaload, pe_lload4, pe_call5, pe_lreturn, pe_aloadN0, pe_aastoreN, pe_areturnN, pe_null, pm_prog_1, pm_ob_some, Nat.reduceDiv, Nat.reduceMod, Nat.reduceMul, Nat.reduceAdd, Int.reduceToNat, pm_kill_i, pm_kill_r, pm_kill_n, pm_kill_j, pm_kill_l, pm_kill_d, pm_cats_nil, pm_cats_i, pm_cats_r, pm_cats_n, pm_cats_l, pm_cats_d, sz_1, sz_2, sl_1, sl_2, lc_0, lc_lt, lc_le, li_ne, va_rf, wr_m1, we_m1, pm_kill_w, Int32.reduceOfInt, Int64.reduceOfInt, Int32.reduceOfNat, Int32.reduceLT, Int32.reduceLE, Prod.mk.injEq, Nat.reduceEqDiff, reduceCtorEq, and_true, true_and, and_false, false_and, and_self, ite_true, ite_false, ↓reduceIte, not_true_eq_false, not_false_eq_true, pe_ri, pe_rz, pe_rc, p_throw, t1553, w_junk hA, Ch_g0_2 hP hA, Ch_g4_3 hP hA, Ch_r3 hP hA, z1, z2, z3, z7]
          · rw [if_neg k6] at e; cases e
        · rw [if_neg k5] at e; cases e
      · rw [if_neg k4] at e; cases e
theorem x1553 {tc : Int32} {bc : Int32} {ec : Int32} {A : wK → Nat} {h : pm_H} {D : Nat} {S : wS} {x1 : Int32} {x2 : Int32} {x3 : Int32} {x4 : Int64} {r : Nat ⊕ (Int64)} (hP : Ch_P tc bc ec) (hA : wok A (Ch_d tc bc ec) h.1) (hD : 6 ≤ D) (e : f1553 tc bc ec S x1 x2 x3 x4 = some r) : pm_call pm_prog D 1553 [.ref (A (0, 0, 0)), .int x1, .int x2, .int x3, .long x4] (wput A (Ch_d tc bc ec) S h) = some (match (generalizing := false) r with | .inl c => (Outcome.threw c, (wput A (Ch_d tc bc ec) S (pm_new h 6 (.inr (c, []))))) | .inr w0 => (Outcome.returned (some (.long w0)), (wput A (Ch_d tc bc ec) S h))) := by
  obtain ⟨D, rfl⟩ : ∃ D', D = D' + 1 := ⟨D - 1, by omega⟩
  have hD : 5 ≤ D := by omega
  simp only [f1553] at e
  rw [c1553 (Ch_c0 hP hA), b1553_0]
  obtain ⟨v1, k1, e⟩ := Option.bind_eq_some_iff.mp e
  try dsimp only at e
  have z1 := x1551 (D := D) (h := h) hP hA (by omega) k1
  by_cases k2 : v1 = 0
  · rw [if_pos k2] at e
    have k3 := y1553_2 (h := h) hP hA hD e
    simp -implicitDefEqProofs (disch := first | assumption | exact Nat.le_of_ble_eq_true rfl | decide) only [b1553_0, g1553_1, b1553_1, pe_aload0, pe_iload1, pe_call2, pm_af_ret, pm_af_void, pm_af_thr, pe_if_eq, pe_iload2, pe_i2l, pe_bipush, pe_call3, pe_sipush, pe_goto, pe_goto_w, pe_call1, pe_iload3, pe_getfield, pe_aaload, pe_lload4, pe_call5, pe_lreturn, pe_aloadN0, pe_aastoreN, pe_areturnN, pe_null, pm_prog_1, pm_ob_some, Nat.reduceDiv, Nat.reduceMod, Nat.reduceMul, Nat.reduceAdd, Int.reduceToNat, pm_kill_i, pm_kill_r, pm_kill_n, pm_kill_j, pm_kill_l, pm_kill_d, pm_cats_nil, pm_cats_i, pm_cats_r, pm_cats_n, pm_cats_l, pm_cats_d, sz_1, sz_2, sl_1, sl_2, lc_0, lc_lt, lc_le, li_ne, va_rf, wr_m1, we_m1, pm_kill_w, Int32.reduceOfInt, Int64.reduceOfInt, Int32.reduceOfNat, Int32.reduceLT, Int32.reduceLE, Prod.mk.injEq, Nat.reduceEqDiff, reduceCtorEq, and_true, true_and, and_false, false_and, and_self, ite_true, ite_false, ↓reduceIte, not_true_eq_false, not_false_eq_true, pe_ri, pe_rz, pe_rc, p_throw, t1553, w_junk hA, Ch_g0_2 hP hA, Ch_g4_3 hP hA, Ch_r3 hP hA, z1, eq_true k2, k3]
  · rw [if_neg k2] at e
    obtain ⟨v6, k4, e⟩ := Option.bind_eq_some_iff.mp e
    try dsimp only at e
    have z4 := fun h => x1538 (D := D) (h := h) (by omega) k4
    by_cases k5 : v6 = 0
    · rw [if_pos k5] at e
      have k6 := y1553_2 (h := h) hP hA hD e
      simp -implicitDefEqProofs (disch := first | assumption | exact Nat.le_of_ble_eq_true rfl | decide) only [b1553_0, g1553_1, b1553_1, pe_aload0, pe_iload1, pe_call2, pm_af_ret, pm_af_void, pm_af_thr, pe_if_eq, pe_iload2, pe_i2l, pe_bipush, pe_call3, pe_sipush, pe_goto, pe_goto_w, pe_call1, pe_iload3, pe_getfield, pe_aaload, pe_lload4, pe_call5, pe_lreturn, pe_aloadN0, pe_aastoreN, pe_areturnN, pe_null, pm_prog_1, pm_ob_some, Nat.reduceDiv, Nat.reduceMod, Nat.reduceMul, Nat.reduceAdd, Int.reduceToNat, pm_kill_i, pm_kill_r, pm_kill_n, pm_kill_j, pm_kill_l, pm_kill_d, pm_cats_nil, pm_cats_i, pm_cats_r, pm_cats_n, pm_cats_l, pm_cats_d, sz_1, sz_2, sl_1, sl_2, lc_0, lc_lt, lc_le, li_ne, va_rf, wr_m1, we_m1, pm_kill_w, Int32.reduceOfInt, Int64.reduceOfInt, Int32.reduceOfNat, Int32.reduceLT, Int32.reduceLE, Prod.mk.injEq, Nat.reduceEqDiff, reduceCtorEq, and_true, true_and, and_false, false_and, and_self, ite_true, ite_false, ↓reduceIte, not_true_eq_false, not_false_eq_true, pe_ri, pe_rz, pe_rc, p_throw, t1553, w_junk hA, Ch_g0_2 hP hA, Ch_g4_3 hP hA, Ch_r3 hP hA, z1, eq_false k2, z4, eq_true k5, k6]
    · rw [if_neg k5] at e
      have k7 := y1553_2 (h := h) hP hA hD e
      simp -implicitDefEqProofs (disch := first | assumption | exact Nat.le_of_ble_eq_true rfl | decide) only [b1553_0, g1553_1, b1553_1, pe_aload0, pe_iload1, pe_call2, pm_af_ret, pm_af_void, pm_af_thr, pe_if_eq, pe_iload2, pe_i2l, pe_bipush, pe_call3, pe_sipush, pe_goto, pe_goto_w, pe_call1, pe_iload3, pe_getfield, pe_aaload, pe_lload4, pe_call5, pe_lreturn, pe_aloadN0, pe_aastoreN, pe_areturnN, pe_null, pm_prog_1, pm_ob_some, Nat.reduceDiv, Nat.reduceMod, Nat.reduceMul, Nat.reduceAdd, Int.reduceToNat, pm_kill_i, pm_kill_r, pm_kill_n, pm_kill_j, pm_kill_l, pm_kill_d, pm_cats_nil, pm_cats_i, pm_cats_r, pm_cats_n, pm_cats_l, pm_cats_d, sz_1, sz_2, sl_1, sl_2, lc_0, lc_lt, lc_le, li_ne, va_rf, wr_m1, we_m1, pm_kill_w, Int32.reduceOfInt, Int64.reduceOfInt, Int32.reduceOfNat, Int32.reduceLT, Int32.reduceLE, Prod.mk.injEq, Nat.reduceEqDiff, reduceCtorEq, and_true, true_and, and_false, false_and, and_self, ite_true, ite_false, ↓reduceIte, not_true_eq_false, not_false_eq_true, pe_ri, pe_rz, pe_rc, p_throw, t1553, w_junk hA, Ch_g0_2 hP hA, Ch_g4_3 hP hA, Ch_r3 hP hA, z1, eq_false k2, z4, eq_false k5, k7]
/-- TimberHouse$ShopDesks.conflict(II)I -/
theorem c1554 {d : Nat} {h : pm_H} {a : Nat} {x0 : Int32} {x1 : Int32} (hc : pm_cls h a = some 24) : pm_call pm_prog (d + 1) 1554 [.ref a, .int x0, .int x1] h = pm_ev pm_prog (pm_call pm_prog d) 1554 0 b1554_0 [.ref a, .int x0, .int x1, pm_junk, pm_junk] [] h := pm_cal (pm_rc1 hc rfl) rfl rfl rfl
theorem g1554_1 {cl : pm_C} {ls st : List Value} {h : pm_H} : pm_go pm_prog cl 1554 1 ls st h = pm_ev pm_prog cl 1554 1 b1554_1 ls st h := pm_go_eq pm_prog cl 1554 1 ls st h
theorem g1554_2 {cl : pm_C} {ls st : List Value} {h : pm_H} : pm_go pm_prog cl 1554 2 ls st h = pm_ev pm_prog cl 1554 2 b1554_2 ls st h := pm_go_eq pm_prog cl 1554 2 ls st h
theorem g1554_3 {cl : pm_C} {ls st : List Value} {h : pm_H} : pm_go pm_prog cl 1554 3 ls st h = pm_ev pm_prog cl 1554 3 b1554_3 ls st h := pm_go_eq pm_prog cl 1554 3 ls st h
theorem g1554_4 {cl : pm_C} {ls st : List Value} {h : pm_H} : pm_go pm_prog cl 1554 4 ls st h = pm_ev pm_prog cl 1554 4 b1554_4 ls st h := pm_go_eq pm_prog cl 1554 4 ls st h
theorem g1554_5 {cl : pm_C} {ls st : List Value} {h : pm_H} : pm_go pm_prog cl 1554 5 ls st h = pm_ev pm_prog cl 1554 5 b1554_5 ls st h := pm_go_eq pm_prog cl 1554 5 ls st h
theorem t1554 {cl : pm_C} {j : Nat} {ls : List Value} {c : Nat} {h : pm_H} : pm_thr pm_prog cl 1554 j ls c h = some (.threw c, h) := rfl
noncomputable def f1554_b3 (tc : Int32) (bc : Int32) (ec : Int32) (S : wS) : Int32 × Int32 × Int32 × Int32 → Option ((Int32 × Int32 × Int32 × Int32) ⊕ ((Int32) ⊕ (Unit))) := fun (x1, x2, x3, x4) =>
  if x4 < 10 then
    if 0 ≤ x1 ∧ x1 < 8 then
      if x1 < bc then
        if 0 ≤ x1 ∧ x1 < bc then
          (f3717 tc bc ec S x1 (S.1 (4, x1, 0) 3) x4 9223372036854775807).bind fun v2 =>
          if v2 = 0 then
            some (.inl (x1, x2, x3, (x4 + 1)))
          else
            if x3 = x2 then
              some (.inr (.inl x4))
            else
              some (.inl (x1, x2, (x3 + 1), (x4 + 1)))
        else none
      else none
    else none
  else
    some (.inr (.inr (())))
noncomputable def f1554_2 (tc : Int32) (bc : Int32) (ec : Int32) (S : wS) (x1 : Int32) (x2 : Int32) (y0 : Int32) : Option (Nat ⊕ (Int32)) :=
  (f1539 y0).bind fun r => match r with
  | .inl c4 =>
    some (.inl c4)
  | .inr _ =>
  (lp (f1554_b3 tc bc ec S) FU (x1, x2, 0, 0)).bind fun b => match b with
  | (.inl v3) =>
    some (.inr v3)
  | (.inr (())) =>
    some (.inr (-1))
/-- TimberHouse$ShopDesks.conflict(II)I -/
noncomputable def f1554 (tc : Int32) (bc : Int32) (ec : Int32) (S : wS) (x1 : Int32) (x2 : Int32) : Option (Nat ⊕ (Int32)) :=
  (f1551 tc bc ec S x1).bind fun v1 =>
  (f1543 v1).bind fun r => match r with
  | .inl c5 =>
    some (.inl c5)
  | .inr _ =>
  if x2 < 0 then
    f1554_2 tc bc ec S x1 x2 0
  else
    f1554_2 tc bc ec S x1 x2 1
def go1554_3 (tc : Int32) (bc : Int32) (ec : Int32) (A : wK → Nat) (h : pm_H) (D : Nat) (R : Outcome × pm_H) (S : wS) : Int32 × Int32 × Int32 × Int32 → Prop := fun (x1, x2, x3, x4) => pm_go pm_prog (pm_call pm_prog D) 1554 3 [.ref (A (0, 0, 0)), .int x1, .int x2, .int x3, .int x4] [] (wput A (Ch_d tc bc ec) S h) = some R
def ex1554_3 (tc : Int32) (bc : Int32) (ec : Int32) (A : wK → Nat) (h : pm_H) (D : Nat) (R : Outcome × pm_H) (S : wS) : (Int32) ⊕ (Unit) → Prop := fun b => match b with
  | (.inl xr0) => some (Outcome.returned (some (.int xr0)), (wput A (Ch_d tc bc ec) S h)) = some R
  | (.inr (_)) => ∀ q0 q1 q2 q3 q4 : Value, pm_go pm_prog (pm_call pm_prog D) 1554 5 [q0, q1, q2, q3, q4] [] (wput A (Ch_d tc bc ec) S h) = some R
theorem y1554_b3 {tc : Int32} {bc : Int32} {ec : Int32} {A : wK → Nat} {h : pm_H} {D : Nat} {R : Outcome × pm_H} {S : wS} (hP : Ch_P tc bc ec) (hA : wok A (Ch_d tc bc ec) h.1) (hD : 4 ≤ D) (a : Int32 × Int32 × Int32 × Int32) (r : (Int32 × Int32 × Int32 × Int32) ⊕ ((Int32) ⊕ (Unit))) (e : f1554_b3 tc bc ec S a = some r) (hc : Sum.elim (go1554_3 tc bc ec A h D R S) (ex1554_3 tc bc ec A h D R S) r) : go1554_3 tc bc ec A h D R S a := by
  obtain ⟨x1, x2, x3, x4⟩ := a
  dsimp only [go1554_3]
  simp only [f1554_b3] at e
  rw [g1554_3, b1554_3]
  by_cases k1 : x4 < 10
  · rw [if_pos k1] at e
    by_cases k2 : 0 ≤ x1 ∧ x1 < 8
    · rw [if_pos k2] at e
      by_cases k3 : x1 < bc
      · rw [if_pos k3] at e
        by_cases k4 : 0 ≤ x1 ∧ x1 < bc
        · rw [if_pos k4] at e
          obtain ⟨v2, k5, e⟩ := Option.bind_eq_some_iff.mp e
          try dsimp only at e
          have z5 := x3717 (D := D) (h := h) hP hA (by omega) k5
          by_cases k6 : v2 = 0
          · rw [if_pos k6] at e
            have e := Option.some.inj e; subst e
            dsimp only [Sum.elim_inl, go1554_3] at hc
            simp -implicitDefEqProofs (disch := first | assumption | exact Nat.le_of_ble_eq_true rfl | decide) only [b1554_0, g1554_1, b1554_1, g1554_4, b1554_4, g1554_5, b1554_5, pe_aload0, pe_iload1, pe_call2, pm_af_ret, pm_af_void, pm_af_thr, pe_call1, pe_iload2, pe_if_lt, pe_sipush, pe_goto, pe_goto_w, pe_istore3, pe_istore4, pe_iload4, pe_icmp_ge, pe_getfield, pe_aaload, pe_bipush, pe_call4, pe_if_eq, pe_iload3, pe_iinc3, pe_icmp_ne, pe_iinc4, pe_aloadN0, pe_aastoreN, pe_areturnN, pe_null, pm_prog_1, pm_ob_some, Nat.reduceDiv, Nat.reduceMod, Nat.reduceMul, Nat.reduceAdd, Int.reduceToNat, pm_kill_i, pm_kill_r, pm_kill_n, pm_kill_j, pm_kill_l, pm_kill_d, pm_cats_nil, pm_cats_i, pm_cats_r, pm_cats_n, pm_cats_l, pm_cats_d, sz_1, sz_2, sl_1, sl_2, lc_0, lc_lt, lc_le, li_ne, va_rf, wr_m1, we_m1, pm_kill_w, Int32.reduceOfInt, Int64.reduceOfInt, Int32.reduceOfNat, Int32.reduceLT, Int32.reduceLE, Prod.mk.injEq, Nat.reduceEqDiff, reduceCtorEq, and_true, true_and, and_false, false_and, and_self, ite_true, ite_false, ↓reduceIte, not_true_eq_false, not_false_eq_true, pe_ri, pe_rz, pe_rc, p_throw, t1554, w_junk hA, Ch_g0_2 hP hA, Ch_g4_3 hP hA, Ch_r3 hP hA, eq_true k1, z5, eq_true k6, hc]
          · rw [if_neg k6] at e
            by_cases k7 : x3 = x2
            · rw [if_pos k7] at e
              have e := Option.some.inj e; subst e
              dsimp only [Sum.elim_inr, ex1554_3] at hc
              have hc := Option.some.inj hc; subst hc
              simp -implicitDefEqProofs (disch := first | assumption | exact Nat.le_of_ble_eq_true rfl | decide) only [b1554_0, g1554_1, b1554_1, g1554_4, b1554_4, g1554_5, b1554_5, pe_aload0, pe_iload1, pe_call2, pm_af_ret, pm_af_void, pm_af_thr, pe_call1, pe_iload2, pe_if_lt, pe_sipush, pe_goto, pe_goto_w, pe_istore3, pe_istore4, pe_iload4, pe_icmp_ge, pe_getfield, pe_aaload, pe_bipush, pe_call4, pe_if_eq, pe_iload3, pe_iinc3, pe_icmp_ne, pe_iinc4, pe_aloadN0, pe_aastoreN, pe_areturnN, pe_null, pm_prog_1, pm_ob_some, Nat.reduceDiv, Nat.reduceMod, Nat.reduceMul, Nat.reduceAdd, Int.reduceToNat, pm_kill_i, pm_kill_r, pm_kill_n, pm_kill_j, pm_kill_l, pm_kill_d, pm_cats_nil, pm_cats_i, pm_cats_r, pm_cats_n, pm_cats_l, pm_cats_d, sz_1, sz_2, sl_1, sl_2, lc_0, lc_lt, lc_le, li_ne, va_rf, wr_m1, we_m1, pm_kill_w, Int32.reduceOfInt, Int64.reduceOfInt, Int32.reduceOfNat, Int32.reduceLT, Int32.reduceLE, Prod.mk.injEq, Nat.reduceEqDiff, reduceCtorEq, and_true, true_and, and_false, false_and, and_self, ite_true, ite_false, ↓reduceIte, not_true_eq_false, not_false_eq_true, pe_ri, pe_rz, pe_rc, p_throw, t1554, w_junk hA, Ch_g0_2 hP hA, Ch_g4_3 hP hA, Ch_r3 hP hA, eq_true k1, z5, eq_false k6, eq_true k7]
            · rw [if_neg k7] at e
              have e := Option.some.inj e; subst e
              dsimp only [Sum.elim_inl, go1554_3] at hc
              simp -implicitDefEqProofs (disch := first | assumption | exact Nat.le_of_ble_eq_true rfl | decide) only [b1554_0, g1554_1, b1554_1, g1554_4, b1554_4, g1554_5, b1554_5, pe_aload0, pe_iload1, pe_call2, pm_af_ret, pm_af_void, pm_af_thr, pe_call1, pe_iload2, pe_if_lt, pe_sipush, pe_goto, pe_goto_w, pe_istore3, pe_istore4, pe_iload4, pe_icmp_ge, pe_getfield, pe_aaload, pe_bipush, pe_call4, pe_if_eq, pe_iload3, pe_iinc3, pe_icmp_ne, pe_iinc4, pe_aloadN0, pe_aastoreN, pe_areturnN, pe_null, pm_prog_1, pm_ob_some, Nat.reduceDiv, Nat.reduceMod, Nat.reduceMul, Nat.reduceAdd, Int.reduceToNat, pm_kill_i, pm_kill_r, pm_kill_n, pm_kill_j, pm_kill_l, pm_kill_d, pm_cats_nil, pm_cats_i, pm_cats_r, pm_cats_n, pm_cats_l, pm_cats_d, sz_1, sz_2, sl_1, sl_2, lc_0, lc_lt, lc_le, li_ne, va_rf, wr_m1, we_m1, pm_kill_w, Int32.reduceOfInt, Int64.reduceOfInt, Int32.reduceOfNat, Int32.reduceLT, Int32.reduceLE, Prod.mk.injEq, Nat.reduceEqDiff, reduceCtorEq, and_true, true_and, and_false, false_and, and_self, ite_true, ite_false, ↓reduceIte, not_true_eq_false, not_false_eq_true, pe_ri, pe_rz, pe_rc, p_throw, t1554, w_junk hA, Ch_g0_2 hP hA, Ch_g4_3 hP hA, Ch_r3 hP hA, eq_true k1, z5, eq_false k6, eq_false k7, hc]
        · rw [if_neg k4] at e; cases e
      · rw [if_neg k3] at e; cases e
    · rw [if_neg k2] at e; cases e
  · rw [if_neg k1] at e
    have e := Option.some.inj e; subst e
    dsimp only [Sum.elim_inr, ex1554_3] at hc
    simp -implicitDefEqProofs (disch := first | assumption | exact Nat.le_of_ble_eq_true rfl | decide) only [b1554_0, g1554_1, b1554_1, g1554_4, b1554_4, g1554_5, b1554_5, pe_aload0, pe_iload1, pe_call2, pm_af_ret, pm_af_void, pm_af_thr, pe_call1, pe_iload2, pe_if_lt, pe_sipush, pe_goto, pe_goto_w, pe_istore3, pe_istore4, pe_iload4, pe_icmp_ge, pe_getfield, pe_aaload, pe_bipush, pe_call4, pe_if_eq, pe_iload3, pe_iinc3, pe_icmp_ne, pe_iinc4, pe_aloadN0, pe_aastoreN, pe_areturnN, pe_null, pm_prog_1, pm_ob_some, Nat.reduceDiv, Nat.reduceMod, Nat.reduceMul, Nat.reduceAdd, Int.reduceToNat, pm_kill_i, pm_kill_r, pm_kill_n, pm_kill_j, pm_kill_l, pm_kill_d, pm_cats_nil, pm_cats_i, pm_cats_r, pm_cats_n, pm_cats_l, pm_cats_d, sz_1, sz_2, sl_1, sl_2, lc_0, lc_lt, lc_le, li_ne, va_rf, wr_m1, we_m1, pm_kill_w, Int32.reduceOfInt, Int64.reduceOfInt, Int32.reduceOfNat, Int32.reduceLT, Int32.reduceLE, Prod.mk.injEq, Nat.reduceEqDiff, reduceCtorEq, and_true, true_and, and_false, false_and, and_self, ite_true, ite_false, ↓reduceIte, not_true_eq_false, not_false_eq_true, pe_ri, pe_rz, pe_rc, p_throw, t1554, w_junk hA, Ch_g0_2 hP hA, Ch_g4_3 hP hA, Ch_r3 hP hA, eq_false k1, hc]
theorem z1554_3 {tc : Int32} {bc : Int32} {ec : Int32} {A : wK → Nat} {h : pm_H} {D : Nat} {R : Outcome × pm_H} {S : wS} (hP : Ch_P tc bc ec) (hA : wok A (Ch_d tc bc ec) h.1) (hD : 4 ≤ D) {n : Nat} {a : Int32 × Int32 × Int32 × Int32} {b : (Int32) ⊕ (Unit)} (e : lp (f1554_b3 tc bc ec S) n a = some b) (hx : ex1554_3 tc bc ec A h D R S b) : go1554_3 tc bc ec A h D R S a := lp_run (fun a r => y1554_b3 hP hA hD a r) n a b e hx
theorem y1554_2 {tc : Int32} {bc : Int32} {ec : Int32} {A : wK → Nat} {h : pm_H} {D : Nat} {S : wS} {x1 : Int32} {x2 : Int32} {y0 : Int32} {r : Nat ⊕ (Int32)} (hP : Ch_P tc bc ec) (hA : wok A (Ch_d tc bc ec) h.1) (hD : 4 ≤ D) (e : f1554_2 tc bc ec S x1 x2 y0 = some r) : ∀ q3 q4 : Value, pm_go pm_prog (pm_call pm_prog D) 1554 2 [.ref (A (0, 0, 0)), .int x1, .int x2, q3, q4] [.int y0] (wput A (Ch_d tc bc ec) S h) = some (match (generalizing := false) r with | .inl c => (Outcome.threw c, (wput A (Ch_d tc bc ec) S (pm_new h 6 (.inr (c, []))))) | .inr w0 => (Outcome.returned (some (.int w0)), (wput A (Ch_d tc bc ec) S h))) := by
  intro q3 q4
  simp only [f1554_2] at e
  rw [g1554_2, b1554_2]
  obtain ⟨r, k1, e⟩ := Option.bind_eq_some_iff.mp e
  have z1 := fun h => x1539 (D := D) (h := h) (by omega) k1
  rcases r with c4 | _
  · dsimp only at e z1
    have e := Option.some.inj e; subst e
    simp -implicitDefEqProofs (disch := first | assumption | exact Nat.le_of_ble_eq_true rfl | decide) only [b1554_0, g1554_1, b1554_1, g1554_4, b1554_4, g1554_5, b1554_5, pe_aload0, pe_iload1, pe_call2, pm_af_ret, pm_af_void, pm_af_thr, pe_call1, pe_iload2, pe_if_lt, pe_sipush, pe_goto, pe_goto_w, pe_istore3, pe_istore4, pe_iload4, pe_icmp_ge, pe_getfield, pe_aaload, pe_bipush, pe_call4, pe_if_eq, pe_iload3, pe_iinc3, pe_icmp_ne, pe_iinc4, pe_aloadN0, pe_aastoreN, pe_areturnN, pe_null, pm_prog_1, pm_ob_some, Nat.reduceDiv, Nat.reduceMod, Nat.reduceMul, Nat.reduceAdd, Int.reduceToNat, pm_kill_i, pm_kill_r, pm_kill_n, pm_kill_j, pm_kill_l, pm_kill_d, pm_cats_nil, pm_cats_i, pm_cats_r, pm_cats_n, pm_cats_l, pm_cats_d, sz_1, sz_2, sl_1, sl_2, lc_0, lc_lt, lc_le, li_ne, va_rf, wr_m1, we_m1, pm_kill_w, Int32.reduceOfInt, Int64.reduceOfInt, Int32.reduceOfNat, Int32.reduceLT, Int32.reduceLE, Prod.mk.injEq, Nat.reduceEqDiff, reduceCtorEq, and_true, true_and, and_false, false_and, and_self, ite_true, ite_false, ↓reduceIte, not_true_eq_false, not_false_eq_true, pe_ri, pe_rz, pe_rc, p_throw, t1554, w_junk hA, Ch_g0_2 hP hA, Ch_g4_3 hP hA, Ch_r3 hP hA, z1]
  · dsimp only at e z1
    obtain ⟨b, k2, e⟩ := Option.bind_eq_some_iff.mp e
    rcases b with v3 | _
    ·
      try dsimp only at e
      try simp -implicitDefEqProofs (disch := first | assumption | exact Nat.le_of_ble_eq_true rfl | decide) only [b1554_0, g1554_1, b1554_1, g1554_4, b1554_4, g1554_5, b1554_5, pe_aload0, pe_iload1, pe_call2, pm_af_ret, pm_af_void, pm_af_thr, pe_call1, pe_iload2, pe_if_lt, pe_sipush, pe_goto, pe_goto_w, pe_istore3, pe_istore4, pe_iload4, pe_icmp_ge, pe_getfield, pe_aaload, pe_bipush, pe_call4, pe_if_eq, pe_iload3, pe_iinc3, pe_icmp_ne, pe_iinc4, pe_aloadN0, pe_aastoreN, pe_areturnN, pe_null, pm_prog_1, pm_ob_some, Nat.reduceDiv, Nat.reduceMod, Nat.reduceMul, Nat.reduceAdd, Int.reduceToNat, pm_kill_i, pm_kill_r, pm_kill_n, pm_kill_j, pm_kill_l, pm_kill_d, pm_cats_nil, pm_cats_i, pm_cats_r, pm_cats_n, pm_cats_l, pm_cats_d, sz_1, sz_2, sl_1, sl_2, lc_0, lc_lt, lc_le, li_ne, va_rf, wr_m1, we_m1, pm_kill_w, Int32.reduceOfInt, Int64.reduceOfInt, Int32.reduceOfNat, Int32.reduceLT, Int32.reduceLE, Prod.mk.injEq, Nat.reduceEqDiff, reduceCtorEq, and_true, true_and, and_false, false_and, and_self, ite_true, ite_false, ↓reduceIte, not_true_eq_false, not_false_eq_true, pe_ri, pe_rz, pe_rc, p_throw, t1554, w_junk hA, Ch_g0_2 hP hA, Ch_g4_3 hP hA, Ch_r3 hP hA, z1]
      refine z1554_3 hP hA hD k2 ?_
      dsimp only [ex1554_3]
      have e := Option.some.inj e; subst e
      simp -implicitDefEqProofs (disch := first | assumption | exact Nat.le_of_ble_eq_true rfl | decide) only [b1554_0, g1554_1, b1554_1, g1554_4, b1554_4, g1554_5, b1554_5, pe_aload0, pe_iload1, pe_call2, pm_af_ret, pm_af_void, pm_af_thr, pe_call1, pe_iload2, pe_if_lt, pe_sipush, pe_goto, pe_goto_w, pe_istore3, pe_istore4, pe_iload4, pe_icmp_ge, pe_getfield, pe_aaload, pe_bipush, pe_call4, pe_if_eq, pe_iload3, pe_iinc3, pe_icmp_ne, pe_iinc4, pe_aloadN0, pe_aastoreN, pe_areturnN, pe_null, pm_prog_1, pm_ob_some, Nat.reduceDiv, Nat.reduceMod, Nat.reduceMul, Nat.reduceAdd, Int.reduceToNat, pm_kill_i, pm_kill_r, pm_kill_n, pm_kill_j, pm_kill_l, pm_kill_d, pm_cats_nil, pm_cats_i, pm_cats_r, pm_cats_n, pm_cats_l, pm_cats_d, sz_1, sz_2, sl_1, sl_2, lc_0, lc_lt, lc_le, li_ne, va_rf, wr_m1, we_m1, pm_kill_w, Int32.reduceOfInt, Int64.reduceOfInt, Int32.reduceOfNat, Int32.reduceLT, Int32.reduceLE, Prod.mk.injEq, Nat.reduceEqDiff, reduceCtorEq, and_true, true_and, and_false, false_and, and_self, ite_true, ite_false, ↓reduceIte, not_true_eq_false, not_false_eq_true, pe_ri, pe_rz, pe_rc, p_throw, t1554, w_junk hA, Ch_g0_2 hP hA, Ch_g4_3 hP hA, Ch_r3 hP hA, z1]
    ·
      try dsimp only at e
      try simp -implicitDefEqProofs (disch := first | assumption | exact Nat.le_of_ble_eq_true rfl | decide) only [b1554_0, g1554_1, b1554_1, g1554_4, b1554_4, g1554_5, b1554_5, pe_aload0, pe_iload1, pe_call2, pm_af_ret, pm_af_void, pm_af_thr, pe_call1, pe_iload2, pe_if_lt, pe_sipush, pe_goto, pe_goto_w, pe_istore3, pe_istore4, pe_iload4, pe_icmp_ge, pe_getfield, pe_aaload, pe_bipush, pe_call4, pe_if_eq, pe_iload3, pe_iinc3, pe_icmp_ne, pe_iinc4, pe_aloadN0, pe_aastoreN, pe_areturnN, pe_null, pm_prog_1, pm_ob_some, Nat.reduceDiv, Nat.reduceMod, Nat.reduceMul, Nat.reduceAdd, Int.reduceToNat, pm_kill_i, pm_kill_r, pm_kill_n, pm_kill_j, pm_kill_l, pm_kill_d, pm_cats_nil, pm_cats_i, pm_cats_r, pm_cats_n, pm_cats_l, pm_cats_d, sz_1, sz_2, sl_1, sl_2, lc_0, lc_lt, lc_le, li_ne, va_rf, wr_m1, we_m1, pm_kill_w, Int32.reduceOfInt, Int64.reduceOfInt, Int32.reduceOfNat, Int32.reduceLT, Int32.reduceLE, Prod.mk.injEq, Nat.reduceEqDiff, reduceCtorEq, and_true, true_and, and_false, false_and, and_self, ite_true, ite_false, ↓reduceIte, not_true_eq_false, not_false_eq_true, pe_ri, pe_rz, pe_rc, p_throw, t1554, w_junk hA, Ch_g0_2 hP hA, Ch_g4_3 hP hA, Ch_r3 hP hA, z1]
      refine z1554_3 hP hA hD k2 ?_
      dsimp only [ex1554_3]
      intro q0 q1 q2 q3 q4
      have e := Option.some.inj e; subst e
      simp -implicitDefEqProofs (disch := first | assumption | exact Nat.le_of_ble_eq_true rfl | decide) only [b1554_0, g1554_1, b1554_1, g1554_4, b1554_4, g1554_5, b1554_5, pe_aload0, pe_iload1, pe_call2, pm_af_ret, pm_af_void, pm_af_thr, pe_call1, pe_iload2, pe_if_lt, pe_sipush, pe_goto, pe_goto_w, pe_istore3, pe_istore4, pe_iload4, pe_icmp_ge, pe_getfield, pe_aaload, pe_bipush, pe_call4, pe_if_eq, pe_iload3, pe_iinc3, pe_icmp_ne, pe_iinc4, pe_aloadN0, pe_aastoreN, pe_areturnN, pe_null, pm_prog_1, pm_ob_some, Nat.reduceDiv, Nat.reduceMod, Nat.reduceMul, Nat.reduceAdd, Int.reduceToNat, pm_kill_i, pm_kill_r, pm_kill_n, pm_kill_j, pm_kill_l, pm_kill_d, pm_cats_nil, pm_cats_i, pm_cats_r, pm_cats_n, pm_cats_l, pm_cats_d, sz_1, sz_2, sl_1, sl_2, lc_0, lc_lt, lc_le, li_ne, va_rf, wr_m1, we_m1, pm_kill_w, Int32.reduceOfInt, Int64.reduceOfInt, Int32.reduceOfNat, Int32.reduceLT, Int32.reduceLE, Prod.mk.injEq, Nat.reduceEqDiff, reduceCtorEq, and_true, true_and, and_false, false_and, and_self, ite_true, ite_false, ↓reduceIte, not_true_eq_false, not_false_eq_true, pe_ri, pe_rz, pe_rc, p_throw, t1554, w_junk hA, Ch_g0_2 hP hA, Ch_g4_3 hP hA, Ch_r3 hP hA, z1]
theorem x1554 {tc : Int32} {bc : Int32} {ec : Int32} {A : wK → Nat} {h : pm_H} {D : Nat} {S : wS} {x1 : Int32} {x2 : Int32} {r : Nat ⊕ (Int32)} (hP : Ch_P tc bc ec) (hA : wok A (Ch_d tc bc ec) h.1) (hD : 5 ≤ D) (e : f1554 tc bc ec S x1 x2 = some r) : pm_call pm_prog D 1554 [.ref (A (0, 0, 0)), .int x1, .int x2] (wput A (Ch_d tc bc ec) S h) = some (match (generalizing := false) r with | .inl c => (Outcome.threw c, (wput A (Ch_d tc bc ec) S (pm_new h 6 (.inr (c, []))))) | .inr w0 => (Outcome.returned (some (.int w0)), (wput A (Ch_d tc bc ec) S h))) := by
  obtain ⟨D, rfl⟩ : ∃ D', D = D' + 1 := ⟨D - 1, by omega⟩
  have hD : 4 ≤ D := by omega
  simp only [f1554] at e
  rw [c1554 (Ch_c0 hP hA), b1554_0]
  obtain ⟨v1, k1, e⟩ := Option.bind_eq_some_iff.mp e
  try dsimp only at e
  have z1 := x1551 (D := D) (h := h) hP hA (by omega) k1
  obtain ⟨r, k2, e⟩ := Option.bind_eq_some_iff.mp e
  have z2 := fun h => x1543 (D := D) (h := h) (by omega) k2
  rcases r with c5 | _
  · dsimp only at e z2
    have e := Option.some.inj e; subst e
    simp -implicitDefEqProofs (disch := first | assumption | exact Nat.le_of_ble_eq_true rfl | decide) only [b1554_0, g1554_1, b1554_1, g1554_4, b1554_4, g1554_5, b1554_5, pe_aload0, pe_iload1, pe_call2, pm_af_ret, pm_af_void, pm_af_thr, pe_call1, pe_iload2, pe_if_lt, pe_sipush, pe_goto, pe_goto_w, pe_istore3, pe_istore4, pe_iload4, pe_icmp_ge, pe_getfield, pe_aaload, pe_bipush, pe_call4, pe_if_eq, pe_iload3, pe_iinc3, pe_icmp_ne, pe_iinc4, pe_aloadN0, pe_aastoreN, pe_areturnN, pe_null, pm_prog_1, pm_ob_some, Nat.reduceDiv, Nat.reduceMod, Nat.reduceMul, Nat.reduceAdd, Int.reduceToNat, pm_kill_i, pm_kill_r, pm_kill_n, pm_kill_j, pm_kill_l, pm_kill_d, pm_cats_nil, pm_cats_i, pm_cats_r, pm_cats_n, pm_cats_l, pm_cats_d, sz_1, sz_2, sl_1, sl_2, lc_0, lc_lt, lc_le, li_ne, va_rf, wr_m1, we_m1, pm_kill_w, Int32.reduceOfInt, Int64.reduceOfInt, Int32.reduceOfNat, Int32.reduceLT, Int32.reduceLE, Prod.mk.injEq, Nat.reduceEqDiff, reduceCtorEq, and_true, true_and, and_false, false_and, and_self, ite_true, ite_false, ↓reduceIte, not_true_eq_false, not_false_eq_true, pe_ri, pe_rz, pe_rc, p_throw, t1554, w_junk hA, Ch_g0_2 hP hA, Ch_g4_3 hP hA, Ch_r3 hP hA, z1, z2]
  · dsimp only at e z2
    by_cases k3 : x2 < 0
    · rw [if_pos k3] at e
      have k4 := y1554_2 (h := h) hP hA hD e
      simp -implicitDefEqProofs (disch := first | assumption | exact Nat.le_of_ble_eq_true rfl | decide) only [b1554_0, g1554_1, b1554_1, g1554_4, b1554_4, g1554_5, b1554_5, pe_aload0, pe_iload1, pe_call2, pm_af_ret, pm_af_void, pm_af_thr, pe_call1, pe_iload2, pe_if_lt, pe_sipush, pe_goto, pe_goto_w, pe_istore3, pe_istore4, pe_iload4, pe_icmp_ge, pe_getfield, pe_aaload, pe_bipush, pe_call4, pe_if_eq, pe_iload3, pe_iinc3, pe_icmp_ne, pe_iinc4, pe_aloadN0, pe_aastoreN, pe_areturnN, pe_null, pm_prog_1, pm_ob_some, Nat.reduceDiv, Nat.reduceMod, Nat.reduceMul, Nat.reduceAdd, Int.reduceToNat, pm_kill_i, pm_kill_r, pm_kill_n, pm_kill_j, pm_kill_l, pm_kill_d, pm_cats_nil, pm_cats_i, pm_cats_r, pm_cats_n, pm_cats_l, pm_cats_d, sz_1, sz_2, sl_1, sl_2, lc_0, lc_lt, lc_le, li_ne, va_rf, wr_m1, we_m1, pm_kill_w, Int32.reduceOfInt, Int64.reduceOfInt, Int32.reduceOfNat, Int32.reduceLT, Int32.reduceLE, Prod.mk.injEq, Nat.reduceEqDiff, reduceCtorEq, and_true, true_and, and_false, false_and, and_self, ite_true, ite_false, ↓reduceIte, not_true_eq_false, not_false_eq_true, pe_ri, pe_rz, pe_rc, p_throw, t1554, w_junk hA, Ch_g0_2 hP hA, Ch_g4_3 hP hA, Ch_r3 hP hA, z1, z2, eq_true k3, k4]
    · rw [if_neg k3] at e
      have k5 := y1554_2 (h := h) hP hA hD e
      simp -implicitDefEqProofs (disch := first | assumption | exact Nat.le_of_ble_eq_true rfl | decide) only [b1554_0, g1554_1, b1554_1, g1554_4, b1554_4, g1554_5, b1554_5, pe_aload0, pe_iload1, pe_call2, pm_af_ret, pm_af_void, pm_af_thr, pe_call1, pe_iload2, pe_if_lt, pe_sipush, pe_goto, pe_goto_w, pe_istore3, pe_istore4, pe_iload4, pe_icmp_ge, pe_getfield, pe_aaload, pe_bipush, pe_call4, pe_if_eq, pe_iload3, pe_iinc3, pe_icmp_ne, pe_iinc4, pe_aloadN0, pe_aastoreN, pe_areturnN, pe_null, pm_prog_1, pm_ob_some, Nat.reduceDiv, Nat.reduceMod, Nat.reduceMul, Nat.reduceAdd, Int.reduceToNat, pm_kill_i, pm_kill_r, pm_kill_n, pm_kill_j, pm_kill_l, pm_kill_d, pm_cats_nil, pm_cats_i, pm_cats_r, pm_cats_n, pm_cats_l, pm_cats_d, sz_1, sz_2, sl_1, sl_2, lc_0, lc_lt, lc_le, li_ne, va_rf, wr_m1, we_m1, pm_kill_w, Int32.reduceOfInt, Int64.reduceOfInt, Int32.reduceOfNat, Int32.reduceLT, Int32.reduceLE, Prod.mk.injEq, Nat.reduceEqDiff, reduceCtorEq, and_true, true_and, and_false, false_and, and_self, ite_true, ite_false, ↓reduceIte, not_true_eq_false, not_false_eq_true, pe_ri, pe_rz, pe_rc, p_throw, t1554, w_junk hA, Ch_g0_2 hP hA, Ch_g4_3 hP hA, Ch_r3 hP hA, z1, z2, eq_false k3, k5]
/-- TimberHouse$ShopDesks.mark(I)I -/
theorem c1555 {d : Nat} {h : pm_H} {a : Nat} {x0 : Int32} (hc : pm_cls h a = some 24) : pm_call pm_prog (d + 1) 1555 [.ref a, .int x0] h = pm_ev pm_prog (pm_call pm_prog d) 1555 0 b1555_0 [.ref a, .int x0] [] h := pm_cal (pm_rc1 hc rfl) rfl rfl rfl
theorem t1555 {cl : pm_C} {j : Nat} {ls : List Value} {c : Nat} {h : pm_H} : pm_thr pm_prog cl 1555 j ls c h = some (.threw c, h) := rfl
/-- TimberHouse$ShopDesks.mark(I)I -/
noncomputable def f1555 (tc : Int32) (bc : Int32) (ec : Int32) (S : wS) (x1 : Int32) : Option (Nat ⊕ (Int32)) :=
  (f1551 tc bc ec S x1).bind fun v1 =>
  (f1543 v1).bind fun r => match r with
  | .inl c2 =>
    some (.inl c2)
  | .inr _ =>
  if 0 ≤ x1 ∧ x1 < 8 then
    if x1 < bc then
      if 0 ≤ x1 ∧ x1 < bc then
        some (.inr (S.1 (4, x1, 0) 3))
      else none
    else none
  else none
theorem x1555 {tc : Int32} {bc : Int32} {ec : Int32} {A : wK → Nat} {h : pm_H} {D : Nat} {S : wS} {x1 : Int32} {r : Nat ⊕ (Int32)} (hP : Ch_P tc bc ec) (hA : wok A (Ch_d tc bc ec) h.1) (hD : 3 ≤ D) (e : f1555 tc bc ec S x1 = some r) : pm_call pm_prog D 1555 [.ref (A (0, 0, 0)), .int x1] (wput A (Ch_d tc bc ec) S h) = some (match (generalizing := false) r with | .inl c => (Outcome.threw c, (wput A (Ch_d tc bc ec) S (pm_new h 6 (.inr (c, []))))) | .inr w0 => (Outcome.returned (some (.int w0)), (wput A (Ch_d tc bc ec) S h))) := by
  obtain ⟨D, rfl⟩ : ∃ D', D = D' + 1 := ⟨D - 1, by omega⟩
  have hD : 2 ≤ D := by omega
  simp only [f1555] at e
  rw [c1555 (Ch_c0 hP hA), b1555_0]
  obtain ⟨v1, k1, e⟩ := Option.bind_eq_some_iff.mp e
  try dsimp only at e
  have z1 := x1551 (D := D) (h := h) hP hA (by omega) k1
  obtain ⟨r, k2, e⟩ := Option.bind_eq_some_iff.mp e
  have z2 := fun h => x1543 (D := D) (h := h) (by omega) k2
  rcases r with c2 | _
  · dsimp only at e z2
    have e := Option.some.inj e; subst e
    simp -implicitDefEqProofs (disch := first | assumption | exact Nat.le_of_ble_eq_true rfl | decide) only [b1555_0, pe_aload0, pe_iload1, pe_call2, pm_af_ret, pm_af_void, pm_af_thr, pe_call1, pe_getfield, pe_aaload, pe_aloadN0, pe_aastoreN, pe_areturnN, pe_null, pm_prog_1, pm_ob_some, Nat.reduceDiv, Nat.reduceMod, Nat.reduceMul, Nat.reduceAdd, Int.reduceToNat, pm_kill_i, pm_kill_r, pm_kill_n, pm_kill_j, pm_kill_l, pm_kill_d, pm_cats_nil, pm_cats_i, pm_cats_r, pm_cats_n, pm_cats_l, pm_cats_d, sz_1, sz_2, sl_1, sl_2, lc_0, lc_lt, lc_le, li_ne, va_rf, wr_m1, we_m1, pm_kill_w, Int32.reduceOfInt, Int64.reduceOfInt, Int32.reduceOfNat, Int32.reduceLT, Int32.reduceLE, Prod.mk.injEq, Nat.reduceEqDiff, reduceCtorEq, and_true, true_and, and_false, false_and, and_self, ite_true, ite_false, ↓reduceIte, not_true_eq_false, not_false_eq_true, pe_ri, pe_rz, pe_rc, p_throw, t1555, w_junk hA, Ch_g0_2 hP hA, Ch_g4_3 hP hA, Ch_r3 hP hA, z1, z2]
  · dsimp only at e z2
    by_cases k3 : 0 ≤ x1 ∧ x1 < 8
    · rw [if_pos k3] at e
      by_cases k4 : x1 < bc
      · rw [if_pos k4] at e
        by_cases k5 : 0 ≤ x1 ∧ x1 < bc
        · rw [if_pos k5] at e
          have e := Option.some.inj e; subst e
          simp -implicitDefEqProofs (disch := first | assumption | exact Nat.le_of_ble_eq_true rfl | decide) only [b1555_0, pe_aload0, pe_iload1, pe_call2, pm_af_ret, pm_af_void, pm_af_thr, pe_call1, pe_getfield, pe_aaload, pe_aloadN0, pe_aastoreN, pe_areturnN, pe_null, pm_prog_1, pm_ob_some, Nat.reduceDiv, Nat.reduceMod, Nat.reduceMul, Nat.reduceAdd, Int.reduceToNat, pm_kill_i, pm_kill_r, pm_kill_n, pm_kill_j, pm_kill_l, pm_kill_d, pm_cats_nil, pm_cats_i, pm_cats_r, pm_cats_n, pm_cats_l, pm_cats_d, sz_1, sz_2, sl_1, sl_2, lc_0, lc_lt, lc_le, li_ne, va_rf, wr_m1, we_m1, pm_kill_w, Int32.reduceOfInt, Int64.reduceOfInt, Int32.reduceOfNat, Int32.reduceLT, Int32.reduceLE, Prod.mk.injEq, Nat.reduceEqDiff, reduceCtorEq, and_true, true_and, and_false, false_and, and_self, ite_true, ite_false, ↓reduceIte, not_true_eq_false, not_false_eq_true, pe_ri, pe_rz, pe_rc, p_throw, t1555, w_junk hA, Ch_g0_2 hP hA, Ch_g4_3 hP hA, Ch_r3 hP hA, z1, z2]
        · rw [if_neg k5] at e; cases e
      · rw [if_neg k4] at e; cases e
    · rw [if_neg k3] at e; cases e
/-- TimberHouse$ShopDesks.since(IIII)J -/
theorem c1556 {d : Nat} {h : pm_H} {a : Nat} {x0 : Int32} {x1 : Int32} {x2 : Int32} {x3 : Int32} (hc : pm_cls h a = some 24) : pm_call pm_prog (d + 1) 1556 [.ref a, .int x0, .int x1, .int x2, .int x3] h = pm_ev pm_prog (pm_call pm_prog d) 1556 0 b1556_0 [.ref a, .int x0, .int x1, .int x2, .int x3, pm_junk] [] h := pm_cal (pm_rc1 hc rfl) rfl rfl rfl
theorem g1556_1 {cl : pm_C} {ls st : List Value} {h : pm_H} : pm_go pm_prog cl 1556 1 ls st h = pm_ev pm_prog cl 1556 1 b1556_1 ls st h := pm_go_eq pm_prog cl 1556 1 ls st h
theorem g1556_2 {cl : pm_C} {ls st : List Value} {h : pm_H} : pm_go pm_prog cl 1556 2 ls st h = pm_ev pm_prog cl 1556 2 b1556_2 ls st h := pm_go_eq pm_prog cl 1556 2 ls st h
theorem g1556_3 {cl : pm_C} {ls st : List Value} {h : pm_H} : pm_go pm_prog cl 1556 3 ls st h = pm_ev pm_prog cl 1556 3 b1556_3 ls st h := pm_go_eq pm_prog cl 1556 3 ls st h
theorem g1556_4 {cl : pm_C} {ls st : List Value} {h : pm_H} : pm_go pm_prog cl 1556 4 ls st h = pm_ev pm_prog cl 1556 4 b1556_4 ls st h := pm_go_eq pm_prog cl 1556 4 ls st h
theorem g1556_5 {cl : pm_C} {ls st : List Value} {h : pm_H} : pm_go pm_prog cl 1556 5 ls st h = pm_ev pm_prog cl 1556 5 b1556_5 ls st h := pm_go_eq pm_prog cl 1556 5 ls st h
theorem g1556_6 {cl : pm_C} {ls st : List Value} {h : pm_H} : pm_go pm_prog cl 1556 6 ls st h = pm_ev pm_prog cl 1556 6 b1556_6 ls st h := pm_go_eq pm_prog cl 1556 6 ls st h
theorem g1556_7 {cl : pm_C} {ls st : List Value} {h : pm_H} : pm_go pm_prog cl 1556 7 ls st h = pm_ev pm_prog cl 1556 7 b1556_7 ls st h := pm_go_eq pm_prog cl 1556 7 ls st h
theorem g1556_8 {cl : pm_C} {ls st : List Value} {h : pm_H} : pm_go pm_prog cl 1556 8 ls st h = pm_ev pm_prog cl 1556 8 b1556_8 ls st h := pm_go_eq pm_prog cl 1556 8 ls st h
theorem t1556 {cl : pm_C} {j : Nat} {ls : List Value} {c : Nat} {h : pm_H} : pm_thr pm_prog cl 1556 j ls c h = some (.threw c, h) := rfl
noncomputable def f1556_5 (tc : Int32) (bc : Int32) (ec : Int32) (S : wS) (x1 : Int32) (x2 : Int32) (x3 : Int32) (x4 : Int32) (y0 : Int32) : Option (Nat ⊕ (Int64)) :=
  (f1539 y0).bind fun r => match r with
  | .inl c2 =>
    some (.inl c2)
  | .inr _ =>
  if 0 ≤ x1 ∧ x1 < 8 then
    if x1 < bc then
      if 0 ≤ x1 ∧ x1 < bc then
        if 0 ≤ (x2 + x3) ∧ (x2 + x3) < 300 then
          if 0 ≤ (S.1 (5, x1, 0) (x2 + x3)) ∧ (S.1 (5, x1, 0) (x2 + x3)) < 300 then
            if (S.1 (5, x1, 0) (x2 + x3)) < tc then
              if 0 ≤ (S.1 (5, x1, 0) (x2 + x3)) ∧ (S.1 (5, x1, 0) (x2 + x3)) < tc then
                if x4 = 0 then
                  some (.inr (Int32.toInt64 (S.1 (2, (S.1 (5, x1, 0) (x2 + x3)), 0) 0)))
                else
                  if x4 = 1 then
                    some (.inr (S.2 (2, (S.1 (5, x1, 0) (x2 + x3)), 0) 1))
                  else
                    some (.inr (S.2 (2, (S.1 (5, x1, 0) (x2 + x3)), 0) 4))
              else none
            else none
          else none
        else none
      else none
    else none
  else none
noncomputable def f1556_3 (tc : Int32) (bc : Int32) (ec : Int32) (S : wS) (x1 : Int32) (x2 : Int32) (x3 : Int32) (x4 : Int32) (y0 : Int32) : Option (Nat ⊕ (Int64)) :=
  (f1543 y0).bind fun r => match r with
  | .inl c4 =>
    some (.inl c4)
  | .inr _ =>
  if x2 < 0 then
    f1556_5 tc bc ec S x1 x2 x3 x4 0
  else
    if x3 < 0 then
      f1556_5 tc bc ec S x1 x2 x3 x4 0
    else
      (f1538 (Int32.toInt64 x4) 0 2).bind fun v3 =>
      if v3 = 0 then
        f1556_5 tc bc ec S x1 x2 x3 x4 0
      else
        f1556_5 tc bc ec S x1 x2 x3 x4 1
/-- TimberHouse$ShopDesks.since(IIII)J -/
noncomputable def f1556 (tc : Int32) (bc : Int32) (ec : Int32) (S : wS) (x1 : Int32) (x2 : Int32) (x3 : Int32) (x4 : Int32) : Option (Nat ⊕ (Int64)) :=
  (f1551 tc bc ec S x1).bind fun v1 =>
  (f1543 v1).bind fun r => match r with
  | .inl c5 =>
    some (.inl c5)
  | .inr _ =>
  if x2 < 0 then
    f1556_3 tc bc ec S x1 x2 x3 x4 1
  else
    if x3 < 0 then
      f1556_3 tc bc ec S x1 x2 x3 x4 1
    else
      if 0 ≤ x1 ∧ x1 < 8 then
        if x1 < bc then
          if 0 ≤ x1 ∧ x1 < bc then
            if ((Int32.toInt64 x2) + (Int32.toInt64 x3)) < (Int32.toInt64 (S.1 (4, x1, 0) 3)) then
              f1556_3 tc bc ec S x1 x2 x3 x4 1
            else
              f1556_3 tc bc ec S x1 x2 x3 x4 0
          else none
        else none
      else none
theorem y1556_5 {tc : Int32} {bc : Int32} {ec : Int32} {A : wK → Nat} {h : pm_H} {D : Nat} {S : wS} {x1 : Int32} {x2 : Int32} {x3 : Int32} {x4 : Int32} {y0 : Int32} {r : Nat ⊕ (Int64)} (hP : Ch_P tc bc ec) (hA : wok A (Ch_d tc bc ec) h.1) (hD : 2 ≤ D) (e : f1556_5 tc bc ec S x1 x2 x3 x4 y0 = some r) : ∀ q5 : Value, pm_go pm_prog (pm_call pm_prog D) 1556 5 [.ref (A (0, 0, 0)), .int x1, .int x2, .int x3, .int x4, q5] [.int y0] (wput A (Ch_d tc bc ec) S h) = some (match (generalizing := false) r with | .inl c => (Outcome.threw c, (wput A (Ch_d tc bc ec) S (pm_new h 6 (.inr (c, []))))) | .inr w0 => (Outcome.returned (some (.long w0)), (wput A (Ch_d tc bc ec) S h))) := by
  intro q5
  simp only [f1556_5] at e
  rw [g1556_5, b1556_5]
  obtain ⟨r, k1, e⟩ := Option.bind_eq_some_iff.mp e
  have z1 := fun h => x1539 (D := D) (h := h) (by omega) k1
  rcases r with c2 | _
  · dsimp only at e z1
    have e := Option.some.inj e; subst e
    simp -implicitDefEqProofs (disch := first | assumption | exact Nat.le_of_ble_eq_true rfl | decide) only [b1556_0, g1556_1, b1556_1, g1556_2, b1556_2, g1556_4, b1556_4, g1556_6, b1556_6, g1556_7, b1556_7, g1556_8, b1556_8, pe_aload0, pe_iload1, pe_call2, pm_af_ret, pm_af_void, pm_af_thr, pe_call1, pe_iload2, pe_if_lt, pe_iload3, pe_i2l, pe_ladd, pe_getfield, pe_aaload, pe_lcmp, pe_if_ge, pe_goto_w, pe_sipush, pe_goto, pe_iload4, pe_bipush, pe_call3, pe_if_eq, pe_iadd, pe_saload, pe_astore5, pe_if_ne, pe_aload5, pe_icmp_ne, pe_lreturn, pe_aloadN0, pe_astoreN5, pe_aloadN5, pe_aastoreN, pe_areturnN, pe_null, pm_prog_1, pm_ob_some, Nat.reduceDiv, Nat.reduceMod, Nat.reduceMul, Nat.reduceAdd, Int.reduceToNat, pm_kill_i, pm_kill_r, pm_kill_n, pm_kill_j, pm_kill_l, pm_kill_d, pm_cats_nil, pm_cats_i, pm_cats_r, pm_cats_n, pm_cats_l, pm_cats_d, sz_1, sz_2, sl_1, sl_2, lc_0, lc_lt, lc_le, li_ne, va_rf, wr_m1, we_m1, pm_kill_w, Int32.reduceOfInt, Int64.reduceOfInt, Int32.reduceOfNat, Int32.reduceLT, Int32.reduceLE, Prod.mk.injEq, Nat.reduceEqDiff, reduceCtorEq, and_true, true_and, and_false, false_and, and_self, ite_true, ite_false, ↓reduceIte, not_true_eq_false, not_false_eq_true, pe_ri, pe_rz, pe_rc, p_throw, t1556, w_junk hA, Ch_g0_0 hP hA, Ch_g0_2 hP hA, Ch_g2_0 hP hA, Ch_g2_1 hP hA, Ch_g2_4 hP hA, Ch_g4_1 hP hA, Ch_g4_3 hP hA, Ch_r1 hP hA, Ch_r3 hP hA, Ch_r5 hP hA, z1]
  · dsimp only at e z1
    by_cases k2 : 0 ≤ x1 ∧ x1 < 8
    · rw [if_pos k2] at e
      by_cases k3 : x1 < bc
      · rw [if_pos k3] at e
        by_cases k4 : 0 ≤ x1 ∧ x1 < bc
        · rw [if_pos k4] at e
          by_cases k5 : 0 ≤ (x2 + x3) ∧ (x2 + x3) < 300
          · rw [if_pos k5] at e
            by_cases k6 : 0 ≤ (S.1 (5, x1, 0) (x2 + x3)) ∧ (S.1 (5, x1, 0) (x2 + x3)) < 300
            · rw [if_pos k6] at e
              by_cases k7 : (S.1 (5, x1, 0) (x2 + x3)) < tc
              · rw [if_pos k7] at e
                by_cases k8 : 0 ≤ (S.1 (5, x1, 0) (x2 + x3)) ∧ (S.1 (5, x1, 0) (x2 + x3)) < tc
                · rw [if_pos k8] at e
                  by_cases k9 : x4 = 0
                  · rw [if_pos k9] at e
                    have e := Option.some.inj e; subst e
                    simp -implicitDefEqProofs (disch := first | assumption | exact Nat.le_of_ble_eq_true rfl | decide) only [b1556_0, g1556_1, b1556_1, g1556_2, b1556_2, g1556_4, b1556_4, g1556_6, b1556_6, g1556_7, b1556_7, g1556_8, b1556_8, pe_aload0, pe_iload1, pe_call2, pm_af_ret, pm_af_void, pm_af_thr, pe_call1, pe_iload2, pe_if_lt, pe_iload3, pe_i2l, pe_ladd, pe_getfield, pe_aaload, pe_lcmp, pe_if_ge, pe_goto_w, pe_sipush, pe_goto, pe_iload4, pe_bipush, pe_call3, pe_if_eq, pe_iadd, pe_saload, pe_astore5, pe_if_ne, pe_aload5, pe_icmp_ne, pe_lreturn, pe_aloadN0, pe_astoreN5, pe_aloadN5, pe_aastoreN, pe_areturnN, pe_null, pm_prog_1, pm_ob_some, Nat.reduceDiv, Nat.reduceMod, Nat.reduceMul, Nat.reduceAdd, Int.reduceToNat, pm_kill_i, pm_kill_r, pm_kill_n, pm_kill_j, pm_kill_l, pm_kill_d, pm_cats_nil, pm_cats_i, pm_cats_r, pm_cats_n, pm_cats_l, pm_cats_d, sz_1, sz_2, sl_1, sl_2, lc_0, lc_lt, lc_le, li_ne, va_rf, wr_m1, we_m1, pm_kill_w, Int32.reduceOfInt, Int64.reduceOfInt, Int32.reduceOfNat, Int32.reduceLT, Int32.reduceLE, Prod.mk.injEq, Nat.reduceEqDiff, reduceCtorEq, and_true, true_and, and_false, false_and, and_self, ite_true, ite_false, ↓reduceIte, not_true_eq_false, not_false_eq_true, pe_ri, pe_rz, pe_rc, p_throw, t1556, w_junk hA, Ch_g0_0 hP hA, Ch_g0_2 hP hA, Ch_g2_0 hP hA, Ch_g2_1 hP hA, Ch_g2_4 hP hA, Ch_g4_1 hP hA, Ch_g4_3 hP hA, Ch_r1 hP hA, Ch_r3 hP hA, Ch_r5 hP hA, z1, eq_true k9]
                  · rw [if_neg k9] at e
                    by_cases k10 : x4 = 1
                    · rw [if_pos k10] at e
                      have e := Option.some.inj e; subst e
                      simp -implicitDefEqProofs (disch := first | assumption | exact Nat.le_of_ble_eq_true rfl | decide) only [b1556_0, g1556_1, b1556_1, g1556_2, b1556_2, g1556_4, b1556_4, g1556_6, b1556_6, g1556_7, b1556_7, g1556_8, b1556_8, pe_aload0, pe_iload1, pe_call2, pm_af_ret, pm_af_void, pm_af_thr, pe_call1, pe_iload2, pe_if_lt, pe_iload3, pe_i2l, pe_ladd, pe_getfield, pe_aaload, pe_lcmp, pe_if_ge, pe_goto_w, pe_sipush, pe_goto, pe_iload4, pe_bipush, pe_call3, pe_if_eq, pe_iadd, pe_saload, pe_astore5, pe_if_ne, pe_aload5, pe_icmp_ne, pe_lreturn, pe_aloadN0, pe_astoreN5, pe_aloadN5, pe_aastoreN, pe_areturnN, pe_null, pm_prog_1, pm_ob_some, Nat.reduceDiv, Nat.reduceMod, Nat.reduceMul, Nat.reduceAdd, Int.reduceToNat, pm_kill_i, pm_kill_r, pm_kill_n, pm_kill_j, pm_kill_l, pm_kill_d, pm_cats_nil, pm_cats_i, pm_cats_r, pm_cats_n, pm_cats_l, pm_cats_d, sz_1, sz_2, sl_1, sl_2, lc_0, lc_lt, lc_le, li_ne, va_rf, wr_m1, we_m1, pm_kill_w, Int32.reduceOfInt, Int64.reduceOfInt, Int32.reduceOfNat, Int32.reduceLT, Int32.reduceLE, Prod.mk.injEq, Nat.reduceEqDiff, reduceCtorEq, and_true, true_and, and_false, false_and, and_self, ite_true, ite_false, ↓reduceIte, not_true_eq_false, not_false_eq_true, pe_ri, pe_rz, pe_rc, p_throw, t1556, w_junk hA, Ch_g0_0 hP hA, Ch_g0_2 hP hA, Ch_g2_0 hP hA, Ch_g2_1 hP hA, Ch_g2_4 hP hA, Ch_g4_1 hP hA, Ch_g4_3 hP hA, Ch_r1 hP hA, Ch_r3 hP hA, Ch_r5 hP hA, z1, eq_false k9, eq_true k10]
                    · rw [if_neg k10] at e
                      have e := Option.some.inj e; subst e
                      simp -implicitDefEqProofs (disch := first | assumption | exact Nat.le_of_ble_eq_true rfl | decide) only [b1556_0, g1556_1, b1556_1, g1556_2, b1556_2, g1556_4, b1556_4, g1556_6, b1556_6, g1556_7, b1556_7, g1556_8, b1556_8, pe_aload0, pe_iload1, pe_call2, pm_af_ret, pm_af_void, pm_af_thr, pe_call1, pe_iload2, pe_if_lt, pe_iload3, pe_i2l, pe_ladd, pe_getfield, pe_aaload, pe_lcmp, pe_if_ge, pe_goto_w, pe_sipush, pe_goto, pe_iload4, pe_bipush, pe_call3, pe_if_eq, pe_iadd, pe_saload, pe_astore5, pe_if_ne, pe_aload5, pe_icmp_ne, pe_lreturn, pe_aloadN0, pe_astoreN5, pe_aloadN5, pe_aastoreN, pe_areturnN, pe_null, pm_prog_1, pm_ob_some, Nat.reduceDiv, Nat.reduceMod, Nat.reduceMul, Nat.reduceAdd, Int.reduceToNat, pm_kill_i, pm_kill_r, pm_kill_n, pm_kill_j, pm_kill_l, pm_kill_d, pm_cats_nil, pm_cats_i, pm_cats_r, pm_cats_n, pm_cats_l, pm_cats_d, sz_1, sz_2, sl_1, sl_2, lc_0, lc_lt, lc_le, li_ne, va_rf, wr_m1, we_m1, pm_kill_w, Int32.reduceOfInt, Int64.reduceOfInt, Int32.reduceOfNat, Int32.reduceLT, Int32.reduceLE, Prod.mk.injEq, Nat.reduceEqDiff, reduceCtorEq, and_true, true_and, and_false, false_and, and_self, ite_true, ite_false, ↓reduceIte, not_true_eq_false, not_false_eq_true, pe_ri, pe_rz, pe_rc, p_throw, t1556, w_junk hA, Ch_g0_0 hP hA, Ch_g0_2 hP hA, Ch_g2_0 hP hA, Ch_g2_1 hP hA, Ch_g2_4 hP hA, Ch_g4_1 hP hA, Ch_g4_3 hP hA, Ch_r1 hP hA, Ch_r3 hP hA, Ch_r5 hP hA, z1, eq_false k9, eq_false k10]
                · rw [if_neg k8] at e; cases e
              · rw [if_neg k7] at e; cases e
            · rw [if_neg k6] at e; cases e
          · rw [if_neg k5] at e; cases e
        · rw [if_neg k4] at e; cases e
      · rw [if_neg k3] at e; cases e
    · rw [if_neg k2] at e; cases e
theorem y1556_3 {tc : Int32} {bc : Int32} {ec : Int32} {A : wK → Nat} {h : pm_H} {D : Nat} {S : wS} {x1 : Int32} {x2 : Int32} {x3 : Int32} {x4 : Int32} {y0 : Int32} {r : Nat ⊕ (Int64)} (hP : Ch_P tc bc ec) (hA : wok A (Ch_d tc bc ec) h.1) (hD : 2 ≤ D) (e : f1556_3 tc bc ec S x1 x2 x3 x4 y0 = some r) : ∀ q5 : Value, pm_go pm_prog (pm_call pm_prog D) 1556 3 [.ref (A (0, 0, 0)), .int x1, .int x2, .int x3, .int x4, q5] [.int y0] (wput A (Ch_d tc bc ec) S h) = some (match (generalizing := false) r with | .inl c => (Outcome.threw c, (wput A (Ch_d tc bc ec) S (pm_new h 6 (.inr (c, []))))) | .inr w0 => (Outcome.returned (some (.long w0)), (wput A (Ch_d tc bc ec) S h))) := by
  intro q5
  simp only [f1556_3] at e
  rw [g1556_3, b1556_3]
  obtain ⟨r, k1, e⟩ := Option.bind_eq_some_iff.mp e
  have z1 := fun h => x1543 (D := D) (h := h) (by omega) k1
  rcases r with c4 | _
  · dsimp only at e z1
    have e := Option.some.inj e; subst e
    simp -implicitDefEqProofs (disch := first | assumption | exact Nat.le_of_ble_eq_true rfl | decide) only [b1556_0, g1556_1, b1556_1, g1556_2, b1556_2, g1556_4, b1556_4, g1556_6, b1556_6, g1556_7, b1556_7, g1556_8, b1556_8, pe_aload0, pe_iload1, pe_call2, pm_af_ret, pm_af_void, pm_af_thr, pe_call1, pe_iload2, pe_if_lt, pe_iload3, pe_i2l, pe_ladd, pe_getfield, pe_aaload, pe_lcmp, pe_if_ge, pe_goto_w, pe_sipush, pe_goto, pe_iload4, pe_bipush, pe_call3, pe_if_eq, pe_iadd, pe_saload, pe_astore5, pe_if_ne, pe_aload5, pe_icmp_ne, pe_lreturn, pe_aloadN0, pe_astoreN5, pe_aloadN5, pe_aastoreN, pe_areturnN, pe_null, pm_prog_1, pm_ob_some, Nat.reduceDiv, Nat.reduceMod, Nat.reduceMul, Nat.reduceAdd, Int.reduceToNat, pm_kill_i, pm_kill_r, pm_kill_n, pm_kill_j, pm_kill_l, pm_kill_d, pm_cats_nil, pm_cats_i, pm_cats_r, pm_cats_n, pm_cats_l, pm_cats_d, sz_1, sz_2, sl_1, sl_2, lc_0, lc_lt, lc_le, li_ne, va_rf, wr_m1, we_m1, pm_kill_w, Int32.reduceOfInt, Int64.reduceOfInt, Int32.reduceOfNat, Int32.reduceLT, Int32.reduceLE, Prod.mk.injEq, Nat.reduceEqDiff, reduceCtorEq, and_true, true_and, and_false, false_and, and_self, ite_true, ite_false, ↓reduceIte, not_true_eq_false, not_false_eq_true, pe_ri, pe_rz, pe_rc, p_throw, t1556, w_junk hA, Ch_g0_0 hP hA, Ch_g0_2 hP hA, Ch_g2_0 hP hA, Ch_g2_1 hP hA, Ch_g2_4 hP hA, Ch_g4_1 hP hA, Ch_g4_3 hP hA, Ch_r1 hP hA, Ch_r3 hP hA, Ch_r5 hP hA, z1]
  · dsimp only at e z1
    by_cases k2 : x2 < 0
    · rw [if_pos k2] at e
      have k3 := y1556_5 (h := h) hP hA hD e
      simp -implicitDefEqProofs (disch := first | assumption | exact Nat.le_of_ble_eq_true rfl | decide) only [b1556_0, g1556_1, b1556_1, g1556_2, b1556_2, g1556_4, b1556_4, g1556_6, b1556_6, g1556_7, b1556_7, g1556_8, b1556_8, pe_aload0, pe_iload1, pe_call2, pm_af_ret, pm_af_void, pm_af_thr, pe_call1, pe_iload2, pe_if_lt, pe_iload3, pe_i2l, pe_ladd, pe_getfield, pe_aaload, pe_lcmp, pe_if_ge, pe_goto_w, pe_sipush, pe_goto, pe_iload4, pe_bipush, pe_call3, pe_if_eq, pe_iadd, pe_saload, pe_astore5, pe_if_ne, pe_aload5, pe_icmp_ne, pe_lreturn, pe_aloadN0, pe_astoreN5, pe_aloadN5, pe_aastoreN, pe_areturnN, pe_null, pm_prog_1, pm_ob_some, Nat.reduceDiv, Nat.reduceMod, Nat.reduceMul, Nat.reduceAdd, Int.reduceToNat, pm_kill_i, pm_kill_r, pm_kill_n, pm_kill_j, pm_kill_l, pm_kill_d, pm_cats_nil, pm_cats_i, pm_cats_r, pm_cats_n, pm_cats_l, pm_cats_d, sz_1, sz_2, sl_1, sl_2, lc_0, lc_lt, lc_le, li_ne, va_rf, wr_m1, we_m1, pm_kill_w, Int32.reduceOfInt, Int64.reduceOfInt, Int32.reduceOfNat, Int32.reduceLT, Int32.reduceLE, Prod.mk.injEq, Nat.reduceEqDiff, reduceCtorEq, and_true, true_and, and_false, false_and, and_self, ite_true, ite_false, ↓reduceIte, not_true_eq_false, not_false_eq_true, pe_ri, pe_rz, pe_rc, p_throw, t1556, w_junk hA, Ch_g0_0 hP hA, Ch_g0_2 hP hA, Ch_g2_0 hP hA, Ch_g2_1 hP hA, Ch_g2_4 hP hA, Ch_g4_1 hP hA, Ch_g4_3 hP hA, Ch_r1 hP hA, Ch_r3 hP hA, Ch_r5 hP hA, z1, eq_true k2, k3]
    · rw [if_neg k2] at e
      by_cases k4 : x3 < 0
      · rw [if_pos k4] at e
        have k5 := y1556_5 (h := h) hP hA hD e
        simp -implicitDefEqProofs (disch := first | assumption | exact Nat.le_of_ble_eq_true rfl | decide) only [b1556_0, g1556_1, b1556_1, g1556_2, b1556_2, g1556_4, b1556_4, g1556_6, b1556_6, g1556_7, b1556_7, g1556_8, b1556_8, pe_aload0, pe_iload1, pe_call2, pm_af_ret, pm_af_void, pm_af_thr, pe_call1, pe_iload2, pe_if_lt, pe_iload3, pe_i2l, pe_ladd, pe_getfield, pe_aaload, pe_lcmp, pe_if_ge, pe_goto_w, pe_sipush, pe_goto, pe_iload4, pe_bipush, pe_call3, pe_if_eq, pe_iadd, pe_saload, pe_astore5, pe_if_ne, pe_aload5, pe_icmp_ne, pe_lreturn, pe_aloadN0, pe_astoreN5, pe_aloadN5, pe_aastoreN, pe_areturnN, pe_null, pm_prog_1, pm_ob_some, Nat.reduceDiv, Nat.reduceMod, Nat.reduceMul, Nat.reduceAdd, Int.reduceToNat, pm_kill_i, pm_kill_r, pm_kill_n, pm_kill_j, pm_kill_l, pm_kill_d, pm_cats_nil, pm_cats_i, pm_cats_r, pm_cats_n, pm_cats_l, pm_cats_d, sz_1, sz_2, sl_1, sl_2, lc_0, lc_lt, lc_le, li_ne, va_rf, wr_m1, we_m1, pm_kill_w, Int32.reduceOfInt, Int64.reduceOfInt, Int32.reduceOfNat, Int32.reduceLT, Int32.reduceLE, Prod.mk.injEq, Nat.reduceEqDiff, reduceCtorEq, and_true, true_and, and_false, false_and, and_self, ite_true, ite_false, ↓reduceIte, not_true_eq_false, not_false_eq_true, pe_ri, pe_rz, pe_rc, p_throw, t1556, w_junk hA, Ch_g0_0 hP hA, Ch_g0_2 hP hA, Ch_g2_0 hP hA, Ch_g2_1 hP hA, Ch_g2_4 hP hA, Ch_g4_1 hP hA, Ch_g4_3 hP hA, Ch_r1 hP hA, Ch_r3 hP hA, Ch_r5 hP hA, z1, eq_false k2, eq_true k4, k5]
      · rw [if_neg k4] at e
        obtain ⟨v3, k6, e⟩ := Option.bind_eq_some_iff.mp e
        try dsimp only at e
        have z6 := fun h => x1538 (D := D) (h := h) (by omega) k6
        by_cases k7 : v3 = 0
        · rw [if_pos k7] at e
          have k8 := y1556_5 (h := h) hP hA hD e
          simp -implicitDefEqProofs (disch := first | assumption | exact Nat.le_of_ble_eq_true rfl | decide) only [b1556_0, g1556_1, b1556_1, g1556_2, b1556_2, g1556_4, b1556_4, g1556_6, b1556_6, g1556_7, b1556_7, g1556_8, b1556_8, pe_aload0, pe_iload1, pe_call2, pm_af_ret, pm_af_void, pm_af_thr, pe_call1, pe_iload2, pe_if_lt, pe_iload3, pe_i2l, pe_ladd, pe_getfield, pe_aaload, pe_lcmp, pe_if_ge, pe_goto_w, pe_sipush, pe_goto, pe_iload4, pe_bipush, pe_call3, pe_if_eq, pe_iadd, pe_saload, pe_astore5, pe_if_ne, pe_aload5, pe_icmp_ne, pe_lreturn, pe_aloadN0, pe_astoreN5, pe_aloadN5, pe_aastoreN, pe_areturnN, pe_null, pm_prog_1, pm_ob_some, Nat.reduceDiv, Nat.reduceMod, Nat.reduceMul, Nat.reduceAdd, Int.reduceToNat, pm_kill_i, pm_kill_r, pm_kill_n, pm_kill_j, pm_kill_l, pm_kill_d, pm_cats_nil, pm_cats_i, pm_cats_r, pm_cats_n, pm_cats_l, pm_cats_d, sz_1, sz_2, sl_1, sl_2, lc_0, lc_lt, lc_le, li_ne, va_rf, wr_m1, we_m1, pm_kill_w, Int32.reduceOfInt, Int64.reduceOfInt, Int32.reduceOfNat, Int32.reduceLT, Int32.reduceLE, Prod.mk.injEq, Nat.reduceEqDiff, reduceCtorEq, and_true, true_and, and_false, false_and, and_self, ite_true, ite_false, ↓reduceIte, not_true_eq_false, not_false_eq_true, pe_ri, pe_rz, pe_rc, p_throw, t1556, w_junk hA, Ch_g0_0 hP hA, Ch_g0_2 hP hA, Ch_g2_0 hP hA, Ch_g2_1 hP hA, Ch_g2_4 hP hA, Ch_g4_1 hP hA, Ch_g4_3 hP hA, Ch_r1 hP hA, Ch_r3 hP hA, Ch_r5 hP hA, z1, eq_false k2, eq_false k4, z6, eq_true k7, k8]
        · rw [if_neg k7] at e
          have k9 := y1556_5 (h := h) hP hA hD e
          simp -implicitDefEqProofs (disch := first | assumption | exact Nat.le_of_ble_eq_true rfl | decide) only [b1556_0, g1556_1, b1556_1, g1556_2, b1556_2, g1556_4, b1556_4, g1556_6, b1556_6, g1556_7, b1556_7, g1556_8, b1556_8, pe_aload0, pe_iload1, pe_call2, pm_af_ret, pm_af_void, pm_af_thr, pe_call1, pe_iload2, pe_if_lt, pe_iload3, pe_i2l, pe_ladd, pe_getfield, pe_aaload, pe_lcmp, pe_if_ge, pe_goto_w, pe_sipush, pe_goto, pe_iload4, pe_bipush, pe_call3, pe_if_eq, pe_iadd, pe_saload, pe_astore5, pe_if_ne, pe_aload5, pe_icmp_ne, pe_lreturn, pe_aloadN0, pe_astoreN5, pe_aloadN5, pe_aastoreN, pe_areturnN, pe_null, pm_prog_1, pm_ob_some, Nat.reduceDiv, Nat.reduceMod, Nat.reduceMul, Nat.reduceAdd, Int.reduceToNat, pm_kill_i, pm_kill_r, pm_kill_n, pm_kill_j, pm_kill_l, pm_kill_d, pm_cats_nil, pm_cats_i, pm_cats_r, pm_cats_n, pm_cats_l, pm_cats_d, sz_1, sz_2, sl_1, sl_2, lc_0, lc_lt, lc_le, li_ne, va_rf, wr_m1, we_m1, pm_kill_w, Int32.reduceOfInt, Int64.reduceOfInt, Int32.reduceOfNat, Int32.reduceLT, Int32.reduceLE, Prod.mk.injEq, Nat.reduceEqDiff, reduceCtorEq, and_true, true_and, and_false, false_and, and_self, ite_true, ite_false, ↓reduceIte, not_true_eq_false, not_false_eq_true, pe_ri, pe_rz, pe_rc, p_throw, t1556, w_junk hA, Ch_g0_0 hP hA, Ch_g0_2 hP hA, Ch_g2_0 hP hA, Ch_g2_1 hP hA, Ch_g2_4 hP hA, Ch_g4_1 hP hA, Ch_g4_3 hP hA, Ch_r1 hP hA, Ch_r3 hP hA, Ch_r5 hP hA, z1, eq_false k2, eq_false k4, z6, eq_false k7, k9]
theorem x1556 {tc : Int32} {bc : Int32} {ec : Int32} {A : wK → Nat} {h : pm_H} {D : Nat} {S : wS} {x1 : Int32} {x2 : Int32} {x3 : Int32} {x4 : Int32} {r : Nat ⊕ (Int64)} (hP : Ch_P tc bc ec) (hA : wok A (Ch_d tc bc ec) h.1) (hD : 3 ≤ D) (e : f1556 tc bc ec S x1 x2 x3 x4 = some r) : pm_call pm_prog D 1556 [.ref (A (0, 0, 0)), .int x1, .int x2, .int x3, .int x4] (wput A (Ch_d tc bc ec) S h) = some (match (generalizing := false) r with | .inl c => (Outcome.threw c, (wput A (Ch_d tc bc ec) S (pm_new h 6 (.inr (c, []))))) | .inr w0 => (Outcome.returned (some (.long w0)), (wput A (Ch_d tc bc ec) S h))) := by
  obtain ⟨D, rfl⟩ : ∃ D', D = D' + 1 := ⟨D - 1, by omega⟩
  have hD : 2 ≤ D := by omega
  simp only [f1556] at e
  rw [c1556 (Ch_c0 hP hA), b1556_0]
  obtain ⟨v1, k1, e⟩ := Option.bind_eq_some_iff.mp e
  try dsimp only at e
  have z1 := x1551 (D := D) (h := h) hP hA (by omega) k1
  obtain ⟨r, k2, e⟩ := Option.bind_eq_some_iff.mp e
  have z2 := fun h => x1543 (D := D) (h := h) (by omega) k2
  rcases r with c5 | _
  · dsimp only at e z2
    have e := Option.some.inj e; subst e
    simp -implicitDefEqProofs (disch := first | assumption | exact Nat.le_of_ble_eq_true rfl | decide) only [b1556_0, g1556_1, b1556_1, g1556_2, b1556_2, g1556_4, b1556_4, g1556_6, b1556_6, g1556_7, b1556_7, g1556_8, b1556_8, pe_aload0, pe_iload1, pe_call2, pm_af_ret, pm_af_void, pm_af_thr, pe_call1, pe_iload2, pe_if_lt, pe_iload3, pe_i2l, pe_ladd, pe_getfield, pe_aaload, pe_lcmp, pe_if_ge, pe_goto_w, pe_sipush, pe_goto, pe_iload4, pe_bipush, pe_call3, pe_if_eq, pe_iadd, pe_saload, pe_astore5, pe_if_ne, pe_aload5, pe_icmp_ne, pe_lreturn, pe_aloadN0, pe_astoreN5, pe_aloadN5, pe_aastoreN, pe_areturnN, pe_null, pm_prog_1, pm_ob_some, Nat.reduceDiv, Nat.reduceMod, Nat.reduceMul, Nat.reduceAdd, Int.reduceToNat, pm_kill_i, pm_kill_r, pm_kill_n, pm_kill_j, pm_kill_l, pm_kill_d, pm_cats_nil, pm_cats_i, pm_cats_r, pm_cats_n, pm_cats_l, pm_cats_d, sz_1, sz_2, sl_1, sl_2, lc_0, lc_lt, lc_le, li_ne, va_rf, wr_m1, we_m1, pm_kill_w, Int32.reduceOfInt, Int64.reduceOfInt, Int32.reduceOfNat, Int32.reduceLT, Int32.reduceLE, Prod.mk.injEq, Nat.reduceEqDiff, reduceCtorEq, and_true, true_and, and_false, false_and, and_self, ite_true, ite_false, ↓reduceIte, not_true_eq_false, not_false_eq_true, pe_ri, pe_rz, pe_rc, p_throw, t1556, w_junk hA, Ch_g0_0 hP hA, Ch_g0_2 hP hA, Ch_g2_0 hP hA, Ch_g2_1 hP hA, Ch_g2_4 hP hA, Ch_g4_1 hP hA, Ch_g4_3 hP hA, Ch_r1 hP hA, Ch_r3 hP hA, Ch_r5 hP hA, z1, z2]
  · dsimp only at e z2
    by_cases k3 : x2 < 0
    · rw [if_pos k3] at e
      have k4 := y1556_3 (h := h) hP hA hD e
      simp -implicitDefEqProofs (disch := first | assumption | exact Nat.le_of_ble_eq_true rfl | decide) only [b1556_0, g1556_1, b1556_1, g1556_2, b1556_2, g1556_4, b1556_4, g1556_6, b1556_6, g1556_7, b1556_7, g1556_8, b1556_8, pe_aload0, pe_iload1, pe_call2, pm_af_ret, pm_af_void, pm_af_thr, pe_call1, pe_iload2, pe_if_lt, pe_iload3, pe_i2l, pe_ladd, pe_getfield, pe_aaload, pe_lcmp, pe_if_ge, pe_goto_w, pe_sipush, pe_goto, pe_iload4, pe_bipush, pe_call3, pe_if_eq, pe_iadd, pe_saload, pe_astore5, pe_if_ne, pe_aload5, pe_icmp_ne, pe_lreturn, pe_aloadN0, pe_astoreN5, pe_aloadN5, pe_aastoreN, pe_areturnN, pe_null, pm_prog_1, pm_ob_some, Nat.reduceDiv, Nat.reduceMod, Nat.reduceMul, Nat.reduceAdd, Int.reduceToNat, pm_kill_i, pm_kill_r, pm_kill_n, pm_kill_j, pm_kill_l, pm_kill_d, pm_cats_nil, pm_cats_i, pm_cats_r, pm_cats_n, pm_cats_l, pm_cats_d, sz_1, sz_2, sl_1, sl_2, lc_0, lc_lt, lc_le, li_ne, va_rf, wr_m1, we_m1, pm_kill_w, Int32.reduceOfInt, Int64.reduceOfInt, Int32.reduceOfNat, Int32.reduceLT, Int32.reduceLE, Prod.mk.injEq, Nat.reduceEqDiff, reduceCtorEq, and_true, true_and, and_false, false_and, and_self, ite_true, ite_false, ↓reduceIte, not_true_eq_false, not_false_eq_true, pe_ri, pe_rz, pe_rc, p_throw, t1556, w_junk hA, Ch_g0_0 hP hA, Ch_g0_2 hP hA, Ch_g2_0 hP hA, Ch_g2_1 hP hA, Ch_g2_4 hP hA, Ch_g4_1 hP hA, Ch_g4_3 hP hA, Ch_r1 hP hA, Ch_r3 hP hA, Ch_r5 hP hA, z1, z2, eq_true k3, k4]
    · rw [if_neg k3] at e
      by_cases k5 : x3 < 0
      · rw [if_pos k5] at e
        have k6 := y1556_3 (h := h) hP hA hD e
        simp -implicitDefEqProofs (disch := first | assumption | exact Nat.le_of_ble_eq_true rfl | decide) only [b1556_0, g1556_1, b1556_1, g1556_2, b1556_2, g1556_4, b1556_4, g1556_6, b1556_6, g1556_7, b1556_7, g1556_8, b1556_8, pe_aload0, pe_iload1, pe_call2, pm_af_ret, pm_af_void, pm_af_thr, pe_call1, pe_iload2, pe_if_lt, pe_iload3, pe_i2l, pe_ladd, pe_getfield, pe_aaload, pe_lcmp, pe_if_ge, pe_goto_w, pe_sipush, pe_goto, pe_iload4, pe_bipush, pe_call3, pe_if_eq, pe_iadd, pe_saload, pe_astore5, pe_if_ne, pe_aload5, pe_icmp_ne, pe_lreturn, pe_aloadN0, pe_astoreN5, pe_aloadN5, pe_aastoreN, pe_areturnN, pe_null, pm_prog_1, pm_ob_some, Nat.reduceDiv, Nat.reduceMod, Nat.reduceMul, Nat.reduceAdd, Int.reduceToNat, pm_kill_i, pm_kill_r, pm_kill_n, pm_kill_j, pm_kill_l, pm_kill_d, pm_cats_nil, pm_cats_i, pm_cats_r, pm_cats_n, pm_cats_l, pm_cats_d, sz_1, sz_2, sl_1, sl_2, lc_0, lc_lt, lc_le, li_ne, va_rf, wr_m1, we_m1, pm_kill_w, Int32.reduceOfInt, Int64.reduceOfInt, Int32.reduceOfNat, Int32.reduceLT, Int32.reduceLE, Prod.mk.injEq, Nat.reduceEqDiff, reduceCtorEq, and_true, true_and, and_false, false_and, and_self, ite_true, ite_false, ↓reduceIte, not_true_eq_false, not_false_eq_true, pe_ri, pe_rz, pe_rc, p_throw, t1556, w_junk hA, Ch_g0_0 hP hA, Ch_g0_2 hP hA, Ch_g2_0 hP hA, Ch_g2_1 hP hA, Ch_g2_4 hP hA, Ch_g4_1 hP hA, Ch_g4_3 hP hA, Ch_r1 hP hA, Ch_r3 hP hA, Ch_r5 hP hA, z1, z2, eq_false k3, eq_true k5, k6]
      · rw [if_neg k5] at e
        by_cases k7 : 0 ≤ x1 ∧ x1 < 8
        · rw [if_pos k7] at e
          by_cases k8 : x1 < bc
          · rw [if_pos k8] at e
            by_cases k9 : 0 ≤ x1 ∧ x1 < bc
            · rw [if_pos k9] at e
              by_cases k10 : ((Int32.toInt64 x2) + (Int32.toInt64 x3)) < (Int32.toInt64 (S.1 (4, x1, 0) 3))
              · rw [if_pos k10] at e
                have k11 := y1556_3 (h := h) hP hA hD e
                simp -implicitDefEqProofs (disch := first | assumption | exact Nat.le_of_ble_eq_true rfl | decide) only [b1556_0, g1556_1, b1556_1, g1556_2, b1556_2, g1556_4, b1556_4, g1556_6, b1556_6, g1556_7, b1556_7, g1556_8, b1556_8, pe_aload0, pe_iload1, pe_call2, pm_af_ret, pm_af_void, pm_af_thr, pe_call1, pe_iload2, pe_if_lt, pe_iload3, pe_i2l, pe_ladd, pe_getfield, pe_aaload, pe_lcmp, pe_if_ge, pe_goto_w, pe_sipush, pe_goto, pe_iload4, pe_bipush, pe_call3, pe_if_eq, pe_iadd, pe_saload, pe_astore5, pe_if_ne, pe_aload5, pe_icmp_ne, pe_lreturn, pe_aloadN0, pe_astoreN5, pe_aloadN5, pe_aastoreN, pe_areturnN, pe_null, pm_prog_1, pm_ob_some, Nat.reduceDiv, Nat.reduceMod, Nat.reduceMul, Nat.reduceAdd, Int.reduceToNat, pm_kill_i, pm_kill_r, pm_kill_n, pm_kill_j, pm_kill_l, pm_kill_d, pm_cats_nil, pm_cats_i, pm_cats_r, pm_cats_n, pm_cats_l, pm_cats_d, sz_1, sz_2, sl_1, sl_2, lc_0, lc_lt, lc_le, li_ne, va_rf, wr_m1, we_m1, pm_kill_w, Int32.reduceOfInt, Int64.reduceOfInt, Int32.reduceOfNat, Int32.reduceLT, Int32.reduceLE, Prod.mk.injEq, Nat.reduceEqDiff, reduceCtorEq, and_true, true_and, and_false, false_and, and_self, ite_true, ite_false, ↓reduceIte, not_true_eq_false, not_false_eq_true, pe_ri, pe_rz, pe_rc, p_throw, t1556, w_junk hA, Ch_g0_0 hP hA, Ch_g0_2 hP hA, Ch_g2_0 hP hA, Ch_g2_1 hP hA, Ch_g2_4 hP hA, Ch_g4_1 hP hA, Ch_g4_3 hP hA, Ch_r1 hP hA, Ch_r3 hP hA, Ch_r5 hP hA, z1, z2, eq_false k3, eq_false k5, eq_true k10, k11]
              · rw [if_neg k10] at e
                have k12 := y1556_3 (h := h) hP hA hD e
                simp -implicitDefEqProofs (disch := first | assumption | exact Nat.le_of_ble_eq_true rfl | decide) only [b1556_0, g1556_1, b1556_1, g1556_2, b1556_2, g1556_4, b1556_4, g1556_6, b1556_6, g1556_7, b1556_7, g1556_8, b1556_8, pe_aload0, pe_iload1, pe_call2, pm_af_ret, pm_af_void, pm_af_thr, pe_call1, pe_iload2, pe_if_lt, pe_iload3, pe_i2l, pe_ladd, pe_getfield, pe_aaload, pe_lcmp, pe_if_ge, pe_goto_w, pe_sipush, pe_goto, pe_iload4, pe_bipush, pe_call3, pe_if_eq, pe_iadd, pe_saload, pe_astore5, pe_if_ne, pe_aload5, pe_icmp_ne, pe_lreturn, pe_aloadN0, pe_astoreN5, pe_aloadN5, pe_aastoreN, pe_areturnN, pe_null, pm_prog_1, pm_ob_some, Nat.reduceDiv, Nat.reduceMod, Nat.reduceMul, Nat.reduceAdd, Int.reduceToNat, pm_kill_i, pm_kill_r, pm_kill_n, pm_kill_j, pm_kill_l, pm_kill_d, pm_cats_nil, pm_cats_i, pm_cats_r, pm_cats_n, pm_cats_l, pm_cats_d, sz_1, sz_2, sl_1, sl_2, lc_0, lc_lt, lc_le, li_ne, va_rf, wr_m1, we_m1, pm_kill_w, Int32.reduceOfInt, Int64.reduceOfInt, Int32.reduceOfNat, Int32.reduceLT, Int32.reduceLE, Prod.mk.injEq, Nat.reduceEqDiff, reduceCtorEq, and_true, true_and, and_false, false_and, and_self, ite_true, ite_false, ↓reduceIte, not_true_eq_false, not_false_eq_true, pe_ri, pe_rz, pe_rc, p_throw, t1556, w_junk hA, Ch_g0_0 hP hA, Ch_g0_2 hP hA, Ch_g2_0 hP hA, Ch_g2_1 hP hA, Ch_g2_4 hP hA, Ch_g4_1 hP hA, Ch_g4_3 hP hA, Ch_r1 hP hA, Ch_r3 hP hA, Ch_r5 hP hA, z1, z2, eq_false k3, eq_false k5, eq_false k10, k12]
            · rw [if_neg k9] at e; cases e
          · rw [if_neg k8] at e; cases e
        · rw [if_neg k7] at e; cases e
/-- TimberHouse$ShopDesks.batch(IZ)Z -/
theorem c1557 {d : Nat} {h : pm_H} {a : Nat} {x0 : Int32} {x1 : Int32} (hc : pm_cls h a = some 24) : pm_call pm_prog (d + 1) 1557 [.ref a, .int x0, .int x1] h = pm_ev pm_prog (pm_call pm_prog d) 1557 0 b1557_0 [.ref a, .int x0, .int x1, pm_junk, pm_junk] [] h := pm_cal (pm_rc1 hc rfl) rfl rfl rfl
theorem g1557_1 {cl : pm_C} {ls st : List Value} {h : pm_H} : pm_go pm_prog cl 1557 1 ls st h = pm_ev pm_prog cl 1557 1 b1557_1 ls st h := pm_go_eq pm_prog cl 1557 1 ls st h
theorem g1557_2 {cl : pm_C} {ls st : List Value} {h : pm_H} : pm_go pm_prog cl 1557 2 ls st h = pm_ev pm_prog cl 1557 2 b1557_2 ls st h := pm_go_eq pm_prog cl 1557 2 ls st h
theorem g1557_3 {cl : pm_C} {ls st : List Value} {h : pm_H} : pm_go pm_prog cl 1557 3 ls st h = pm_ev pm_prog cl 1557 3 b1557_3 ls st h := pm_go_eq pm_prog cl 1557 3 ls st h
theorem g1557_4 {cl : pm_C} {ls st : List Value} {h : pm_H} : pm_go pm_prog cl 1557 4 ls st h = pm_ev pm_prog cl 1557 4 b1557_4 ls st h := pm_go_eq pm_prog cl 1557 4 ls st h
theorem g1557_5 {cl : pm_C} {ls st : List Value} {h : pm_H} : pm_go pm_prog cl 1557 5 ls st h = pm_ev pm_prog cl 1557 5 b1557_5 ls st h := pm_go_eq pm_prog cl 1557 5 ls st h
theorem g1557_6 {cl : pm_C} {ls st : List Value} {h : pm_H} : pm_go pm_prog cl 1557 6 ls st h = pm_ev pm_prog cl 1557 6 b1557_6 ls st h := pm_go_eq pm_prog cl 1557 6 ls st h
theorem g1557_7 {cl : pm_C} {ls st : List Value} {h : pm_H} : pm_go pm_prog cl 1557 7 ls st h = pm_ev pm_prog cl 1557 7 b1557_7 ls st h := pm_go_eq pm_prog cl 1557 7 ls st h
theorem t1557 {cl : pm_C} {j : Nat} {ls : List Value} {c : Nat} {h : pm_H} : pm_thr pm_prog cl 1557 j ls c h = some (.threw c, h) := rfl
noncomputable def f1557_4 (tc : Int32) (bc : Int32) (ec : Int32) (S : wS) (x2 : Int32) (x3i : Int32) (y0 : Int32) : Option ((Nat × wS) ⊕ (Int32 × wS)) :=
  if 0 ≤ x3i ∧ x3i < bc then
    if y0 = 0 then
      if y0 = 0 ∨ y0 = 1 then
        some (.inr (y0, S))
      else none
    else
      if x2 = 0 then
        if y0 = 0 ∨ y0 = 1 then
          some (.inr (y0, (sz S (4, x3i, 0) 4 (-1))))
        else none
      else
        if y0 = 0 ∨ y0 = 1 then
          some (.inr (y0, (sz S (4, x3i, 0) 4 (S.1 (4, x3i, 0) 3))))
        else none
  else none
noncomputable def f1557_2 (tc : Int32) (bc : Int32) (ec : Int32) (S : wS) (x2 : Int32) (x3i : Int32) (y0 : Int32) : Option ((Nat × wS) ⊕ (Int32 × wS)) :=
  if 0 ≤ x3i ∧ x3i < bc then
    if y0 = x2 then
      f1557_4 tc bc ec S x2 x3i 1
    else
      f1557_4 tc bc ec S x2 x3i 0
  else none
/-- TimberHouse$ShopDesks.batch(IZ)Z -/
noncomputable def f1557 (tc : Int32) (bc : Int32) (ec : Int32) (S : wS) (x1 : Int32) (x2 : Int32) : Option ((Nat × wS) ⊕ (Int32 × wS)) :=
  (f1551 tc bc ec S x1).bind fun v1 =>
  (f1543 v1).bind fun r => match r with
  | .inl c2 =>
    some (.inl (c2, S))
  | .inr _ =>
  if 0 ≤ x1 ∧ x1 < 8 then
    if x1 < bc then
      if 0 ≤ x1 ∧ x1 < bc then
        if (S.1 (4, x1, 0) 4) = (-1) then
          f1557_2 tc bc ec S x2 x1 1
        else
          f1557_2 tc bc ec S x2 x1 0
      else none
    else none
  else none
theorem y1557_4 {tc : Int32} {bc : Int32} {ec : Int32} {A : wK → Nat} {h : pm_H} {D : Nat} {S : wS} {x2 : Int32} {x3i : Int32} {y0 : Int32} {r : (Nat × wS) ⊕ (Int32 × wS)} (hP : Ch_P tc bc ec) (hA : wok A (Ch_d tc bc ec) h.1) (hD : 2 ≤ D) (e : f1557_4 tc bc ec S x2 x3i y0 = some r) : ∀ q0 q1 q4 : Value, pm_go pm_prog (pm_call pm_prog D) 1557 4 [q0, q1, .int x2, .ref (A (4, x3i, 0)), q4] [.int y0] (wput A (Ch_d tc bc ec) S h) = some (match (generalizing := false) r with | .inl (c, S1) => (Outcome.threw c, (wput A (Ch_d tc bc ec) S1 (pm_new h 6 (.inr (c, []))))) | .inr (w0, S1) => (Outcome.returned (some (.int w0)), (wput A (Ch_d tc bc ec) S1 h))) := by
  intro q0 q1 q4
  simp only [f1557_4] at e
  rw [g1557_4, b1557_4]
  by_cases k1 : 0 ≤ x3i ∧ x3i < bc
  · rw [if_pos k1] at e
    by_cases k2 : y0 = 0
    · rw [if_pos k2] at e
      by_cases k3 : y0 = 0 ∨ y0 = 1
      · rw [if_pos k3] at e
        have e := Option.some.inj e; subst e
        simp -implicitDefEqProofs (disch := first | assumption | exact Nat.le_of_ble_eq_true rfl | decide) only [b1557_0, g1557_1, b1557_1, g1557_3, b1557_3, g1557_5, b1557_5, g1557_6, b1557_6, g1557_7, b1557_7, pe_aload0, pe_iload1, pe_call2, pm_af_ret, pm_af_void, pm_af_thr, pe_call1, pe_getfield, pe_aaload, pe_astore3, pe_aload3, pe_sipush, pe_icmp_ne, pe_goto, pe_goto_w, pe_iload2, pe_istore4, pe_iload4, pe_if_eq, pe_putfield, pe_aloadN0, pe_astoreN3, pe_aloadN3, pe_aastoreN, pe_areturnN, pe_null, pm_prog_1, pm_ob_some, Nat.reduceDiv, Nat.reduceMod, Nat.reduceMul, Nat.reduceAdd, Int.reduceToNat, pm_kill_i, pm_kill_r, pm_kill_n, pm_kill_j, pm_kill_l, pm_kill_d, pm_cats_nil, pm_cats_i, pm_cats_r, pm_cats_n, pm_cats_l, pm_cats_d, sz_1, sz_2, sl_1, sl_2, lc_0, lc_lt, lc_le, li_ne, va_rf, wr_m1, we_m1, pm_kill_w, Int32.reduceOfInt, Int64.reduceOfInt, Int32.reduceOfNat, Int32.reduceLT, Int32.reduceLE, Prod.mk.injEq, Nat.reduceEqDiff, reduceCtorEq, and_true, true_and, and_false, false_and, and_self, ite_true, ite_false, ↓reduceIte, not_true_eq_false, not_false_eq_true, pe_ri, pe_rz, pe_rc, p_throw, t1557, w_junk hA, Ch_g0_2 hP hA, Ch_g4_3 hP hA, Ch_g4_4 hP hA, Ch_p4_4 hP hA, Ch_r3 hP hA, eq_true k2]
      · rw [if_neg k3] at e; cases e
    · rw [if_neg k2] at e
      by_cases k4 : x2 = 0
      · rw [if_pos k4] at e
        by_cases k5 : y0 = 0 ∨ y0 = 1
        · rw [if_pos k5] at e
          have e := Option.some.inj e; subst e
          simp -implicitDefEqProofs (disch := first | assumption | exact Nat.le_of_ble_eq_true rfl | decide) only [b1557_0, g1557_1, b1557_1, g1557_3, b1557_3, g1557_5, b1557_5, g1557_6, b1557_6, g1557_7, b1557_7, pe_aload0, pe_iload1, pe_call2, pm_af_ret, pm_af_void, pm_af_thr, pe_call1, pe_getfield, pe_aaload, pe_astore3, pe_aload3, pe_sipush, pe_icmp_ne, pe_goto, pe_goto_w, pe_iload2, pe_istore4, pe_iload4, pe_if_eq, pe_putfield, pe_aloadN0, pe_astoreN3, pe_aloadN3, pe_aastoreN, pe_areturnN, pe_null, pm_prog_1, pm_ob_some, Nat.reduceDiv, Nat.reduceMod, Nat.reduceMul, Nat.reduceAdd, Int.reduceToNat, pm_kill_i, pm_kill_r, pm_kill_n, pm_kill_j, pm_kill_l, pm_kill_d, pm_cats_nil, pm_cats_i, pm_cats_r, pm_cats_n, pm_cats_l, pm_cats_d, sz_1, sz_2, sl_1, sl_2, lc_0, lc_lt, lc_le, li_ne, va_rf, wr_m1, we_m1, pm_kill_w, Int32.reduceOfInt, Int64.reduceOfInt, Int32.reduceOfNat, Int32.reduceLT, Int32.reduceLE, Prod.mk.injEq, Nat.reduceEqDiff, reduceCtorEq, and_true, true_and, and_false, false_and, and_self, ite_true, ite_false, ↓reduceIte, not_true_eq_false, not_false_eq_true, pe_ri, pe_rz, pe_rc, p_throw, t1557, w_junk hA, Ch_g0_2 hP hA, Ch_g4_3 hP hA, Ch_g4_4 hP hA, Ch_p4_4 hP hA, Ch_r3 hP hA, eq_false k2, eq_true k4]
        · rw [if_neg k5] at e; cases e
      · rw [if_neg k4] at e
        by_cases k6 : y0 = 0 ∨ y0 = 1
        · rw [if_pos k6] at e
          have e := Option.some.inj e; subst e
          simp -implicitDefEqProofs (disch := first | assumption | exact Nat.le_of_ble_eq_true rfl | decide) only [b1557_0, g1557_1, b1557_1, g1557_3, b1557_3, g1557_5, b1557_5, g1557_6, b1557_6, g1557_7, b1557_7, pe_aload0, pe_iload1, pe_call2, pm_af_ret, pm_af_void, pm_af_thr, pe_call1, pe_getfield, pe_aaload, pe_astore3, pe_aload3, pe_sipush, pe_icmp_ne, pe_goto, pe_goto_w, pe_iload2, pe_istore4, pe_iload4, pe_if_eq, pe_putfield, pe_aloadN0, pe_astoreN3, pe_aloadN3, pe_aastoreN, pe_areturnN, pe_null, pm_prog_1, pm_ob_some, Nat.reduceDiv, Nat.reduceMod, Nat.reduceMul, Nat.reduceAdd, Int.reduceToNat, pm_kill_i, pm_kill_r, pm_kill_n, pm_kill_j, pm_kill_l, pm_kill_d, pm_cats_nil, pm_cats_i, pm_cats_r, pm_cats_n, pm_cats_l, pm_cats_d, sz_1, sz_2, sl_1, sl_2, lc_0, lc_lt, lc_le, li_ne, va_rf, wr_m1, we_m1, pm_kill_w, Int32.reduceOfInt, Int64.reduceOfInt, Int32.reduceOfNat, Int32.reduceLT, Int32.reduceLE, Prod.mk.injEq, Nat.reduceEqDiff, reduceCtorEq, and_true, true_and, and_false, false_and, and_self, ite_true, ite_false, ↓reduceIte, not_true_eq_false, not_false_eq_true, pe_ri, pe_rz, pe_rc, p_throw, t1557, w_junk hA, Ch_g0_2 hP hA, Ch_g4_3 hP hA, Ch_g4_4 hP hA, Ch_p4_4 hP hA, Ch_r3 hP hA, eq_false k2, eq_false k4]
        · rw [if_neg k6] at e; cases e
  · rw [if_neg k1] at e; cases e
theorem y1557_2 {tc : Int32} {bc : Int32} {ec : Int32} {A : wK → Nat} {h : pm_H} {D : Nat} {S : wS} {x2 : Int32} {x3i : Int32} {y0 : Int32} {r : (Nat × wS) ⊕ (Int32 × wS)} (hP : Ch_P tc bc ec) (hA : wok A (Ch_d tc bc ec) h.1) (hD : 2 ≤ D) (e : f1557_2 tc bc ec S x2 x3i y0 = some r) : ∀ q0 q1 q4 : Value, pm_go pm_prog (pm_call pm_prog D) 1557 2 [q0, q1, .int x2, .ref (A (4, x3i, 0)), q4] [.int y0] (wput A (Ch_d tc bc ec) S h) = some (match (generalizing := false) r with | .inl (c, S1) => (Outcome.threw c, (wput A (Ch_d tc bc ec) S1 (pm_new h 6 (.inr (c, []))))) | .inr (w0, S1) => (Outcome.returned (some (.int w0)), (wput A (Ch_d tc bc ec) S1 h))) := by
  intro q0 q1 q4
  simp only [f1557_2] at e
  rw [g1557_2, b1557_2]
  by_cases k1 : 0 ≤ x3i ∧ x3i < bc
  · rw [if_pos k1] at e
    by_cases k2 : y0 = x2
    · rw [if_pos k2] at e
      have k3 := y1557_4 (h := h) hP hA hD e
      simp -implicitDefEqProofs (disch := first | assumption | exact Nat.le_of_ble_eq_true rfl | decide) only [b1557_0, g1557_1, b1557_1, g1557_3, b1557_3, g1557_5, b1557_5, g1557_6, b1557_6, g1557_7, b1557_7, pe_aload0, pe_iload1, pe_call2, pm_af_ret, pm_af_void, pm_af_thr, pe_call1, pe_getfield, pe_aaload, pe_astore3, pe_aload3, pe_sipush, pe_icmp_ne, pe_goto, pe_goto_w, pe_iload2, pe_istore4, pe_iload4, pe_if_eq, pe_putfield, pe_aloadN0, pe_astoreN3, pe_aloadN3, pe_aastoreN, pe_areturnN, pe_null, pm_prog_1, pm_ob_some, Nat.reduceDiv, Nat.reduceMod, Nat.reduceMul, Nat.reduceAdd, Int.reduceToNat, pm_kill_i, pm_kill_r, pm_kill_n, pm_kill_j, pm_kill_l, pm_kill_d, pm_cats_nil, pm_cats_i, pm_cats_r, pm_cats_n, pm_cats_l, pm_cats_d, sz_1, sz_2, sl_1, sl_2, lc_0, lc_lt, lc_le, li_ne, va_rf, wr_m1, we_m1, pm_kill_w, Int32.reduceOfInt, Int64.reduceOfInt, Int32.reduceOfNat, Int32.reduceLT, Int32.reduceLE, Prod.mk.injEq, Nat.reduceEqDiff, reduceCtorEq, and_true, true_and, and_false, false_and, and_self, ite_true, ite_false, ↓reduceIte, not_true_eq_false, not_false_eq_true, pe_ri, pe_rz, pe_rc, p_throw, t1557, w_junk hA, Ch_g0_2 hP hA, Ch_g4_3 hP hA, Ch_g4_4 hP hA, Ch_p4_4 hP hA, Ch_r3 hP hA, eq_true k2, k3]
    · rw [if_neg k2] at e
      have k4 := y1557_4 (h := h) hP hA hD e
      simp -implicitDefEqProofs (disch := first | assumption | exact Nat.le_of_ble_eq_true rfl | decide) only [b1557_0, g1557_1, b1557_1, g1557_3, b1557_3, g1557_5, b1557_5, g1557_6, b1557_6, g1557_7, b1557_7, pe_aload0, pe_iload1, pe_call2, pm_af_ret, pm_af_void, pm_af_thr, pe_call1, pe_getfield, pe_aaload, pe_astore3, pe_aload3, pe_sipush, pe_icmp_ne, pe_goto, pe_goto_w, pe_iload2, pe_istore4, pe_iload4, pe_if_eq, pe_putfield, pe_aloadN0, pe_astoreN3, pe_aloadN3, pe_aastoreN, pe_areturnN, pe_null, pm_prog_1, pm_ob_some, Nat.reduceDiv, Nat.reduceMod, Nat.reduceMul, Nat.reduceAdd, Int.reduceToNat, pm_kill_i, pm_kill_r, pm_kill_n, pm_kill_j, pm_kill_l, pm_kill_d, pm_cats_nil, pm_cats_i, pm_cats_r, pm_cats_n, pm_cats_l, pm_cats_d, sz_1, sz_2, sl_1, sl_2, lc_0, lc_lt, lc_le, li_ne, va_rf, wr_m1, we_m1, pm_kill_w, Int32.reduceOfInt, Int64.reduceOfInt, Int32.reduceOfNat, Int32.reduceLT, Int32.reduceLE, Prod.mk.injEq, Nat.reduceEqDiff, reduceCtorEq, and_true, true_and, and_false, false_and, and_self, ite_true, ite_false, ↓reduceIte, not_true_eq_false, not_false_eq_true, pe_ri, pe_rz, pe_rc, p_throw, t1557, w_junk hA, Ch_g0_2 hP hA, Ch_g4_3 hP hA, Ch_g4_4 hP hA, Ch_p4_4 hP hA, Ch_r3 hP hA, eq_false k2, k4]
  · rw [if_neg k1] at e; cases e
theorem x1557 {tc : Int32} {bc : Int32} {ec : Int32} {A : wK → Nat} {h : pm_H} {D : Nat} {S : wS} {x1 : Int32} {x2 : Int32} {r : (Nat × wS) ⊕ (Int32 × wS)} (hP : Ch_P tc bc ec) (hA : wok A (Ch_d tc bc ec) h.1) (hD : 3 ≤ D) (e : f1557 tc bc ec S x1 x2 = some r) : pm_call pm_prog D 1557 [.ref (A (0, 0, 0)), .int x1, .int x2] (wput A (Ch_d tc bc ec) S h) = some (match (generalizing := false) r with | .inl (c, S1) => (Outcome.threw c, (wput A (Ch_d tc bc ec) S1 (pm_new h 6 (.inr (c, []))))) | .inr (w0, S1) => (Outcome.returned (some (.int w0)), (wput A (Ch_d tc bc ec) S1 h))) := by
  obtain ⟨D, rfl⟩ : ∃ D', D = D' + 1 := ⟨D - 1, by omega⟩
  have hD : 2 ≤ D := by omega
  simp only [f1557] at e
  rw [c1557 (Ch_c0 hP hA), b1557_0]
  obtain ⟨v1, k1, e⟩ := Option.bind_eq_some_iff.mp e
  try dsimp only at e
  have z1 := x1551 (D := D) (h := h) hP hA (by omega) k1
  obtain ⟨r, k2, e⟩ := Option.bind_eq_some_iff.mp e
  have z2 := fun h => x1543 (D := D) (h := h) (by omega) k2
  rcases r with c2 | _
  · dsimp only at e z2
    have e := Option.some.inj e; subst e
    simp -implicitDefEqProofs (disch := first | assumption | exact Nat.le_of_ble_eq_true rfl | decide) only [b1557_0, g1557_1, b1557_1, g1557_3, b1557_3, g1557_5, b1557_5, g1557_6, b1557_6, g1557_7, b1557_7, pe_aload0, pe_iload1, pe_call2, pm_af_ret, pm_af_void, pm_af_thr, pe_call1, pe_getfield, pe_aaload, pe_astore3, pe_aload3, pe_sipush, pe_icmp_ne, pe_goto, pe_goto_w, pe_iload2, pe_istore4, pe_iload4, pe_if_eq, pe_putfield, pe_aloadN0, pe_astoreN3, pe_aloadN3, pe_aastoreN, pe_areturnN, pe_null, pm_prog_1, pm_ob_some, Nat.reduceDiv, Nat.reduceMod, Nat.reduceMul, Nat.reduceAdd, Int.reduceToNat, pm_kill_i, pm_kill_r, pm_kill_n, pm_kill_j, pm_kill_l, pm_kill_d, pm_cats_nil, pm_cats_i, pm_cats_r, pm_cats_n, pm_cats_l, pm_cats_d, sz_1, sz_2, sl_1, sl_2, lc_0, lc_lt, lc_le, li_ne, va_rf, wr_m1, we_m1, pm_kill_w, Int32.reduceOfInt, Int64.reduceOfInt, Int32.reduceOfNat, Int32.reduceLT, Int32.reduceLE, Prod.mk.injEq, Nat.reduceEqDiff, reduceCtorEq, and_true, true_and, and_false, false_and, and_self, ite_true, ite_false, ↓reduceIte, not_true_eq_false, not_false_eq_true, pe_ri, pe_rz, pe_rc, p_throw, t1557, w_junk hA, Ch_g0_2 hP hA, Ch_g4_3 hP hA, Ch_g4_4 hP hA, Ch_p4_4 hP hA, Ch_r3 hP hA, z1, z2]
  · dsimp only at e z2
    by_cases k3 : 0 ≤ x1 ∧ x1 < 8
    · rw [if_pos k3] at e
      by_cases k4 : x1 < bc
      · rw [if_pos k4] at e
        by_cases k5 : 0 ≤ x1 ∧ x1 < bc
        · rw [if_pos k5] at e
          by_cases k6 : (S.1 (4, x1, 0) 4) = (-1)
          · rw [if_pos k6] at e
            have k7 := y1557_2 (h := h) hP hA hD e
            simp -implicitDefEqProofs (disch := first | assumption | exact Nat.le_of_ble_eq_true rfl | decide) only [b1557_0, g1557_1, b1557_1, g1557_3, b1557_3, g1557_5, b1557_5, g1557_6, b1557_6, g1557_7, b1557_7, pe_aload0, pe_iload1, pe_call2, pm_af_ret, pm_af_void, pm_af_thr, pe_call1, pe_getfield, pe_aaload, pe_astore3, pe_aload3, pe_sipush, pe_icmp_ne, pe_goto, pe_goto_w, pe_iload2, pe_istore4, pe_iload4, pe_if_eq, pe_putfield, pe_aloadN0, pe_astoreN3, pe_aloadN3, pe_aastoreN, pe_areturnN, pe_null, pm_prog_1, pm_ob_some, Nat.reduceDiv, Nat.reduceMod, Nat.reduceMul, Nat.reduceAdd, Int.reduceToNat, pm_kill_i, pm_kill_r, pm_kill_n, pm_kill_j, pm_kill_l, pm_kill_d, pm_cats_nil, pm_cats_i, pm_cats_r, pm_cats_n, pm_cats_l, pm_cats_d, sz_1, sz_2, sl_1, sl_2, lc_0, lc_lt, lc_le, li_ne, va_rf, wr_m1, we_m1, pm_kill_w, Int32.reduceOfInt, Int64.reduceOfInt, Int32.reduceOfNat, Int32.reduceLT, Int32.reduceLE, Prod.mk.injEq, Nat.reduceEqDiff, reduceCtorEq, and_true, true_and, and_false, false_and, and_self, ite_true, ite_false, ↓reduceIte, not_true_eq_false, not_false_eq_true, pe_ri, pe_rz, pe_rc, p_throw, t1557, w_junk hA, Ch_g0_2 hP hA, Ch_g4_3 hP hA, Ch_g4_4 hP hA, Ch_p4_4 hP hA, Ch_r3 hP hA, z1, z2, eq_true k6, k7]
          · rw [if_neg k6] at e
            have k8 := y1557_2 (h := h) hP hA hD e
            simp -implicitDefEqProofs (disch := first | assumption | exact Nat.le_of_ble_eq_true rfl | decide) only [b1557_0, g1557_1, b1557_1, g1557_3, b1557_3, g1557_5, b1557_5, g1557_6, b1557_6, g1557_7, b1557_7, pe_aload0, pe_iload1, pe_call2, pm_af_ret, pm_af_void, pm_af_thr, pe_call1, pe_getfield, pe_aaload, pe_astore3, pe_aload3, pe_sipush, pe_icmp_ne, pe_goto, pe_goto_w, pe_iload2, pe_istore4, pe_iload4, pe_if_eq, pe_putfield, pe_aloadN0, pe_astoreN3, pe_aloadN3, pe_aastoreN, pe_areturnN, pe_null, pm_prog_1, pm_ob_some, Nat.reduceDiv, Nat.reduceMod, Nat.reduceMul, Nat.reduceAdd, Int.reduceToNat, pm_kill_i, pm_kill_r, pm_kill_n, pm_kill_j, pm_kill_l, pm_kill_d, pm_cats_nil, pm_cats_i, pm_cats_r, pm_cats_n, pm_cats_l, pm_cats_d, sz_1, sz_2, sl_1, sl_2, lc_0, lc_lt, lc_le, li_ne, va_rf, wr_m1, we_m1, pm_kill_w, Int32.reduceOfInt, Int64.reduceOfInt, Int32.reduceOfNat, Int32.reduceLT, Int32.reduceLE, Prod.mk.injEq, Nat.reduceEqDiff, reduceCtorEq, and_true, true_and, and_false, false_and, and_self, ite_true, ite_false, ↓reduceIte, not_true_eq_false, not_false_eq_true, pe_ri, pe_rz, pe_rc, p_throw, t1557, w_junk hA, Ch_g0_2 hP hA, Ch_g4_3 hP hA, Ch_g4_4 hP hA, Ch_p4_4 hP hA, Ch_r3 hP hA, z1, z2, eq_false k6, k8]
        · rw [if_neg k5] at e; cases e
      · rw [if_neg k4] at e; cases e
    · rw [if_neg k3] at e; cases e
/-- TimberHouse$ShopDesks.right(IIZ)Z -/
theorem c1558 {d : Nat} {h : pm_H} {a : Nat} {x0 : Int32} {x1 : Int32} {x2 : Int32} (hc : pm_cls h a = some 24) : pm_call pm_prog (d + 1) 1558 [.ref a, .int x0, .int x1, .int x2] h = pm_ev pm_prog (pm_call pm_prog d) 1558 0 b1558_0 [.ref a, .int x0, .int x1, .int x2, pm_junk] [] h := pm_cal (pm_rc1 hc rfl) rfl rfl rfl
theorem g1558_1 {cl : pm_C} {ls st : List Value} {h : pm_H} : pm_go pm_prog cl 1558 1 ls st h = pm_ev pm_prog cl 1558 1 b1558_1 ls st h := pm_go_eq pm_prog cl 1558 1 ls st h
theorem g1558_2 {cl : pm_C} {ls st : List Value} {h : pm_H} : pm_go pm_prog cl 1558 2 ls st h = pm_ev pm_prog cl 1558 2 b1558_2 ls st h := pm_go_eq pm_prog cl 1558 2 ls st h
theorem t1558 {cl : pm_C} {j : Nat} {ls : List Value} {c : Nat} {h : pm_H} : pm_thr pm_prog cl 1558 j ls c h = some (.threw c, h) := rfl
noncomputable def f1558_2 (tc : Int32) (bc : Int32) (ec : Int32) (S : wS) (x1 : Int32) (x2 : Int32) (x3 : Int32) (y0 : Int32) : Option ((Nat × wS) ⊕ (Int32 × wS)) :=
  if 0 ≤ x1 ∧ x1 < 4 then
    if 0 ≤ x2 ∧ x2 < 4 then
      if y0 = 0 ∨ y0 = 1 then
        some (.inr (y0, (sz S (8, x1, 0) x2 (vp_nar .boolean x3))))
      else none
    else none
  else none
/-- TimberHouse$ShopDesks.right(IIZ)Z -/
noncomputable def f1558 (tc : Int32) (bc : Int32) (ec : Int32) (S : wS) (x1 : Int32) (x2 : Int32) (x3 : Int32) : Option ((Nat × wS) ⊕ (Int32 × wS)) :=
  (f1538 (Int32.toInt64 x1) 0 3).bind fun v1 =>
  (f1543 v1).bind fun r => match r with
  | .inl c4 =>
    some (.inl (c4, S))
  | .inr _ =>
  (f1547 x2).bind fun v2 =>
  (f1539 v2).bind fun r => match r with
  | .inl c3 =>
    some (.inl (c3, S))
  | .inr _ =>
  if 0 ≤ x1 ∧ x1 < 4 then
    if 0 ≤ x2 ∧ x2 < 4 then
      if (S.1 (8, x1, 0) x2) = x3 then
        f1558_2 tc bc ec S x1 x2 x3 0
      else
        f1558_2 tc bc ec S x1 x2 x3 1
    else none
  else none
theorem y1558_2 {tc : Int32} {bc : Int32} {ec : Int32} {A : wK → Nat} {h : pm_H} {D : Nat} {S : wS} {x1 : Int32} {x2 : Int32} {x3 : Int32} {y0 : Int32} {r : (Nat × wS) ⊕ (Int32 × wS)} (hP : Ch_P tc bc ec) (hA : wok A (Ch_d tc bc ec) h.1) (hD : 2 ≤ D) (e : f1558_2 tc bc ec S x1 x2 x3 y0 = some r) : ∀ q4 : Value, pm_go pm_prog (pm_call pm_prog D) 1558 2 [.ref (A (0, 0, 0)), .int x1, .int x2, .int x3, q4] [.int y0] (wput A (Ch_d tc bc ec) S h) = some (match (generalizing := false) r with | .inl (c, S1) => (Outcome.threw c, (wput A (Ch_d tc bc ec) S1 (pm_new h 6 (.inr (c, []))))) | .inr (w0, S1) => (Outcome.returned (some (.int w0)), (wput A (Ch_d tc bc ec) S1 h))) := by
  intro q4
  simp only [f1558_2] at e
  rw [g1558_2, b1558_2]
  by_cases k1 : 0 ≤ x1 ∧ x1 < 4
  · rw [if_pos k1] at e
    by_cases k2 : 0 ≤ x2 ∧ x2 < 4
    · rw [if_pos k2] at e
      by_cases k3 : y0 = 0 ∨ y0 = 1
      · rw [if_pos k3] at e
        have e := Option.some.inj e; subst e
        simp -implicitDefEqProofs (disch := first | assumption | exact Nat.le_of_ble_eq_true rfl | decide) only [b1558_0, g1558_1, b1558_1, pe_iload1, pe_i2l, pe_bipush, pe_call3, pm_af_ret, pm_af_void, pm_af_thr, pe_call1, pe_iload2, pe_aload0, pe_getfield, pe_aaload, pe_baload, pe_iload3, pe_icmp_eq, pe_sipush, pe_goto, pe_goto_w, pe_istore4, pe_bastore, pe_iload4, pe_aloadN0, pe_aastoreN, pe_areturnN, pe_null, pm_prog_1, pm_ob_some, Nat.reduceDiv, Nat.reduceMod, Nat.reduceMul, Nat.reduceAdd, Int.reduceToNat, pm_kill_i, pm_kill_r, pm_kill_n, pm_kill_j, pm_kill_l, pm_kill_d, pm_cats_nil, pm_cats_i, pm_cats_r, pm_cats_n, pm_cats_l, pm_cats_d, sz_1, sz_2, sl_1, sl_2, lc_0, lc_lt, lc_le, li_ne, va_rf, wr_m1, we_m1, pm_kill_w, Int32.reduceOfInt, Int64.reduceOfInt, Int32.reduceOfNat, Int32.reduceLT, Int32.reduceLE, Prod.mk.injEq, Nat.reduceEqDiff, reduceCtorEq, and_true, true_and, and_false, false_and, and_self, ite_true, ite_false, ↓reduceIte, not_true_eq_false, not_false_eq_true, pe_ri, pe_rz, pe_rc, p_throw, t1558, w_junk hA, Ch_g0_4 hP hA, Ch_r7 hP hA, Ch_r8 hP hA, Ch_w8 hP hA]
      · rw [if_neg k3] at e; cases e
    · rw [if_neg k2] at e; cases e
  · rw [if_neg k1] at e; cases e
theorem x1558 {tc : Int32} {bc : Int32} {ec : Int32} {A : wK → Nat} {h : pm_H} {D : Nat} {S : wS} {x1 : Int32} {x2 : Int32} {x3 : Int32} {r : (Nat × wS) ⊕ (Int32 × wS)} (hP : Ch_P tc bc ec) (hA : wok A (Ch_d tc bc ec) h.1) (hD : 3 ≤ D) (e : f1558 tc bc ec S x1 x2 x3 = some r) : pm_call pm_prog D 1558 [.ref (A (0, 0, 0)), .int x1, .int x2, .int x3] (wput A (Ch_d tc bc ec) S h) = some (match (generalizing := false) r with | .inl (c, S1) => (Outcome.threw c, (wput A (Ch_d tc bc ec) S1 (pm_new h 6 (.inr (c, []))))) | .inr (w0, S1) => (Outcome.returned (some (.int w0)), (wput A (Ch_d tc bc ec) S1 h))) := by
  obtain ⟨D, rfl⟩ : ∃ D', D = D' + 1 := ⟨D - 1, by omega⟩
  have hD : 2 ≤ D := by omega
  simp only [f1558] at e
  rw [c1558 (Ch_c0 hP hA), b1558_0]
  obtain ⟨v1, k1, e⟩ := Option.bind_eq_some_iff.mp e
  try dsimp only at e
  have z1 := fun h => x1538 (D := D) (h := h) (by omega) k1
  obtain ⟨r, k2, e⟩ := Option.bind_eq_some_iff.mp e
  have z2 := fun h => x1543 (D := D) (h := h) (by omega) k2
  rcases r with c4 | _
  · dsimp only at e z2
    have e := Option.some.inj e; subst e
    simp -implicitDefEqProofs (disch := first | assumption | exact Nat.le_of_ble_eq_true rfl | decide) only [b1558_0, g1558_1, b1558_1, pe_iload1, pe_i2l, pe_bipush, pe_call3, pm_af_ret, pm_af_void, pm_af_thr, pe_call1, pe_iload2, pe_aload0, pe_getfield, pe_aaload, pe_baload, pe_iload3, pe_icmp_eq, pe_sipush, pe_goto, pe_goto_w, pe_istore4, pe_bastore, pe_iload4, pe_aloadN0, pe_aastoreN, pe_areturnN, pe_null, pm_prog_1, pm_ob_some, Nat.reduceDiv, Nat.reduceMod, Nat.reduceMul, Nat.reduceAdd, Int.reduceToNat, pm_kill_i, pm_kill_r, pm_kill_n, pm_kill_j, pm_kill_l, pm_kill_d, pm_cats_nil, pm_cats_i, pm_cats_r, pm_cats_n, pm_cats_l, pm_cats_d, sz_1, sz_2, sl_1, sl_2, lc_0, lc_lt, lc_le, li_ne, va_rf, wr_m1, we_m1, pm_kill_w, Int32.reduceOfInt, Int64.reduceOfInt, Int32.reduceOfNat, Int32.reduceLT, Int32.reduceLE, Prod.mk.injEq, Nat.reduceEqDiff, reduceCtorEq, and_true, true_and, and_false, false_and, and_self, ite_true, ite_false, ↓reduceIte, not_true_eq_false, not_false_eq_true, pe_ri, pe_rz, pe_rc, p_throw, t1558, w_junk hA, Ch_g0_4 hP hA, Ch_r7 hP hA, Ch_r8 hP hA, Ch_w8 hP hA, z1, z2]
  · dsimp only at e z2
    obtain ⟨v2, k3, e⟩ := Option.bind_eq_some_iff.mp e
    try dsimp only at e
    have z3 := fun h => x1547 (D := D) (h := h) (by omega) k3
    obtain ⟨r, k4, e⟩ := Option.bind_eq_some_iff.mp e
    have z4 := fun h => x1539 (D := D) (h := h) (by omega) k4
    rcases r with c3 | _
    · dsimp only at e z4
      have e := Option.some.inj e; subst e
      simp -implicitDefEqProofs (disch := first | assumption | exact Nat.le_of_ble_eq_true rfl | decide) only [b1558_0, g1558_1, b1558_1, pe_iload1, pe_i2l, pe_bipush, pe_call3, pm_af_ret, pm_af_void, pm_af_thr, pe_call1, pe_iload2, pe_aload0, pe_getfield, pe_aaload, pe_baload, pe_iload3, pe_icmp_eq, pe_sipush, pe_goto, pe_goto_w, pe_istore4, pe_bastore, pe_iload4, pe_aloadN0, pe_aastoreN, pe_areturnN, pe_null, pm_prog_1, pm_ob_some, Nat.reduceDiv, Nat.reduceMod, Nat.reduceMul, Nat.reduceAdd, Int.reduceToNat, pm_kill_i, pm_kill_r, pm_kill_n, pm_kill_j, pm_kill_l, pm_kill_d, pm_cats_nil, pm_cats_i, pm_cats_r, pm_cats_n, pm_cats_l, pm_cats_d, sz_1, sz_2, sl_1, sl_2, lc_0, lc_lt, lc_le, li_ne, va_rf, wr_m1, we_m1, pm_kill_w, Int32.reduceOfInt, Int64.reduceOfInt, Int32.reduceOfNat, Int32.reduceLT, Int32.reduceLE, Prod.mk.injEq, Nat.reduceEqDiff, reduceCtorEq, and_true, true_and, and_false, false_and, and_self, ite_true, ite_false, ↓reduceIte, not_true_eq_false, not_false_eq_true, pe_ri, pe_rz, pe_rc, p_throw, t1558, w_junk hA, Ch_g0_4 hP hA, Ch_r7 hP hA, Ch_r8 hP hA, Ch_w8 hP hA, z1, z2, z3, z4]
    · dsimp only at e z4
      by_cases k5 : 0 ≤ x1 ∧ x1 < 4
      · rw [if_pos k5] at e
        by_cases k6 : 0 ≤ x2 ∧ x2 < 4
        · rw [if_pos k6] at e
          by_cases k7 : (S.1 (8, x1, 0) x2) = x3
          · rw [if_pos k7] at e
            have k8 := y1558_2 (h := h) hP hA hD e
            simp -implicitDefEqProofs (disch := first | assumption | exact Nat.le_of_ble_eq_true rfl | decide) only [b1558_0, g1558_1, b1558_1, pe_iload1, pe_i2l, pe_bipush, pe_call3, pm_af_ret, pm_af_void, pm_af_thr, pe_call1, pe_iload2, pe_aload0, pe_getfield, pe_aaload, pe_baload, pe_iload3, pe_icmp_eq, pe_sipush, pe_goto, pe_goto_w, pe_istore4, pe_bastore, pe_iload4, pe_aloadN0, pe_aastoreN, pe_areturnN, pe_null, pm_prog_1, pm_ob_some, Nat.reduceDiv, Nat.reduceMod, Nat.reduceMul, Nat.reduceAdd, Int.reduceToNat, pm_kill_i, pm_kill_r, pm_kill_n, pm_kill_j, pm_kill_l, pm_kill_d, pm_cats_nil, pm_cats_i, pm_cats_r, pm_cats_n, pm_cats_l, pm_cats_d, sz_1, sz_2, sl_1, sl_2, lc_0, lc_lt, lc_le, li_ne, va_rf, wr_m1, we_m1, pm_kill_w, Int32.reduceOfInt, Int64.reduceOfInt, Int32.reduceOfNat, Int32.reduceLT, Int32.reduceLE, Prod.mk.injEq, Nat.reduceEqDiff, reduceCtorEq, and_true, true_and, and_false, false_and, and_self, ite_true, ite_false, ↓reduceIte, not_true_eq_false, not_false_eq_true, pe_ri, pe_rz, pe_rc, p_throw, t1558, w_junk hA, Ch_g0_4 hP hA, Ch_r7 hP hA, Ch_r8 hP hA, Ch_w8 hP hA, z1, z2, z3, z4, eq_true k7, k8]
          · rw [if_neg k7] at e
            have k9 := y1558_2 (h := h) hP hA hD e
            simp -implicitDefEqProofs (disch := first | assumption | exact Nat.le_of_ble_eq_true rfl | decide) only [b1558_0, g1558_1, b1558_1, pe_iload1, pe_i2l, pe_bipush, pe_call3, pm_af_ret, pm_af_void, pm_af_thr, pe_call1, pe_iload2, pe_aload0, pe_getfield, pe_aaload, pe_baload, pe_iload3, pe_icmp_eq, pe_sipush, pe_goto, pe_goto_w, pe_istore4, pe_bastore, pe_iload4, pe_aloadN0, pe_aastoreN, pe_areturnN, pe_null, pm_prog_1, pm_ob_some, Nat.reduceDiv, Nat.reduceMod, Nat.reduceMul, Nat.reduceAdd, Int.reduceToNat, pm_kill_i, pm_kill_r, pm_kill_n, pm_kill_j, pm_kill_l, pm_kill_d, pm_cats_nil, pm_cats_i, pm_cats_r, pm_cats_n, pm_cats_l, pm_cats_d, sz_1, sz_2, sl_1, sl_2, lc_0, lc_lt, lc_le, li_ne, va_rf, wr_m1, we_m1, pm_kill_w, Int32.reduceOfInt, Int64.reduceOfInt, Int32.reduceOfNat, Int32.reduceLT, Int32.reduceLE, Prod.mk.injEq, Nat.reduceEqDiff, reduceCtorEq, and_true, true_and, and_false, false_and, and_self, ite_true, ite_false, ↓reduceIte, not_true_eq_false, not_false_eq_true, pe_ri, pe_rz, pe_rc, p_throw, t1558, w_junk hA, Ch_g0_4 hP hA, Ch_r7 hP hA, Ch_r8 hP hA, Ch_w8 hP hA, z1, z2, z3, z4, eq_false k7, k9]
        · rw [if_neg k6] at e; cases e
      · rw [if_neg k5] at e; cases e
/-- TimberHouse$ShopDesks.seen(IIII)J -/
theorem c1559 {d : Nat} {h : pm_H} {a : Nat} {x0 : Int32} {x1 : Int32} {x2 : Int32} {x3 : Int32} (hc : pm_cls h a = some 24) : pm_call pm_prog (d + 1) 1559 [.ref a, .int x0, .int x1, .int x2, .int x3] h = pm_ev pm_prog (pm_call pm_prog d) 1559 0 b1559_0 [.ref a, .int x0, .int x1, .int x2, .int x3, pm_junk] [] h := pm_cal (pm_rc1 hc rfl) rfl rfl rfl
theorem g1559_1 {cl : pm_C} {ls st : List Value} {h : pm_H} : pm_go pm_prog cl 1559 1 ls st h = pm_ev pm_prog cl 1559 1 b1559_1 ls st h := pm_go_eq pm_prog cl 1559 1 ls st h
theorem g1559_2 {cl : pm_C} {ls st : List Value} {h : pm_H} : pm_go pm_prog cl 1559 2 ls st h = pm_ev pm_prog cl 1559 2 b1559_2 ls st h := pm_go_eq pm_prog cl 1559 2 ls st h
theorem g1559_3 {cl : pm_C} {ls st : List Value} {h : pm_H} : pm_go pm_prog cl 1559 3 ls st h = pm_ev pm_prog cl 1559 3 b1559_3 ls st h := pm_go_eq pm_prog cl 1559 3 ls st h
theorem g1559_4 {cl : pm_C} {ls st : List Value} {h : pm_H} : pm_go pm_prog cl 1559 4 ls st h = pm_ev pm_prog cl 1559 4 b1559_4 ls st h := pm_go_eq pm_prog cl 1559 4 ls st h
theorem t1559 {cl : pm_C} {j : Nat} {ls : List Value} {c : Nat} {h : pm_H} : pm_thr pm_prog cl 1559 j ls c h = some (.threw c, h) := rfl
noncomputable def f1559_4 (tc : Int32) (bc : Int32) (ec : Int32) (S : wS) (x3 : Int32) (x4 : Int32) (y0i : Int32) (y1 : Int32) : Option (Nat ⊕ (Int64)) :=
  if 0 ≤ y0i ∧ y0i < bc then
    (f3715 tc bc ec S y0i y1 x3 x4 9223372036854775807).bind fun v3 =>
    some (.inr v3)
  else none
noncomputable def f1559_2 (tc : Int32) (bc : Int32) (ec : Int32) (S : wS) (x1 : Int32) (x2 : Int32) (x3 : Int32) (x4 : Int32) (y0 : Int32) : Option (Nat ⊕ (Int64)) :=
  (f1543 y0).bind fun r => match r with
  | .inl c6 =>
    some (.inl c6)
  | .inr _ =>
  (f1547 x4).bind fun v2 =>
  (f1539 v2).bind fun r => match r with
  | .inl c5 =>
    some (.inl c5)
  | .inr _ =>
  if 0 ≤ x1 ∧ x1 < 4 then
    if 0 ≤ x4 ∧ x4 < 4 then
      (f1540 (S.1 (8, x1, 0) x4)).bind fun r => match r with
      | .inl c4 =>
        some (.inl c4)
      | .inr _ =>
      if 0 ≤ x2 ∧ x2 < 8 then
        if x2 < bc then
          if 0 ≤ x2 ∧ x2 < bc then
            if (S.1 (4, x2, 0) 4) = (-1) then
              f1559_4 tc bc ec S x3 x4 x2 (S.1 (4, x2, 0) 3)
            else
              f1559_4 tc bc ec S x3 x4 x2 (S.1 (4, x2, 0) 4)
          else none
        else none
      else none
    else none
  else none
/-- TimberHouse$ShopDesks.seen(IIII)J -/
noncomputable def f1559 (tc : Int32) (bc : Int32) (ec : Int32) (S : wS) (x1 : Int32) (x2 : Int32) (x3 : Int32) (x4 : Int32) : Option (Nat ⊕ (Int64)) :=
  (f1538 (Int32.toInt64 x1) 0 3).bind fun v1 =>
  if v1 = 0 then
    f1559_2 tc bc ec S x1 x2 x3 x4 0
  else
    (f1551 tc bc ec S x2).bind fun v7 =>
    if v7 = 0 then
      f1559_2 tc bc ec S x1 x2 x3 x4 0
    else
      (f1538 (Int32.toInt64 x3) 0 9).bind fun v8 =>
      if v8 = 0 then
        f1559_2 tc bc ec S x1 x2 x3 x4 0
      else
        f1559_2 tc bc ec S x1 x2 x3 x4 1
theorem y1559_4 {tc : Int32} {bc : Int32} {ec : Int32} {A : wK → Nat} {h : pm_H} {D : Nat} {S : wS} {x3 : Int32} {x4 : Int32} {y0i : Int32} {y1 : Int32} {r : Nat ⊕ (Int64)} (hP : Ch_P tc bc ec) (hA : wok A (Ch_d tc bc ec) h.1) (hD : 5 ≤ D) (e : f1559_4 tc bc ec S x3 x4 y0i y1 = some r) : ∀ q0 q1 q2 q5 : Value, pm_go pm_prog (pm_call pm_prog D) 1559 4 [q0, q1, q2, .int x3, .int x4, q5] [.int y1, .ref (A (4, y0i, 0))] (wput A (Ch_d tc bc ec) S h) = some (match (generalizing := false) r with | .inl c => (Outcome.threw c, (wput A (Ch_d tc bc ec) S (pm_new h 6 (.inr (c, []))))) | .inr w0 => (Outcome.returned (some (.long w0)), (wput A (Ch_d tc bc ec) S h))) := by
  intro q0 q1 q2 q5
  simp only [f1559_4] at e
  rw [g1559_4, b1559_4]
  by_cases k1 : 0 ≤ y0i ∧ y0i < bc
  · rw [if_pos k1] at e
    obtain ⟨v3, k2, e⟩ := Option.bind_eq_some_iff.mp e
    try dsimp only at e
    have z2 := x3715 (D := D) (h := h) hP hA (by omega) k2
    have e := Option.some.inj e; subst e
    simp -implicitDefEqProofs (disch := first | assumption | exact Nat.le_of_ble_eq_true rfl | decide) only [b1559_0, g1559_1, b1559_1, g1559_3, b1559_3, pe_iload1, pe_i2l, pe_bipush, pe_call3, pm_af_ret, pm_af_void, pm_af_thr, pe_if_eq, pe_aload0, pe_iload2, pe_call2, pe_iload3, pe_sipush, pe_goto, pe_goto_w, pe_call1, pe_iload4, pe_getfield, pe_aaload, pe_baload, pe_astore5, pe_aload5, pe_icmp_ne, pe_call5, pe_lreturn, pe_aloadN0, pe_astoreN5, pe_aloadN5, pe_aastoreN, pe_areturnN, pe_null, pm_prog_1, pm_ob_some, Nat.reduceDiv, Nat.reduceMod, Nat.reduceMul, Nat.reduceAdd, Int.reduceToNat, pm_kill_i, pm_kill_r, pm_kill_n, pm_kill_j, pm_kill_l, pm_kill_d, pm_cats_nil, pm_cats_i, pm_cats_r, pm_cats_n, pm_cats_l, pm_cats_d, sz_1, sz_2, sl_1, sl_2, lc_0, lc_lt, lc_le, li_ne, va_rf, wr_m1, we_m1, pm_kill_w, Int32.reduceOfInt, Int64.reduceOfInt, Int32.reduceOfNat, Int32.reduceLT, Int32.reduceLE, Prod.mk.injEq, Nat.reduceEqDiff, reduceCtorEq, and_true, true_and, and_false, false_and, and_self, ite_true, ite_false, ↓reduceIte, not_true_eq_false, not_false_eq_true, pe_ri, pe_rz, pe_rc, p_throw, t1559, w_junk hA, Ch_g0_2 hP hA, Ch_g0_4 hP hA, Ch_g4_3 hP hA, Ch_g4_4 hP hA, Ch_r3 hP hA, Ch_r7 hP hA, Ch_r8 hP hA, z2]
  · rw [if_neg k1] at e; cases e
theorem y1559_2 {tc : Int32} {bc : Int32} {ec : Int32} {A : wK → Nat} {h : pm_H} {D : Nat} {S : wS} {x1 : Int32} {x2 : Int32} {x3 : Int32} {x4 : Int32} {y0 : Int32} {r : Nat ⊕ (Int64)} (hP : Ch_P tc bc ec) (hA : wok A (Ch_d tc bc ec) h.1) (hD : 5 ≤ D) (e : f1559_2 tc bc ec S x1 x2 x3 x4 y0 = some r) : ∀ q5 : Value, pm_go pm_prog (pm_call pm_prog D) 1559 2 [.ref (A (0, 0, 0)), .int x1, .int x2, .int x3, .int x4, q5] [.int y0] (wput A (Ch_d tc bc ec) S h) = some (match (generalizing := false) r with | .inl c => (Outcome.threw c, (wput A (Ch_d tc bc ec) S (pm_new h 6 (.inr (c, []))))) | .inr w0 => (Outcome.returned (some (.long w0)), (wput A (Ch_d tc bc ec) S h))) := by
  intro q5
  simp only [f1559_2] at e
  rw [g1559_2, b1559_2]
  obtain ⟨r, k1, e⟩ := Option.bind_eq_some_iff.mp e
  have z1 := fun h => x1543 (D := D) (h := h) (by omega) k1
  rcases r with c6 | _
  · dsimp only at e z1
    have e := Option.some.inj e; subst e
    simp -implicitDefEqProofs (disch := first | assumption | exact Nat.le_of_ble_eq_true rfl | decide) only [b1559_0, g1559_1, b1559_1, g1559_3, b1559_3, pe_iload1, pe_i2l, pe_bipush, pe_call3, pm_af_ret, pm_af_void, pm_af_thr, pe_if_eq, pe_aload0, pe_iload2, pe_call2, pe_iload3, pe_sipush, pe_goto, pe_goto_w, pe_call1, pe_iload4, pe_getfield, pe_aaload, pe_baload, pe_astore5, pe_aload5, pe_icmp_ne, pe_call5, pe_lreturn, pe_aloadN0, pe_astoreN5, pe_aloadN5, pe_aastoreN, pe_areturnN, pe_null, pm_prog_1, pm_ob_some, Nat.reduceDiv, Nat.reduceMod, Nat.reduceMul, Nat.reduceAdd, Int.reduceToNat, pm_kill_i, pm_kill_r, pm_kill_n, pm_kill_j, pm_kill_l, pm_kill_d, pm_cats_nil, pm_cats_i, pm_cats_r, pm_cats_n, pm_cats_l, pm_cats_d, sz_1, sz_2, sl_1, sl_2, lc_0, lc_lt, lc_le, li_ne, va_rf, wr_m1, we_m1, pm_kill_w, Int32.reduceOfInt, Int64.reduceOfInt, Int32.reduceOfNat, Int32.reduceLT, Int32.reduceLE, Prod.mk.injEq, Nat.reduceEqDiff, reduceCtorEq, and_true, true_and, and_false, false_and, and_self, ite_true, ite_false, ↓reduceIte, not_true_eq_false, not_false_eq_true, pe_ri, pe_rz, pe_rc, p_throw, t1559, w_junk hA, Ch_g0_2 hP hA, Ch_g0_4 hP hA, Ch_g4_3 hP hA, Ch_g4_4 hP hA, Ch_r3 hP hA, Ch_r7 hP hA, Ch_r8 hP hA, z1]
  · dsimp only at e z1
    obtain ⟨v2, k2, e⟩ := Option.bind_eq_some_iff.mp e
    try dsimp only at e
    have z2 := fun h => x1547 (D := D) (h := h) (by omega) k2
    obtain ⟨r, k3, e⟩ := Option.bind_eq_some_iff.mp e
    have z3 := fun h => x1539 (D := D) (h := h) (by omega) k3
    rcases r with c5 | _
    · dsimp only at e z3
      have e := Option.some.inj e; subst e
      simp -implicitDefEqProofs (disch := first | assumption | exact Nat.le_of_ble_eq_true rfl | decide) only [b1559_0, g1559_1, b1559_1, g1559_3, b1559_3, pe_iload1, pe_i2l, pe_bipush, pe_call3, pm_af_ret, pm_af_void, pm_af_thr, pe_if_eq, pe_aload0, pe_iload2, pe_call2, pe_iload3, pe_sipush, pe_goto, pe_goto_w, pe_call1, pe_iload4, pe_getfield, pe_aaload, pe_baload, pe_astore5, pe_aload5, pe_icmp_ne, pe_call5, pe_lreturn, pe_aloadN0, pe_astoreN5, pe_aloadN5, pe_aastoreN, pe_areturnN, pe_null, pm_prog_1, pm_ob_some, Nat.reduceDiv, Nat.reduceMod, Nat.reduceMul, Nat.reduceAdd, Int.reduceToNat, pm_kill_i, pm_kill_r, pm_kill_n, pm_kill_j, pm_kill_l, pm_kill_d, pm_cats_nil, pm_cats_i, pm_cats_r, pm_cats_n, pm_cats_l, pm_cats_d, sz_1, sz_2, sl_1, sl_2, lc_0, lc_lt, lc_le, li_ne, va_rf, wr_m1, we_m1, pm_kill_w, Int32.reduceOfInt, Int64.reduceOfInt, Int32.reduceOfNat, Int32.reduceLT, Int32.reduceLE, Prod.mk.injEq, Nat.reduceEqDiff, reduceCtorEq, and_true, true_and, and_false, false_and, and_self, ite_true, ite_false, ↓reduceIte, not_true_eq_false, not_false_eq_true, pe_ri, pe_rz, pe_rc, p_throw, t1559, w_junk hA, Ch_g0_2 hP hA, Ch_g0_4 hP hA, Ch_g4_3 hP hA, Ch_g4_4 hP hA, Ch_r3 hP hA, Ch_r7 hP hA, Ch_r8 hP hA, z1, z2, z3]
    · dsimp only at e z3
      by_cases k4 : 0 ≤ x1 ∧ x1 < 4
      · rw [if_pos k4] at e
        by_cases k5 : 0 ≤ x4 ∧ x4 < 4
        · rw [if_pos k5] at e
          obtain ⟨r, k6, e⟩ := Option.bind_eq_some_iff.mp e
          have z6 := fun h => x1540 (D := D) (h := h) (by omega) k6
          rcases r with c4 | _
          · dsimp only at e z6
            have e := Option.some.inj e; subst e
            simp -implicitDefEqProofs (disch := first | assumption | exact Nat.le_of_ble_eq_true rfl | decide) only [b1559_0, g1559_1, b1559_1, g1559_3, b1559_3, pe_iload1, pe_i2l, pe_bipush, pe_call3, pm_af_ret, pm_af_void, pm_af_thr, pe_if_eq, pe_aload0, pe_iload2, pe_call2, pe_iload3, pe_sipush, pe_goto, pe_goto_w, pe_call1, pe_iload4, pe_getfield, pe_aaload, pe_baload, pe_astore5, pe_aload5, pe_icmp_ne, pe_call5, pe_lreturn, pe_aloadN0, pe_astoreN5, pe_aloadN5, pe_aastoreN, pe_areturnN, pe_null, pm_prog_1, pm_ob_some, Nat.reduceDiv, Nat.reduceMod, Nat.reduceMul, Nat.reduceAdd, Int.reduceToNat, pm_kill_i, pm_kill_r, pm_kill_n, pm_kill_j, pm_kill_l, pm_kill_d, pm_cats_nil, pm_cats_i, pm_cats_r, pm_cats_n, pm_cats_l, pm_cats_d, sz_1, sz_2, sl_1, sl_2, lc_0, lc_lt, lc_le, li_ne, va_rf, wr_m1, we_m1, pm_kill_w, Int32.reduceOfInt, Int64.reduceOfInt, Int32.reduceOfNat, Int32.reduceLT, Int32.reduceLE, Prod.mk.injEq, Nat.reduceEqDiff, reduceCtorEq, and_true, true_and, and_false, false_and, and_self, ite_true, ite_false, ↓reduceIte, not_true_eq_false, not_false_eq_true, pe_ri, pe_rz, pe_rc, p_throw, t1559, w_junk hA, Ch_g0_2 hP hA, Ch_g0_4 hP hA, Ch_g4_3 hP hA, Ch_g4_4 hP hA, Ch_r3 hP hA, Ch_r7 hP hA, Ch_r8 hP hA, z1, z2, z3, z6]
          · dsimp only at e z6
            by_cases k7 : 0 ≤ x2 ∧ x2 < 8
            · rw [if_pos k7] at e
              by_cases k8 : x2 < bc
              · rw [if_pos k8] at e
                by_cases k9 : 0 ≤ x2 ∧ x2 < bc
                · rw [if_pos k9] at e
                  by_cases k10 : (S.1 (4, x2, 0) 4) = (-1)
                  · rw [if_pos k10] at e
                    have k11 := y1559_4 (h := h) hP hA hD e
                    simp -implicitDefEqProofs (disch := first | assumption | exact Nat.le_of_ble_eq_true rfl | decide) only [b1559_0, g1559_1, b1559_1, g1559_3, b1559_3, pe_iload1, pe_i2l, pe_bipush, pe_call3, pm_af_ret, pm_af_void, pm_af_thr, pe_if_eq, pe_aload0, pe_iload2, pe_call2, pe_iload3, pe_sipush, pe_goto, pe_goto_w, pe_call1, pe_iload4, pe_getfield, pe_aaload, pe_baload, pe_astore5, pe_aload5, pe_icmp_ne, pe_call5, pe_lreturn, pe_aloadN0, pe_astoreN5, pe_aloadN5, pe_aastoreN, pe_areturnN, pe_null, pm_prog_1, pm_ob_some, Nat.reduceDiv, Nat.reduceMod, Nat.reduceMul, Nat.reduceAdd, Int.reduceToNat, pm_kill_i, pm_kill_r, pm_kill_n, pm_kill_j, pm_kill_l, pm_kill_d, pm_cats_nil, pm_cats_i, pm_cats_r, pm_cats_n, pm_cats_l, pm_cats_d, sz_1, sz_2, sl_1, sl_2, lc_0, lc_lt, lc_le, li_ne, va_rf, wr_m1, we_m1, pm_kill_w, Int32.reduceOfInt, Int64.reduceOfInt, Int32.reduceOfNat, Int32.reduceLT, Int32.reduceLE, Prod.mk.injEq, Nat.reduceEqDiff, reduceCtorEq, and_true, true_and, and_false, false_and, and_self, ite_true, ite_false, ↓reduceIte, not_true_eq_false, not_false_eq_true, pe_ri, pe_rz, pe_rc, p_throw, t1559, w_junk hA, Ch_g0_2 hP hA, Ch_g0_4 hP hA, Ch_g4_3 hP hA, Ch_g4_4 hP hA, Ch_r3 hP hA, Ch_r7 hP hA, Ch_r8 hP hA, z1, z2, z3, z6, eq_true k10, k11]
                  · rw [if_neg k10] at e
                    have k12 := y1559_4 (h := h) hP hA hD e
                    simp -implicitDefEqProofs (disch := first | assumption | exact Nat.le_of_ble_eq_true rfl | decide) only [b1559_0, g1559_1, b1559_1, g1559_3, b1559_3, pe_iload1, pe_i2l, pe_bipush, pe_call3, pm_af_ret, pm_af_void, pm_af_thr, pe_if_eq, pe_aload0, pe_iload2, pe_call2, pe_iload3, pe_sipush, pe_goto, pe_goto_w, pe_call1, pe_iload4, pe_getfield, pe_aaload, pe_baload, pe_astore5, pe_aload5, pe_icmp_ne, pe_call5, pe_lreturn, pe_aloadN0, pe_astoreN5, pe_aloadN5, pe_aastoreN, pe_areturnN, pe_null, pm_prog_1, pm_ob_some, Nat.reduceDiv, Nat.reduceMod, Nat.reduceMul, Nat.reduceAdd, Int.reduceToNat, pm_kill_i, pm_kill_r, pm_kill_n, pm_kill_j, pm_kill_l, pm_kill_d, pm_cats_nil, pm_cats_i, pm_cats_r, pm_cats_n, pm_cats_l, pm_cats_d, sz_1, sz_2, sl_1, sl_2, lc_0, lc_lt, lc_le, li_ne, va_rf, wr_m1, we_m1, pm_kill_w, Int32.reduceOfInt, Int64.reduceOfInt, Int32.reduceOfNat, Int32.reduceLT, Int32.reduceLE, Prod.mk.injEq, Nat.reduceEqDiff, reduceCtorEq, and_true, true_and, and_false, false_and, and_self, ite_true, ite_false, ↓reduceIte, not_true_eq_false, not_false_eq_true, pe_ri, pe_rz, pe_rc, p_throw, t1559, w_junk hA, Ch_g0_2 hP hA, Ch_g0_4 hP hA, Ch_g4_3 hP hA, Ch_g4_4 hP hA, Ch_r3 hP hA, Ch_r7 hP hA, Ch_r8 hP hA, z1, z2, z3, z6, eq_false k10, k12]
                · rw [if_neg k9] at e; cases e
              · rw [if_neg k8] at e; cases e
            · rw [if_neg k7] at e; cases e
        · rw [if_neg k5] at e; cases e
      · rw [if_neg k4] at e; cases e
theorem x1559 {tc : Int32} {bc : Int32} {ec : Int32} {A : wK → Nat} {h : pm_H} {D : Nat} {S : wS} {x1 : Int32} {x2 : Int32} {x3 : Int32} {x4 : Int32} {r : Nat ⊕ (Int64)} (hP : Ch_P tc bc ec) (hA : wok A (Ch_d tc bc ec) h.1) (hD : 6 ≤ D) (e : f1559 tc bc ec S x1 x2 x3 x4 = some r) : pm_call pm_prog D 1559 [.ref (A (0, 0, 0)), .int x1, .int x2, .int x3, .int x4] (wput A (Ch_d tc bc ec) S h) = some (match (generalizing := false) r with | .inl c => (Outcome.threw c, (wput A (Ch_d tc bc ec) S (pm_new h 6 (.inr (c, []))))) | .inr w0 => (Outcome.returned (some (.long w0)), (wput A (Ch_d tc bc ec) S h))) := by
  obtain ⟨D, rfl⟩ : ∃ D', D = D' + 1 := ⟨D - 1, by omega⟩
  have hD : 5 ≤ D := by omega
  simp only [f1559] at e
  rw [c1559 (Ch_c0 hP hA), b1559_0]
  obtain ⟨v1, k1, e⟩ := Option.bind_eq_some_iff.mp e
  try dsimp only at e
  have z1 := fun h => x1538 (D := D) (h := h) (by omega) k1
  by_cases k2 : v1 = 0
  · rw [if_pos k2] at e
    have k3 := y1559_2 (h := h) hP hA hD e
    simp -implicitDefEqProofs (disch := first | assumption | exact Nat.le_of_ble_eq_true rfl | decide) only [b1559_0, g1559_1, b1559_1, g1559_3, b1559_3, pe_iload1, pe_i2l, pe_bipush, pe_call3, pm_af_ret, pm_af_void, pm_af_thr, pe_if_eq, pe_aload0, pe_iload2, pe_call2, pe_iload3, pe_sipush, pe_goto, pe_goto_w, pe_call1, pe_iload4, pe_getfield, pe_aaload, pe_baload, pe_astore5, pe_aload5, pe_icmp_ne, pe_call5, pe_lreturn, pe_aloadN0, pe_astoreN5, pe_aloadN5, pe_aastoreN, pe_areturnN, pe_null, pm_prog_1, pm_ob_some, Nat.reduceDiv, Nat.reduceMod, Nat.reduceMul, Nat.reduceAdd, Int.reduceToNat, pm_kill_i, pm_kill_r, pm_kill_n, pm_kill_j, pm_kill_l, pm_kill_d, pm_cats_nil, pm_cats_i, pm_cats_r, pm_cats_n, pm_cats_l, pm_cats_d, sz_1, sz_2, sl_1, sl_2, lc_0, lc_lt, lc_le, li_ne, va_rf, wr_m1, we_m1, pm_kill_w, Int32.reduceOfInt, Int64.reduceOfInt, Int32.reduceOfNat, Int32.reduceLT, Int32.reduceLE, Prod.mk.injEq, Nat.reduceEqDiff, reduceCtorEq, and_true, true_and, and_false, false_and, and_self, ite_true, ite_false, ↓reduceIte, not_true_eq_false, not_false_eq_true, pe_ri, pe_rz, pe_rc, p_throw, t1559, w_junk hA, Ch_g0_2 hP hA, Ch_g0_4 hP hA, Ch_g4_3 hP hA, Ch_g4_4 hP hA, Ch_r3 hP hA, Ch_r7 hP hA, Ch_r8 hP hA, z1, eq_true k2, k3]
  · rw [if_neg k2] at e
    obtain ⟨v7, k4, e⟩ := Option.bind_eq_some_iff.mp e
    try dsimp only at e
    have z4 := x1551 (D := D) (h := h) hP hA (by omega) k4
    by_cases k5 : v7 = 0
    · rw [if_pos k5] at e
      have k6 := y1559_2 (h := h) hP hA hD e
      simp -implicitDefEqProofs (disch := first | assumption | exact Nat.le_of_ble_eq_true rfl | decide) only [b1559_0, g1559_1, b1559_1, g1559_3, b1559_3, pe_iload1, pe_i2l, pe_bipush, pe_call3, pm_af_ret, pm_af_void, pm_af_thr, pe_if_eq, pe_aload0, pe_iload2, pe_call2, pe_iload3, pe_sipush, pe_goto, pe_goto_w, pe_call1, pe_iload4, pe_getfield, pe_aaload, pe_baload, pe_astore5, pe_aload5, pe_icmp_ne, pe_call5, pe_lreturn, pe_aloadN0, pe_astoreN5, pe_aloadN5, pe_aastoreN, pe_areturnN, pe_null, pm_prog_1, pm_ob_some, Nat.reduceDiv, Nat.reduceMod, Nat.reduceMul, Nat.reduceAdd, Int.reduceToNat, pm_kill_i, pm_kill_r, pm_kill_n, pm_kill_j, pm_kill_l, pm_kill_d, pm_cats_nil, pm_cats_i, pm_cats_r, pm_cats_n, pm_cats_l, pm_cats_d, sz_1, sz_2, sl_1, sl_2, lc_0, lc_lt, lc_le, li_ne, va_rf, wr_m1, we_m1, pm_kill_w, Int32.reduceOfInt, Int64.reduceOfInt, Int32.reduceOfNat, Int32.reduceLT, Int32.reduceLE, Prod.mk.injEq, Nat.reduceEqDiff, reduceCtorEq, and_true, true_and, and_false, false_and, and_self, ite_true, ite_false, ↓reduceIte, not_true_eq_false, not_false_eq_true, pe_ri, pe_rz, pe_rc, p_throw, t1559, w_junk hA, Ch_g0_2 hP hA, Ch_g0_4 hP hA, Ch_g4_3 hP hA, Ch_g4_4 hP hA, Ch_r3 hP hA, Ch_r7 hP hA, Ch_r8 hP hA, z1, eq_false k2, z4, eq_true k5, k6]
    · rw [if_neg k5] at e
      obtain ⟨v8, k7, e⟩ := Option.bind_eq_some_iff.mp e
      try dsimp only at e
      have z7 := fun h => x1538 (D := D) (h := h) (by omega) k7
      by_cases k8 : v8 = 0
      · rw [if_pos k8] at e
        have k9 := y1559_2 (h := h) hP hA hD e
        simp -implicitDefEqProofs (disch := first | assumption | exact Nat.le_of_ble_eq_true rfl | decide) only [b1559_0, g1559_1, b1559_1, g1559_3, b1559_3, pe_iload1, pe_i2l, pe_bipush, pe_call3, pm_af_ret, pm_af_void, pm_af_thr, pe_if_eq, pe_aload0, pe_iload2, pe_call2, pe_iload3, pe_sipush, pe_goto, pe_goto_w, pe_call1, pe_iload4, pe_getfield, pe_aaload, pe_baload, pe_astore5, pe_aload5, pe_icmp_ne, pe_call5, pe_lreturn, pe_aloadN0, pe_astoreN5, pe_aloadN5, pe_aastoreN, pe_areturnN, pe_null, pm_prog_1, pm_ob_some, Nat.reduceDiv, Nat.reduceMod, Nat.reduceMul, Nat.reduceAdd, Int.reduceToNat, pm_kill_i, pm_kill_r, pm_kill_n, pm_kill_j, pm_kill_l, pm_kill_d, pm_cats_nil, pm_cats_i, pm_cats_r, pm_cats_n, pm_cats_l, pm_cats_d, sz_1, sz_2, sl_1, sl_2, lc_0, lc_lt, lc_le, li_ne, va_rf, wr_m1, we_m1, pm_kill_w, Int32.reduceOfInt, Int64.reduceOfInt, Int32.reduceOfNat, Int32.reduceLT, Int32.reduceLE, Prod.mk.injEq, Nat.reduceEqDiff, reduceCtorEq, and_true, true_and, and_false, false_and, and_self, ite_true, ite_false, ↓reduceIte, not_true_eq_false, not_false_eq_true, pe_ri, pe_rz, pe_rc, p_throw, t1559, w_junk hA, Ch_g0_2 hP hA, Ch_g0_4 hP hA, Ch_g4_3 hP hA, Ch_g4_4 hP hA, Ch_r3 hP hA, Ch_r7 hP hA, Ch_r8 hP hA, z1, eq_false k2, z4, eq_false k5, z7, eq_true k8, k9]
      · rw [if_neg k8] at e
        have k10 := y1559_2 (h := h) hP hA hD e
        simp -implicitDefEqProofs (disch := first | assumption | exact Nat.le_of_ble_eq_true rfl | decide) only [b1559_0, g1559_1, b1559_1, g1559_3, b1559_3, pe_iload1, pe_i2l, pe_bipush, pe_call3, pm_af_ret, pm_af_void, pm_af_thr, pe_if_eq, pe_aload0, pe_iload2, pe_call2, pe_iload3, pe_sipush, pe_goto, pe_goto_w, pe_call1, pe_iload4, pe_getfield, pe_aaload, pe_baload, pe_astore5, pe_aload5, pe_icmp_ne, pe_call5, pe_lreturn, pe_aloadN0, pe_astoreN5, pe_aloadN5, pe_aastoreN, pe_areturnN, pe_null, pm_prog_1, pm_ob_some, Nat.reduceDiv, Nat.reduceMod, Nat.reduceMul, Nat.reduceAdd, Int.reduceToNat, pm_kill_i, pm_kill_r, pm_kill_n, pm_kill_j, pm_kill_l, pm_kill_d, pm_cats_nil, pm_cats_i, pm_cats_r, pm_cats_n, pm_cats_l, pm_cats_d, sz_1, sz_2, sl_1, sl_2, lc_0, lc_lt, lc_le, li_ne, va_rf, wr_m1, we_m1, pm_kill_w, Int32.reduceOfInt, Int64.reduceOfInt, Int32.reduceOfNat, Int32.reduceLT, Int32.reduceLE, Prod.mk.injEq, Nat.reduceEqDiff, reduceCtorEq, and_true, true_and, and_false, false_and, and_self, ite_true, ite_false, ↓reduceIte, not_true_eq_false, not_false_eq_true, pe_ri, pe_rz, pe_rc, p_throw, t1559, w_junk hA, Ch_g0_2 hP hA, Ch_g0_4 hP hA, Ch_g4_3 hP hA, Ch_g4_4 hP hA, Ch_r3 hP hA, Ch_r7 hP hA, Ch_r8 hP hA, z1, eq_false k2, z4, eq_false k5, z7, eq_false k8, k10]
/-- TimberHouse$ShopDesks.balance(II)J -/
theorem c1560 {d : Nat} {h : pm_H} {a : Nat} {x0 : Int32} {x1 : Int32} (hc : pm_cls h a = some 24) : pm_call pm_prog (d + 1) 1560 [.ref a, .int x0, .int x1] h = pm_ev pm_prog (pm_call pm_prog d) 1560 0 b1560_0 [.ref a, .int x0, .int x1, pm_junk, pm_junk, pm_junk, pm_junk, pm_junk] [] h := pm_cal (pm_rc1 hc rfl) rfl rfl rfl
theorem g1560_1 {cl : pm_C} {ls st : List Value} {h : pm_H} : pm_go pm_prog cl 1560 1 ls st h = pm_ev pm_prog cl 1560 1 b1560_1 ls st h := pm_go_eq pm_prog cl 1560 1 ls st h
theorem g1560_2 {cl : pm_C} {ls st : List Value} {h : pm_H} : pm_go pm_prog cl 1560 2 ls st h = pm_ev pm_prog cl 1560 2 b1560_2 ls st h := pm_go_eq pm_prog cl 1560 2 ls st h
theorem g1560_3 {cl : pm_C} {ls st : List Value} {h : pm_H} : pm_go pm_prog cl 1560 3 ls st h = pm_ev pm_prog cl 1560 3 b1560_3 ls st h := pm_go_eq pm_prog cl 1560 3 ls st h
theorem g1560_4 {cl : pm_C} {ls st : List Value} {h : pm_H} : pm_go pm_prog cl 1560 4 ls st h = pm_ev pm_prog cl 1560 4 b1560_4 ls st h := pm_go_eq pm_prog cl 1560 4 ls st h
theorem g1560_5 {cl : pm_C} {ls st : List Value} {h : pm_H} : pm_go pm_prog cl 1560 5 ls st h = pm_ev pm_prog cl 1560 5 b1560_5 ls st h := pm_go_eq pm_prog cl 1560 5 ls st h
theorem g1560_6 {cl : pm_C} {ls st : List Value} {h : pm_H} : pm_go pm_prog cl 1560 6 ls st h = pm_ev pm_prog cl 1560 6 b1560_6 ls st h := pm_go_eq pm_prog cl 1560 6 ls st h
theorem t1560 {cl : pm_C} {j : Nat} {ls : List Value} {c : Nat} {h : pm_H} : pm_thr pm_prog cl 1560 j ls c h = some (.threw c, h) := rfl
noncomputable def f1560_b2 (tc : Int32) (bc : Int32) (ec : Int32) (S : wS) : Int32 × Int32 × Int64 × Int32 × Int32 × Int32 → Option ((Int32 × Int32 × Int64 × Int32 × Int32 × Int32) ⊕ ((Int32 × Int32 × Int64 × Int32))) := fun (x1, x2, x3, x5, x6i, x7) =>
  if 0 ≤ x6i ∧ x6i < ec then
    if x7 < (S.1 (10, x6i, 0) 3) then
      if (S.1 (10, x6i, 0) 4) ≤ 0 then
        some (.inr (x1, x2, x3, x5))
      else
        if (S.1 (10, x6i, 0) 0) ≤ x2 then
          if 0 ≤ x7 ∧ x7 < 6 then
            if (S.1 (11, x6i, 0) x7) = x1 then
              some (.inl (x1, x2, (x3 + (S.2 (12, x6i, 0) x7)), x5, x6i, (x7 + 1)))
            else
              some (.inl (x1, x2, (x3 + 0), x5, x6i, (x7 + 1)))
          else none
        else
          some (.inr (x1, x2, x3, x5))
    else
      some (.inr (x1, x2, x3, x5))
  else none
noncomputable def f1560_b1 (tc : Int32) (bc : Int32) (ec : Int32) (S : wS) : Int32 × Int32 × Int64 × Int32 → Option ((Int32 × Int32 × Int64 × Int32) ⊕ ((Int64))) := fun (x1, x2, x3, x5) =>
  if x5 < (S.1 (0, 0, 0) 6) then
    if 0 ≤ x5 ∧ x5 < 60 then
      if x5 < ec then
        if 0 ≤ x5 ∧ x5 < ec then
          (lp (f1560_b2 tc bc ec S) FU (x1, x2, x3, x5, x5, 0)).bind fun (v3, v4, v5, v6) =>
          some (.inl (v3, v4, v5, (v6 + 1)))
        else none
      else none
    else none
  else
    some (.inr x3)
/-- TimberHouse$ShopDesks.balance(II)J -/
noncomputable def f1560 (tc : Int32) (bc : Int32) (ec : Int32) (S : wS) (x1 : Int32) (x2 : Int32) : Option (Nat ⊕ (Int64)) :=
  (f1538 (Int32.toInt64 x1) 0 9).bind fun v1 =>
  (f1543 v1).bind fun r => match r with
  | .inl c8 =>
    some (.inl c8)
  | .inr _ =>
  (lp (f1560_b1 tc bc ec S) FU (x1, x2, 0, 0)).bind fun v7 =>
  some (.inr v7)
def go1560_2 (tc : Int32) (bc : Int32) (ec : Int32) (A : wK → Nat) (h : pm_H) (D : Nat) (R : Outcome × pm_H) (S : wS) : Int32 × Int32 × Int64 × Int32 × Int32 × Int32 → Prop := fun (x1, x2, x3, x5, x6i, x7) => pm_go pm_prog (pm_call pm_prog D) 1560 2 [.ref (A (0, 0, 0)), .int x1, .int x2, .long x3, pm_junk, .int x5, .ref (A (10, x6i, 0)), .int x7] [] (wput A (Ch_d tc bc ec) S h) = some R
def ex1560_2 (tc : Int32) (bc : Int32) (ec : Int32) (A : wK → Nat) (h : pm_H) (D : Nat) (R : Outcome × pm_H) (S : wS) : (Int32 × Int32 × Int64 × Int32) → Prop := fun (x1, x2, x3, x5) => ∀ q6 q7 : Value, pm_go pm_prog (pm_call pm_prog D) 1560 5 [.ref (A (0, 0, 0)), .int x1, .int x2, .long x3, pm_junk, .int x5, q6, q7] [] (wput A (Ch_d tc bc ec) S h) = some R
theorem y1560_b2 {tc : Int32} {bc : Int32} {ec : Int32} {A : wK → Nat} {h : pm_H} {D : Nat} {R : Outcome × pm_H} {S : wS} (hP : Ch_P tc bc ec) (hA : wok A (Ch_d tc bc ec) h.1) (hD : 1 ≤ D) (a : Int32 × Int32 × Int64 × Int32 × Int32 × Int32) (r : (Int32 × Int32 × Int64 × Int32 × Int32 × Int32) ⊕ ((Int32 × Int32 × Int64 × Int32))) (e : f1560_b2 tc bc ec S a = some r) (hc : Sum.elim (go1560_2 tc bc ec A h D R S) (ex1560_2 tc bc ec A h D R S) r) : go1560_2 tc bc ec A h D R S a := by
  obtain ⟨x1, x2, x3, x5, x6i, x7⟩ := a
  dsimp only [go1560_2]
  simp only [f1560_b2] at e
  rw [g1560_2, b1560_2]
  by_cases k1 : 0 ≤ x6i ∧ x6i < ec
  · rw [if_pos k1] at e
    by_cases k2 : x7 < (S.1 (10, x6i, 0) 3)
    · rw [if_pos k2] at e
      by_cases k3 : (S.1 (10, x6i, 0) 4) ≤ 0
      · rw [if_pos k3] at e
        have e := Option.some.inj e; subst e
        dsimp only [Sum.elim_inr, ex1560_2] at hc
        simp -implicitDefEqProofs (disch := first | assumption | exact Nat.le_of_ble_eq_true rfl | decide) only [b1560_0, g1560_3, b1560_3, g1560_4, b1560_4, g1560_5, b1560_5, g1560_6, b1560_6, pe_iload1, pe_i2l, pe_bipush, pe_call3, pm_af_ret, pm_af_void, pm_af_thr, pe_call1, pe_lstore3, pe_sipush, pe_istore5, pe_goto_w, pe_iload5, pe_aload0, pe_getfield, pe_icmp_ge, pe_aaload, pe_astore6, pe_istore7, pe_iload7, pe_aload6, pe_if_le, pe_iload2, pe_icmp_gt, pe_lload3, pe_iaload, pe_icmp_ne, pe_laload, pe_goto, pe_ladd, pe_iinc7, pe_iinc5, pe_lreturn, pe_aloadN0, pe_astoreN6, pe_aloadN6, pe_aastoreN, pe_areturnN, pe_null, pm_prog_1, pm_ob_some, Nat.reduceDiv, Nat.reduceMod, Nat.reduceMul, Nat.reduceAdd, Int.reduceToNat, pm_kill_i, pm_kill_r, pm_kill_n, pm_kill_j, pm_kill_l, pm_kill_d, pm_cats_nil, pm_cats_i, pm_cats_r, pm_cats_n, pm_cats_l, pm_cats_d, sz_1, sz_2, sl_1, sl_2, lc_0, lc_lt, lc_le, li_ne, va_rf, wr_m1, we_m1, pm_kill_w, Int32.reduceOfInt, Int64.reduceOfInt, Int32.reduceOfNat, Int32.reduceLT, Int32.reduceLE, Prod.mk.injEq, Nat.reduceEqDiff, reduceCtorEq, and_true, true_and, and_false, false_and, and_self, ite_true, ite_false, ↓reduceIte, not_true_eq_false, not_false_eq_true, pe_ri, pe_rz, pe_rc, p_throw, t1560, w_junk hA, Ch_g0_5 hP hA, Ch_g0_6 hP hA, Ch_g10_0 hP hA, Ch_g10_1 hP hA, Ch_g10_2 hP hA, Ch_g10_3 hP hA, Ch_g10_4 hP hA, Ch_r11 hP hA, Ch_r12 hP hA, Ch_r9 hP hA, eq_true k2, eq_true k3, hc]
      · rw [if_neg k3] at e
        by_cases k4 : (S.1 (10, x6i, 0) 0) ≤ x2
        · rw [if_pos k4] at e
          by_cases k5 : 0 ≤ x7 ∧ x7 < 6
          · rw [if_pos k5] at e
            by_cases k6 : (S.1 (11, x6i, 0) x7) = x1
            · rw [if_pos k6] at e
              have e := Option.some.inj e; subst e
              dsimp only [Sum.elim_inl, go1560_2] at hc
              simp -implicitDefEqProofs (disch := first | assumption | exact Nat.le_of_ble_eq_true rfl | decide) only [b1560_0, g1560_3, b1560_3, g1560_4, b1560_4, g1560_5, b1560_5, g1560_6, b1560_6, pe_iload1, pe_i2l, pe_bipush, pe_call3, pm_af_ret, pm_af_void, pm_af_thr, pe_call1, pe_lstore3, pe_sipush, pe_istore5, pe_goto_w, pe_iload5, pe_aload0, pe_getfield, pe_icmp_ge, pe_aaload, pe_astore6, pe_istore7, pe_iload7, pe_aload6, pe_if_le, pe_iload2, pe_icmp_gt, pe_lload3, pe_iaload, pe_icmp_ne, pe_laload, pe_goto, pe_ladd, pe_iinc7, pe_iinc5, pe_lreturn, pe_aloadN0, pe_astoreN6, pe_aloadN6, pe_aastoreN, pe_areturnN, pe_null, pm_prog_1, pm_ob_some, Nat.reduceDiv, Nat.reduceMod, Nat.reduceMul, Nat.reduceAdd, Int.reduceToNat, pm_kill_i, pm_kill_r, pm_kill_n, pm_kill_j, pm_kill_l, pm_kill_d, pm_cats_nil, pm_cats_i, pm_cats_r, pm_cats_n, pm_cats_l, pm_cats_d, sz_1, sz_2, sl_1, sl_2, lc_0, lc_lt, lc_le, li_ne, va_rf, wr_m1, we_m1, pm_kill_w, Int32.reduceOfInt, Int64.reduceOfInt, Int32.reduceOfNat, Int32.reduceLT, Int32.reduceLE, Prod.mk.injEq, Nat.reduceEqDiff, reduceCtorEq, and_true, true_and, and_false, false_and, and_self, ite_true, ite_false, ↓reduceIte, not_true_eq_false, not_false_eq_true, pe_ri, pe_rz, pe_rc, p_throw, t1560, w_junk hA, Ch_g0_5 hP hA, Ch_g0_6 hP hA, Ch_g10_0 hP hA, Ch_g10_1 hP hA, Ch_g10_2 hP hA, Ch_g10_3 hP hA, Ch_g10_4 hP hA, Ch_r11 hP hA, Ch_r12 hP hA, Ch_r9 hP hA, eq_true k2, eq_false k3, eq_true k4, eq_true k6, hc]
            · rw [if_neg k6] at e
              have e := Option.some.inj e; subst e
              dsimp only [Sum.elim_inl, go1560_2] at hc
              simp -implicitDefEqProofs (disch := first | assumption | exact Nat.le_of_ble_eq_true rfl | decide) only [b1560_0, g1560_3, b1560_3, g1560_4, b1560_4, g1560_5, b1560_5, g1560_6, b1560_6, pe_iload1, pe_i2l, pe_bipush, pe_call3, pm_af_ret, pm_af_void, pm_af_thr, pe_call1, pe_lstore3, pe_sipush, pe_istore5, pe_goto_w, pe_iload5, pe_aload0, pe_getfield, pe_icmp_ge, pe_aaload, pe_astore6, pe_istore7, pe_iload7, pe_aload6, pe_if_le, pe_iload2, pe_icmp_gt, pe_lload3, pe_iaload, pe_icmp_ne, pe_laload, pe_goto, pe_ladd, pe_iinc7, pe_iinc5, pe_lreturn, pe_aloadN0, pe_astoreN6, pe_aloadN6, pe_aastoreN, pe_areturnN, pe_null, pm_prog_1, pm_ob_some, Nat.reduceDiv, Nat.reduceMod, Nat.reduceMul, Nat.reduceAdd, Int.reduceToNat, pm_kill_i, pm_kill_r, pm_kill_n, pm_kill_j, pm_kill_l, pm_kill_d, pm_cats_nil, pm_cats_i, pm_cats_r, pm_cats_n, pm_cats_l, pm_cats_d, sz_1, sz_2, sl_1, sl_2, lc_0, lc_lt, lc_le, li_ne, va_rf, wr_m1, we_m1, pm_kill_w, Int32.reduceOfInt, Int64.reduceOfInt, Int32.reduceOfNat, Int32.reduceLT, Int32.reduceLE, Prod.mk.injEq, Nat.reduceEqDiff, reduceCtorEq, and_true, true_and, and_false, false_and, and_self, ite_true, ite_false, ↓reduceIte, not_true_eq_false, not_false_eq_true, pe_ri, pe_rz, pe_rc, p_throw, t1560, w_junk hA, Ch_g0_5 hP hA, Ch_g0_6 hP hA, Ch_g10_0 hP hA, Ch_g10_1 hP hA, Ch_g10_2 hP hA, Ch_g10_3 hP hA, Ch_g10_4 hP hA, Ch_r11 hP hA, Ch_r12 hP hA, Ch_r9 hP hA, eq_true k2, eq_false k3, eq_true k4, eq_false k6, hc]
          · rw [if_neg k5] at e; cases e
        · rw [if_neg k4] at e
          have e := Option.some.inj e; subst e
          dsimp only [Sum.elim_inr, ex1560_2] at hc
          simp -implicitDefEqProofs (disch := first | assumption | exact Nat.le_of_ble_eq_true rfl | decide) only [b1560_0, g1560_3, b1560_3, g1560_4, b1560_4, g1560_5, b1560_5, g1560_6, b1560_6, pe_iload1, pe_i2l, pe_bipush, pe_call3, pm_af_ret, pm_af_void, pm_af_thr, pe_call1, pe_lstore3, pe_sipush, pe_istore5, pe_goto_w, pe_iload5, pe_aload0, pe_getfield, pe_icmp_ge, pe_aaload, pe_astore6, pe_istore7, pe_iload7, pe_aload6, pe_if_le, pe_iload2, pe_icmp_gt, pe_lload3, pe_iaload, pe_icmp_ne, pe_laload, pe_goto, pe_ladd, pe_iinc7, pe_iinc5, pe_lreturn, pe_aloadN0, pe_astoreN6, pe_aloadN6, pe_aastoreN, pe_areturnN, pe_null, pm_prog_1, pm_ob_some, Nat.reduceDiv, Nat.reduceMod, Nat.reduceMul, Nat.reduceAdd, Int.reduceToNat, pm_kill_i, pm_kill_r, pm_kill_n, pm_kill_j, pm_kill_l, pm_kill_d, pm_cats_nil, pm_cats_i, pm_cats_r, pm_cats_n, pm_cats_l, pm_cats_d, sz_1, sz_2, sl_1, sl_2, lc_0, lc_lt, lc_le, li_ne, va_rf, wr_m1, we_m1, pm_kill_w, Int32.reduceOfInt, Int64.reduceOfInt, Int32.reduceOfNat, Int32.reduceLT, Int32.reduceLE, Prod.mk.injEq, Nat.reduceEqDiff, reduceCtorEq, and_true, true_and, and_false, false_and, and_self, ite_true, ite_false, ↓reduceIte, not_true_eq_false, not_false_eq_true, pe_ri, pe_rz, pe_rc, p_throw, t1560, w_junk hA, Ch_g0_5 hP hA, Ch_g0_6 hP hA, Ch_g10_0 hP hA, Ch_g10_1 hP hA, Ch_g10_2 hP hA, Ch_g10_3 hP hA, Ch_g10_4 hP hA, Ch_r11 hP hA, Ch_r12 hP hA, Ch_r9 hP hA, eq_true k2, eq_false k3, eq_false k4, hc]
    · rw [if_neg k2] at e
      have e := Option.some.inj e; subst e
      dsimp only [Sum.elim_inr, ex1560_2] at hc
      simp -implicitDefEqProofs (disch := first | assumption | exact Nat.le_of_ble_eq_true rfl | decide) only [b1560_0, g1560_3, b1560_3, g1560_4, b1560_4, g1560_5, b1560_5, g1560_6, b1560_6, pe_iload1, pe_i2l, pe_bipush, pe_call3, pm_af_ret, pm_af_void, pm_af_thr, pe_call1, pe_lstore3, pe_sipush, pe_istore5, pe_goto_w, pe_iload5, pe_aload0, pe_getfield, pe_icmp_ge, pe_aaload, pe_astore6, pe_istore7, pe_iload7, pe_aload6, pe_if_le, pe_iload2, pe_icmp_gt, pe_lload3, pe_iaload, pe_icmp_ne, pe_laload, pe_goto, pe_ladd, pe_iinc7, pe_iinc5, pe_lreturn, pe_aloadN0, pe_astoreN6, pe_aloadN6, pe_aastoreN, pe_areturnN, pe_null, pm_prog_1, pm_ob_some, Nat.reduceDiv, Nat.reduceMod, Nat.reduceMul, Nat.reduceAdd, Int.reduceToNat, pm_kill_i, pm_kill_r, pm_kill_n, pm_kill_j, pm_kill_l, pm_kill_d, pm_cats_nil, pm_cats_i, pm_cats_r, pm_cats_n, pm_cats_l, pm_cats_d, sz_1, sz_2, sl_1, sl_2, lc_0, lc_lt, lc_le, li_ne, va_rf, wr_m1, we_m1, pm_kill_w, Int32.reduceOfInt, Int64.reduceOfInt, Int32.reduceOfNat, Int32.reduceLT, Int32.reduceLE, Prod.mk.injEq, Nat.reduceEqDiff, reduceCtorEq, and_true, true_and, and_false, false_and, and_self, ite_true, ite_false, ↓reduceIte, not_true_eq_false, not_false_eq_true, pe_ri, pe_rz, pe_rc, p_throw, t1560, w_junk hA, Ch_g0_5 hP hA, Ch_g0_6 hP hA, Ch_g10_0 hP hA, Ch_g10_1 hP hA, Ch_g10_2 hP hA, Ch_g10_3 hP hA, Ch_g10_4 hP hA, Ch_r11 hP hA, Ch_r12 hP hA, Ch_r9 hP hA, eq_false k2, hc]
  · rw [if_neg k1] at e; cases e
theorem z1560_2 {tc : Int32} {bc : Int32} {ec : Int32} {A : wK → Nat} {h : pm_H} {D : Nat} {R : Outcome × pm_H} {S : wS} (hP : Ch_P tc bc ec) (hA : wok A (Ch_d tc bc ec) h.1) (hD : 1 ≤ D) {n : Nat} {a : Int32 × Int32 × Int64 × Int32 × Int32 × Int32} {b : (Int32 × Int32 × Int64 × Int32)} (e : lp (f1560_b2 tc bc ec S) n a = some b) (hx : ex1560_2 tc bc ec A h D R S b) : go1560_2 tc bc ec A h D R S a := lp_run (fun a r => y1560_b2 hP hA hD a r) n a b e hx
def go1560_1 (tc : Int32) (bc : Int32) (ec : Int32) (A : wK → Nat) (h : pm_H) (D : Nat) (R : Outcome × pm_H) (S : wS) : Int32 × Int32 × Int64 × Int32 → Prop := fun (x1, x2, x3, x5) => ∀ q6 q7 : Value, pm_go pm_prog (pm_call pm_prog D) 1560 1 [.ref (A (0, 0, 0)), .int x1, .int x2, .long x3, pm_junk, .int x5, q6, q7] [] (wput A (Ch_d tc bc ec) S h) = some R
def ex1560_1 (tc : Int32) (bc : Int32) (ec : Int32) (A : wK → Nat) (h : pm_H) (D : Nat) (R : Outcome × pm_H) (S : wS) : (Int64) → Prop := fun x3 => ∀ q0 q1 q2 q5 q6 q7 : Value, pm_go pm_prog (pm_call pm_prog D) 1560 6 [q0, q1, q2, .long x3, pm_junk, q5, q6, q7] [] (wput A (Ch_d tc bc ec) S h) = some R
theorem y1560_b1 {tc : Int32} {bc : Int32} {ec : Int32} {A : wK → Nat} {h : pm_H} {D : Nat} {R : Outcome × pm_H} {S : wS} (hP : Ch_P tc bc ec) (hA : wok A (Ch_d tc bc ec) h.1) (hD : 1 ≤ D) (a : Int32 × Int32 × Int64 × Int32) (r : (Int32 × Int32 × Int64 × Int32) ⊕ ((Int64))) (e : f1560_b1 tc bc ec S a = some r) (hc : Sum.elim (go1560_1 tc bc ec A h D R S) (ex1560_1 tc bc ec A h D R S) r) : go1560_1 tc bc ec A h D R S a := by
  obtain ⟨x1, x2, x3, x5⟩ := a
  dsimp only [go1560_1]
  intro q6 q7
  simp only [f1560_b1] at e
  rw [g1560_1, b1560_1]
  by_cases k1 : x5 < (S.1 (0, 0, 0) 6)
  · rw [if_pos k1] at e
    by_cases k2 : 0 ≤ x5 ∧ x5 < 60
    · rw [if_pos k2] at e
      by_cases k3 : x5 < ec
      · rw [if_pos k3] at e
        by_cases k4 : 0 ≤ x5 ∧ x5 < ec
        · rw [if_pos k4] at e
          obtain ⟨⟨v3, v4, v5, v6⟩, k5, e⟩ := Option.bind_eq_some_iff.mp e
          try dsimp only at e
          try simp -implicitDefEqProofs (disch := first | assumption | exact Nat.le_of_ble_eq_true rfl | decide) only [b1560_0, g1560_3, b1560_3, g1560_4, b1560_4, g1560_5, b1560_5, g1560_6, b1560_6, pe_iload1, pe_i2l, pe_bipush, pe_call3, pm_af_ret, pm_af_void, pm_af_thr, pe_call1, pe_lstore3, pe_sipush, pe_istore5, pe_goto_w, pe_iload5, pe_aload0, pe_getfield, pe_icmp_ge, pe_aaload, pe_astore6, pe_istore7, pe_iload7, pe_aload6, pe_if_le, pe_iload2, pe_icmp_gt, pe_lload3, pe_iaload, pe_icmp_ne, pe_laload, pe_goto, pe_ladd, pe_iinc7, pe_iinc5, pe_lreturn, pe_aloadN0, pe_astoreN6, pe_aloadN6, pe_aastoreN, pe_areturnN, pe_null, pm_prog_1, pm_ob_some, Nat.reduceDiv, Nat.reduceMod, Nat.reduceMul, Nat.reduceAdd, Int.reduceToNat, pm_kill_i, pm_kill_r, pm_kill_n, pm_kill_j, pm_kill_l, pm_kill_d, pm_cats_nil, pm_cats_i, pm_cats_r, pm_cats_n, pm_cats_l, pm_cats_d, sz_1, sz_2, sl_1, sl_2, lc_0, lc_lt, lc_le, li_ne, va_rf, wr_m1, we_m1, pm_kill_w, Int32.reduceOfInt, Int64.reduceOfInt, Int32.reduceOfNat, Int32.reduceLT, Int32.reduceLE, Prod.mk.injEq, Nat.reduceEqDiff, reduceCtorEq, and_true, true_and, and_false, false_and, and_self, ite_true, ite_false, ↓reduceIte, not_true_eq_false, not_false_eq_true, pe_ri, pe_rz, pe_rc, p_throw, t1560, w_junk hA, Ch_g0_5 hP hA, Ch_g0_6 hP hA, Ch_g10_0 hP hA, Ch_g10_1 hP hA, Ch_g10_2 hP hA, Ch_g10_3 hP hA, Ch_g10_4 hP hA, Ch_r11 hP hA, Ch_r12 hP hA, Ch_r9 hP hA, eq_true k1]
          refine z1560_2 hP hA hD k5 ?_
          dsimp only [ex1560_2]
          intro q6 q7
          have e := Option.some.inj e; subst e
          dsimp only [Sum.elim_inl, go1560_1] at hc
          simp -implicitDefEqProofs (disch := first | assumption | exact Nat.le_of_ble_eq_true rfl | decide) only [b1560_0, g1560_3, b1560_3, g1560_4, b1560_4, g1560_5, b1560_5, g1560_6, b1560_6, pe_iload1, pe_i2l, pe_bipush, pe_call3, pm_af_ret, pm_af_void, pm_af_thr, pe_call1, pe_lstore3, pe_sipush, pe_istore5, pe_goto_w, pe_iload5, pe_aload0, pe_getfield, pe_icmp_ge, pe_aaload, pe_astore6, pe_istore7, pe_iload7, pe_aload6, pe_if_le, pe_iload2, pe_icmp_gt, pe_lload3, pe_iaload, pe_icmp_ne, pe_laload, pe_goto, pe_ladd, pe_iinc7, pe_iinc5, pe_lreturn, pe_aloadN0, pe_astoreN6, pe_aloadN6, pe_aastoreN, pe_areturnN, pe_null, pm_prog_1, pm_ob_some, Nat.reduceDiv, Nat.reduceMod, Nat.reduceMul, Nat.reduceAdd, Int.reduceToNat, pm_kill_i, pm_kill_r, pm_kill_n, pm_kill_j, pm_kill_l, pm_kill_d, pm_cats_nil, pm_cats_i, pm_cats_r, pm_cats_n, pm_cats_l, pm_cats_d, sz_1, sz_2, sl_1, sl_2, lc_0, lc_lt, lc_le, li_ne, va_rf, wr_m1, we_m1, pm_kill_w, Int32.reduceOfInt, Int64.reduceOfInt, Int32.reduceOfNat, Int32.reduceLT, Int32.reduceLE, Prod.mk.injEq, Nat.reduceEqDiff, reduceCtorEq, and_true, true_and, and_false, false_and, and_self, ite_true, ite_false, ↓reduceIte, not_true_eq_false, not_false_eq_true, pe_ri, pe_rz, pe_rc, p_throw, t1560, w_junk hA, Ch_g0_5 hP hA, Ch_g0_6 hP hA, Ch_g10_0 hP hA, Ch_g10_1 hP hA, Ch_g10_2 hP hA, Ch_g10_3 hP hA, Ch_g10_4 hP hA, Ch_r11 hP hA, Ch_r12 hP hA, Ch_r9 hP hA, eq_true k1, hc]
        · rw [if_neg k4] at e; cases e
      · rw [if_neg k3] at e; cases e
    · rw [if_neg k2] at e; cases e
  · rw [if_neg k1] at e
    have e := Option.some.inj e; subst e
    dsimp only [Sum.elim_inr, ex1560_1] at hc
    simp -implicitDefEqProofs (disch := first | assumption | exact Nat.le_of_ble_eq_true rfl | decide) only [b1560_0, g1560_3, b1560_3, g1560_4, b1560_4, g1560_5, b1560_5, g1560_6, b1560_6, pe_iload1, pe_i2l, pe_bipush, pe_call3, pm_af_ret, pm_af_void, pm_af_thr, pe_call1, pe_lstore3, pe_sipush, pe_istore5, pe_goto_w, pe_iload5, pe_aload0, pe_getfield, pe_icmp_ge, pe_aaload, pe_astore6, pe_istore7, pe_iload7, pe_aload6, pe_if_le, pe_iload2, pe_icmp_gt, pe_lload3, pe_iaload, pe_icmp_ne, pe_laload, pe_goto, pe_ladd, pe_iinc7, pe_iinc5, pe_lreturn, pe_aloadN0, pe_astoreN6, pe_aloadN6, pe_aastoreN, pe_areturnN, pe_null, pm_prog_1, pm_ob_some, Nat.reduceDiv, Nat.reduceMod, Nat.reduceMul, Nat.reduceAdd, Int.reduceToNat, pm_kill_i, pm_kill_r, pm_kill_n, pm_kill_j, pm_kill_l, pm_kill_d, pm_cats_nil, pm_cats_i, pm_cats_r, pm_cats_n, pm_cats_l, pm_cats_d, sz_1, sz_2, sl_1, sl_2, lc_0, lc_lt, lc_le, li_ne, va_rf, wr_m1, we_m1, pm_kill_w, Int32.reduceOfInt, Int64.reduceOfInt, Int32.reduceOfNat, Int32.reduceLT, Int32.reduceLE, Prod.mk.injEq, Nat.reduceEqDiff, reduceCtorEq, and_true, true_and, and_false, false_and, and_self, ite_true, ite_false, ↓reduceIte, not_true_eq_false, not_false_eq_true, pe_ri, pe_rz, pe_rc, p_throw, t1560, w_junk hA, Ch_g0_5 hP hA, Ch_g0_6 hP hA, Ch_g10_0 hP hA, Ch_g10_1 hP hA, Ch_g10_2 hP hA, Ch_g10_3 hP hA, Ch_g10_4 hP hA, Ch_r11 hP hA, Ch_r12 hP hA, Ch_r9 hP hA, eq_false k1, hc]
theorem z1560_1 {tc : Int32} {bc : Int32} {ec : Int32} {A : wK → Nat} {h : pm_H} {D : Nat} {R : Outcome × pm_H} {S : wS} (hP : Ch_P tc bc ec) (hA : wok A (Ch_d tc bc ec) h.1) (hD : 1 ≤ D) {n : Nat} {a : Int32 × Int32 × Int64 × Int32} {b : (Int64)} (e : lp (f1560_b1 tc bc ec S) n a = some b) (hx : ex1560_1 tc bc ec A h D R S b) : go1560_1 tc bc ec A h D R S a := lp_run (fun a r => y1560_b1 hP hA hD a r) n a b e hx
theorem x1560 {tc : Int32} {bc : Int32} {ec : Int32} {A : wK → Nat} {h : pm_H} {D : Nat} {S : wS} {x1 : Int32} {x2 : Int32} {r : Nat ⊕ (Int64)} (hP : Ch_P tc bc ec) (hA : wok A (Ch_d tc bc ec) h.1) (hD : 2 ≤ D) (e : f1560 tc bc ec S x1 x2 = some r) : pm_call pm_prog D 1560 [.ref (A (0, 0, 0)), .int x1, .int x2] (wput A (Ch_d tc bc ec) S h) = some (match (generalizing := false) r with | .inl c => (Outcome.threw c, (wput A (Ch_d tc bc ec) S (pm_new h 6 (.inr (c, []))))) | .inr w0 => (Outcome.returned (some (.long w0)), (wput A (Ch_d tc bc ec) S h))) := by
  obtain ⟨D, rfl⟩ : ∃ D', D = D' + 1 := ⟨D - 1, by omega⟩
  have hD : 1 ≤ D := by omega
  simp only [f1560] at e
  rw [c1560 (Ch_c0 hP hA), b1560_0]
  obtain ⟨v1, k1, e⟩ := Option.bind_eq_some_iff.mp e
  try dsimp only at e
  have z1 := fun h => x1538 (D := D) (h := h) (by omega) k1
  obtain ⟨r, k2, e⟩ := Option.bind_eq_some_iff.mp e
  have z2 := fun h => x1543 (D := D) (h := h) (by omega) k2
  rcases r with c8 | _
  · dsimp only at e z2
    have e := Option.some.inj e; subst e
    simp -implicitDefEqProofs (disch := first | assumption | exact Nat.le_of_ble_eq_true rfl | decide) only [b1560_0, g1560_3, b1560_3, g1560_4, b1560_4, g1560_5, b1560_5, g1560_6, b1560_6, pe_iload1, pe_i2l, pe_bipush, pe_call3, pm_af_ret, pm_af_void, pm_af_thr, pe_call1, pe_lstore3, pe_sipush, pe_istore5, pe_goto_w, pe_iload5, pe_aload0, pe_getfield, pe_icmp_ge, pe_aaload, pe_astore6, pe_istore7, pe_iload7, pe_aload6, pe_if_le, pe_iload2, pe_icmp_gt, pe_lload3, pe_iaload, pe_icmp_ne, pe_laload, pe_goto, pe_ladd, pe_iinc7, pe_iinc5, pe_lreturn, pe_aloadN0, pe_astoreN6, pe_aloadN6, pe_aastoreN, pe_areturnN, pe_null, pm_prog_1, pm_ob_some, Nat.reduceDiv, Nat.reduceMod, Nat.reduceMul, Nat.reduceAdd, Int.reduceToNat, pm_kill_i, pm_kill_r, pm_kill_n, pm_kill_j, pm_kill_l, pm_kill_d, pm_cats_nil, pm_cats_i, pm_cats_r, pm_cats_n, pm_cats_l, pm_cats_d, sz_1, sz_2, sl_1, sl_2, lc_0, lc_lt, lc_le, li_ne, va_rf, wr_m1, we_m1, pm_kill_w, Int32.reduceOfInt, Int64.reduceOfInt, Int32.reduceOfNat, Int32.reduceLT, Int32.reduceLE, Prod.mk.injEq, Nat.reduceEqDiff, reduceCtorEq, and_true, true_and, and_false, false_and, and_self, ite_true, ite_false, ↓reduceIte, not_true_eq_false, not_false_eq_true, pe_ri, pe_rz, pe_rc, p_throw, t1560, w_junk hA, Ch_g0_5 hP hA, Ch_g0_6 hP hA, Ch_g10_0 hP hA, Ch_g10_1 hP hA, Ch_g10_2 hP hA, Ch_g10_3 hP hA, Ch_g10_4 hP hA, Ch_r11 hP hA, Ch_r12 hP hA, Ch_r9 hP hA, z1, z2]
  · dsimp only at e z2
    obtain ⟨v7, k3, e⟩ := Option.bind_eq_some_iff.mp e
    try dsimp only at e
    try simp -implicitDefEqProofs (disch := first | assumption | exact Nat.le_of_ble_eq_true rfl | decide) only [b1560_0, g1560_3, b1560_3, g1560_4, b1560_4, g1560_5, b1560_5, g1560_6, b1560_6, pe_iload1, pe_i2l, pe_bipush, pe_call3, pm_af_ret, pm_af_void, pm_af_thr, pe_call1, pe_lstore3, pe_sipush, pe_istore5, pe_goto_w, pe_iload5, pe_aload0, pe_getfield, pe_icmp_ge, pe_aaload, pe_astore6, pe_istore7, pe_iload7, pe_aload6, pe_if_le, pe_iload2, pe_icmp_gt, pe_lload3, pe_iaload, pe_icmp_ne, pe_laload, pe_goto, pe_ladd, pe_iinc7, pe_iinc5, pe_lreturn, pe_aloadN0, pe_astoreN6, pe_aloadN6, pe_aastoreN, pe_areturnN, pe_null, pm_prog_1, pm_ob_some, Nat.reduceDiv, Nat.reduceMod, Nat.reduceMul, Nat.reduceAdd, Int.reduceToNat, pm_kill_i, pm_kill_r, pm_kill_n, pm_kill_j, pm_kill_l, pm_kill_d, pm_cats_nil, pm_cats_i, pm_cats_r, pm_cats_n, pm_cats_l, pm_cats_d, sz_1, sz_2, sl_1, sl_2, lc_0, lc_lt, lc_le, li_ne, va_rf, wr_m1, we_m1, pm_kill_w, Int32.reduceOfInt, Int64.reduceOfInt, Int32.reduceOfNat, Int32.reduceLT, Int32.reduceLE, Prod.mk.injEq, Nat.reduceEqDiff, reduceCtorEq, and_true, true_and, and_false, false_and, and_self, ite_true, ite_false, ↓reduceIte, not_true_eq_false, not_false_eq_true, pe_ri, pe_rz, pe_rc, p_throw, t1560, w_junk hA, Ch_g0_5 hP hA, Ch_g0_6 hP hA, Ch_g10_0 hP hA, Ch_g10_1 hP hA, Ch_g10_2 hP hA, Ch_g10_3 hP hA, Ch_g10_4 hP hA, Ch_r11 hP hA, Ch_r12 hP hA, Ch_r9 hP hA, z1, z2]
    refine z1560_1 hP hA hD k3 ?_ _ _
    dsimp only [ex1560_1]
    intro q0 q1 q2 q5 q6 q7
    have e := Option.some.inj e; subst e
    simp -implicitDefEqProofs (disch := first | assumption | exact Nat.le_of_ble_eq_true rfl | decide) only [b1560_0, g1560_3, b1560_3, g1560_4, b1560_4, g1560_5, b1560_5, g1560_6, b1560_6, pe_iload1, pe_i2l, pe_bipush, pe_call3, pm_af_ret, pm_af_void, pm_af_thr, pe_call1, pe_lstore3, pe_sipush, pe_istore5, pe_goto_w, pe_iload5, pe_aload0, pe_getfield, pe_icmp_ge, pe_aaload, pe_astore6, pe_istore7, pe_iload7, pe_aload6, pe_if_le, pe_iload2, pe_icmp_gt, pe_lload3, pe_iaload, pe_icmp_ne, pe_laload, pe_goto, pe_ladd, pe_iinc7, pe_iinc5, pe_lreturn, pe_aloadN0, pe_astoreN6, pe_aloadN6, pe_aastoreN, pe_areturnN, pe_null, pm_prog_1, pm_ob_some, Nat.reduceDiv, Nat.reduceMod, Nat.reduceMul, Nat.reduceAdd, Int.reduceToNat, pm_kill_i, pm_kill_r, pm_kill_n, pm_kill_j, pm_kill_l, pm_kill_d, pm_cats_nil, pm_cats_i, pm_cats_r, pm_cats_n, pm_cats_l, pm_cats_d, sz_1, sz_2, sl_1, sl_2, lc_0, lc_lt, lc_le, li_ne, va_rf, wr_m1, we_m1, pm_kill_w, Int32.reduceOfInt, Int64.reduceOfInt, Int32.reduceOfNat, Int32.reduceLT, Int32.reduceLE, Prod.mk.injEq, Nat.reduceEqDiff, reduceCtorEq, and_true, true_and, and_false, false_and, and_self, ite_true, ite_false, ↓reduceIte, not_true_eq_false, not_false_eq_true, pe_ri, pe_rz, pe_rc, p_throw, t1560, w_junk hA, Ch_g0_5 hP hA, Ch_g0_6 hP hA, Ch_g10_0 hP hA, Ch_g10_1 hP hA, Ch_g10_2 hP hA, Ch_g10_3 hP hA, Ch_g10_4 hP hA, Ch_r11 hP hA, Ch_r12 hP hA, Ch_r9 hP hA, z1, z2]
/-- TimberHouse$ShopDesks.closeMonth(I)Z -/
theorem c1561 {d : Nat} {h : pm_H} {a : Nat} {x0 : Int32} (hc : pm_cls h a = some 24) : pm_call pm_prog (d + 1) 1561 [.ref a, .int x0] h = pm_ev pm_prog (pm_call pm_prog d) 1561 0 b1561_0 [.ref a, .int x0, pm_junk] [] h := pm_cal (pm_rc1 hc rfl) rfl rfl rfl
theorem g1561_1 {cl : pm_C} {ls st : List Value} {h : pm_H} : pm_go pm_prog cl 1561 1 ls st h = pm_ev pm_prog cl 1561 1 b1561_1 ls st h := pm_go_eq pm_prog cl 1561 1 ls st h
theorem g1561_2 {cl : pm_C} {ls st : List Value} {h : pm_H} : pm_go pm_prog cl 1561 2 ls st h = pm_ev pm_prog cl 1561 2 b1561_2 ls st h := pm_go_eq pm_prog cl 1561 2 ls st h
theorem t1561 {cl : pm_C} {j : Nat} {ls : List Value} {c : Nat} {h : pm_H} : pm_thr pm_prog cl 1561 j ls c h = some (.threw c, h) := rfl
noncomputable def f1561_2 (tc : Int32) (bc : Int32) (ec : Int32) (S : wS) (x1 : Int32) (y0 : Int32) : Option ((Nat × wS) ⊕ (Int32 × wS)) :=
  (f3841 (S.1 (0, 0, 0) 8) x1).bind fun v2 =>
  if y0 = 0 ∨ y0 = 1 then
    some (.inr (y0, (sz S (0, 0, 0) 8 v2)))
  else none
/-- TimberHouse$ShopDesks.closeMonth(I)Z -/
noncomputable def f1561 (tc : Int32) (bc : Int32) (ec : Int32) (S : wS) (x1 : Int32) : Option ((Nat × wS) ⊕ (Int32 × wS)) :=
  (f1538 (Int32.toInt64 x1) 0 119).bind fun v1 =>
  (f1539 v1).bind fun r => match r with
  | .inl c3 =>
    some (.inl (c3, S))
  | .inr _ =>
  if x1 ≤ (S.1 (0, 0, 0) 8) then
    f1561_2 tc bc ec S x1 0
  else
    f1561_2 tc bc ec S x1 1
theorem y1561_2 {tc : Int32} {bc : Int32} {ec : Int32} {A : wK → Nat} {h : pm_H} {D : Nat} {S : wS} {x1 : Int32} {y0 : Int32} {r : (Nat × wS) ⊕ (Int32 × wS)} (hP : Ch_P tc bc ec) (hA : wok A (Ch_d tc bc ec) h.1) (hD : 1 ≤ D) (e : f1561_2 tc bc ec S x1 y0 = some r) : ∀ q2 : Value, pm_go pm_prog (pm_call pm_prog D) 1561 2 [.ref (A (0, 0, 0)), .int x1, q2] [.int y0] (wput A (Ch_d tc bc ec) S h) = some (match (generalizing := false) r with | .inl (c, S1) => (Outcome.threw c, (wput A (Ch_d tc bc ec) S1 (pm_new h 6 (.inr (c, []))))) | .inr (w0, S1) => (Outcome.returned (some (.int w0)), (wput A (Ch_d tc bc ec) S1 h))) := by
  intro q2
  simp only [f1561_2] at e
  rw [g1561_2, b1561_2]
  obtain ⟨v2, k1, e⟩ := Option.bind_eq_some_iff.mp e
  try dsimp only at e
  have z1 := fun h => x3841 (D := D) (h := h) (by omega) k1
  by_cases k2 : y0 = 0 ∨ y0 = 1
  · rw [if_pos k2] at e
    have e := Option.some.inj e; subst e
    simp -implicitDefEqProofs (disch := first | assumption | exact Nat.le_of_ble_eq_true rfl | decide) only [b1561_0, g1561_1, b1561_1, pe_iload1, pe_i2l, pe_bipush, pe_call3, pm_af_ret, pm_af_void, pm_af_thr, pe_call1, pe_aload0, pe_getfield, pe_icmp_le, pe_sipush, pe_goto, pe_goto_w, pe_istore2, pe_call2, pe_putfield, pe_iload2, pe_aloadN0, pe_aastoreN, pe_areturnN, pe_null, pm_prog_1, pm_ob_some, Nat.reduceDiv, Nat.reduceMod, Nat.reduceMul, Nat.reduceAdd, Int.reduceToNat, pm_kill_i, pm_kill_r, pm_kill_n, pm_kill_j, pm_kill_l, pm_kill_d, pm_cats_nil, pm_cats_i, pm_cats_r, pm_cats_n, pm_cats_l, pm_cats_d, sz_1, sz_2, sl_1, sl_2, lc_0, lc_lt, lc_le, li_ne, va_rf, wr_m1, we_m1, pm_kill_w, Int32.reduceOfInt, Int64.reduceOfInt, Int32.reduceOfNat, Int32.reduceLT, Int32.reduceLE, Prod.mk.injEq, Nat.reduceEqDiff, reduceCtorEq, and_true, true_and, and_false, false_and, and_self, ite_true, ite_false, ↓reduceIte, not_true_eq_false, not_false_eq_true, pe_ri, pe_rz, pe_rc, p_throw, t1561, w_junk hA, Ch_g0_8 hP hA, Ch_p0_8 hP hA, z1]
  · rw [if_neg k2] at e; cases e
theorem x1561 {tc : Int32} {bc : Int32} {ec : Int32} {A : wK → Nat} {h : pm_H} {D : Nat} {S : wS} {x1 : Int32} {r : (Nat × wS) ⊕ (Int32 × wS)} (hP : Ch_P tc bc ec) (hA : wok A (Ch_d tc bc ec) h.1) (hD : 2 ≤ D) (e : f1561 tc bc ec S x1 = some r) : pm_call pm_prog D 1561 [.ref (A (0, 0, 0)), .int x1] (wput A (Ch_d tc bc ec) S h) = some (match (generalizing := false) r with | .inl (c, S1) => (Outcome.threw c, (wput A (Ch_d tc bc ec) S1 (pm_new h 6 (.inr (c, []))))) | .inr (w0, S1) => (Outcome.returned (some (.int w0)), (wput A (Ch_d tc bc ec) S1 h))) := by
  obtain ⟨D, rfl⟩ : ∃ D', D = D' + 1 := ⟨D - 1, by omega⟩
  have hD : 1 ≤ D := by omega
  simp only [f1561] at e
  rw [c1561 (Ch_c0 hP hA), b1561_0]
  obtain ⟨v1, k1, e⟩ := Option.bind_eq_some_iff.mp e
  try dsimp only at e
  have z1 := fun h => x1538 (D := D) (h := h) (by omega) k1
  obtain ⟨r, k2, e⟩ := Option.bind_eq_some_iff.mp e
  have z2 := fun h => x1539 (D := D) (h := h) (by omega) k2
  rcases r with c3 | _
  · dsimp only at e z2
    have e := Option.some.inj e; subst e
    simp -implicitDefEqProofs (disch := first | assumption | exact Nat.le_of_ble_eq_true rfl | decide) only [b1561_0, g1561_1, b1561_1, pe_iload1, pe_i2l, pe_bipush, pe_call3, pm_af_ret, pm_af_void, pm_af_thr, pe_call1, pe_aload0, pe_getfield, pe_icmp_le, pe_sipush, pe_goto, pe_goto_w, pe_istore2, pe_call2, pe_putfield, pe_iload2, pe_aloadN0, pe_aastoreN, pe_areturnN, pe_null, pm_prog_1, pm_ob_some, Nat.reduceDiv, Nat.reduceMod, Nat.reduceMul, Nat.reduceAdd, Int.reduceToNat, pm_kill_i, pm_kill_r, pm_kill_n, pm_kill_j, pm_kill_l, pm_kill_d, pm_cats_nil, pm_cats_i, pm_cats_r, pm_cats_n, pm_cats_l, pm_cats_d, sz_1, sz_2, sl_1, sl_2, lc_0, lc_lt, lc_le, li_ne, va_rf, wr_m1, we_m1, pm_kill_w, Int32.reduceOfInt, Int64.reduceOfInt, Int32.reduceOfNat, Int32.reduceLT, Int32.reduceLE, Prod.mk.injEq, Nat.reduceEqDiff, reduceCtorEq, and_true, true_and, and_false, false_and, and_self, ite_true, ite_false, ↓reduceIte, not_true_eq_false, not_false_eq_true, pe_ri, pe_rz, pe_rc, p_throw, t1561, w_junk hA, Ch_g0_8 hP hA, Ch_p0_8 hP hA, z1, z2]
  · dsimp only at e z2
    by_cases k3 : x1 ≤ (S.1 (0, 0, 0) 8)
    · rw [if_pos k3] at e
      have k4 := y1561_2 (h := h) hP hA hD e
      simp -implicitDefEqProofs (disch := first | assumption | exact Nat.le_of_ble_eq_true rfl | decide) only [b1561_0, g1561_1, b1561_1, pe_iload1, pe_i2l, pe_bipush, pe_call3, pm_af_ret, pm_af_void, pm_af_thr, pe_call1, pe_aload0, pe_getfield, pe_icmp_le, pe_sipush, pe_goto, pe_goto_w, pe_istore2, pe_call2, pe_putfield, pe_iload2, pe_aloadN0, pe_aastoreN, pe_areturnN, pe_null, pm_prog_1, pm_ob_some, Nat.reduceDiv, Nat.reduceMod, Nat.reduceMul, Nat.reduceAdd, Int.reduceToNat, pm_kill_i, pm_kill_r, pm_kill_n, pm_kill_j, pm_kill_l, pm_kill_d, pm_cats_nil, pm_cats_i, pm_cats_r, pm_cats_n, pm_cats_l, pm_cats_d, sz_1, sz_2, sl_1, sl_2, lc_0, lc_lt, lc_le, li_ne, va_rf, wr_m1, we_m1, pm_kill_w, Int32.reduceOfInt, Int64.reduceOfInt, Int32.reduceOfNat, Int32.reduceLT, Int32.reduceLE, Prod.mk.injEq, Nat.reduceEqDiff, reduceCtorEq, and_true, true_and, and_false, false_and, and_self, ite_true, ite_false, ↓reduceIte, not_true_eq_false, not_false_eq_true, pe_ri, pe_rz, pe_rc, p_throw, t1561, w_junk hA, Ch_g0_8 hP hA, Ch_p0_8 hP hA, z1, z2, eq_true k3, k4]
    · rw [if_neg k3] at e
      have k5 := y1561_2 (h := h) hP hA hD e
      simp -implicitDefEqProofs (disch := first | assumption | exact Nat.le_of_ble_eq_true rfl | decide) only [b1561_0, g1561_1, b1561_1, pe_iload1, pe_i2l, pe_bipush, pe_call3, pm_af_ret, pm_af_void, pm_af_thr, pe_call1, pe_aload0, pe_getfield, pe_icmp_le, pe_sipush, pe_goto, pe_goto_w, pe_istore2, pe_call2, pe_putfield, pe_iload2, pe_aloadN0, pe_aastoreN, pe_areturnN, pe_null, pm_prog_1, pm_ob_some, Nat.reduceDiv, Nat.reduceMod, Nat.reduceMul, Nat.reduceAdd, Int.reduceToNat, pm_kill_i, pm_kill_r, pm_kill_n, pm_kill_j, pm_kill_l, pm_kill_d, pm_cats_nil, pm_cats_i, pm_cats_r, pm_cats_n, pm_cats_l, pm_cats_d, sz_1, sz_2, sl_1, sl_2, lc_0, lc_lt, lc_le, li_ne, va_rf, wr_m1, we_m1, pm_kill_w, Int32.reduceOfInt, Int64.reduceOfInt, Int32.reduceOfNat, Int32.reduceLT, Int32.reduceLE, Prod.mk.injEq, Nat.reduceEqDiff, reduceCtorEq, and_true, true_and, and_false, false_and, and_self, ite_true, ite_false, ↓reduceIte, not_true_eq_false, not_false_eq_true, pe_ri, pe_rz, pe_rc, p_throw, t1561, w_junk hA, Ch_g0_8 hP hA, Ch_p0_8 hP hA, z1, z2, eq_false k3, k5]
