set_option maxRecDepth 100000
/-! TimberHouse$FingerLengths -/
def Cf_d : wK → Option wD := fun k => match k.1 with
  | 0 => if k.2.1 = 0 ∧ k.2.2 = 0 then some (.inl (8, [(0, (0, 0, 0)), (0, (0, 0, 0)), (2, (12, 0, 0)), (2, (13, 0, 0)), (0, (0, 0, 0)), (2, (15, 0, 0)), (2, (16, 0, 0)), (0, (0, 0, 0)), (2, (18, 0, 0)), (2, (19, 0, 0)), (0, (0, 0, 0)), (2, (21, 0, 0)), (2, (22, 0, 0)), (2, (23, 0, 0)), (2, (1, 0, 0)), (2, (4, 0, 0)), (2, (5, 0, 0)), (0, (0, 0, 0)), (0, (0, 0, 0)), (0, (0, 0, 0)), (0, (0, 0, 0)), (2, (31, 0, 0)), (2, (32, 0, 0)), (2, (33, 0, 0)), (2, (34, 0, 0)), (2, (35, 0, 0)), (0, (0, 0, 0)), (2, (37, 0, 0)), (2, (38, 0, 0)), (2, (39, 0, 0)), (0, (0, 0, 0)), (0, (0, 0, 0)), (0, (0, 0, 0)), (0, (0, 0, 0)), (2, (44, 0, 0))])) else none
  | 1 => if k.2.1 = 0 ∧ k.2.2 = 0 then some (.inr (.inr ((.array (.object "TimberHouse$FingerLengths$Score")), 25, .inr (fun x => some (2, x, 0))))) else none
  | 2 => if (0 ≤ k.2.1 ∧ k.2.1 < 25) ∧ k.2.2 = 0 then some (.inr (.inr ((.object "TimberHouse$FingerLengths$Score"), 61, .inr (fun x => some (3, k.2.1, x))))) else none
  | 3 => if (0 ≤ k.2.1 ∧ k.2.1 < 25) ∧ (0 ≤ k.2.2 ∧ k.2.2 < 61) then some (.inl (9, [(1, (0, 0, 0)), (0, (0, 0, 0)), (0, (0, 0, 0))])) else none
  | 4 => if k.2.1 = 0 ∧ k.2.2 = 0 then some (.inl (9, [(1, (0, 0, 0)), (0, (0, 0, 0)), (0, (0, 0, 0))])) else none
  | 5 => if k.2.1 = 0 ∧ k.2.2 = 0 then some (.inl (9, [(1, (0, 0, 0)), (0, (0, 0, 0)), (0, (0, 0, 0))])) else none
  | 12 => if k.2.1 = 0 ∧ k.2.2 = 0 then some (.inr (.inl (.int, 24))) else none
  | 13 => if k.2.1 = 0 ∧ k.2.2 = 0 then some (.inr (.inl (.int, 24))) else none
  | 15 => if k.2.1 = 0 ∧ k.2.2 = 0 then some (.inr (.inl (.int, 6))) else none
  | 16 => if k.2.1 = 0 ∧ k.2.2 = 0 then some (.inr (.inl (.long, 6))) else none
  | 18 => if k.2.1 = 0 ∧ k.2.2 = 0 then some (.inr (.inl (.long, 8))) else none
  | 19 => if k.2.1 = 0 ∧ k.2.2 = 0 then some (.inr (.inl (.long, 8))) else none
  | 21 => if k.2.1 = 0 ∧ k.2.2 = 0 then some (.inr (.inl (.boolean, 8))) else none
  | 22 => if k.2.1 = 0 ∧ k.2.2 = 0 then some (.inr (.inl (.int, 24))) else none
  | 23 => if k.2.1 = 0 ∧ k.2.2 = 0 then some (.inr (.inl (.int, 24))) else none
  | 31 => if k.2.1 = 0 ∧ k.2.2 = 0 then some (.inr (.inl (.int, 1440))) else none
  | 32 => if k.2.1 = 0 ∧ k.2.2 = 0 then some (.inr (.inl (.int, 1440))) else none
  | 33 => if k.2.1 = 0 ∧ k.2.2 = 0 then some (.inr (.inl (.int, 1440))) else none
  | 34 => if k.2.1 = 0 ∧ k.2.2 = 0 then some (.inr (.inl (.int, 1440))) else none
  | 35 => if k.2.1 = 0 ∧ k.2.2 = 0 then some (.inr (.inl (.int, 1440))) else none
  | 37 => if k.2.1 = 0 ∧ k.2.2 = 0 then some (.inr (.inl (.int, 24))) else none
  | 38 => if k.2.1 = 0 ∧ k.2.2 = 0 then some (.inr (.inl (.int, 24))) else none
  | 39 => if k.2.1 = 0 ∧ k.2.2 = 0 then some (.inr (.inl (.int, 24))) else none
  | 44 => if k.2.1 = 0 ∧ k.2.2 = 0 then some (.inr (.inl (.int, 3))) else none
  | _ => none
section
variable {A : wK → Nat} {S : wS} {h : pm_H} {m : Nat} {i j x v : Int32} {u : Int64} 
theorem Cf_d0  : Cf_d (0, 0, 0) = some (.inl (8, [(0, (0, 0, 0)), (0, (0, 0, 0)), (2, (12, 0, 0)), (2, (13, 0, 0)), (0, (0, 0, 0)), (2, (15, 0, 0)), (2, (16, 0, 0)), (0, (0, 0, 0)), (2, (18, 0, 0)), (2, (19, 0, 0)), (0, (0, 0, 0)), (2, (21, 0, 0)), (2, (22, 0, 0)), (2, (23, 0, 0)), (2, (1, 0, 0)), (2, (4, 0, 0)), (2, (5, 0, 0)), (0, (0, 0, 0)), (0, (0, 0, 0)), (0, (0, 0, 0)), (0, (0, 0, 0)), (2, (31, 0, 0)), (2, (32, 0, 0)), (2, (33, 0, 0)), (2, (34, 0, 0)), (2, (35, 0, 0)), (0, (0, 0, 0)), (2, (37, 0, 0)), (2, (38, 0, 0)), (2, (39, 0, 0)), (0, (0, 0, 0)), (0, (0, 0, 0)), (0, (0, 0, 0)), (0, (0, 0, 0)), (2, (44, 0, 0))])) := rfl
theorem Cf_d1  : Cf_d (1, 0, 0) = some (.inr (.inr ((.array (.object "TimberHouse$FingerLengths$Score")), 25, .inr (fun x => some (2, x, 0))))) := rfl
theorem Cf_d2  (h0 : 0 ≤ i ∧ i < 25) : Cf_d (2, i, 0) = some (.inr (.inr ((.object "TimberHouse$FingerLengths$Score"), 61, .inr (fun x => some (3, i, x))))) := if_pos ⟨h0, rfl⟩
theorem Cf_d3  (h0 : 0 ≤ i ∧ i < 25) (h1 : 0 ≤ j ∧ j < 61) : Cf_d (3, i, j) = some (.inl (9, [(1, (0, 0, 0)), (0, (0, 0, 0)), (0, (0, 0, 0))])) := if_pos ⟨h0, h1⟩
theorem Cf_d4  : Cf_d (4, 0, 0) = some (.inl (9, [(1, (0, 0, 0)), (0, (0, 0, 0)), (0, (0, 0, 0))])) := rfl
theorem Cf_d5  : Cf_d (5, 0, 0) = some (.inl (9, [(1, (0, 0, 0)), (0, (0, 0, 0)), (0, (0, 0, 0))])) := rfl
theorem Cf_d12  : Cf_d (12, 0, 0) = some (.inr (.inl (.int, 24))) := rfl
theorem Cf_d13  : Cf_d (13, 0, 0) = some (.inr (.inl (.int, 24))) := rfl
theorem Cf_d15  : Cf_d (15, 0, 0) = some (.inr (.inl (.int, 6))) := rfl
theorem Cf_d16  : Cf_d (16, 0, 0) = some (.inr (.inl (.long, 6))) := rfl
theorem Cf_d18  : Cf_d (18, 0, 0) = some (.inr (.inl (.long, 8))) := rfl
theorem Cf_d19  : Cf_d (19, 0, 0) = some (.inr (.inl (.long, 8))) := rfl
theorem Cf_d21  : Cf_d (21, 0, 0) = some (.inr (.inl (.boolean, 8))) := rfl
theorem Cf_d22  : Cf_d (22, 0, 0) = some (.inr (.inl (.int, 24))) := rfl
theorem Cf_d23  : Cf_d (23, 0, 0) = some (.inr (.inl (.int, 24))) := rfl
theorem Cf_d31  : Cf_d (31, 0, 0) = some (.inr (.inl (.int, 1440))) := rfl
theorem Cf_d32  : Cf_d (32, 0, 0) = some (.inr (.inl (.int, 1440))) := rfl
theorem Cf_d33  : Cf_d (33, 0, 0) = some (.inr (.inl (.int, 1440))) := rfl
theorem Cf_d34  : Cf_d (34, 0, 0) = some (.inr (.inl (.int, 1440))) := rfl
theorem Cf_d35  : Cf_d (35, 0, 0) = some (.inr (.inl (.int, 1440))) := rfl
theorem Cf_d37  : Cf_d (37, 0, 0) = some (.inr (.inl (.int, 24))) := rfl
theorem Cf_d38  : Cf_d (38, 0, 0) = some (.inr (.inl (.int, 24))) := rfl
theorem Cf_d39  : Cf_d (39, 0, 0) = some (.inr (.inl (.int, 24))) := rfl
theorem Cf_d44  : Cf_d (44, 0, 0) = some (.inr (.inl (.int, 3))) := rfl
theorem Cf_c0  (hA : wok A Cf_d m) : pm_cls (wput A Cf_d S h) (A (0, 0, 0)) = some 8 := w_cls hA (Cf_d0)
theorem Cf_k0 {cl : pm_C} {k b c : Nat} {r : List Instr} {ls s : List Value}  (hA : wok A Cf_d m) (h2 : pm_sub 8 c = true) : pm_ev pm_prog cl k b (.checkcast c :: r) ls (.ref (A (0, 0, 0)) :: s) (wput A Cf_d S h) = pm_ev pm_prog cl k b r ls (.ref (A (0, 0, 0)) :: s) (wput A Cf_d S h) := pe_checkcast (w_cls hA (Cf_d0)) h2
theorem Cf_g0_0  (hA : wok A Cf_d m) : pm_gf pm_tab (wput A Cf_d S h) (A (0, 0, 0)) 8 0 = some (.int (S.1 (0, 0, 0) 0)) := w_g (f := (0, (0, 0, 0))) hA (Cf_d0) rfl rfl
theorem Cf_p0_0  (hA : wok A Cf_d m) : pm_pf pm_tab (wput A Cf_d S h) (A (0, 0, 0)) 8 0 0 (.int v) = some (wput A Cf_d (sz S (0, 0, 0) 0 v) h) := w_p0 (q := (0, 0, 0)) (t := 0) hA (Cf_d0) rfl rfl (Nat.le_of_ble_eq_true rfl)
theorem Cf_g0_1  (hA : wok A Cf_d m) : pm_gf pm_tab (wput A Cf_d S h) (A (0, 0, 0)) 8 1 = some (.int (S.1 (0, 0, 0) 1)) := w_g (f := (0, (0, 0, 0))) hA (Cf_d0) rfl rfl
theorem Cf_p0_1  (hA : wok A Cf_d m) : pm_pf pm_tab (wput A Cf_d S h) (A (0, 0, 0)) 8 1 0 (.int v) = some (wput A Cf_d (sz S (0, 0, 0) 1 v) h) := w_p0 (q := (0, 0, 0)) (t := 0) hA (Cf_d0) rfl rfl (Nat.le_of_ble_eq_true rfl)
theorem Cf_g0_2  (hA : wok A Cf_d m) : pm_gf pm_tab (wput A Cf_d S h) (A (0, 0, 0)) 8 2 = some (.ref (A (12, 0, 0))) := w_g (f := (2, (12, 0, 0))) hA (Cf_d0) rfl rfl
theorem Cf_g0_3  (hA : wok A Cf_d m) : pm_gf pm_tab (wput A Cf_d S h) (A (0, 0, 0)) 8 3 = some (.ref (A (13, 0, 0))) := w_g (f := (2, (13, 0, 0))) hA (Cf_d0) rfl rfl
theorem Cf_g0_4  (hA : wok A Cf_d m) : pm_gf pm_tab (wput A Cf_d S h) (A (0, 0, 0)) 8 4 = some (.int (S.1 (0, 0, 0) 4)) := w_g (f := (0, (0, 0, 0))) hA (Cf_d0) rfl rfl
theorem Cf_p0_4  (hA : wok A Cf_d m) : pm_pf pm_tab (wput A Cf_d S h) (A (0, 0, 0)) 8 4 0 (.int v) = some (wput A Cf_d (sz S (0, 0, 0) 4 v) h) := w_p0 (q := (0, 0, 0)) (t := 0) hA (Cf_d0) rfl rfl (Nat.le_of_ble_eq_true rfl)
theorem Cf_g0_5  (hA : wok A Cf_d m) : pm_gf pm_tab (wput A Cf_d S h) (A (0, 0, 0)) 8 5 = some (.ref (A (15, 0, 0))) := w_g (f := (2, (15, 0, 0))) hA (Cf_d0) rfl rfl
theorem Cf_g0_6  (hA : wok A Cf_d m) : pm_gf pm_tab (wput A Cf_d S h) (A (0, 0, 0)) 8 6 = some (.ref (A (16, 0, 0))) := w_g (f := (2, (16, 0, 0))) hA (Cf_d0) rfl rfl
theorem Cf_g0_7  (hA : wok A Cf_d m) : pm_gf pm_tab (wput A Cf_d S h) (A (0, 0, 0)) 8 7 = some (.int (S.1 (0, 0, 0) 7)) := w_g (f := (0, (0, 0, 0))) hA (Cf_d0) rfl rfl
theorem Cf_p0_7  (hA : wok A Cf_d m) : pm_pf pm_tab (wput A Cf_d S h) (A (0, 0, 0)) 8 7 0 (.int v) = some (wput A Cf_d (sz S (0, 0, 0) 7 v) h) := w_p0 (q := (0, 0, 0)) (t := 0) hA (Cf_d0) rfl rfl (Nat.le_of_ble_eq_true rfl)
theorem Cf_g0_8  (hA : wok A Cf_d m) : pm_gf pm_tab (wput A Cf_d S h) (A (0, 0, 0)) 8 8 = some (.ref (A (18, 0, 0))) := w_g (f := (2, (18, 0, 0))) hA (Cf_d0) rfl rfl
theorem Cf_g0_9  (hA : wok A Cf_d m) : pm_gf pm_tab (wput A Cf_d S h) (A (0, 0, 0)) 8 9 = some (.ref (A (19, 0, 0))) := w_g (f := (2, (19, 0, 0))) hA (Cf_d0) rfl rfl
theorem Cf_g0_10  (hA : wok A Cf_d m) : pm_gf pm_tab (wput A Cf_d S h) (A (0, 0, 0)) 8 10 = some (.int (S.1 (0, 0, 0) 10)) := w_g (f := (0, (0, 0, 0))) hA (Cf_d0) rfl rfl
theorem Cf_p0_10  (hA : wok A Cf_d m) : pm_pf pm_tab (wput A Cf_d S h) (A (0, 0, 0)) 8 10 0 (.int v) = some (wput A Cf_d (sz S (0, 0, 0) 10 v) h) := w_p0 (q := (0, 0, 0)) (t := 0) hA (Cf_d0) rfl rfl (Nat.le_of_ble_eq_true rfl)
theorem Cf_g0_11  (hA : wok A Cf_d m) : pm_gf pm_tab (wput A Cf_d S h) (A (0, 0, 0)) 8 11 = some (.ref (A (21, 0, 0))) := w_g (f := (2, (21, 0, 0))) hA (Cf_d0) rfl rfl
theorem Cf_g0_12  (hA : wok A Cf_d m) : pm_gf pm_tab (wput A Cf_d S h) (A (0, 0, 0)) 8 12 = some (.ref (A (22, 0, 0))) := w_g (f := (2, (22, 0, 0))) hA (Cf_d0) rfl rfl
theorem Cf_g0_13  (hA : wok A Cf_d m) : pm_gf pm_tab (wput A Cf_d S h) (A (0, 0, 0)) 8 13 = some (.ref (A (23, 0, 0))) := w_g (f := (2, (23, 0, 0))) hA (Cf_d0) rfl rfl
theorem Cf_g0_14  (hA : wok A Cf_d m) : pm_gf pm_tab (wput A Cf_d S h) (A (0, 0, 0)) 8 14 = some (.ref (A (1, 0, 0))) := w_g (f := (2, (1, 0, 0))) hA (Cf_d0) rfl rfl
theorem Cf_g0_15  (hA : wok A Cf_d m) : pm_gf pm_tab (wput A Cf_d S h) (A (0, 0, 0)) 8 15 = some (.ref (A (4, 0, 0))) := w_g (f := (2, (4, 0, 0))) hA (Cf_d0) rfl rfl
theorem Cf_g0_16  (hA : wok A Cf_d m) : pm_gf pm_tab (wput A Cf_d S h) (A (0, 0, 0)) 8 16 = some (.ref (A (5, 0, 0))) := w_g (f := (2, (5, 0, 0))) hA (Cf_d0) rfl rfl
theorem Cf_g0_17  (hA : wok A Cf_d m) : pm_gf pm_tab (wput A Cf_d S h) (A (0, 0, 0)) 8 17 = some (.int (S.1 (0, 0, 0) 17)) := w_g (f := (0, (0, 0, 0))) hA (Cf_d0) rfl rfl
theorem Cf_p0_17  (hA : wok A Cf_d m) : pm_pf pm_tab (wput A Cf_d S h) (A (0, 0, 0)) 8 17 0 (.int v) = some (wput A Cf_d (sz S (0, 0, 0) 17 v) h) := w_p0 (q := (0, 0, 0)) (t := 0) hA (Cf_d0) rfl rfl (Nat.le_of_ble_eq_true rfl)
theorem Cf_g0_18  (hA : wok A Cf_d m) : pm_gf pm_tab (wput A Cf_d S h) (A (0, 0, 0)) 8 18 = some (.int (S.1 (0, 0, 0) 18)) := w_g (f := (0, (0, 0, 0))) hA (Cf_d0) rfl rfl
theorem Cf_p0_18  (hA : wok A Cf_d m) : pm_pf pm_tab (wput A Cf_d S h) (A (0, 0, 0)) 8 18 0 (.int v) = some (wput A Cf_d (sz S (0, 0, 0) 18 v) h) := w_p0 (q := (0, 0, 0)) (t := 0) hA (Cf_d0) rfl rfl (Nat.le_of_ble_eq_true rfl)
theorem Cf_g0_19  (hA : wok A Cf_d m) : pm_gf pm_tab (wput A Cf_d S h) (A (0, 0, 0)) 8 19 = some (.int (S.1 (0, 0, 0) 19)) := w_g (f := (0, (0, 0, 0))) hA (Cf_d0) rfl rfl
theorem Cf_p0_19  (hA : wok A Cf_d m) : pm_pf pm_tab (wput A Cf_d S h) (A (0, 0, 0)) 8 19 0 (.int v) = some (wput A Cf_d (sz S (0, 0, 0) 19 v) h) := w_p0 (q := (0, 0, 0)) (t := 0) hA (Cf_d0) rfl rfl (Nat.le_of_ble_eq_true rfl)
theorem Cf_g0_20  (hA : wok A Cf_d m) : pm_gf pm_tab (wput A Cf_d S h) (A (0, 0, 0)) 8 20 = some (.int (S.1 (0, 0, 0) 20)) := w_g (f := (0, (0, 0, 0))) hA (Cf_d0) rfl rfl
theorem Cf_p0_20  (hA : wok A Cf_d m) (hv : v = 0 ∨ v = 1) : pm_pf pm_tab (wput A Cf_d S h) (A (0, 0, 0)) 8 20 2 (.int v) = some (wput A Cf_d (sz S (0, 0, 0) 20 v) h) := (w_p0 (q := (0, 0, 0)) (t := 2) hA (Cf_d0) rfl rfl (Nat.le_of_ble_eq_true rfl)).trans (if_pos (by rw [pm_ok2]; exact hv))
theorem Cf_g0_21  (hA : wok A Cf_d m) : pm_gf pm_tab (wput A Cf_d S h) (A (0, 0, 0)) 8 21 = some (.ref (A (31, 0, 0))) := w_g (f := (2, (31, 0, 0))) hA (Cf_d0) rfl rfl
theorem Cf_g0_22  (hA : wok A Cf_d m) : pm_gf pm_tab (wput A Cf_d S h) (A (0, 0, 0)) 8 22 = some (.ref (A (32, 0, 0))) := w_g (f := (2, (32, 0, 0))) hA (Cf_d0) rfl rfl
theorem Cf_g0_23  (hA : wok A Cf_d m) : pm_gf pm_tab (wput A Cf_d S h) (A (0, 0, 0)) 8 23 = some (.ref (A (33, 0, 0))) := w_g (f := (2, (33, 0, 0))) hA (Cf_d0) rfl rfl
theorem Cf_g0_24  (hA : wok A Cf_d m) : pm_gf pm_tab (wput A Cf_d S h) (A (0, 0, 0)) 8 24 = some (.ref (A (34, 0, 0))) := w_g (f := (2, (34, 0, 0))) hA (Cf_d0) rfl rfl
theorem Cf_g0_25  (hA : wok A Cf_d m) : pm_gf pm_tab (wput A Cf_d S h) (A (0, 0, 0)) 8 25 = some (.ref (A (35, 0, 0))) := w_g (f := (2, (35, 0, 0))) hA (Cf_d0) rfl rfl
theorem Cf_g0_26  (hA : wok A Cf_d m) : pm_gf pm_tab (wput A Cf_d S h) (A (0, 0, 0)) 8 26 = some (.int (S.1 (0, 0, 0) 26)) := w_g (f := (0, (0, 0, 0))) hA (Cf_d0) rfl rfl
theorem Cf_p0_26  (hA : wok A Cf_d m) : pm_pf pm_tab (wput A Cf_d S h) (A (0, 0, 0)) 8 26 0 (.int v) = some (wput A Cf_d (sz S (0, 0, 0) 26 v) h) := w_p0 (q := (0, 0, 0)) (t := 0) hA (Cf_d0) rfl rfl (Nat.le_of_ble_eq_true rfl)
theorem Cf_g0_27  (hA : wok A Cf_d m) : pm_gf pm_tab (wput A Cf_d S h) (A (0, 0, 0)) 8 27 = some (.ref (A (37, 0, 0))) := w_g (f := (2, (37, 0, 0))) hA (Cf_d0) rfl rfl
theorem Cf_g0_28  (hA : wok A Cf_d m) : pm_gf pm_tab (wput A Cf_d S h) (A (0, 0, 0)) 8 28 = some (.ref (A (38, 0, 0))) := w_g (f := (2, (38, 0, 0))) hA (Cf_d0) rfl rfl
theorem Cf_g0_29  (hA : wok A Cf_d m) : pm_gf pm_tab (wput A Cf_d S h) (A (0, 0, 0)) 8 29 = some (.ref (A (39, 0, 0))) := w_g (f := (2, (39, 0, 0))) hA (Cf_d0) rfl rfl
theorem Cf_g0_30  (hA : wok A Cf_d m) : pm_gf pm_tab (wput A Cf_d S h) (A (0, 0, 0)) 8 30 = some (.int (S.1 (0, 0, 0) 30)) := w_g (f := (0, (0, 0, 0))) hA (Cf_d0) rfl rfl
theorem Cf_p0_30  (hA : wok A Cf_d m) : pm_pf pm_tab (wput A Cf_d S h) (A (0, 0, 0)) 8 30 0 (.int v) = some (wput A Cf_d (sz S (0, 0, 0) 30 v) h) := w_p0 (q := (0, 0, 0)) (t := 0) hA (Cf_d0) rfl rfl (Nat.le_of_ble_eq_true rfl)
theorem Cf_g0_31  (hA : wok A Cf_d m) : pm_gf pm_tab (wput A Cf_d S h) (A (0, 0, 0)) 8 31 = some (.int (S.1 (0, 0, 0) 31)) := w_g (f := (0, (0, 0, 0))) hA (Cf_d0) rfl rfl
theorem Cf_p0_31  (hA : wok A Cf_d m) : pm_pf pm_tab (wput A Cf_d S h) (A (0, 0, 0)) 8 31 0 (.int v) = some (wput A Cf_d (sz S (0, 0, 0) 31 v) h) := w_p0 (q := (0, 0, 0)) (t := 0) hA (Cf_d0) rfl rfl (Nat.le_of_ble_eq_true rfl)
theorem Cf_g0_32  (hA : wok A Cf_d m) : pm_gf pm_tab (wput A Cf_d S h) (A (0, 0, 0)) 8 32 = some (.int (S.1 (0, 0, 0) 32)) := w_g (f := (0, (0, 0, 0))) hA (Cf_d0) rfl rfl
theorem Cf_p0_32  (hA : wok A Cf_d m) : pm_pf pm_tab (wput A Cf_d S h) (A (0, 0, 0)) 8 32 0 (.int v) = some (wput A Cf_d (sz S (0, 0, 0) 32 v) h) := w_p0 (q := (0, 0, 0)) (t := 0) hA (Cf_d0) rfl rfl (Nat.le_of_ble_eq_true rfl)
theorem Cf_g0_33  (hA : wok A Cf_d m) : pm_gf pm_tab (wput A Cf_d S h) (A (0, 0, 0)) 8 33 = some (.int (S.1 (0, 0, 0) 33)) := w_g (f := (0, (0, 0, 0))) hA (Cf_d0) rfl rfl
theorem Cf_p0_33  (hA : wok A Cf_d m) (hv : v = 0 ∨ v = 1) : pm_pf pm_tab (wput A Cf_d S h) (A (0, 0, 0)) 8 33 2 (.int v) = some (wput A Cf_d (sz S (0, 0, 0) 33 v) h) := (w_p0 (q := (0, 0, 0)) (t := 2) hA (Cf_d0) rfl rfl (Nat.le_of_ble_eq_true rfl)).trans (if_pos (by rw [pm_ok2]; exact hv))
theorem Cf_g0_34  (hA : wok A Cf_d m) : pm_gf pm_tab (wput A Cf_d S h) (A (0, 0, 0)) 8 34 = some (.ref (A (44, 0, 0))) := w_g (f := (2, (44, 0, 0))) hA (Cf_d0) rfl rfl
theorem Cf_l1  (hA : wok A Cf_d m) : pm_len (wput A Cf_d S h) (A (1, 0, 0)) = some 25 := w_lenR hA (Cf_d1) (by decide)
theorem Cf_r1  (hA : wok A Cf_d m) (hx : 0 ≤ x ∧ x < 25) : pm_rdR (wput A Cf_d S h) (A (1, 0, 0)) x = some (some (A (2, x, 0))) := ((w_rdR hA (Cf_d1) rfl (by decide)).trans (if_pos hx)).trans rfl
theorem Cf_l2  (hA : wok A Cf_d m) (h0 : 0 ≤ i ∧ i < 25) : pm_len (wput A Cf_d S h) (A (2, i, 0)) = some 61 := w_lenR hA (Cf_d2 h0) (by decide)
theorem Cf_r2  (hA : wok A Cf_d m) (h0 : 0 ≤ i ∧ i < 25) (hx : 0 ≤ x ∧ x < 61) : pm_rdR (wput A Cf_d S h) (A (2, i, 0)) x = some (some (A (3, i, x))) := ((w_rdR hA (Cf_d2 h0) rfl (by decide)).trans (if_pos hx)).trans rfl
theorem Cf_c3  (hA : wok A Cf_d m) (h0 : 0 ≤ i ∧ i < 25) (h1 : 0 ≤ j ∧ j < 61) : pm_cls (wput A Cf_d S h) (A (3, i, j)) = some 9 := w_cls hA (Cf_d3 h0 h1)
theorem Cf_k3 {cl : pm_C} {k b c : Nat} {r : List Instr} {ls s : List Value}  (hA : wok A Cf_d m) (h0 : 0 ≤ i ∧ i < 25) (h1 : 0 ≤ j ∧ j < 61) (h2 : pm_sub 9 c = true) : pm_ev pm_prog cl k b (.checkcast c :: r) ls (.ref (A (3, i, j)) :: s) (wput A Cf_d S h) = pm_ev pm_prog cl k b r ls (.ref (A (3, i, j)) :: s) (wput A Cf_d S h) := pe_checkcast (w_cls hA (Cf_d3 h0 h1)) h2
theorem Cf_g3_0  (hA : wok A Cf_d m) (h0 : 0 ≤ i ∧ i < 25) (h1 : 0 ≤ j ∧ j < 61) : pm_gf pm_tab (wput A Cf_d S h) (A (3, i, j)) 9 0 = some (.long (S.2 (3, i, j) 0)) := w_g (f := (1, (0, 0, 0))) hA (Cf_d3 h0 h1) rfl rfl
theorem Cf_p3_0  (hA : wok A Cf_d m) (h0 : 0 ≤ i ∧ i < 25) (h1 : 0 ≤ j ∧ j < 61) : pm_pf pm_tab (wput A Cf_d S h) (A (3, i, j)) 9 0 1 (.long u) = some (wput A Cf_d (sl S (3, i, j) 0 u) h) := w_p1 (q := (0, 0, 0)) hA (Cf_d3 h0 h1) rfl rfl (Nat.le_of_ble_eq_true rfl)
theorem Cf_g3_1  (hA : wok A Cf_d m) (h0 : 0 ≤ i ∧ i < 25) (h1 : 0 ≤ j ∧ j < 61) : pm_gf pm_tab (wput A Cf_d S h) (A (3, i, j)) 9 1 = some (.int (S.1 (3, i, j) 1)) := w_g (f := (0, (0, 0, 0))) hA (Cf_d3 h0 h1) rfl rfl
theorem Cf_p3_1  (hA : wok A Cf_d m) (h0 : 0 ≤ i ∧ i < 25) (h1 : 0 ≤ j ∧ j < 61) : pm_pf pm_tab (wput A Cf_d S h) (A (3, i, j)) 9 1 0 (.int v) = some (wput A Cf_d (sz S (3, i, j) 1 v) h) := w_p0 (q := (0, 0, 0)) (t := 0) hA (Cf_d3 h0 h1) rfl rfl (Nat.le_of_ble_eq_true rfl)
theorem Cf_g3_2  (hA : wok A Cf_d m) (h0 : 0 ≤ i ∧ i < 25) (h1 : 0 ≤ j ∧ j < 61) : pm_gf pm_tab (wput A Cf_d S h) (A (3, i, j)) 9 2 = some (.int (S.1 (3, i, j) 2)) := w_g (f := (0, (0, 0, 0))) hA (Cf_d3 h0 h1) rfl rfl
theorem Cf_p3_2  (hA : wok A Cf_d m) (h0 : 0 ≤ i ∧ i < 25) (h1 : 0 ≤ j ∧ j < 61) : pm_pf pm_tab (wput A Cf_d S h) (A (3, i, j)) 9 2 0 (.int v) = some (wput A Cf_d (sz S (3, i, j) 2 v) h) := w_p0 (q := (0, 0, 0)) (t := 0) hA (Cf_d3 h0 h1) rfl rfl (Nat.le_of_ble_eq_true rfl)
theorem Cf_c4  (hA : wok A Cf_d m) : pm_cls (wput A Cf_d S h) (A (4, 0, 0)) = some 9 := w_cls hA (Cf_d4)
theorem Cf_k4 {cl : pm_C} {k b c : Nat} {r : List Instr} {ls s : List Value}  (hA : wok A Cf_d m) (h2 : pm_sub 9 c = true) : pm_ev pm_prog cl k b (.checkcast c :: r) ls (.ref (A (4, 0, 0)) :: s) (wput A Cf_d S h) = pm_ev pm_prog cl k b r ls (.ref (A (4, 0, 0)) :: s) (wput A Cf_d S h) := pe_checkcast (w_cls hA (Cf_d4)) h2
theorem Cf_g4_0  (hA : wok A Cf_d m) : pm_gf pm_tab (wput A Cf_d S h) (A (4, 0, 0)) 9 0 = some (.long (S.2 (4, 0, 0) 0)) := w_g (f := (1, (0, 0, 0))) hA (Cf_d4) rfl rfl
theorem Cf_p4_0  (hA : wok A Cf_d m) : pm_pf pm_tab (wput A Cf_d S h) (A (4, 0, 0)) 9 0 1 (.long u) = some (wput A Cf_d (sl S (4, 0, 0) 0 u) h) := w_p1 (q := (0, 0, 0)) hA (Cf_d4) rfl rfl (Nat.le_of_ble_eq_true rfl)
theorem Cf_g4_1  (hA : wok A Cf_d m) : pm_gf pm_tab (wput A Cf_d S h) (A (4, 0, 0)) 9 1 = some (.int (S.1 (4, 0, 0) 1)) := w_g (f := (0, (0, 0, 0))) hA (Cf_d4) rfl rfl
theorem Cf_p4_1  (hA : wok A Cf_d m) : pm_pf pm_tab (wput A Cf_d S h) (A (4, 0, 0)) 9 1 0 (.int v) = some (wput A Cf_d (sz S (4, 0, 0) 1 v) h) := w_p0 (q := (0, 0, 0)) (t := 0) hA (Cf_d4) rfl rfl (Nat.le_of_ble_eq_true rfl)
theorem Cf_g4_2  (hA : wok A Cf_d m) : pm_gf pm_tab (wput A Cf_d S h) (A (4, 0, 0)) 9 2 = some (.int (S.1 (4, 0, 0) 2)) := w_g (f := (0, (0, 0, 0))) hA (Cf_d4) rfl rfl
theorem Cf_p4_2  (hA : wok A Cf_d m) : pm_pf pm_tab (wput A Cf_d S h) (A (4, 0, 0)) 9 2 0 (.int v) = some (wput A Cf_d (sz S (4, 0, 0) 2 v) h) := w_p0 (q := (0, 0, 0)) (t := 0) hA (Cf_d4) rfl rfl (Nat.le_of_ble_eq_true rfl)
theorem Cf_c5  (hA : wok A Cf_d m) : pm_cls (wput A Cf_d S h) (A (5, 0, 0)) = some 9 := w_cls hA (Cf_d5)
theorem Cf_k5 {cl : pm_C} {k b c : Nat} {r : List Instr} {ls s : List Value}  (hA : wok A Cf_d m) (h2 : pm_sub 9 c = true) : pm_ev pm_prog cl k b (.checkcast c :: r) ls (.ref (A (5, 0, 0)) :: s) (wput A Cf_d S h) = pm_ev pm_prog cl k b r ls (.ref (A (5, 0, 0)) :: s) (wput A Cf_d S h) := pe_checkcast (w_cls hA (Cf_d5)) h2
theorem Cf_g5_0  (hA : wok A Cf_d m) : pm_gf pm_tab (wput A Cf_d S h) (A (5, 0, 0)) 9 0 = some (.long (S.2 (5, 0, 0) 0)) := w_g (f := (1, (0, 0, 0))) hA (Cf_d5) rfl rfl
theorem Cf_p5_0  (hA : wok A Cf_d m) : pm_pf pm_tab (wput A Cf_d S h) (A (5, 0, 0)) 9 0 1 (.long u) = some (wput A Cf_d (sl S (5, 0, 0) 0 u) h) := w_p1 (q := (0, 0, 0)) hA (Cf_d5) rfl rfl (Nat.le_of_ble_eq_true rfl)
theorem Cf_g5_1  (hA : wok A Cf_d m) : pm_gf pm_tab (wput A Cf_d S h) (A (5, 0, 0)) 9 1 = some (.int (S.1 (5, 0, 0) 1)) := w_g (f := (0, (0, 0, 0))) hA (Cf_d5) rfl rfl
theorem Cf_p5_1  (hA : wok A Cf_d m) : pm_pf pm_tab (wput A Cf_d S h) (A (5, 0, 0)) 9 1 0 (.int v) = some (wput A Cf_d (sz S (5, 0, 0) 1 v) h) := w_p0 (q := (0, 0, 0)) (t := 0) hA (Cf_d5) rfl rfl (Nat.le_of_ble_eq_true rfl)
theorem Cf_g5_2  (hA : wok A Cf_d m) : pm_gf pm_tab (wput A Cf_d S h) (A (5, 0, 0)) 9 2 = some (.int (S.1 (5, 0, 0) 2)) := w_g (f := (0, (0, 0, 0))) hA (Cf_d5) rfl rfl
theorem Cf_p5_2  (hA : wok A Cf_d m) : pm_pf pm_tab (wput A Cf_d S h) (A (5, 0, 0)) 9 2 0 (.int v) = some (wput A Cf_d (sz S (5, 0, 0) 2 v) h) := w_p0 (q := (0, 0, 0)) (t := 0) hA (Cf_d5) rfl rfl (Nat.le_of_ble_eq_true rfl)
theorem Cf_l12  (hA : wok A Cf_d m) : pm_len (wput A Cf_d S h) (A (12, 0, 0)) = some 24 := w_len hA (Cf_d12) (by decide)
theorem Cf_r12  (hA : wok A Cf_d m) (hx : 0 ≤ x ∧ x < 24) : pm_rd pm_isI (wput A Cf_d S h) (A (12, 0, 0)) x = some (S.1 (12, 0, 0) x) := (w_rd (t := .int) hA (Cf_d12) rfl (by decide) (by decide)).trans (if_pos hx)
theorem Cf_w12  (hA : wok A Cf_d m) (hx : 0 ≤ x ∧ x < 24) : pm_wr pm_wI (wput A Cf_d S h) (A (12, 0, 0)) x v = some (wput A Cf_d (sz S (12, 0, 0) x v) h) := (w_wr (t := .int) hA (Cf_d12) rfl (by decide) (by decide)).trans (if_pos hx)
theorem Cf_l13  (hA : wok A Cf_d m) : pm_len (wput A Cf_d S h) (A (13, 0, 0)) = some 24 := w_len hA (Cf_d13) (by decide)
theorem Cf_r13  (hA : wok A Cf_d m) (hx : 0 ≤ x ∧ x < 24) : pm_rd pm_isI (wput A Cf_d S h) (A (13, 0, 0)) x = some (S.1 (13, 0, 0) x) := (w_rd (t := .int) hA (Cf_d13) rfl (by decide) (by decide)).trans (if_pos hx)
theorem Cf_w13  (hA : wok A Cf_d m) (hx : 0 ≤ x ∧ x < 24) : pm_wr pm_wI (wput A Cf_d S h) (A (13, 0, 0)) x v = some (wput A Cf_d (sz S (13, 0, 0) x v) h) := (w_wr (t := .int) hA (Cf_d13) rfl (by decide) (by decide)).trans (if_pos hx)
theorem Cf_l15  (hA : wok A Cf_d m) : pm_len (wput A Cf_d S h) (A (15, 0, 0)) = some 6 := w_len hA (Cf_d15) (by decide)
theorem Cf_r15  (hA : wok A Cf_d m) (hx : 0 ≤ x ∧ x < 6) : pm_rd pm_isI (wput A Cf_d S h) (A (15, 0, 0)) x = some (S.1 (15, 0, 0) x) := (w_rd (t := .int) hA (Cf_d15) rfl (by decide) (by decide)).trans (if_pos hx)
theorem Cf_w15  (hA : wok A Cf_d m) (hx : 0 ≤ x ∧ x < 6) : pm_wr pm_wI (wput A Cf_d S h) (A (15, 0, 0)) x v = some (wput A Cf_d (sz S (15, 0, 0) x v) h) := (w_wr (t := .int) hA (Cf_d15) rfl (by decide) (by decide)).trans (if_pos hx)
theorem Cf_l16  (hA : wok A Cf_d m) : pm_len (wput A Cf_d S h) (A (16, 0, 0)) = some 6 := w_len hA (Cf_d16) (by decide)
theorem Cf_r16  (hA : wok A Cf_d m) (hx : 0 ≤ x ∧ x < 6) : pm_rdL (wput A Cf_d S h) (A (16, 0, 0)) x = some (S.2 (16, 0, 0) x) := (w_rdL hA (Cf_d16) (by decide)).trans (if_pos hx)
theorem Cf_w16  (hA : wok A Cf_d m) (hx : 0 ≤ x ∧ x < 6) : pm_wrL (wput A Cf_d S h) (A (16, 0, 0)) x u = some (wput A Cf_d (sl S (16, 0, 0) x u) h) := (w_wrL hA (Cf_d16) (by decide)).trans (if_pos hx)
theorem Cf_l18  (hA : wok A Cf_d m) : pm_len (wput A Cf_d S h) (A (18, 0, 0)) = some 8 := w_len hA (Cf_d18) (by decide)
theorem Cf_r18  (hA : wok A Cf_d m) (hx : 0 ≤ x ∧ x < 8) : pm_rdL (wput A Cf_d S h) (A (18, 0, 0)) x = some (S.2 (18, 0, 0) x) := (w_rdL hA (Cf_d18) (by decide)).trans (if_pos hx)
theorem Cf_w18  (hA : wok A Cf_d m) (hx : 0 ≤ x ∧ x < 8) : pm_wrL (wput A Cf_d S h) (A (18, 0, 0)) x u = some (wput A Cf_d (sl S (18, 0, 0) x u) h) := (w_wrL hA (Cf_d18) (by decide)).trans (if_pos hx)
theorem Cf_l19  (hA : wok A Cf_d m) : pm_len (wput A Cf_d S h) (A (19, 0, 0)) = some 8 := w_len hA (Cf_d19) (by decide)
theorem Cf_r19  (hA : wok A Cf_d m) (hx : 0 ≤ x ∧ x < 8) : pm_rdL (wput A Cf_d S h) (A (19, 0, 0)) x = some (S.2 (19, 0, 0) x) := (w_rdL hA (Cf_d19) (by decide)).trans (if_pos hx)
theorem Cf_w19  (hA : wok A Cf_d m) (hx : 0 ≤ x ∧ x < 8) : pm_wrL (wput A Cf_d S h) (A (19, 0, 0)) x u = some (wput A Cf_d (sl S (19, 0, 0) x u) h) := (w_wrL hA (Cf_d19) (by decide)).trans (if_pos hx)
theorem Cf_l21  (hA : wok A Cf_d m) : pm_len (wput A Cf_d S h) (A (21, 0, 0)) = some 8 := w_len hA (Cf_d21) (by decide)
theorem Cf_r21  (hA : wok A Cf_d m) (hx : 0 ≤ x ∧ x < 8) : pm_rd pm_isB (wput A Cf_d S h) (A (21, 0, 0)) x = some (S.1 (21, 0, 0) x) := (w_rd (t := .boolean) hA (Cf_d21) rfl (by decide) (by decide)).trans (if_pos hx)
theorem Cf_w21  (hA : wok A Cf_d m) (hx : 0 ≤ x ∧ x < 8) : pm_wr pm_wB (wput A Cf_d S h) (A (21, 0, 0)) x v = some (wput A Cf_d (sz S (21, 0, 0) x (vp_nar .boolean v)) h) := (w_wr (t := .boolean) hA (Cf_d21) rfl (by decide) (by decide)).trans (if_pos hx)
theorem Cf_l22  (hA : wok A Cf_d m) : pm_len (wput A Cf_d S h) (A (22, 0, 0)) = some 24 := w_len hA (Cf_d22) (by decide)
theorem Cf_r22  (hA : wok A Cf_d m) (hx : 0 ≤ x ∧ x < 24) : pm_rd pm_isI (wput A Cf_d S h) (A (22, 0, 0)) x = some (S.1 (22, 0, 0) x) := (w_rd (t := .int) hA (Cf_d22) rfl (by decide) (by decide)).trans (if_pos hx)
theorem Cf_w22  (hA : wok A Cf_d m) (hx : 0 ≤ x ∧ x < 24) : pm_wr pm_wI (wput A Cf_d S h) (A (22, 0, 0)) x v = some (wput A Cf_d (sz S (22, 0, 0) x v) h) := (w_wr (t := .int) hA (Cf_d22) rfl (by decide) (by decide)).trans (if_pos hx)
theorem Cf_l23  (hA : wok A Cf_d m) : pm_len (wput A Cf_d S h) (A (23, 0, 0)) = some 24 := w_len hA (Cf_d23) (by decide)
theorem Cf_r23  (hA : wok A Cf_d m) (hx : 0 ≤ x ∧ x < 24) : pm_rd pm_isI (wput A Cf_d S h) (A (23, 0, 0)) x = some (S.1 (23, 0, 0) x) := (w_rd (t := .int) hA (Cf_d23) rfl (by decide) (by decide)).trans (if_pos hx)
theorem Cf_w23  (hA : wok A Cf_d m) (hx : 0 ≤ x ∧ x < 24) : pm_wr pm_wI (wput A Cf_d S h) (A (23, 0, 0)) x v = some (wput A Cf_d (sz S (23, 0, 0) x v) h) := (w_wr (t := .int) hA (Cf_d23) rfl (by decide) (by decide)).trans (if_pos hx)
theorem Cf_l31  (hA : wok A Cf_d m) : pm_len (wput A Cf_d S h) (A (31, 0, 0)) = some 1440 := w_len hA (Cf_d31) (by decide)
theorem Cf_r31  (hA : wok A Cf_d m) (hx : 0 ≤ x ∧ x < 1440) : pm_rd pm_isI (wput A Cf_d S h) (A (31, 0, 0)) x = some (S.1 (31, 0, 0) x) := (w_rd (t := .int) hA (Cf_d31) rfl (by decide) (by decide)).trans (if_pos hx)
theorem Cf_w31  (hA : wok A Cf_d m) (hx : 0 ≤ x ∧ x < 1440) : pm_wr pm_wI (wput A Cf_d S h) (A (31, 0, 0)) x v = some (wput A Cf_d (sz S (31, 0, 0) x v) h) := (w_wr (t := .int) hA (Cf_d31) rfl (by decide) (by decide)).trans (if_pos hx)
theorem Cf_l32  (hA : wok A Cf_d m) : pm_len (wput A Cf_d S h) (A (32, 0, 0)) = some 1440 := w_len hA (Cf_d32) (by decide)
theorem Cf_r32  (hA : wok A Cf_d m) (hx : 0 ≤ x ∧ x < 1440) : pm_rd pm_isI (wput A Cf_d S h) (A (32, 0, 0)) x = some (S.1 (32, 0, 0) x) := (w_rd (t := .int) hA (Cf_d32) rfl (by decide) (by decide)).trans (if_pos hx)
theorem Cf_w32  (hA : wok A Cf_d m) (hx : 0 ≤ x ∧ x < 1440) : pm_wr pm_wI (wput A Cf_d S h) (A (32, 0, 0)) x v = some (wput A Cf_d (sz S (32, 0, 0) x v) h) := (w_wr (t := .int) hA (Cf_d32) rfl (by decide) (by decide)).trans (if_pos hx)
theorem Cf_l33  (hA : wok A Cf_d m) : pm_len (wput A Cf_d S h) (A (33, 0, 0)) = some 1440 := w_len hA (Cf_d33) (by decide)
theorem Cf_r33  (hA : wok A Cf_d m) (hx : 0 ≤ x ∧ x < 1440) : pm_rd pm_isI (wput A Cf_d S h) (A (33, 0, 0)) x = some (S.1 (33, 0, 0) x) := (w_rd (t := .int) hA (Cf_d33) rfl (by decide) (by decide)).trans (if_pos hx)
theorem Cf_w33  (hA : wok A Cf_d m) (hx : 0 ≤ x ∧ x < 1440) : pm_wr pm_wI (wput A Cf_d S h) (A (33, 0, 0)) x v = some (wput A Cf_d (sz S (33, 0, 0) x v) h) := (w_wr (t := .int) hA (Cf_d33) rfl (by decide) (by decide)).trans (if_pos hx)
theorem Cf_l34  (hA : wok A Cf_d m) : pm_len (wput A Cf_d S h) (A (34, 0, 0)) = some 1440 := w_len hA (Cf_d34) (by decide)
theorem Cf_r34  (hA : wok A Cf_d m) (hx : 0 ≤ x ∧ x < 1440) : pm_rd pm_isI (wput A Cf_d S h) (A (34, 0, 0)) x = some (S.1 (34, 0, 0) x) := (w_rd (t := .int) hA (Cf_d34) rfl (by decide) (by decide)).trans (if_pos hx)
theorem Cf_w34  (hA : wok A Cf_d m) (hx : 0 ≤ x ∧ x < 1440) : pm_wr pm_wI (wput A Cf_d S h) (A (34, 0, 0)) x v = some (wput A Cf_d (sz S (34, 0, 0) x v) h) := (w_wr (t := .int) hA (Cf_d34) rfl (by decide) (by decide)).trans (if_pos hx)
theorem Cf_l35  (hA : wok A Cf_d m) : pm_len (wput A Cf_d S h) (A (35, 0, 0)) = some 1440 := w_len hA (Cf_d35) (by decide)
theorem Cf_r35  (hA : wok A Cf_d m) (hx : 0 ≤ x ∧ x < 1440) : pm_rd pm_isI (wput A Cf_d S h) (A (35, 0, 0)) x = some (S.1 (35, 0, 0) x) := (w_rd (t := .int) hA (Cf_d35) rfl (by decide) (by decide)).trans (if_pos hx)
theorem Cf_w35  (hA : wok A Cf_d m) (hx : 0 ≤ x ∧ x < 1440) : pm_wr pm_wI (wput A Cf_d S h) (A (35, 0, 0)) x v = some (wput A Cf_d (sz S (35, 0, 0) x v) h) := (w_wr (t := .int) hA (Cf_d35) rfl (by decide) (by decide)).trans (if_pos hx)
theorem Cf_l37  (hA : wok A Cf_d m) : pm_len (wput A Cf_d S h) (A (37, 0, 0)) = some 24 := w_len hA (Cf_d37) (by decide)
theorem Cf_r37  (hA : wok A Cf_d m) (hx : 0 ≤ x ∧ x < 24) : pm_rd pm_isI (wput A Cf_d S h) (A (37, 0, 0)) x = some (S.1 (37, 0, 0) x) := (w_rd (t := .int) hA (Cf_d37) rfl (by decide) (by decide)).trans (if_pos hx)
theorem Cf_w37  (hA : wok A Cf_d m) (hx : 0 ≤ x ∧ x < 24) : pm_wr pm_wI (wput A Cf_d S h) (A (37, 0, 0)) x v = some (wput A Cf_d (sz S (37, 0, 0) x v) h) := (w_wr (t := .int) hA (Cf_d37) rfl (by decide) (by decide)).trans (if_pos hx)
theorem Cf_l38  (hA : wok A Cf_d m) : pm_len (wput A Cf_d S h) (A (38, 0, 0)) = some 24 := w_len hA (Cf_d38) (by decide)
theorem Cf_r38  (hA : wok A Cf_d m) (hx : 0 ≤ x ∧ x < 24) : pm_rd pm_isI (wput A Cf_d S h) (A (38, 0, 0)) x = some (S.1 (38, 0, 0) x) := (w_rd (t := .int) hA (Cf_d38) rfl (by decide) (by decide)).trans (if_pos hx)
theorem Cf_w38  (hA : wok A Cf_d m) (hx : 0 ≤ x ∧ x < 24) : pm_wr pm_wI (wput A Cf_d S h) (A (38, 0, 0)) x v = some (wput A Cf_d (sz S (38, 0, 0) x v) h) := (w_wr (t := .int) hA (Cf_d38) rfl (by decide) (by decide)).trans (if_pos hx)
theorem Cf_l39  (hA : wok A Cf_d m) : pm_len (wput A Cf_d S h) (A (39, 0, 0)) = some 24 := w_len hA (Cf_d39) (by decide)
theorem Cf_r39  (hA : wok A Cf_d m) (hx : 0 ≤ x ∧ x < 24) : pm_rd pm_isI (wput A Cf_d S h) (A (39, 0, 0)) x = some (S.1 (39, 0, 0) x) := (w_rd (t := .int) hA (Cf_d39) rfl (by decide) (by decide)).trans (if_pos hx)
theorem Cf_w39  (hA : wok A Cf_d m) (hx : 0 ≤ x ∧ x < 24) : pm_wr pm_wI (wput A Cf_d S h) (A (39, 0, 0)) x v = some (wput A Cf_d (sz S (39, 0, 0) x v) h) := (w_wr (t := .int) hA (Cf_d39) rfl (by decide) (by decide)).trans (if_pos hx)
theorem Cf_l44  (hA : wok A Cf_d m) : pm_len (wput A Cf_d S h) (A (44, 0, 0)) = some 3 := w_len hA (Cf_d44) (by decide)
theorem Cf_r44  (hA : wok A Cf_d m) (hx : 0 ≤ x ∧ x < 3) : pm_rd pm_isI (wput A Cf_d S h) (A (44, 0, 0)) x = some (S.1 (44, 0, 0) x) := (w_rd (t := .int) hA (Cf_d44) rfl (by decide) (by decide)).trans (if_pos hx)
theorem Cf_w44  (hA : wok A Cf_d m) (hx : 0 ≤ x ∧ x < 3) : pm_wr pm_wI (wput A Cf_d S h) (A (44, 0, 0)) x v = some (wput A Cf_d (sz S (44, 0, 0) x v) h) := (w_wr (t := .int) hA (Cf_d44) rfl (by decide) (by decide)).trans (if_pos hx)
theorem Cf_y23_22 {p q l : Int32}  (hA : wok A Cf_d m) (hx : 0 ≤ p ∧ 0 ≤ q ∧ 0 ≤ l ∧ l ≤ 24 - p ∧ l ≤ 24 - q) : pm_cpy (wput A Cf_d S h) (A (22, 0, 0)) p (A (23, 0, 0)) q l = some (wput A Cf_d (szc S (23, 0, 0) q (22, 0, 0) p l) h) := w_cpy (n1 := 24) (n2 := 24) hA (Cf_d22) (Cf_d23) (by decide) (by decide) hx
theorem Cf_y22_23 {p q l : Int32}  (hA : wok A Cf_d m) (hx : 0 ≤ p ∧ 0 ≤ q ∧ 0 ≤ l ∧ l ≤ 24 - p ∧ l ≤ 24 - q) : pm_cpy (wput A Cf_d S h) (A (23, 0, 0)) p (A (22, 0, 0)) q l = some (wput A Cf_d (szc S (22, 0, 0) q (23, 0, 0) p l) h) := w_cpy (n1 := 24) (n2 := 24) hA (Cf_d23) (Cf_d22) (by decide) (by decide) hx
end
/-- TimberHouse$FingerLengths.near(I)I -/
theorem c513 {d : Nat} {h : pm_H} {x0 : Int32} : pm_call pm_prog (d + 1) 513 [.int x0] h = pm_ev pm_prog (pm_call pm_prog d) 513 0 b513_0 [.int x0] [] h := pm_cal (pm_rc0 rfl) rfl rfl rfl
/-- TimberHouse$FingerLengths.near(I)I -/
noncomputable def f513 (x0 : Int32) : Option (Int32) :=
  (f3840 65536 x0).bind fun v1 =>
  (f3841 1 v1).bind fun v2 =>
  some v2
theorem x513 {h : pm_H} {D : Nat} {x0 : Int32} {r : Int32} (hD : 2 ≤ D) (e : f513 x0 = some r) : pm_call pm_prog D 513 [.int x0] h = some (Outcome.returned (some (.int r)), h) := by
  obtain ⟨D, rfl⟩ : ∃ D', D = D' + 1 := ⟨D - 1, by omega⟩
  have hD : 1 ≤ D := by omega
  simp only [f513] at e
  rw [c513, b513_0]
  obtain ⟨v1, k1, e⟩ := Option.bind_eq_some_iff.mp e
  try dsimp only at e
  have z1 := fun h => x3840 (D := D) (h := h) (by omega) k1
  obtain ⟨v2, k2, e⟩ := Option.bind_eq_some_iff.mp e
  try dsimp only at e
  have z2 := fun h => x3841 (D := D) (h := h) (by omega) k2
  have e := Option.some.inj e; subst e
  simp -implicitDefEqProofs (disch := first | assumption | exact Nat.le_of_ble_eq_true rfl | decide) only [b513_0, pe_sipush, pe_iload0, pe_call2, pm_af_ret, pm_af_void, pm_af_thr, pm_prog_1, pm_ob_some, Nat.reduceDiv, Nat.reduceMod, Nat.reduceMul, Nat.reduceAdd, Int.reduceToNat, pm_kill_i, pm_kill_r, pm_kill_n, pm_kill_j, pm_kill_l, pm_kill_d, pm_cats_nil, pm_cats_i, pm_cats_r, pm_cats_n, pm_cats_l, pm_cats_d, sz_1, sz_2, sl_1, sl_2, lc_0, lc_lt, lc_le, li_ne, va_rf, wr_m1, we_m1, pm_kill_w, Int32.reduceOfInt, Int64.reduceOfInt, Int32.reduceOfNat, Int32.reduceLT, Int32.reduceLE, Prod.mk.injEq, Nat.reduceEqDiff, reduceCtorEq, and_true, true_and, and_false, false_and, and_self, ite_true, ite_false, ↓reduceIte, not_true_eq_false, not_false_eq_true, pe_ri, pe_rz, pe_rc, z1, z2]
/-- TimberHouse$FingerLengths.can(Z)V -/
theorem c515 {d : Nat} {h : pm_H} {x0 : Int32} : pm_call pm_prog (d + 1) 515 [.int x0] h = pm_ev pm_prog (pm_call pm_prog d) 515 0 b515_0 [.int x0] [] h := pm_cal (pm_rc0 rfl) rfl rfl rfl
theorem g515_1 {cl : pm_C} {ls st : List Value} {h : pm_H} : pm_go pm_prog cl 515 1 ls st h = pm_ev pm_prog cl 515 1 b515_1 ls st h := pm_go_eq pm_prog cl 515 1 ls st h
theorem t515 {cl : pm_C} {j : Nat} {ls : List Value} {c : Nat} {h : pm_H} : pm_thr pm_prog cl 515 j ls c h = some (.threw c, h) := rfl
/-- TimberHouse$FingerLengths.can(Z)V -/
noncomputable def f515 (x0 : Int32) : Option (Nat ⊕ (Unit)) :=
  if x0 = 0 then
    some (.inl 71)
  else
    some (.inr ())
theorem x515 {h : pm_H} {D : Nat} {x0 : Int32} {r : Nat ⊕ (Unit)} (hD : 1 ≤ D) (e : f515 x0 = some r) : pm_call pm_prog D 515 [.int x0] h = some (match (generalizing := false) r with | .inl c => (Outcome.threw c, (pm_new h 6 (.inr (c, [])))) | .inr _ => (Outcome.returned none, h)) := by
  obtain ⟨D, rfl⟩ : ∃ D', D = D' + 1 := ⟨D - 1, by omega⟩
  have hD : 0 ≤ D := by omega
  simp only [f515] at e
  rw [c515, b515_0]
  by_cases k1 : x0 = 0
  · rw [if_pos k1] at e
    have e := Option.some.inj e; subst e
    simp -implicitDefEqProofs (disch := first | assumption | exact Nat.le_of_ble_eq_true rfl | decide) only [b515_0, g515_1, b515_1, pe_iload0, pe_if_ne, pe_return, pm_prog_1, pm_ob_some, Nat.reduceDiv, Nat.reduceMod, Nat.reduceMul, Nat.reduceAdd, Int.reduceToNat, pm_kill_i, pm_kill_r, pm_kill_n, pm_kill_j, pm_kill_l, pm_kill_d, pm_cats_nil, pm_cats_i, pm_cats_r, pm_cats_n, pm_cats_l, pm_cats_d, sz_1, sz_2, sl_1, sl_2, lc_0, lc_lt, lc_le, li_ne, va_rf, wr_m1, we_m1, pm_kill_w, Int32.reduceOfInt, Int64.reduceOfInt, Int32.reduceOfNat, Int32.reduceLT, Int32.reduceLE, Prod.mk.injEq, Nat.reduceEqDiff, reduceCtorEq, and_true, true_and, and_false, false_and, and_self, ite_true, ite_false, ↓reduceIte, not_true_eq_false, not_false_eq_true, pe_ri, pe_rz, pe_rc, p_throw, t515, eq_true k1]
  · rw [if_neg k1] at e
    have e := Option.some.inj e; subst e
    simp -implicitDefEqProofs (disch := first | assumption | exact Nat.le_of_ble_eq_true rfl | decide) only [b515_0, g515_1, b515_1, pe_iload0, pe_if_ne, pe_return, pm_prog_1, pm_ob_some, Nat.reduceDiv, Nat.reduceMod, Nat.reduceMul, Nat.reduceAdd, Int.reduceToNat, pm_kill_i, pm_kill_r, pm_kill_n, pm_kill_j, pm_kill_l, pm_kill_d, pm_cats_nil, pm_cats_i, pm_cats_r, pm_cats_n, pm_cats_l, pm_cats_d, sz_1, sz_2, sl_1, sl_2, lc_0, lc_lt, lc_le, li_ne, va_rf, wr_m1, we_m1, pm_kill_w, Int32.reduceOfInt, Int64.reduceOfInt, Int32.reduceOfNat, Int32.reduceLT, Int32.reduceLE, Prod.mk.injEq, Nat.reduceEqDiff, reduceCtorEq, and_true, true_and, and_false, false_and, and_self, ite_true, ite_false, ↓reduceIte, not_true_eq_false, not_false_eq_true, pe_ri, pe_rz, pe_rc, p_throw, t515, eq_false k1]
/-- TimberHouse$FingerLengths.proper(Z)V -/
theorem c517 {d : Nat} {h : pm_H} {x0 : Int32} : pm_call pm_prog (d + 1) 517 [.int x0] h = pm_ev pm_prog (pm_call pm_prog d) 517 0 b517_0 [.int x0] [] h := pm_cal (pm_rc0 rfl) rfl rfl rfl
theorem g517_1 {cl : pm_C} {ls st : List Value} {h : pm_H} : pm_go pm_prog cl 517 1 ls st h = pm_ev pm_prog cl 517 1 b517_1 ls st h := pm_go_eq pm_prog cl 517 1 ls st h
theorem t517 {cl : pm_C} {j : Nat} {ls : List Value} {c : Nat} {h : pm_H} : pm_thr pm_prog cl 517 j ls c h = some (.threw c, h) := rfl
/-- TimberHouse$FingerLengths.proper(Z)V -/
noncomputable def f517 (x0 : Int32) : Option (Nat ⊕ (Unit)) :=
  if x0 = 0 then
    some (.inl 70)
  else
    some (.inr ())
theorem x517 {h : pm_H} {D : Nat} {x0 : Int32} {r : Nat ⊕ (Unit)} (hD : 1 ≤ D) (e : f517 x0 = some r) : pm_call pm_prog D 517 [.int x0] h = some (match (generalizing := false) r with | .inl c => (Outcome.threw c, (pm_new h 6 (.inr (c, [])))) | .inr _ => (Outcome.returned none, h)) := by
  obtain ⟨D, rfl⟩ : ∃ D', D = D' + 1 := ⟨D - 1, by omega⟩
  have hD : 0 ≤ D := by omega
  simp only [f517] at e
  rw [c517, b517_0]
  by_cases k1 : x0 = 0
  · rw [if_pos k1] at e
    have e := Option.some.inj e; subst e
    simp -implicitDefEqProofs (disch := first | assumption | exact Nat.le_of_ble_eq_true rfl | decide) only [b517_0, g517_1, b517_1, pe_iload0, pe_if_ne, pe_return, pm_prog_1, pm_ob_some, Nat.reduceDiv, Nat.reduceMod, Nat.reduceMul, Nat.reduceAdd, Int.reduceToNat, pm_kill_i, pm_kill_r, pm_kill_n, pm_kill_j, pm_kill_l, pm_kill_d, pm_cats_nil, pm_cats_i, pm_cats_r, pm_cats_n, pm_cats_l, pm_cats_d, sz_1, sz_2, sl_1, sl_2, lc_0, lc_lt, lc_le, li_ne, va_rf, wr_m1, we_m1, pm_kill_w, Int32.reduceOfInt, Int64.reduceOfInt, Int32.reduceOfNat, Int32.reduceLT, Int32.reduceLE, Prod.mk.injEq, Nat.reduceEqDiff, reduceCtorEq, and_true, true_and, and_false, false_and, and_self, ite_true, ite_false, ↓reduceIte, not_true_eq_false, not_false_eq_true, pe_ri, pe_rz, pe_rc, p_throw, t517, eq_true k1]
  · rw [if_neg k1] at e
    have e := Option.some.inj e; subst e
    simp -implicitDefEqProofs (disch := first | assumption | exact Nat.le_of_ble_eq_true rfl | decide) only [b517_0, g517_1, b517_1, pe_iload0, pe_if_ne, pe_return, pm_prog_1, pm_ob_some, Nat.reduceDiv, Nat.reduceMod, Nat.reduceMul, Nat.reduceAdd, Int.reduceToNat, pm_kill_i, pm_kill_r, pm_kill_n, pm_kill_j, pm_kill_l, pm_kill_d, pm_cats_nil, pm_cats_i, pm_cats_r, pm_cats_n, pm_cats_l, pm_cats_d, sz_1, sz_2, sl_1, sl_2, lc_0, lc_lt, lc_le, li_ne, va_rf, wr_m1, we_m1, pm_kill_w, Int32.reduceOfInt, Int64.reduceOfInt, Int32.reduceOfNat, Int32.reduceLT, Int32.reduceLE, Prod.mk.injEq, Nat.reduceEqDiff, reduceCtorEq, and_true, true_and, and_false, false_and, and_self, ite_true, ite_false, ↓reduceIte, not_true_eq_false, not_false_eq_true, pe_ri, pe_rz, pe_rc, p_throw, t517, eq_false k1]
/-- TimberHouse$FingerLengths.told(Z)Z -/
theorem c518 {d : Nat} {h : pm_H} {a : Nat} {x0 : Int32} (hc : pm_cls h a = some 8) : pm_call pm_prog (d + 1) 518 [.ref a, .int x0] h = pm_ev pm_prog (pm_call pm_prog d) 518 0 b518_0 [.ref a, .int x0] [] h := pm_cal (pm_rc1 hc rfl) rfl rfl rfl
theorem g518_1 {cl : pm_C} {ls st : List Value} {h : pm_H} : pm_go pm_prog cl 518 1 ls st h = pm_ev pm_prog cl 518 1 b518_1 ls st h := pm_go_eq pm_prog cl 518 1 ls st h
theorem g518_2 {cl : pm_C} {ls st : List Value} {h : pm_H} : pm_go pm_prog cl 518 2 ls st h = pm_ev pm_prog cl 518 2 b518_2 ls st h := pm_go_eq pm_prog cl 518 2 ls st h
/-- TimberHouse$FingerLengths.told(Z)Z -/
noncomputable def f518 (S : wS) (x1 : Int32) : Option (Int32 × wS) :=
  if x1 = 0 then
    if ((S.1 (0, 0, 0) 20) &&& 1) = 0 ∨ ((S.1 (0, 0, 0) 20) &&& 1) = 1 then
      if x1 = 0 ∨ x1 = 1 then
        some (x1, (sz S (0, 0, 0) 20 ((S.1 (0, 0, 0) 20) &&& 1)))
      else none
    else none
  else
    if ((S.1 (0, 0, 0) 20) &&& 0) = 0 ∨ ((S.1 (0, 0, 0) 20) &&& 0) = 1 then
      if x1 = 0 ∨ x1 = 1 then
        some (x1, (sz S (0, 0, 0) 20 ((S.1 (0, 0, 0) 20) &&& 0)))
      else none
    else none
theorem x518  {A : wK → Nat} {h : pm_H} {D : Nat} {S : wS} {x1 : Int32} {r : Int32 × wS}  (hA : wok A Cf_d h.1) (hD : 1 ≤ D) (e : f518 S x1 = some r) : pm_call pm_prog D 518 [.ref (A (0, 0, 0)), .int x1] (wput A Cf_d S h) = some (match (generalizing := false) r with | (w0, S1) => (Outcome.returned (some (.int w0)), (wput A Cf_d S1 h))) := by
  obtain ⟨D, rfl⟩ : ∃ D', D = D' + 1 := ⟨D - 1, by omega⟩
  have hD : 0 ≤ D := by omega
  simp only [f518] at e
  rw [c518 (Cf_c0 hA), b518_0]
  by_cases k1 : x1 = 0
  · rw [if_pos k1] at e
    by_cases k2 : ((S.1 (0, 0, 0) 20) &&& 1) = 0 ∨ ((S.1 (0, 0, 0) 20) &&& 1) = 1
    · rw [if_pos k2] at e
      by_cases k3 : x1 = 0 ∨ x1 = 1
      · rw [if_pos k3] at e
        have e := Option.some.inj e; subst e
        simp -implicitDefEqProofs (disch := first | assumption | exact Nat.le_of_ble_eq_true rfl | decide) only [b518_0, g518_1, b518_1, g518_2, b518_2, pe_aload0, pe_dup_i, pe_dup_r, pe_getfield, pe_iload1, pe_if_ne, pe_sipush, pe_goto, pe_goto_w, pe_iand, pe_putfield, pm_prog_1, pm_ob_some, Nat.reduceDiv, Nat.reduceMod, Nat.reduceMul, Nat.reduceAdd, Int.reduceToNat, pm_kill_i, pm_kill_r, pm_kill_n, pm_kill_j, pm_kill_l, pm_kill_d, pm_cats_nil, pm_cats_i, pm_cats_r, pm_cats_n, pm_cats_l, pm_cats_d, sz_1, sz_2, sl_1, sl_2, lc_0, lc_lt, lc_le, li_ne, va_rf, wr_m1, we_m1, pm_kill_w, Int32.reduceOfInt, Int64.reduceOfInt, Int32.reduceOfNat, Int32.reduceLT, Int32.reduceLE, Prod.mk.injEq, Nat.reduceEqDiff, reduceCtorEq, and_true, true_and, and_false, false_and, and_self, ite_true, ite_false, ↓reduceIte, not_true_eq_false, not_false_eq_true, pe_ri, pe_rz, pe_rc, Cf_g0_20 hA, Cf_p0_20 hA, eq_true k1]
      · rw [if_neg k3] at e; cases e
    · rw [if_neg k2] at e; cases e
  · rw [if_neg k1] at e
    by_cases k4 : ((S.1 (0, 0, 0) 20) &&& 0) = 0 ∨ ((S.1 (0, 0, 0) 20) &&& 0) = 1
    · rw [if_pos k4] at e
      by_cases k5 : x1 = 0 ∨ x1 = 1
      · rw [if_pos k5] at e
        have e := Option.some.inj e; subst e
        simp -implicitDefEqProofs (disch := first | assumption | exact Nat.le_of_ble_eq_true rfl | decide) only [b518_0, g518_1, b518_1, g518_2, b518_2, pe_aload0, pe_dup_i, pe_dup_r, pe_getfield, pe_iload1, pe_if_ne, pe_sipush, pe_goto, pe_goto_w, pe_iand, pe_putfield, pm_prog_1, pm_ob_some, Nat.reduceDiv, Nat.reduceMod, Nat.reduceMul, Nat.reduceAdd, Int.reduceToNat, pm_kill_i, pm_kill_r, pm_kill_n, pm_kill_j, pm_kill_l, pm_kill_d, pm_cats_nil, pm_cats_i, pm_cats_r, pm_cats_n, pm_cats_l, pm_cats_d, sz_1, sz_2, sl_1, sl_2, lc_0, lc_lt, lc_le, li_ne, va_rf, wr_m1, we_m1, pm_kill_w, Int32.reduceOfInt, Int64.reduceOfInt, Int32.reduceOfNat, Int32.reduceLT, Int32.reduceLE, Prod.mk.injEq, Nat.reduceEqDiff, reduceCtorEq, and_true, true_and, and_false, false_and, and_self, ite_true, ite_false, ↓reduceIte, not_true_eq_false, not_false_eq_true, pe_ri, pe_rz, pe_rc, Cf_g0_20 hA, Cf_p0_20 hA, eq_false k1]
      · rw [if_neg k5] at e; cases e
    · rw [if_neg k4] at e; cases e
/-- TimberHouse$FingerLengths.isIn(JJJ)Z -/
theorem c516 {d : Nat} {h : pm_H} {x0 : Int64} {x1 : Int64} {x2 : Int64} : pm_call pm_prog (d + 1) 516 [.long x0, .long x1, .long x2] h = pm_ev pm_prog (pm_call pm_prog d) 516 0 b516_0 [.long x0, pm_junk, .long x1, pm_junk, .long x2, pm_junk] [] h := pm_cal (pm_rc0 rfl) rfl rfl rfl
theorem g516_1 {cl : pm_C} {ls st : List Value} {h : pm_H} : pm_go pm_prog cl 516 1 ls st h = pm_ev pm_prog cl 516 1 b516_1 ls st h := pm_go_eq pm_prog cl 516 1 ls st h
theorem g516_2 {cl : pm_C} {ls st : List Value} {h : pm_H} : pm_go pm_prog cl 516 2 ls st h = pm_ev pm_prog cl 516 2 b516_2 ls st h := pm_go_eq pm_prog cl 516 2 ls st h
/-- TimberHouse$FingerLengths.isIn(JJJ)Z -/
noncomputable def f516 (x0 : Int64) (x2 : Int64) (x4 : Int64) : Option (Int32) :=
  if x0 < x2 then
    some 0
  else
    if x0 ≤ x4 then
      some 1
    else
      some 0
theorem x516 {h : pm_H} {D : Nat} {x0 : Int64} {x2 : Int64} {x4 : Int64} {r : Int32} (hD : 1 ≤ D) (e : f516 x0 x2 x4 = some r) : pm_call pm_prog D 516 [.long x0, .long x2, .long x4] h = some (Outcome.returned (some (.int r)), h) := by
  obtain ⟨D, rfl⟩ : ∃ D', D = D' + 1 := ⟨D - 1, by omega⟩
  have hD : 0 ≤ D := by omega
  simp only [f516] at e
  rw [c516, b516_0]
  by_cases k1 : x0 < x2
  · rw [if_pos k1] at e
    have e := Option.some.inj e; subst e
    simp -implicitDefEqProofs (disch := first | assumption | exact Nat.le_of_ble_eq_true rfl | decide) only [b516_0, g516_1, b516_1, g516_2, b516_2, pe_lload0, pe_lload2, pe_lcmp, pe_if_lt, pe_lload4, pe_if_gt, pe_sipush, pe_goto, pe_goto_w, pm_prog_1, pm_ob_some, Nat.reduceDiv, Nat.reduceMod, Nat.reduceMul, Nat.reduceAdd, Int.reduceToNat, pm_kill_i, pm_kill_r, pm_kill_n, pm_kill_j, pm_kill_l, pm_kill_d, pm_cats_nil, pm_cats_i, pm_cats_r, pm_cats_n, pm_cats_l, pm_cats_d, sz_1, sz_2, sl_1, sl_2, lc_0, lc_lt, lc_le, li_ne, va_rf, wr_m1, we_m1, pm_kill_w, Int32.reduceOfInt, Int64.reduceOfInt, Int32.reduceOfNat, Int32.reduceLT, Int32.reduceLE, Prod.mk.injEq, Nat.reduceEqDiff, reduceCtorEq, and_true, true_and, and_false, false_and, and_self, ite_true, ite_false, ↓reduceIte, not_true_eq_false, not_false_eq_true, pe_ri, pe_rz, pe_rc, eq_true k1]
  · rw [if_neg k1] at e
    by_cases k2 : x0 ≤ x4
    · rw [if_pos k2] at e
      have e := Option.some.inj e; subst e
      simp -implicitDefEqProofs (disch := first | assumption | exact Nat.le_of_ble_eq_true rfl | decide) only [b516_0, g516_1, b516_1, g516_2, b516_2, pe_lload0, pe_lload2, pe_lcmp, pe_if_lt, pe_lload4, pe_if_gt, pe_sipush, pe_goto, pe_goto_w, pm_prog_1, pm_ob_some, Nat.reduceDiv, Nat.reduceMod, Nat.reduceMul, Nat.reduceAdd, Int.reduceToNat, pm_kill_i, pm_kill_r, pm_kill_n, pm_kill_j, pm_kill_l, pm_kill_d, pm_cats_nil, pm_cats_i, pm_cats_r, pm_cats_n, pm_cats_l, pm_cats_d, sz_1, sz_2, sl_1, sl_2, lc_0, lc_lt, lc_le, li_ne, va_rf, wr_m1, we_m1, pm_kill_w, Int32.reduceOfInt, Int64.reduceOfInt, Int32.reduceOfNat, Int32.reduceLT, Int32.reduceLE, Prod.mk.injEq, Nat.reduceEqDiff, reduceCtorEq, and_true, true_and, and_false, false_and, and_self, ite_true, ite_false, ↓reduceIte, not_true_eq_false, not_false_eq_true, pe_ri, pe_rz, pe_rc, eq_false k1, eq_true k2]
    · rw [if_neg k2] at e
      have e := Option.some.inj e; subst e
      simp -implicitDefEqProofs (disch := first | assumption | exact Nat.le_of_ble_eq_true rfl | decide) only [b516_0, g516_1, b516_1, g516_2, b516_2, pe_lload0, pe_lload2, pe_lcmp, pe_if_lt, pe_lload4, pe_if_gt, pe_sipush, pe_goto, pe_goto_w, pm_prog_1, pm_ob_some, Nat.reduceDiv, Nat.reduceMod, Nat.reduceMul, Nat.reduceAdd, Int.reduceToNat, pm_kill_i, pm_kill_r, pm_kill_n, pm_kill_j, pm_kill_l, pm_kill_d, pm_cats_nil, pm_cats_i, pm_cats_r, pm_cats_n, pm_cats_l, pm_cats_d, sz_1, sz_2, sl_1, sl_2, lc_0, lc_lt, lc_le, li_ne, va_rf, wr_m1, we_m1, pm_kill_w, Int32.reduceOfInt, Int64.reduceOfInt, Int32.reduceOfNat, Int32.reduceLT, Int32.reduceLE, Prod.mk.injEq, Nat.reduceEqDiff, reduceCtorEq, and_true, true_and, and_false, false_and, and_self, ite_true, ite_false, ↓reduceIte, not_true_eq_false, not_false_eq_true, pe_ri, pe_rz, pe_rc, eq_false k1, eq_false k2]
/-- TimberHouse$FingerLengths.piece(II)I -/
theorem c514 {d : Nat} {h : pm_H} {a : Nat} {x0 : Int32} {x1 : Int32} (hc : pm_cls h a = some 8) : pm_call pm_prog (d + 1) 514 [.ref a, .int x0, .int x1] h = pm_ev pm_prog (pm_call pm_prog d) 514 0 b514_0 [.ref a, .int x0, .int x1, pm_junk] [] h := pm_cal (pm_rc1 hc rfl) rfl rfl rfl
theorem g514_1 {cl : pm_C} {ls st : List Value} {h : pm_H} : pm_go pm_prog cl 514 1 ls st h = pm_ev pm_prog cl 514 1 b514_1 ls st h := pm_go_eq pm_prog cl 514 1 ls st h
theorem g514_2 {cl : pm_C} {ls st : List Value} {h : pm_H} : pm_go pm_prog cl 514 2 ls st h = pm_ev pm_prog cl 514 2 b514_2 ls st h := pm_go_eq pm_prog cl 514 2 ls st h
theorem g514_3 {cl : pm_C} {ls st : List Value} {h : pm_H} : pm_go pm_prog cl 514 3 ls st h = pm_ev pm_prog cl 514 3 b514_3 ls st h := pm_go_eq pm_prog cl 514 3 ls st h
theorem g514_4 {cl : pm_C} {ls st : List Value} {h : pm_H} : pm_go pm_prog cl 514 4 ls st h = pm_ev pm_prog cl 514 4 b514_4 ls st h := pm_go_eq pm_prog cl 514 4 ls st h
theorem t514 {cl : pm_C} {j : Nat} {ls : List Value} {c : Nat} {h : pm_H} : pm_thr pm_prog cl 514 j ls c h = some (.threw c, h) := rfl
noncomputable def f514_4 (S : wS) (x1 : Int32) (x2 : Int32) (y0 : Int32) : Option ((Nat × wS) ⊕ (Int32 × wS)) :=
  (f517 y0).bind fun r => match r with
  | .inl c3 =>
    some (.inl (c3, S))
  | .inr _ =>
  if ¬ (S.1 (0, 0, 0) 0) = 0 then
    if 0 ≤ (S.1 (0, 0, 0) 4) ∧ (S.1 (0, 0, 0) 4) < 24 then
      (f518 (sz (sz S (12, 0, 0) (S.1 (0, 0, 0) 4) (x1 / (S.1 (0, 0, 0) 0))) (13, 0, 0) (S.1 (0, 0, 0) 4) x2) 1).bind fun (v1, S2) =>
      some (.inr ((S2.1 (0, 0, 0) 4), (sz S2 (0, 0, 0) 4 ((S2.1 (0, 0, 0) 4) + 1))))
    else none
  else none
noncomputable def f514_2 (S : wS) (x1 : Int32) (x2 : Int32) (y0 : Int32) : Option ((Nat × wS) ⊕ (Int32 × wS)) :=
  (f515 y0).bind fun r => match r with
  | .inl c5 =>
    some (.inl (c5, S))
  | .inr _ =>
  if x1 < 1 then
    f514_4 S x1 x2 0
  else
    if ¬ (S.1 (0, 0, 0) 0) = 0 then
      if (x1 / (S.1 (0, 0, 0) 0)) ≤ 60 then
        (f516 (Int32.toInt64 x2) 0 7).bind fun v4 =>
        if v4 = 0 then
          f514_4 S x1 x2 0
        else
          f514_4 S x1 x2 1
      else
        f514_4 S x1 x2 0
    else none
/-- TimberHouse$FingerLengths.piece(II)I -/
noncomputable def f514 (S : wS) (x1 : Int32) (x2 : Int32) : Option ((Nat × wS) ⊕ (Int32 × wS)) :=
  if (S.1 (0, 0, 0) 4) < 24 then
    f514_2 S x1 x2 1
  else
    f514_2 S x1 x2 0
theorem y514_4  {A : wK → Nat} {h : pm_H} {D : Nat} {S : wS} {x1 : Int32} {x2 : Int32} {y0 : Int32} {r : (Nat × wS) ⊕ (Int32 × wS)}  (hA : wok A Cf_d h.1) (hD : 1 ≤ D) (e : f514_4 S x1 x2 y0 = some r) : ∀ q3 : Value, pm_go pm_prog (pm_call pm_prog D) 514 4 [.ref (A (0, 0, 0)), .int x1, .int x2, q3] [.int y0] (wput A Cf_d S h) = some (match (generalizing := false) r with | .inl (c, S1) => (Outcome.threw c, (wput A Cf_d S1 (pm_new h 6 (.inr (c, []))))) | .inr (w0, S1) => (Outcome.returned (some (.int w0)), (wput A Cf_d S1 h))) := by
  intro q3
  simp only [f514_4] at e
  rw [g514_4, b514_4]
  obtain ⟨r, k1, e⟩ := Option.bind_eq_some_iff.mp e
  have z1 := fun h => x517 (D := D) (h := h) (by omega) k1
  rcases r with c3 | _
  · dsimp only at e z1
    have e := Option.some.inj e; subst e
    simp -implicitDefEqProofs (disch := first | assumption | exact Nat.le_of_ble_eq_true rfl | decide) only [b514_0, g514_1, b514_1, g514_3, b514_3, pe_aload0, pe_getfield, pe_sipush, pe_icmp_ge, pe_goto, pe_goto_w, pe_call1, pm_af_ret, pm_af_void, pm_af_thr, pe_iload1, pe_icmp_lt, pe_idiv, pe_icmp_gt, pe_iload2, pe_i2l, pe_bipush, pe_call3, pe_if_eq, pe_iastore, pe_call2, pe_istore3, pe_dup_i, pe_dup_r, pe_dup_x1_ii, pe_dup_x1_ir, pe_dup_x1_ri, pe_dup_x1_rr, pe_iadd, pe_putfield, pm_prog_1, pm_ob_some, Nat.reduceDiv, Nat.reduceMod, Nat.reduceMul, Nat.reduceAdd, Int.reduceToNat, pm_kill_i, pm_kill_r, pm_kill_n, pm_kill_j, pm_kill_l, pm_kill_d, pm_cats_nil, pm_cats_i, pm_cats_r, pm_cats_n, pm_cats_l, pm_cats_d, sz_1, sz_2, sl_1, sl_2, lc_0, lc_lt, lc_le, li_ne, va_rf, wr_m1, we_m1, pm_kill_w, Int32.reduceOfInt, Int64.reduceOfInt, Int32.reduceOfNat, Int32.reduceLT, Int32.reduceLE, Prod.mk.injEq, Nat.reduceEqDiff, reduceCtorEq, and_true, true_and, and_false, false_and, and_self, ite_true, ite_false, ↓reduceIte, not_true_eq_false, not_false_eq_true, pe_ri, pe_rz, pe_rc, p_throw, t514, w_junk hA, Cf_g0_0 hA, Cf_g0_2 hA, Cf_g0_3 hA, Cf_g0_4 hA, Cf_p0_4 hA, Cf_w12 hA, Cf_w13 hA, z1]
  · dsimp only at e z1
    by_cases k2 : ¬ (S.1 (0, 0, 0) 0) = 0
    · rw [if_pos k2] at e
      by_cases k3 : 0 ≤ (S.1 (0, 0, 0) 4) ∧ (S.1 (0, 0, 0) 4) < 24
      · rw [if_pos k3] at e
        obtain ⟨⟨v1, S2⟩, k4, e⟩ := Option.bind_eq_some_iff.mp e
        try dsimp only at e
        have z4 := x518 (D := D) (h := h) hA (by omega) k4
        dsimp only at z4
        have e := Option.some.inj e; subst e
        simp -implicitDefEqProofs (disch := first | assumption | exact Nat.le_of_ble_eq_true rfl | decide) only [b514_0, g514_1, b514_1, g514_3, b514_3, pe_aload0, pe_getfield, pe_sipush, pe_icmp_ge, pe_goto, pe_goto_w, pe_call1, pm_af_ret, pm_af_void, pm_af_thr, pe_iload1, pe_icmp_lt, pe_idiv, pe_icmp_gt, pe_iload2, pe_i2l, pe_bipush, pe_call3, pe_if_eq, pe_iastore, pe_call2, pe_istore3, pe_dup_i, pe_dup_r, pe_dup_x1_ii, pe_dup_x1_ir, pe_dup_x1_ri, pe_dup_x1_rr, pe_iadd, pe_putfield, pm_prog_1, pm_ob_some, Nat.reduceDiv, Nat.reduceMod, Nat.reduceMul, Nat.reduceAdd, Int.reduceToNat, pm_kill_i, pm_kill_r, pm_kill_n, pm_kill_j, pm_kill_l, pm_kill_d, pm_cats_nil, pm_cats_i, pm_cats_r, pm_cats_n, pm_cats_l, pm_cats_d, sz_1, sz_2, sl_1, sl_2, lc_0, lc_lt, lc_le, li_ne, va_rf, wr_m1, we_m1, pm_kill_w, Int32.reduceOfInt, Int64.reduceOfInt, Int32.reduceOfNat, Int32.reduceLT, Int32.reduceLE, Prod.mk.injEq, Nat.reduceEqDiff, reduceCtorEq, and_true, true_and, and_false, false_and, and_self, ite_true, ite_false, ↓reduceIte, not_true_eq_false, not_false_eq_true, pe_ri, pe_rz, pe_rc, p_throw, t514, w_junk hA, Cf_g0_0 hA, Cf_g0_2 hA, Cf_g0_3 hA, Cf_g0_4 hA, Cf_p0_4 hA, Cf_w12 hA, Cf_w13 hA, z1, z4]
      · rw [if_neg k3] at e; cases e
    · rw [if_neg k2] at e; cases e
theorem y514_2  {A : wK → Nat} {h : pm_H} {D : Nat} {S : wS} {x1 : Int32} {x2 : Int32} {y0 : Int32} {r : (Nat × wS) ⊕ (Int32 × wS)}  (hA : wok A Cf_d h.1) (hD : 1 ≤ D) (e : f514_2 S x1 x2 y0 = some r) : ∀ q3 : Value, pm_go pm_prog (pm_call pm_prog D) 514 2 [.ref (A (0, 0, 0)), .int x1, .int x2, q3] [.int y0] (wput A Cf_d S h) = some (match (generalizing := false) r with | .inl (c, S1) => (Outcome.threw c, (wput A Cf_d S1 (pm_new h 6 (.inr (c, []))))) | .inr (w0, S1) => (Outcome.returned (some (.int w0)), (wput A Cf_d S1 h))) := by
  intro q3
  simp only [f514_2] at e
  rw [g514_2, b514_2]
  obtain ⟨r, k1, e⟩ := Option.bind_eq_some_iff.mp e
  have z1 := fun h => x515 (D := D) (h := h) (by omega) k1
  rcases r with c5 | _
  · dsimp only at e z1
    have e := Option.some.inj e; subst e
    simp -implicitDefEqProofs (disch := first | assumption | exact Nat.le_of_ble_eq_true rfl | decide) only [b514_0, g514_1, b514_1, g514_3, b514_3, pe_aload0, pe_getfield, pe_sipush, pe_icmp_ge, pe_goto, pe_goto_w, pe_call1, pm_af_ret, pm_af_void, pm_af_thr, pe_iload1, pe_icmp_lt, pe_idiv, pe_icmp_gt, pe_iload2, pe_i2l, pe_bipush, pe_call3, pe_if_eq, pe_iastore, pe_call2, pe_istore3, pe_dup_i, pe_dup_r, pe_dup_x1_ii, pe_dup_x1_ir, pe_dup_x1_ri, pe_dup_x1_rr, pe_iadd, pe_putfield, pm_prog_1, pm_ob_some, Nat.reduceDiv, Nat.reduceMod, Nat.reduceMul, Nat.reduceAdd, Int.reduceToNat, pm_kill_i, pm_kill_r, pm_kill_n, pm_kill_j, pm_kill_l, pm_kill_d, pm_cats_nil, pm_cats_i, pm_cats_r, pm_cats_n, pm_cats_l, pm_cats_d, sz_1, sz_2, sl_1, sl_2, lc_0, lc_lt, lc_le, li_ne, va_rf, wr_m1, we_m1, pm_kill_w, Int32.reduceOfInt, Int64.reduceOfInt, Int32.reduceOfNat, Int32.reduceLT, Int32.reduceLE, Prod.mk.injEq, Nat.reduceEqDiff, reduceCtorEq, and_true, true_and, and_false, false_and, and_self, ite_true, ite_false, ↓reduceIte, not_true_eq_false, not_false_eq_true, pe_ri, pe_rz, pe_rc, p_throw, t514, w_junk hA, Cf_g0_0 hA, Cf_g0_2 hA, Cf_g0_3 hA, Cf_g0_4 hA, Cf_p0_4 hA, Cf_w12 hA, Cf_w13 hA, z1]
  · dsimp only at e z1
    by_cases k2 : x1 < 1
    · rw [if_pos k2] at e
      have k3 := y514_4 (h := h) hA hD e
      simp -implicitDefEqProofs (disch := first | assumption | exact Nat.le_of_ble_eq_true rfl | decide) only [b514_0, g514_1, b514_1, g514_3, b514_3, pe_aload0, pe_getfield, pe_sipush, pe_icmp_ge, pe_goto, pe_goto_w, pe_call1, pm_af_ret, pm_af_void, pm_af_thr, pe_iload1, pe_icmp_lt, pe_idiv, pe_icmp_gt, pe_iload2, pe_i2l, pe_bipush, pe_call3, pe_if_eq, pe_iastore, pe_call2, pe_istore3, pe_dup_i, pe_dup_r, pe_dup_x1_ii, pe_dup_x1_ir, pe_dup_x1_ri, pe_dup_x1_rr, pe_iadd, pe_putfield, pm_prog_1, pm_ob_some, Nat.reduceDiv, Nat.reduceMod, Nat.reduceMul, Nat.reduceAdd, Int.reduceToNat, pm_kill_i, pm_kill_r, pm_kill_n, pm_kill_j, pm_kill_l, pm_kill_d, pm_cats_nil, pm_cats_i, pm_cats_r, pm_cats_n, pm_cats_l, pm_cats_d, sz_1, sz_2, sl_1, sl_2, lc_0, lc_lt, lc_le, li_ne, va_rf, wr_m1, we_m1, pm_kill_w, Int32.reduceOfInt, Int64.reduceOfInt, Int32.reduceOfNat, Int32.reduceLT, Int32.reduceLE, Prod.mk.injEq, Nat.reduceEqDiff, reduceCtorEq, and_true, true_and, and_false, false_and, and_self, ite_true, ite_false, ↓reduceIte, not_true_eq_false, not_false_eq_true, pe_ri, pe_rz, pe_rc, p_throw, t514, w_junk hA, Cf_g0_0 hA, Cf_g0_2 hA, Cf_g0_3 hA, Cf_g0_4 hA, Cf_p0_4 hA, Cf_w12 hA, Cf_w13 hA, z1, eq_true k2, k3]
    · rw [if_neg k2] at e
      by_cases k4 : ¬ (S.1 (0, 0, 0) 0) = 0
      · rw [if_pos k4] at e
        by_cases k5 : (x1 / (S.1 (0, 0, 0) 0)) ≤ 60
        · rw [if_pos k5] at e
          obtain ⟨v4, k6, e⟩ := Option.bind_eq_some_iff.mp e
          try dsimp only at e
          have z6 := fun h => x516 (D := D) (h := h) (by omega) k6
          by_cases k7 : v4 = 0
          · rw [if_pos k7] at e
            have k8 := y514_4 (h := h) hA hD e
            simp -implicitDefEqProofs (disch := first | assumption | exact Nat.le_of_ble_eq_true rfl | decide) only [b514_0, g514_1, b514_1, g514_3, b514_3, pe_aload0, pe_getfield, pe_sipush, pe_icmp_ge, pe_goto, pe_goto_w, pe_call1, pm_af_ret, pm_af_void, pm_af_thr, pe_iload1, pe_icmp_lt, pe_idiv, pe_icmp_gt, pe_iload2, pe_i2l, pe_bipush, pe_call3, pe_if_eq, pe_iastore, pe_call2, pe_istore3, pe_dup_i, pe_dup_r, pe_dup_x1_ii, pe_dup_x1_ir, pe_dup_x1_ri, pe_dup_x1_rr, pe_iadd, pe_putfield, pm_prog_1, pm_ob_some, Nat.reduceDiv, Nat.reduceMod, Nat.reduceMul, Nat.reduceAdd, Int.reduceToNat, pm_kill_i, pm_kill_r, pm_kill_n, pm_kill_j, pm_kill_l, pm_kill_d, pm_cats_nil, pm_cats_i, pm_cats_r, pm_cats_n, pm_cats_l, pm_cats_d, sz_1, sz_2, sl_1, sl_2, lc_0, lc_lt, lc_le, li_ne, va_rf, wr_m1, we_m1, pm_kill_w, Int32.reduceOfInt, Int64.reduceOfInt, Int32.reduceOfNat, Int32.reduceLT, Int32.reduceLE, Prod.mk.injEq, Nat.reduceEqDiff, reduceCtorEq, and_true, true_and, and_false, false_and, and_self, ite_true, ite_false, ↓reduceIte, not_true_eq_false, not_false_eq_true, pe_ri, pe_rz, pe_rc, p_throw, t514, w_junk hA, Cf_g0_0 hA, Cf_g0_2 hA, Cf_g0_3 hA, Cf_g0_4 hA, Cf_p0_4 hA, Cf_w12 hA, Cf_w13 hA, z1, eq_false k2, eq_true k5, z6, eq_true k7, k8]
          · rw [if_neg k7] at e
            have k9 := y514_4 (h := h) hA hD e
            simp -implicitDefEqProofs (disch := first | assumption | exact Nat.le_of_ble_eq_true rfl | decide) only [b514_0, g514_1, b514_1, g514_3, b514_3, pe_aload0, pe_getfield, pe_sipush, pe_icmp_ge, pe_goto, pe_goto_w, pe_call1, pm_af_ret, pm_af_void, pm_af_thr, pe_iload1, pe_icmp_lt, pe_idiv, pe_icmp_gt, pe_iload2, pe_i2l, pe_bipush, pe_call3, pe_if_eq, pe_iastore, pe_call2, pe_istore3, pe_dup_i, pe_dup_r, pe_dup_x1_ii, pe_dup_x1_ir, pe_dup_x1_ri, pe_dup_x1_rr, pe_iadd, pe_putfield, pm_prog_1, pm_ob_some, Nat.reduceDiv, Nat.reduceMod, Nat.reduceMul, Nat.reduceAdd, Int.reduceToNat, pm_kill_i, pm_kill_r, pm_kill_n, pm_kill_j, pm_kill_l, pm_kill_d, pm_cats_nil, pm_cats_i, pm_cats_r, pm_cats_n, pm_cats_l, pm_cats_d, sz_1, sz_2, sl_1, sl_2, lc_0, lc_lt, lc_le, li_ne, va_rf, wr_m1, we_m1, pm_kill_w, Int32.reduceOfInt, Int64.reduceOfInt, Int32.reduceOfNat, Int32.reduceLT, Int32.reduceLE, Prod.mk.injEq, Nat.reduceEqDiff, reduceCtorEq, and_true, true_and, and_false, false_and, and_self, ite_true, ite_false, ↓reduceIte, not_true_eq_false, not_false_eq_true, pe_ri, pe_rz, pe_rc, p_throw, t514, w_junk hA, Cf_g0_0 hA, Cf_g0_2 hA, Cf_g0_3 hA, Cf_g0_4 hA, Cf_p0_4 hA, Cf_w12 hA, Cf_w13 hA, z1, eq_false k2, eq_true k5, z6, eq_false k7, k9]
        · rw [if_neg k5] at e
          have k10 := y514_4 (h := h) hA hD e
          simp -implicitDefEqProofs (disch := first | assumption | exact Nat.le_of_ble_eq_true rfl | decide) only [b514_0, g514_1, b514_1, g514_3, b514_3, pe_aload0, pe_getfield, pe_sipush, pe_icmp_ge, pe_goto, pe_goto_w, pe_call1, pm_af_ret, pm_af_void, pm_af_thr, pe_iload1, pe_icmp_lt, pe_idiv, pe_icmp_gt, pe_iload2, pe_i2l, pe_bipush, pe_call3, pe_if_eq, pe_iastore, pe_call2, pe_istore3, pe_dup_i, pe_dup_r, pe_dup_x1_ii, pe_dup_x1_ir, pe_dup_x1_ri, pe_dup_x1_rr, pe_iadd, pe_putfield, pm_prog_1, pm_ob_some, Nat.reduceDiv, Nat.reduceMod, Nat.reduceMul, Nat.reduceAdd, Int.reduceToNat, pm_kill_i, pm_kill_r, pm_kill_n, pm_kill_j, pm_kill_l, pm_kill_d, pm_cats_nil, pm_cats_i, pm_cats_r, pm_cats_n, pm_cats_l, pm_cats_d, sz_1, sz_2, sl_1, sl_2, lc_0, lc_lt, lc_le, li_ne, va_rf, wr_m1, we_m1, pm_kill_w, Int32.reduceOfInt, Int64.reduceOfInt, Int32.reduceOfNat, Int32.reduceLT, Int32.reduceLE, Prod.mk.injEq, Nat.reduceEqDiff, reduceCtorEq, and_true, true_and, and_false, false_and, and_self, ite_true, ite_false, ↓reduceIte, not_true_eq_false, not_false_eq_true, pe_ri, pe_rz, pe_rc, p_throw, t514, w_junk hA, Cf_g0_0 hA, Cf_g0_2 hA, Cf_g0_3 hA, Cf_g0_4 hA, Cf_p0_4 hA, Cf_w12 hA, Cf_w13 hA, z1, eq_false k2, eq_false k5, k10]
      · rw [if_neg k4] at e; cases e
theorem x514  {A : wK → Nat} {h : pm_H} {D : Nat} {S : wS} {x1 : Int32} {x2 : Int32} {r : (Nat × wS) ⊕ (Int32 × wS)}  (hA : wok A Cf_d h.1) (hD : 2 ≤ D) (e : f514 S x1 x2 = some r) : pm_call pm_prog D 514 [.ref (A (0, 0, 0)), .int x1, .int x2] (wput A Cf_d S h) = some (match (generalizing := false) r with | .inl (c, S1) => (Outcome.threw c, (wput A Cf_d S1 (pm_new h 6 (.inr (c, []))))) | .inr (w0, S1) => (Outcome.returned (some (.int w0)), (wput A Cf_d S1 h))) := by
  obtain ⟨D, rfl⟩ : ∃ D', D = D' + 1 := ⟨D - 1, by omega⟩
  have hD : 1 ≤ D := by omega
  simp only [f514] at e
  rw [c514 (Cf_c0 hA), b514_0]
  by_cases k1 : (S.1 (0, 0, 0) 4) < 24
  · rw [if_pos k1] at e
    have k2 := y514_2 (h := h) hA hD e
    simp -implicitDefEqProofs (disch := first | assumption | exact Nat.le_of_ble_eq_true rfl | decide) only [b514_0, g514_1, b514_1, g514_3, b514_3, pe_aload0, pe_getfield, pe_sipush, pe_icmp_ge, pe_goto, pe_goto_w, pe_call1, pm_af_ret, pm_af_void, pm_af_thr, pe_iload1, pe_icmp_lt, pe_idiv, pe_icmp_gt, pe_iload2, pe_i2l, pe_bipush, pe_call3, pe_if_eq, pe_iastore, pe_call2, pe_istore3, pe_dup_i, pe_dup_r, pe_dup_x1_ii, pe_dup_x1_ir, pe_dup_x1_ri, pe_dup_x1_rr, pe_iadd, pe_putfield, pm_prog_1, pm_ob_some, Nat.reduceDiv, Nat.reduceMod, Nat.reduceMul, Nat.reduceAdd, Int.reduceToNat, pm_kill_i, pm_kill_r, pm_kill_n, pm_kill_j, pm_kill_l, pm_kill_d, pm_cats_nil, pm_cats_i, pm_cats_r, pm_cats_n, pm_cats_l, pm_cats_d, sz_1, sz_2, sl_1, sl_2, lc_0, lc_lt, lc_le, li_ne, va_rf, wr_m1, we_m1, pm_kill_w, Int32.reduceOfInt, Int64.reduceOfInt, Int32.reduceOfNat, Int32.reduceLT, Int32.reduceLE, Prod.mk.injEq, Nat.reduceEqDiff, reduceCtorEq, and_true, true_and, and_false, false_and, and_self, ite_true, ite_false, ↓reduceIte, not_true_eq_false, not_false_eq_true, pe_ri, pe_rz, pe_rc, p_throw, t514, w_junk hA, Cf_g0_0 hA, Cf_g0_2 hA, Cf_g0_3 hA, Cf_g0_4 hA, Cf_p0_4 hA, Cf_w12 hA, Cf_w13 hA, eq_true k1, k2]
  · rw [if_neg k1] at e
    have k3 := y514_2 (h := h) hA hD e
    simp -implicitDefEqProofs (disch := first | assumption | exact Nat.le_of_ble_eq_true rfl | decide) only [b514_0, g514_1, b514_1, g514_3, b514_3, pe_aload0, pe_getfield, pe_sipush, pe_icmp_ge, pe_goto, pe_goto_w, pe_call1, pm_af_ret, pm_af_void, pm_af_thr, pe_iload1, pe_icmp_lt, pe_idiv, pe_icmp_gt, pe_iload2, pe_i2l, pe_bipush, pe_call3, pe_if_eq, pe_iastore, pe_call2, pe_istore3, pe_dup_i, pe_dup_r, pe_dup_x1_ii, pe_dup_x1_ir, pe_dup_x1_ri, pe_dup_x1_rr, pe_iadd, pe_putfield, pm_prog_1, pm_ob_some, Nat.reduceDiv, Nat.reduceMod, Nat.reduceMul, Nat.reduceAdd, Int.reduceToNat, pm_kill_i, pm_kill_r, pm_kill_n, pm_kill_j, pm_kill_l, pm_kill_d, pm_cats_nil, pm_cats_i, pm_cats_r, pm_cats_n, pm_cats_l, pm_cats_d, sz_1, sz_2, sl_1, sl_2, lc_0, lc_lt, lc_le, li_ne, va_rf, wr_m1, we_m1, pm_kill_w, Int32.reduceOfInt, Int64.reduceOfInt, Int32.reduceOfNat, Int32.reduceLT, Int32.reduceLE, Prod.mk.injEq, Nat.reduceEqDiff, reduceCtorEq, and_true, true_and, and_false, false_and, and_self, ite_true, ite_false, ↓reduceIte, not_true_eq_false, not_false_eq_true, pe_ri, pe_rz, pe_rc, p_throw, t514, w_junk hA, Cf_g0_0 hA, Cf_g0_2 hA, Cf_g0_3 hA, Cf_g0_4 hA, Cf_p0_4 hA, Cf_w12 hA, Cf_w13 hA, eq_false k1, k3]
/-- TimberHouse$FingerLengths.there(Z)V -/
theorem c520 {d : Nat} {h : pm_H} {x0 : Int32} : pm_call pm_prog (d + 1) 520 [.int x0] h = pm_ev pm_prog (pm_call pm_prog d) 520 0 b520_0 [.int x0] [] h := pm_cal (pm_rc0 rfl) rfl rfl rfl
theorem g520_1 {cl : pm_C} {ls st : List Value} {h : pm_H} : pm_go pm_prog cl 520 1 ls st h = pm_ev pm_prog cl 520 1 b520_1 ls st h := pm_go_eq pm_prog cl 520 1 ls st h
theorem t520 {cl : pm_C} {j : Nat} {ls : List Value} {c : Nat} {h : pm_H} : pm_thr pm_prog cl 520 j ls c h = some (.threw c, h) := rfl
/-- TimberHouse$FingerLengths.there(Z)V -/
noncomputable def f520 (x0 : Int32) : Option (Nat ⊕ (Unit)) :=
  if x0 = 0 then
    some (.inl 67)
  else
    some (.inr ())
theorem x520 {h : pm_H} {D : Nat} {x0 : Int32} {r : Nat ⊕ (Unit)} (hD : 1 ≤ D) (e : f520 x0 = some r) : pm_call pm_prog D 520 [.int x0] h = some (match (generalizing := false) r with | .inl c => (Outcome.threw c, (pm_new h 6 (.inr (c, [])))) | .inr _ => (Outcome.returned none, h)) := by
  obtain ⟨D, rfl⟩ : ∃ D', D = D' + 1 := ⟨D - 1, by omega⟩
  have hD : 0 ≤ D := by omega
  simp only [f520] at e
  rw [c520, b520_0]
  by_cases k1 : x0 = 0
  · rw [if_pos k1] at e
    have e := Option.some.inj e; subst e
    simp -implicitDefEqProofs (disch := first | assumption | exact Nat.le_of_ble_eq_true rfl | decide) only [b520_0, g520_1, b520_1, pe_iload0, pe_if_ne, pe_return, pm_prog_1, pm_ob_some, Nat.reduceDiv, Nat.reduceMod, Nat.reduceMul, Nat.reduceAdd, Int.reduceToNat, pm_kill_i, pm_kill_r, pm_kill_n, pm_kill_j, pm_kill_l, pm_kill_d, pm_cats_nil, pm_cats_i, pm_cats_r, pm_cats_n, pm_cats_l, pm_cats_d, sz_1, sz_2, sl_1, sl_2, lc_0, lc_lt, lc_le, li_ne, va_rf, wr_m1, we_m1, pm_kill_w, Int32.reduceOfInt, Int64.reduceOfInt, Int32.reduceOfNat, Int32.reduceLT, Int32.reduceLE, Prod.mk.injEq, Nat.reduceEqDiff, reduceCtorEq, and_true, true_and, and_false, false_and, and_self, ite_true, ite_false, ↓reduceIte, not_true_eq_false, not_false_eq_true, pe_ri, pe_rz, pe_rc, p_throw, t520, eq_true k1]
  · rw [if_neg k1] at e
    have e := Option.some.inj e; subst e
    simp -implicitDefEqProofs (disch := first | assumption | exact Nat.le_of_ble_eq_true rfl | decide) only [b520_0, g520_1, b520_1, pe_iload0, pe_if_ne, pe_return, pm_prog_1, pm_ob_some, Nat.reduceDiv, Nat.reduceMod, Nat.reduceMul, Nat.reduceAdd, Int.reduceToNat, pm_kill_i, pm_kill_r, pm_kill_n, pm_kill_j, pm_kill_l, pm_kill_d, pm_cats_nil, pm_cats_i, pm_cats_r, pm_cats_n, pm_cats_l, pm_cats_d, sz_1, sz_2, sl_1, sl_2, lc_0, lc_lt, lc_le, li_ne, va_rf, wr_m1, we_m1, pm_kill_w, Int32.reduceOfInt, Int64.reduceOfInt, Int32.reduceOfNat, Int32.reduceLT, Int32.reduceLE, Prod.mk.injEq, Nat.reduceEqDiff, reduceCtorEq, and_true, true_and, and_false, false_and, and_self, ite_true, ite_false, ↓reduceIte, not_true_eq_false, not_false_eq_true, pe_ri, pe_rz, pe_rc, p_throw, t520, eq_false k1]
/-- TimberHouse$FingerLengths.worth(I)J -/
theorem c519 {d : Nat} {h : pm_H} {a : Nat} {x0 : Int32} (hc : pm_cls h a = some 8) : pm_call pm_prog (d + 1) 519 [.ref a, .int x0] h = pm_ev pm_prog (pm_call pm_prog d) 519 0 b519_0 [.ref a, .int x0, pm_junk] [] h := pm_cal (pm_rc1 hc rfl) rfl rfl rfl
theorem g519_1 {cl : pm_C} {ls st : List Value} {h : pm_H} : pm_go pm_prog cl 519 1 ls st h = pm_ev pm_prog cl 519 1 b519_1 ls st h := pm_go_eq pm_prog cl 519 1 ls st h
theorem g519_2 {cl : pm_C} {ls st : List Value} {h : pm_H} : pm_go pm_prog cl 519 2 ls st h = pm_ev pm_prog cl 519 2 b519_2 ls st h := pm_go_eq pm_prog cl 519 2 ls st h
theorem g519_3 {cl : pm_C} {ls st : List Value} {h : pm_H} : pm_go pm_prog cl 519 3 ls st h = pm_ev pm_prog cl 519 3 b519_3 ls st h := pm_go_eq pm_prog cl 519 3 ls st h
theorem t519 {cl : pm_C} {j : Nat} {ls : List Value} {c : Nat} {h : pm_H} : pm_thr pm_prog cl 519 j ls c h = some (.threw c, h) := rfl
/-- TimberHouse$FingerLengths.worth(I)J -/
noncomputable def f519 (S : wS) (x1 : Int32) : Option (Nat ⊕ (Int64)) :=
  (f515 (S.1 (0, 0, 0) 20)).bind fun r => match r with
  | .inl c3 =>
    some (.inl c3)
  | .inr _ =>
  (f516 (Int32.toInt64 x1) 0 2).bind fun v1 =>
  (f520 v1).bind fun r => match r with
  | .inl c2 =>
    some (.inl c2)
  | .inr _ =>
  if x1 = 0 then
    some (.inr (S.2 (3, 0, 0) 0))
  else
    if x1 = 1 then
      some (.inr (Int32.toInt64 (S.1 (3, 0, 0) 1)))
    else
      some (.inr (Int32.toInt64 (S.1 (3, 0, 0) 2)))
theorem x519  {A : wK → Nat} {h : pm_H} {D : Nat} {S : wS} {x1 : Int32} {r : Nat ⊕ (Int64)}  (hA : wok A Cf_d h.1) (hD : 2 ≤ D) (e : f519 S x1 = some r) : pm_call pm_prog D 519 [.ref (A (0, 0, 0)), .int x1] (wput A Cf_d S h) = some (match (generalizing := false) r with | .inl c => (Outcome.threw c, (wput A Cf_d S (pm_new h 6 (.inr (c, []))))) | .inr w0 => (Outcome.returned (some (.long w0)), (wput A Cf_d S h))) := by
  obtain ⟨D, rfl⟩ : ∃ D', D = D' + 1 := ⟨D - 1, by omega⟩
  have hD : 1 ≤ D := by omega
  simp only [f519] at e
  rw [c519 (Cf_c0 hA), b519_0]
  obtain ⟨r, k1, e⟩ := Option.bind_eq_some_iff.mp e
  have z1 := fun h => x515 (D := D) (h := h) (by omega) k1
  rcases r with c3 | _
  · dsimp only at e z1
    have e := Option.some.inj e; subst e
    simp -implicitDefEqProofs (disch := first | assumption | exact Nat.le_of_ble_eq_true rfl | decide) only [b519_0, g519_1, b519_1, g519_2, b519_2, g519_3, b519_3, pe_aload0, pe_getfield, pe_call1, pm_af_ret, pm_af_void, pm_af_thr, pe_iload1, pe_i2l, pe_bipush, pe_call3, pe_sipush, pe_aaload, pe_astore2, pe_if_ne, pe_aload2, pe_goto, pe_icmp_ne, pe_goto_w, pe_lreturn, pm_prog_1, pm_ob_some, Nat.reduceDiv, Nat.reduceMod, Nat.reduceMul, Nat.reduceAdd, Int.reduceToNat, pm_kill_i, pm_kill_r, pm_kill_n, pm_kill_j, pm_kill_l, pm_kill_d, pm_cats_nil, pm_cats_i, pm_cats_r, pm_cats_n, pm_cats_l, pm_cats_d, sz_1, sz_2, sl_1, sl_2, lc_0, lc_lt, lc_le, li_ne, va_rf, wr_m1, we_m1, pm_kill_w, Int32.reduceOfInt, Int64.reduceOfInt, Int32.reduceOfNat, Int32.reduceLT, Int32.reduceLE, Prod.mk.injEq, Nat.reduceEqDiff, reduceCtorEq, and_true, true_and, and_false, false_and, and_self, ite_true, ite_false, ↓reduceIte, not_true_eq_false, not_false_eq_true, pe_ri, pe_rz, pe_rc, p_throw, t519, w_junk hA, Cf_g0_14 hA, Cf_g0_20 hA, Cf_g3_0 hA, Cf_g3_1 hA, Cf_g3_2 hA, Cf_r1 hA, Cf_r2 hA, z1]
  · dsimp only at e z1
    obtain ⟨v1, k2, e⟩ := Option.bind_eq_some_iff.mp e
    try dsimp only at e
    have z2 := fun h => x516 (D := D) (h := h) (by omega) k2
    obtain ⟨r, k3, e⟩ := Option.bind_eq_some_iff.mp e
    have z3 := fun h => x520 (D := D) (h := h) (by omega) k3
    rcases r with c2 | _
    · dsimp only at e z3
      have e := Option.some.inj e; subst e
      simp -implicitDefEqProofs (disch := first | assumption | exact Nat.le_of_ble_eq_true rfl | decide) only [b519_0, g519_1, b519_1, g519_2, b519_2, g519_3, b519_3, pe_aload0, pe_getfield, pe_call1, pm_af_ret, pm_af_void, pm_af_thr, pe_iload1, pe_i2l, pe_bipush, pe_call3, pe_sipush, pe_aaload, pe_astore2, pe_if_ne, pe_aload2, pe_goto, pe_icmp_ne, pe_goto_w, pe_lreturn, pm_prog_1, pm_ob_some, Nat.reduceDiv, Nat.reduceMod, Nat.reduceMul, Nat.reduceAdd, Int.reduceToNat, pm_kill_i, pm_kill_r, pm_kill_n, pm_kill_j, pm_kill_l, pm_kill_d, pm_cats_nil, pm_cats_i, pm_cats_r, pm_cats_n, pm_cats_l, pm_cats_d, sz_1, sz_2, sl_1, sl_2, lc_0, lc_lt, lc_le, li_ne, va_rf, wr_m1, we_m1, pm_kill_w, Int32.reduceOfInt, Int64.reduceOfInt, Int32.reduceOfNat, Int32.reduceLT, Int32.reduceLE, Prod.mk.injEq, Nat.reduceEqDiff, reduceCtorEq, and_true, true_and, and_false, false_and, and_self, ite_true, ite_false, ↓reduceIte, not_true_eq_false, not_false_eq_true, pe_ri, pe_rz, pe_rc, p_throw, t519, w_junk hA, Cf_g0_14 hA, Cf_g0_20 hA, Cf_g3_0 hA, Cf_g3_1 hA, Cf_g3_2 hA, Cf_r1 hA, Cf_r2 hA, z1, z2, z3]
    · dsimp only at e z3
      by_cases k4 : x1 = 0
      · rw [if_pos k4] at e
        have e := Option.some.inj e; subst e
        simp -implicitDefEqProofs (disch := first | assumption | exact Nat.le_of_ble_eq_true rfl | decide) only [b519_0, g519_1, b519_1, g519_2, b519_2, g519_3, b519_3, pe_aload0, pe_getfield, pe_call1, pm_af_ret, pm_af_void, pm_af_thr, pe_iload1, pe_i2l, pe_bipush, pe_call3, pe_sipush, pe_aaload, pe_astore2, pe_if_ne, pe_aload2, pe_goto, pe_icmp_ne, pe_goto_w, pe_lreturn, pm_prog_1, pm_ob_some, Nat.reduceDiv, Nat.reduceMod, Nat.reduceMul, Nat.reduceAdd, Int.reduceToNat, pm_kill_i, pm_kill_r, pm_kill_n, pm_kill_j, pm_kill_l, pm_kill_d, pm_cats_nil, pm_cats_i, pm_cats_r, pm_cats_n, pm_cats_l, pm_cats_d, sz_1, sz_2, sl_1, sl_2, lc_0, lc_lt, lc_le, li_ne, va_rf, wr_m1, we_m1, pm_kill_w, Int32.reduceOfInt, Int64.reduceOfInt, Int32.reduceOfNat, Int32.reduceLT, Int32.reduceLE, Prod.mk.injEq, Nat.reduceEqDiff, reduceCtorEq, and_true, true_and, and_false, false_and, and_self, ite_true, ite_false, ↓reduceIte, not_true_eq_false, not_false_eq_true, pe_ri, pe_rz, pe_rc, p_throw, t519, w_junk hA, Cf_g0_14 hA, Cf_g0_20 hA, Cf_g3_0 hA, Cf_g3_1 hA, Cf_g3_2 hA, Cf_r1 hA, Cf_r2 hA, z1, z2, z3, eq_true k4]
      · rw [if_neg k4] at e
        by_cases k5 : x1 = 1
        · rw [if_pos k5] at e
          have e := Option.some.inj e; subst e
          simp -implicitDefEqProofs (disch := first | assumption | exact Nat.le_of_ble_eq_true rfl | decide) only [b519_0, g519_1, b519_1, g519_2, b519_2, g519_3, b519_3, pe_aload0, pe_getfield, pe_call1, pm_af_ret, pm_af_void, pm_af_thr, pe_iload1, pe_i2l, pe_bipush, pe_call3, pe_sipush, pe_aaload, pe_astore2, pe_if_ne, pe_aload2, pe_goto, pe_icmp_ne, pe_goto_w, pe_lreturn, pm_prog_1, pm_ob_some, Nat.reduceDiv, Nat.reduceMod, Nat.reduceMul, Nat.reduceAdd, Int.reduceToNat, pm_kill_i, pm_kill_r, pm_kill_n, pm_kill_j, pm_kill_l, pm_kill_d, pm_cats_nil, pm_cats_i, pm_cats_r, pm_cats_n, pm_cats_l, pm_cats_d, sz_1, sz_2, sl_1, sl_2, lc_0, lc_lt, lc_le, li_ne, va_rf, wr_m1, we_m1, pm_kill_w, Int32.reduceOfInt, Int64.reduceOfInt, Int32.reduceOfNat, Int32.reduceLT, Int32.reduceLE, Prod.mk.injEq, Nat.reduceEqDiff, reduceCtorEq, and_true, true_and, and_false, false_and, and_self, ite_true, ite_false, ↓reduceIte, not_true_eq_false, not_false_eq_true, pe_ri, pe_rz, pe_rc, p_throw, t519, w_junk hA, Cf_g0_14 hA, Cf_g0_20 hA, Cf_g3_0 hA, Cf_g3_1 hA, Cf_g3_2 hA, Cf_r1 hA, Cf_r2 hA, z1, z2, z3, eq_false k4, eq_true k5]
        · rw [if_neg k5] at e
          have e := Option.some.inj e; subst e
          simp -implicitDefEqProofs (disch := first | assumption | exact Nat.le_of_ble_eq_true rfl | decide) only [b519_0, g519_1, b519_1, g519_2, b519_2, g519_3, b519_3, pe_aload0, pe_getfield, pe_call1, pm_af_ret, pm_af_void, pm_af_thr, pe_iload1, pe_i2l, pe_bipush, pe_call3, pe_sipush, pe_aaload, pe_astore2, pe_if_ne, pe_aload2, pe_goto, pe_icmp_ne, pe_goto_w, pe_lreturn, pm_prog_1, pm_ob_some, Nat.reduceDiv, Nat.reduceMod, Nat.reduceMul, Nat.reduceAdd, Int.reduceToNat, pm_kill_i, pm_kill_r, pm_kill_n, pm_kill_j, pm_kill_l, pm_kill_d, pm_cats_nil, pm_cats_i, pm_cats_r, pm_cats_n, pm_cats_l, pm_cats_d, sz_1, sz_2, sl_1, sl_2, lc_0, lc_lt, lc_le, li_ne, va_rf, wr_m1, we_m1, pm_kill_w, Int32.reduceOfInt, Int64.reduceOfInt, Int32.reduceOfNat, Int32.reduceLT, Int32.reduceLE, Prod.mk.injEq, Nat.reduceEqDiff, reduceCtorEq, and_true, true_and, and_false, false_and, and_self, ite_true, ite_false, ↓reduceIte, not_true_eq_false, not_false_eq_true, pe_ri, pe_rz, pe_rc, p_throw, t519, w_junk hA, Cf_g0_14 hA, Cf_g0_20 hA, Cf_g3_0 hA, Cf_g3_1 hA, Cf_g3_2 hA, Cf_r1 hA, Cf_r2 hA, z1, z2, z3, eq_false k4, eq_false k5]
/-- TimberHouse$FingerLengths.want(IJ)Z -/
theorem c521 {d : Nat} {h : pm_H} {a : Nat} {x0 : Int32} {x1 : Int64} (hc : pm_cls h a = some 8) : pm_call pm_prog (d + 1) 521 [.ref a, .int x0, .long x1] h = pm_ev pm_prog (pm_call pm_prog d) 521 0 b521_0 [.ref a, .int x0, .long x1, pm_junk] [] h := pm_cal (pm_rc1 hc rfl) rfl rfl rfl
theorem g521_1 {cl : pm_C} {ls st : List Value} {h : pm_H} : pm_go pm_prog cl 521 1 ls st h = pm_ev pm_prog cl 521 1 b521_1 ls st h := pm_go_eq pm_prog cl 521 1 ls st h
theorem g521_2 {cl : pm_C} {ls st : List Value} {h : pm_H} : pm_go pm_prog cl 521 2 ls st h = pm_ev pm_prog cl 521 2 b521_2 ls st h := pm_go_eq pm_prog cl 521 2 ls st h
theorem g521_3 {cl : pm_C} {ls st : List Value} {h : pm_H} : pm_go pm_prog cl 521 3 ls st h = pm_ev pm_prog cl 521 3 b521_3 ls st h := pm_go_eq pm_prog cl 521 3 ls st h
theorem t521 {cl : pm_C} {j : Nat} {ls : List Value} {c : Nat} {h : pm_H} : pm_thr pm_prog cl 521 j ls c h = some (.threw c, h) := rfl
noncomputable def f521_2 (S : wS) (x1 : Int32) (x2 : Int64) (y0 : Int32) : Option ((Nat × wS) ⊕ (Int32 × wS)) :=
  (f517 y0).bind fun r => match r with
  | .inl c3 =>
    some (.inl (c3, S))
  | .inr _ =>
  if (S.1 (0, 0, 0) 7) = 6 then
    some (.inr (0, S))
  else
    if ¬ (S.1 (0, 0, 0) 0) = 0 then
      if 0 ≤ (S.1 (0, 0, 0) 7) ∧ (S.1 (0, 0, 0) 7) < 6 then
        (f518 (sl (sz (sz S (15, 0, 0) (S.1 (0, 0, 0) 7) (x1 / (S.1 (0, 0, 0) 0))) (0, 0, 0) 7 ((S.1 (0, 0, 0) 7) + 1)) (16, 0, 0) (S.1 (0, 0, 0) 7) x2) 1).bind fun (v1, S2) =>
        if v1 = 0 ∨ v1 = 1 then
          some (.inr (v1, S2))
        else none
      else none
    else none
/-- TimberHouse$FingerLengths.want(IJ)Z -/
noncomputable def f521 (S : wS) (x1 : Int32) (x2 : Int64) : Option ((Nat × wS) ⊕ (Int32 × wS)) :=
  if x1 < 1 then
    f521_2 S x1 x2 0
  else
    if ¬ (S.1 (0, 0, 0) 0) = 0 then
      (f516 (Int32.toInt64 (x1 / (S.1 (0, 0, 0) 0))) 1 120).bind fun v4 =>
      if v4 = 0 then
        f521_2 S x1 x2 0
      else
        (f516 x2 1 100000).bind fun v5 =>
        if v5 = 0 then
          f521_2 S x1 x2 0
        else
          f521_2 S x1 x2 1
    else none
theorem y521_2  {A : wK → Nat} {h : pm_H} {D : Nat} {S : wS} {x1 : Int32} {x2 : Int64} {y0 : Int32} {r : (Nat × wS) ⊕ (Int32 × wS)}  (hA : wok A Cf_d h.1) (hD : 1 ≤ D) (e : f521_2 S x1 x2 y0 = some r) : pm_go pm_prog (pm_call pm_prog D) 521 2 [.ref (A (0, 0, 0)), .int x1, .long x2, pm_junk] [.int y0] (wput A Cf_d S h) = some (match (generalizing := false) r with | .inl (c, S1) => (Outcome.threw c, (wput A Cf_d S1 (pm_new h 6 (.inr (c, []))))) | .inr (w0, S1) => (Outcome.returned (some (.int w0)), (wput A Cf_d S1 h))) := by
  simp only [f521_2] at e
  rw [g521_2, b521_2]
  obtain ⟨r, k1, e⟩ := Option.bind_eq_some_iff.mp e
  have z1 := fun h => x517 (D := D) (h := h) (by omega) k1
  rcases r with c3 | _
  · dsimp only at e z1
    have e := Option.some.inj e; subst e
    simp -implicitDefEqProofs (disch := first | assumption | exact Nat.le_of_ble_eq_true rfl | decide) only [b521_0, g521_1, b521_1, g521_3, b521_3, pe_iload1, pe_sipush, pe_icmp_lt, pe_aload0, pe_getfield, pe_idiv, pe_i2l, pe_bipush, pe_call3, pm_af_ret, pm_af_void, pm_af_thr, pe_if_eq, pe_lload2, pe_goto, pe_goto_w, pe_call1, pe_icmp_ne, pe_iastore, pe_dup_i, pe_dup_r, pe_dup_x1_ii, pe_dup_x1_ir, pe_dup_x1_ri, pe_dup_x1_rr, pe_iadd, pe_putfield, pe_lastore, pe_call2, pm_prog_1, pm_ob_some, Nat.reduceDiv, Nat.reduceMod, Nat.reduceMul, Nat.reduceAdd, Int.reduceToNat, pm_kill_i, pm_kill_r, pm_kill_n, pm_kill_j, pm_kill_l, pm_kill_d, pm_cats_nil, pm_cats_i, pm_cats_r, pm_cats_n, pm_cats_l, pm_cats_d, sz_1, sz_2, sl_1, sl_2, lc_0, lc_lt, lc_le, li_ne, va_rf, wr_m1, we_m1, pm_kill_w, Int32.reduceOfInt, Int64.reduceOfInt, Int32.reduceOfNat, Int32.reduceLT, Int32.reduceLE, Prod.mk.injEq, Nat.reduceEqDiff, reduceCtorEq, and_true, true_and, and_false, false_and, and_self, ite_true, ite_false, ↓reduceIte, not_true_eq_false, not_false_eq_true, pe_ri, pe_rz, pe_rc, p_throw, t521, w_junk hA, Cf_g0_0 hA, Cf_g0_5 hA, Cf_g0_6 hA, Cf_g0_7 hA, Cf_p0_7 hA, Cf_w15 hA, Cf_w16 hA, z1]
  · dsimp only at e z1
    by_cases k2 : (S.1 (0, 0, 0) 7) = 6
    · rw [if_pos k2] at e
      have e := Option.some.inj e; subst e
      simp -implicitDefEqProofs (disch := first | assumption | exact Nat.le_of_ble_eq_true rfl | decide) only [b521_0, g521_1, b521_1, g521_3, b521_3, pe_iload1, pe_sipush, pe_icmp_lt, pe_aload0, pe_getfield, pe_idiv, pe_i2l, pe_bipush, pe_call3, pm_af_ret, pm_af_void, pm_af_thr, pe_if_eq, pe_lload2, pe_goto, pe_goto_w, pe_call1, pe_icmp_ne, pe_iastore, pe_dup_i, pe_dup_r, pe_dup_x1_ii, pe_dup_x1_ir, pe_dup_x1_ri, pe_dup_x1_rr, pe_iadd, pe_putfield, pe_lastore, pe_call2, pm_prog_1, pm_ob_some, Nat.reduceDiv, Nat.reduceMod, Nat.reduceMul, Nat.reduceAdd, Int.reduceToNat, pm_kill_i, pm_kill_r, pm_kill_n, pm_kill_j, pm_kill_l, pm_kill_d, pm_cats_nil, pm_cats_i, pm_cats_r, pm_cats_n, pm_cats_l, pm_cats_d, sz_1, sz_2, sl_1, sl_2, lc_0, lc_lt, lc_le, li_ne, va_rf, wr_m1, we_m1, pm_kill_w, Int32.reduceOfInt, Int64.reduceOfInt, Int32.reduceOfNat, Int32.reduceLT, Int32.reduceLE, Prod.mk.injEq, Nat.reduceEqDiff, reduceCtorEq, and_true, true_and, and_false, false_and, and_self, ite_true, ite_false, ↓reduceIte, not_true_eq_false, not_false_eq_true, pe_ri, pe_rz, pe_rc, p_throw, t521, w_junk hA, Cf_g0_0 hA, Cf_g0_5 hA, Cf_g0_6 hA, Cf_g0_7 hA, Cf_p0_7 hA, Cf_w15 hA, Cf_w16 hA, z1, eq_true k2]
    · rw [if_neg k2] at e
      by_cases k3 : ¬ (S.1 (0, 0, 0) 0) = 0
      · rw [if_pos k3] at e
        by_cases k4 : 0 ≤ (S.1 (0, 0, 0) 7) ∧ (S.1 (0, 0, 0) 7) < 6
        · rw [if_pos k4] at e
          obtain ⟨⟨v1, S2⟩, k5, e⟩ := Option.bind_eq_some_iff.mp e
          try dsimp only at e
          have z5 := x518 (D := D) (h := h) hA (by omega) k5
          dsimp only at z5
          by_cases k6 : v1 = 0 ∨ v1 = 1
          · rw [if_pos k6] at e
            have e := Option.some.inj e; subst e
            simp -implicitDefEqProofs (disch := first | assumption | exact Nat.le_of_ble_eq_true rfl | decide) only [b521_0, g521_1, b521_1, g521_3, b521_3, pe_iload1, pe_sipush, pe_icmp_lt, pe_aload0, pe_getfield, pe_idiv, pe_i2l, pe_bipush, pe_call3, pm_af_ret, pm_af_void, pm_af_thr, pe_if_eq, pe_lload2, pe_goto, pe_goto_w, pe_call1, pe_icmp_ne, pe_iastore, pe_dup_i, pe_dup_r, pe_dup_x1_ii, pe_dup_x1_ir, pe_dup_x1_ri, pe_dup_x1_rr, pe_iadd, pe_putfield, pe_lastore, pe_call2, pm_prog_1, pm_ob_some, Nat.reduceDiv, Nat.reduceMod, Nat.reduceMul, Nat.reduceAdd, Int.reduceToNat, pm_kill_i, pm_kill_r, pm_kill_n, pm_kill_j, pm_kill_l, pm_kill_d, pm_cats_nil, pm_cats_i, pm_cats_r, pm_cats_n, pm_cats_l, pm_cats_d, sz_1, sz_2, sl_1, sl_2, lc_0, lc_lt, lc_le, li_ne, va_rf, wr_m1, we_m1, pm_kill_w, Int32.reduceOfInt, Int64.reduceOfInt, Int32.reduceOfNat, Int32.reduceLT, Int32.reduceLE, Prod.mk.injEq, Nat.reduceEqDiff, reduceCtorEq, and_true, true_and, and_false, false_and, and_self, ite_true, ite_false, ↓reduceIte, not_true_eq_false, not_false_eq_true, pe_ri, pe_rz, pe_rc, p_throw, t521, w_junk hA, Cf_g0_0 hA, Cf_g0_5 hA, Cf_g0_6 hA, Cf_g0_7 hA, Cf_p0_7 hA, Cf_w15 hA, Cf_w16 hA, z1, eq_false k2, z5]
          · rw [if_neg k6] at e; cases e
        · rw [if_neg k4] at e; cases e
      · rw [if_neg k3] at e; cases e
theorem x521  {A : wK → Nat} {h : pm_H} {D : Nat} {S : wS} {x1 : Int32} {x2 : Int64} {r : (Nat × wS) ⊕ (Int32 × wS)}  (hA : wok A Cf_d h.1) (hD : 2 ≤ D) (e : f521 S x1 x2 = some r) : pm_call pm_prog D 521 [.ref (A (0, 0, 0)), .int x1, .long x2] (wput A Cf_d S h) = some (match (generalizing := false) r with | .inl (c, S1) => (Outcome.threw c, (wput A Cf_d S1 (pm_new h 6 (.inr (c, []))))) | .inr (w0, S1) => (Outcome.returned (some (.int w0)), (wput A Cf_d S1 h))) := by
  obtain ⟨D, rfl⟩ : ∃ D', D = D' + 1 := ⟨D - 1, by omega⟩
  have hD : 1 ≤ D := by omega
  simp only [f521] at e
  rw [c521 (Cf_c0 hA), b521_0]
  by_cases k1 : x1 < 1
  · rw [if_pos k1] at e
    have k2 := y521_2 (h := h) hA hD e
    simp -implicitDefEqProofs (disch := first | assumption | exact Nat.le_of_ble_eq_true rfl | decide) only [b521_0, g521_1, b521_1, g521_3, b521_3, pe_iload1, pe_sipush, pe_icmp_lt, pe_aload0, pe_getfield, pe_idiv, pe_i2l, pe_bipush, pe_call3, pm_af_ret, pm_af_void, pm_af_thr, pe_if_eq, pe_lload2, pe_goto, pe_goto_w, pe_call1, pe_icmp_ne, pe_iastore, pe_dup_i, pe_dup_r, pe_dup_x1_ii, pe_dup_x1_ir, pe_dup_x1_ri, pe_dup_x1_rr, pe_iadd, pe_putfield, pe_lastore, pe_call2, pm_prog_1, pm_ob_some, Nat.reduceDiv, Nat.reduceMod, Nat.reduceMul, Nat.reduceAdd, Int.reduceToNat, pm_kill_i, pm_kill_r, pm_kill_n, pm_kill_j, pm_kill_l, pm_kill_d, pm_cats_nil, pm_cats_i, pm_cats_r, pm_cats_n, pm_cats_l, pm_cats_d, sz_1, sz_2, sl_1, sl_2, lc_0, lc_lt, lc_le, li_ne, va_rf, wr_m1, we_m1, pm_kill_w, Int32.reduceOfInt, Int64.reduceOfInt, Int32.reduceOfNat, Int32.reduceLT, Int32.reduceLE, Prod.mk.injEq, Nat.reduceEqDiff, reduceCtorEq, and_true, true_and, and_false, false_and, and_self, ite_true, ite_false, ↓reduceIte, not_true_eq_false, not_false_eq_true, pe_ri, pe_rz, pe_rc, p_throw, t521, w_junk hA, Cf_g0_0 hA, Cf_g0_5 hA, Cf_g0_6 hA, Cf_g0_7 hA, Cf_p0_7 hA, Cf_w15 hA, Cf_w16 hA, eq_true k1, k2]
  · rw [if_neg k1] at e
    by_cases k3 : ¬ (S.1 (0, 0, 0) 0) = 0
    · rw [if_pos k3] at e
      obtain ⟨v4, k4, e⟩ := Option.bind_eq_some_iff.mp e
      try dsimp only at e
      have z4 := fun h => x516 (D := D) (h := h) (by omega) k4
      by_cases k5 : v4 = 0
      · rw [if_pos k5] at e
        have k6 := y521_2 (h := h) hA hD e
        simp -implicitDefEqProofs (disch := first | assumption | exact Nat.le_of_ble_eq_true rfl | decide) only [b521_0, g521_1, b521_1, g521_3, b521_3, pe_iload1, pe_sipush, pe_icmp_lt, pe_aload0, pe_getfield, pe_idiv, pe_i2l, pe_bipush, pe_call3, pm_af_ret, pm_af_void, pm_af_thr, pe_if_eq, pe_lload2, pe_goto, pe_goto_w, pe_call1, pe_icmp_ne, pe_iastore, pe_dup_i, pe_dup_r, pe_dup_x1_ii, pe_dup_x1_ir, pe_dup_x1_ri, pe_dup_x1_rr, pe_iadd, pe_putfield, pe_lastore, pe_call2, pm_prog_1, pm_ob_some, Nat.reduceDiv, Nat.reduceMod, Nat.reduceMul, Nat.reduceAdd, Int.reduceToNat, pm_kill_i, pm_kill_r, pm_kill_n, pm_kill_j, pm_kill_l, pm_kill_d, pm_cats_nil, pm_cats_i, pm_cats_r, pm_cats_n, pm_cats_l, pm_cats_d, sz_1, sz_2, sl_1, sl_2, lc_0, lc_lt, lc_le, li_ne, va_rf, wr_m1, we_m1, pm_kill_w, Int32.reduceOfInt, Int64.reduceOfInt, Int32.reduceOfNat, Int32.reduceLT, Int32.reduceLE, Prod.mk.injEq, Nat.reduceEqDiff, reduceCtorEq, and_true, true_and, and_false, false_and, and_self, ite_true, ite_false, ↓reduceIte, not_true_eq_false, not_false_eq_true, pe_ri, pe_rz, pe_rc, p_throw, t521, w_junk hA, Cf_g0_0 hA, Cf_g0_5 hA, Cf_g0_6 hA, Cf_g0_7 hA, Cf_p0_7 hA, Cf_w15 hA, Cf_w16 hA, eq_false k1, z4, eq_true k5, k6]
      · rw [if_neg k5] at e
        obtain ⟨v5, k7, e⟩ := Option.bind_eq_some_iff.mp e
        try dsimp only at e
        have z7 := fun h => x516 (D := D) (h := h) (by omega) k7
        by_cases k8 : v5 = 0
        · rw [if_pos k8] at e
          have k9 := y521_2 (h := h) hA hD e
          simp -implicitDefEqProofs (disch := first | assumption | exact Nat.le_of_ble_eq_true rfl | decide) only [b521_0, g521_1, b521_1, g521_3, b521_3, pe_iload1, pe_sipush, pe_icmp_lt, pe_aload0, pe_getfield, pe_idiv, pe_i2l, pe_bipush, pe_call3, pm_af_ret, pm_af_void, pm_af_thr, pe_if_eq, pe_lload2, pe_goto, pe_goto_w, pe_call1, pe_icmp_ne, pe_iastore, pe_dup_i, pe_dup_r, pe_dup_x1_ii, pe_dup_x1_ir, pe_dup_x1_ri, pe_dup_x1_rr, pe_iadd, pe_putfield, pe_lastore, pe_call2, pm_prog_1, pm_ob_some, Nat.reduceDiv, Nat.reduceMod, Nat.reduceMul, Nat.reduceAdd, Int.reduceToNat, pm_kill_i, pm_kill_r, pm_kill_n, pm_kill_j, pm_kill_l, pm_kill_d, pm_cats_nil, pm_cats_i, pm_cats_r, pm_cats_n, pm_cats_l, pm_cats_d, sz_1, sz_2, sl_1, sl_2, lc_0, lc_lt, lc_le, li_ne, va_rf, wr_m1, we_m1, pm_kill_w, Int32.reduceOfInt, Int64.reduceOfInt, Int32.reduceOfNat, Int32.reduceLT, Int32.reduceLE, Prod.mk.injEq, Nat.reduceEqDiff, reduceCtorEq, and_true, true_and, and_false, false_and, and_self, ite_true, ite_false, ↓reduceIte, not_true_eq_false, not_false_eq_true, pe_ri, pe_rz, pe_rc, p_throw, t521, w_junk hA, Cf_g0_0 hA, Cf_g0_5 hA, Cf_g0_6 hA, Cf_g0_7 hA, Cf_p0_7 hA, Cf_w15 hA, Cf_w16 hA, eq_false k1, z4, eq_false k5, z7, eq_true k8, k9]
        · rw [if_neg k8] at e
          have k10 := y521_2 (h := h) hA hD e
          simp -implicitDefEqProofs (disch := first | assumption | exact Nat.le_of_ble_eq_true rfl | decide) only [b521_0, g521_1, b521_1, g521_3, b521_3, pe_iload1, pe_sipush, pe_icmp_lt, pe_aload0, pe_getfield, pe_idiv, pe_i2l, pe_bipush, pe_call3, pm_af_ret, pm_af_void, pm_af_thr, pe_if_eq, pe_lload2, pe_goto, pe_goto_w, pe_call1, pe_icmp_ne, pe_iastore, pe_dup_i, pe_dup_r, pe_dup_x1_ii, pe_dup_x1_ir, pe_dup_x1_ri, pe_dup_x1_rr, pe_iadd, pe_putfield, pe_lastore, pe_call2, pm_prog_1, pm_ob_some, Nat.reduceDiv, Nat.reduceMod, Nat.reduceMul, Nat.reduceAdd, Int.reduceToNat, pm_kill_i, pm_kill_r, pm_kill_n, pm_kill_j, pm_kill_l, pm_kill_d, pm_cats_nil, pm_cats_i, pm_cats_r, pm_cats_n, pm_cats_l, pm_cats_d, sz_1, sz_2, sl_1, sl_2, lc_0, lc_lt, lc_le, li_ne, va_rf, wr_m1, we_m1, pm_kill_w, Int32.reduceOfInt, Int64.reduceOfInt, Int32.reduceOfNat, Int32.reduceLT, Int32.reduceLE, Prod.mk.injEq, Nat.reduceEqDiff, reduceCtorEq, and_true, true_and, and_false, false_and, and_self, ite_true, ite_false, ↓reduceIte, not_true_eq_false, not_false_eq_true, pe_ri, pe_rz, pe_rc, p_throw, t521, w_junk hA, Cf_g0_0 hA, Cf_g0_5 hA, Cf_g0_6 hA, Cf_g0_7 hA, Cf_p0_7 hA, Cf_w15 hA, Cf_w16 hA, eq_false k1, z4, eq_false k5, z7, eq_false k8, k10]
    · rw [if_neg k3] at e; cases e
/-- TimberHouse$FingerLengths.bar(II)Z -/
theorem c522 {d : Nat} {h : pm_H} {a : Nat} {x0 : Int32} {x1 : Int32} (hc : pm_cls h a = some 8) : pm_call pm_prog (d + 1) 522 [.ref a, .int x0, .int x1] h = pm_ev pm_prog (pm_call pm_prog d) 522 0 b522_0 [.ref a, .int x0, .int x1] [] h := pm_cal (pm_rc1 hc rfl) rfl rfl rfl
theorem g522_1 {cl : pm_C} {ls st : List Value} {h : pm_H} : pm_go pm_prog cl 522 1 ls st h = pm_ev pm_prog cl 522 1 b522_1 ls st h := pm_go_eq pm_prog cl 522 1 ls st h
theorem g522_2 {cl : pm_C} {ls st : List Value} {h : pm_H} : pm_go pm_prog cl 522 2 ls st h = pm_ev pm_prog cl 522 2 b522_2 ls st h := pm_go_eq pm_prog cl 522 2 ls st h
theorem g522_3 {cl : pm_C} {ls st : List Value} {h : pm_H} : pm_go pm_prog cl 522 3 ls st h = pm_ev pm_prog cl 522 3 b522_3 ls st h := pm_go_eq pm_prog cl 522 3 ls st h
theorem t522 {cl : pm_C} {j : Nat} {ls : List Value} {c : Nat} {h : pm_H} : pm_thr pm_prog cl 522 j ls c h = some (.threw c, h) := rfl
noncomputable def f522_2 (S : wS) (x1 : Int32) (x2 : Int32) (y0 : Int32) : Option ((Nat × wS) ⊕ (Int32 × wS)) :=
  (f517 y0).bind fun r => match r with
  | .inl c3 =>
    some (.inl (c3, S))
  | .inr _ =>
  if (S.1 (0, 0, 0) 10) = 8 then
    some (.inr (0, S))
  else
    if 0 ≤ (S.1 (0, 0, 0) 10) ∧ (S.1 (0, 0, 0) 10) < 8 then
      (f518 (sl (sz (sl S (18, 0, 0) (S.1 (0, 0, 0) 10) (Int32.toInt64 x1)) (0, 0, 0) 10 ((S.1 (0, 0, 0) 10) + 1)) (19, 0, 0) (S.1 (0, 0, 0) 10) (Int32.toInt64 x2)) 1).bind fun (v1, S2) =>
      if v1 = 0 ∨ v1 = 1 then
        some (.inr (v1, S2))
      else none
    else none
/-- TimberHouse$FingerLengths.bar(II)Z -/
noncomputable def f522 (S : wS) (x1 : Int32) (x2 : Int32) : Option ((Nat × wS) ⊕ (Int32 × wS)) :=
  if x1 < 0 then
    f522_2 S x1 x2 0
  else
    if x2 ≤ x1 then
      f522_2 S x1 x2 0
    else
      f522_2 S x1 x2 1
theorem y522_2  {A : wK → Nat} {h : pm_H} {D : Nat} {S : wS} {x1 : Int32} {x2 : Int32} {y0 : Int32} {r : (Nat × wS) ⊕ (Int32 × wS)}  (hA : wok A Cf_d h.1) (hD : 1 ≤ D) (e : f522_2 S x1 x2 y0 = some r) : pm_go pm_prog (pm_call pm_prog D) 522 2 [.ref (A (0, 0, 0)), .int x1, .int x2] [.int y0] (wput A Cf_d S h) = some (match (generalizing := false) r with | .inl (c, S1) => (Outcome.threw c, (wput A Cf_d S1 (pm_new h 6 (.inr (c, []))))) | .inr (w0, S1) => (Outcome.returned (some (.int w0)), (wput A Cf_d S1 h))) := by
  simp only [f522_2] at e
  rw [g522_2, b522_2]
  obtain ⟨r, k1, e⟩ := Option.bind_eq_some_iff.mp e
  have z1 := fun h => x517 (D := D) (h := h) (by omega) k1
  rcases r with c3 | _
  · dsimp only at e z1
    have e := Option.some.inj e; subst e
    simp -implicitDefEqProofs (disch := first | assumption | exact Nat.le_of_ble_eq_true rfl | decide) only [b522_0, g522_1, b522_1, g522_3, b522_3, pe_iload1, pe_if_lt, pe_iload2, pe_icmp_le, pe_sipush, pe_goto, pe_goto_w, pe_call1, pm_af_ret, pm_af_void, pm_af_thr, pe_aload0, pe_getfield, pe_icmp_ne, pe_i2l, pe_lastore, pe_dup_i, pe_dup_r, pe_dup_x1_ii, pe_dup_x1_ir, pe_dup_x1_ri, pe_dup_x1_rr, pe_iadd, pe_putfield, pe_call2, pm_prog_1, pm_ob_some, Nat.reduceDiv, Nat.reduceMod, Nat.reduceMul, Nat.reduceAdd, Int.reduceToNat, pm_kill_i, pm_kill_r, pm_kill_n, pm_kill_j, pm_kill_l, pm_kill_d, pm_cats_nil, pm_cats_i, pm_cats_r, pm_cats_n, pm_cats_l, pm_cats_d, sz_1, sz_2, sl_1, sl_2, lc_0, lc_lt, lc_le, li_ne, va_rf, wr_m1, we_m1, pm_kill_w, Int32.reduceOfInt, Int64.reduceOfInt, Int32.reduceOfNat, Int32.reduceLT, Int32.reduceLE, Prod.mk.injEq, Nat.reduceEqDiff, reduceCtorEq, and_true, true_and, and_false, false_and, and_self, ite_true, ite_false, ↓reduceIte, not_true_eq_false, not_false_eq_true, pe_ri, pe_rz, pe_rc, p_throw, t522, w_junk hA, Cf_g0_10 hA, Cf_g0_8 hA, Cf_g0_9 hA, Cf_p0_10 hA, Cf_w18 hA, Cf_w19 hA, z1]
  · dsimp only at e z1
    by_cases k2 : (S.1 (0, 0, 0) 10) = 8
    · rw [if_pos k2] at e
      have e := Option.some.inj e; subst e
      simp -implicitDefEqProofs (disch := first | assumption | exact Nat.le_of_ble_eq_true rfl | decide) only [b522_0, g522_1, b522_1, g522_3, b522_3, pe_iload1, pe_if_lt, pe_iload2, pe_icmp_le, pe_sipush, pe_goto, pe_goto_w, pe_call1, pm_af_ret, pm_af_void, pm_af_thr, pe_aload0, pe_getfield, pe_icmp_ne, pe_i2l, pe_lastore, pe_dup_i, pe_dup_r, pe_dup_x1_ii, pe_dup_x1_ir, pe_dup_x1_ri, pe_dup_x1_rr, pe_iadd, pe_putfield, pe_call2, pm_prog_1, pm_ob_some, Nat.reduceDiv, Nat.reduceMod, Nat.reduceMul, Nat.reduceAdd, Int.reduceToNat, pm_kill_i, pm_kill_r, pm_kill_n, pm_kill_j, pm_kill_l, pm_kill_d, pm_cats_nil, pm_cats_i, pm_cats_r, pm_cats_n, pm_cats_l, pm_cats_d, sz_1, sz_2, sl_1, sl_2, lc_0, lc_lt, lc_le, li_ne, va_rf, wr_m1, we_m1, pm_kill_w, Int32.reduceOfInt, Int64.reduceOfInt, Int32.reduceOfNat, Int32.reduceLT, Int32.reduceLE, Prod.mk.injEq, Nat.reduceEqDiff, reduceCtorEq, and_true, true_and, and_false, false_and, and_self, ite_true, ite_false, ↓reduceIte, not_true_eq_false, not_false_eq_true, pe_ri, pe_rz, pe_rc, p_throw, t522, w_junk hA, Cf_g0_10 hA, Cf_g0_8 hA, Cf_g0_9 hA, Cf_p0_10 hA, Cf_w18 hA, Cf_w19 hA, z1, eq_true k2]
    · rw [if_neg k2] at e
      by_cases k3 : 0 ≤ (S.1 (0, 0, 0) 10) ∧ (S.1 (0, 0, 0) 10) < 8
      · rw [if_pos k3] at e
        obtain ⟨⟨v1, S2⟩, k4, e⟩ := Option.bind_eq_some_iff.mp e
        try dsimp only at e
        have z4 := x518 (D := D) (h := h) hA (by omega) k4
        dsimp only at z4
        by_cases k5 : v1 = 0 ∨ v1 = 1
        · rw [if_pos k5] at e
          have e := Option.some.inj e; subst e
          simp -implicitDefEqProofs (disch := first | assumption | exact Nat.le_of_ble_eq_true rfl | decide) only [b522_0, g522_1, b522_1, g522_3, b522_3, pe_iload1, pe_if_lt, pe_iload2, pe_icmp_le, pe_sipush, pe_goto, pe_goto_w, pe_call1, pm_af_ret, pm_af_void, pm_af_thr, pe_aload0, pe_getfield, pe_icmp_ne, pe_i2l, pe_lastore, pe_dup_i, pe_dup_r, pe_dup_x1_ii, pe_dup_x1_ir, pe_dup_x1_ri, pe_dup_x1_rr, pe_iadd, pe_putfield, pe_call2, pm_prog_1, pm_ob_some, Nat.reduceDiv, Nat.reduceMod, Nat.reduceMul, Nat.reduceAdd, Int.reduceToNat, pm_kill_i, pm_kill_r, pm_kill_n, pm_kill_j, pm_kill_l, pm_kill_d, pm_cats_nil, pm_cats_i, pm_cats_r, pm_cats_n, pm_cats_l, pm_cats_d, sz_1, sz_2, sl_1, sl_2, lc_0, lc_lt, lc_le, li_ne, va_rf, wr_m1, we_m1, pm_kill_w, Int32.reduceOfInt, Int64.reduceOfInt, Int32.reduceOfNat, Int32.reduceLT, Int32.reduceLE, Prod.mk.injEq, Nat.reduceEqDiff, reduceCtorEq, and_true, true_and, and_false, false_and, and_self, ite_true, ite_false, ↓reduceIte, not_true_eq_false, not_false_eq_true, pe_ri, pe_rz, pe_rc, p_throw, t522, w_junk hA, Cf_g0_10 hA, Cf_g0_8 hA, Cf_g0_9 hA, Cf_p0_10 hA, Cf_w18 hA, Cf_w19 hA, z1, eq_false k2, z4]
        · rw [if_neg k5] at e; cases e
      · rw [if_neg k3] at e; cases e
theorem x522  {A : wK → Nat} {h : pm_H} {D : Nat} {S : wS} {x1 : Int32} {x2 : Int32} {r : (Nat × wS) ⊕ (Int32 × wS)}  (hA : wok A Cf_d h.1) (hD : 2 ≤ D) (e : f522 S x1 x2 = some r) : pm_call pm_prog D 522 [.ref (A (0, 0, 0)), .int x1, .int x2] (wput A Cf_d S h) = some (match (generalizing := false) r with | .inl (c, S1) => (Outcome.threw c, (wput A Cf_d S1 (pm_new h 6 (.inr (c, []))))) | .inr (w0, S1) => (Outcome.returned (some (.int w0)), (wput A Cf_d S1 h))) := by
  obtain ⟨D, rfl⟩ : ∃ D', D = D' + 1 := ⟨D - 1, by omega⟩
  have hD : 1 ≤ D := by omega
  simp only [f522] at e
  rw [c522 (Cf_c0 hA), b522_0]
  by_cases k1 : x1 < 0
  · rw [if_pos k1] at e
    have k2 := y522_2 (h := h) hA hD e
    simp -implicitDefEqProofs (disch := first | assumption | exact Nat.le_of_ble_eq_true rfl | decide) only [b522_0, g522_1, b522_1, g522_3, b522_3, pe_iload1, pe_if_lt, pe_iload2, pe_icmp_le, pe_sipush, pe_goto, pe_goto_w, pe_call1, pm_af_ret, pm_af_void, pm_af_thr, pe_aload0, pe_getfield, pe_icmp_ne, pe_i2l, pe_lastore, pe_dup_i, pe_dup_r, pe_dup_x1_ii, pe_dup_x1_ir, pe_dup_x1_ri, pe_dup_x1_rr, pe_iadd, pe_putfield, pe_call2, pm_prog_1, pm_ob_some, Nat.reduceDiv, Nat.reduceMod, Nat.reduceMul, Nat.reduceAdd, Int.reduceToNat, pm_kill_i, pm_kill_r, pm_kill_n, pm_kill_j, pm_kill_l, pm_kill_d, pm_cats_nil, pm_cats_i, pm_cats_r, pm_cats_n, pm_cats_l, pm_cats_d, sz_1, sz_2, sl_1, sl_2, lc_0, lc_lt, lc_le, li_ne, va_rf, wr_m1, we_m1, pm_kill_w, Int32.reduceOfInt, Int64.reduceOfInt, Int32.reduceOfNat, Int32.reduceLT, Int32.reduceLE, Prod.mk.injEq, Nat.reduceEqDiff, reduceCtorEq, and_true, true_and, and_false, false_and, and_self, ite_true, ite_false, ↓reduceIte, not_true_eq_false, not_false_eq_true, pe_ri, pe_rz, pe_rc, p_throw, t522, w_junk hA, Cf_g0_10 hA, Cf_g0_8 hA, Cf_g0_9 hA, Cf_p0_10 hA, Cf_w18 hA, Cf_w19 hA, eq_true k1, k2]
  · rw [if_neg k1] at e
    by_cases k3 : x2 ≤ x1
    · rw [if_pos k3] at e
      have k4 := y522_2 (h := h) hA hD e
      simp -implicitDefEqProofs (disch := first | assumption | exact Nat.le_of_ble_eq_true rfl | decide) only [b522_0, g522_1, b522_1, g522_3, b522_3, pe_iload1, pe_if_lt, pe_iload2, pe_icmp_le, pe_sipush, pe_goto, pe_goto_w, pe_call1, pm_af_ret, pm_af_void, pm_af_thr, pe_aload0, pe_getfield, pe_icmp_ne, pe_i2l, pe_lastore, pe_dup_i, pe_dup_r, pe_dup_x1_ii, pe_dup_x1_ir, pe_dup_x1_ri, pe_dup_x1_rr, pe_iadd, pe_putfield, pe_call2, pm_prog_1, pm_ob_some, Nat.reduceDiv, Nat.reduceMod, Nat.reduceMul, Nat.reduceAdd, Int.reduceToNat, pm_kill_i, pm_kill_r, pm_kill_n, pm_kill_j, pm_kill_l, pm_kill_d, pm_cats_nil, pm_cats_i, pm_cats_r, pm_cats_n, pm_cats_l, pm_cats_d, sz_1, sz_2, sl_1, sl_2, lc_0, lc_lt, lc_le, li_ne, va_rf, wr_m1, we_m1, pm_kill_w, Int32.reduceOfInt, Int64.reduceOfInt, Int32.reduceOfNat, Int32.reduceLT, Int32.reduceLE, Prod.mk.injEq, Nat.reduceEqDiff, reduceCtorEq, and_true, true_and, and_false, false_and, and_self, ite_true, ite_false, ↓reduceIte, not_true_eq_false, not_false_eq_true, pe_ri, pe_rz, pe_rc, p_throw, t522, w_junk hA, Cf_g0_10 hA, Cf_g0_8 hA, Cf_g0_9 hA, Cf_p0_10 hA, Cf_w18 hA, Cf_w19 hA, eq_false k1, eq_true k3, k4]
    · rw [if_neg k3] at e
      have k5 := y522_2 (h := h) hA hD e
      simp -implicitDefEqProofs (disch := first | assumption | exact Nat.le_of_ble_eq_true rfl | decide) only [b522_0, g522_1, b522_1, g522_3, b522_3, pe_iload1, pe_if_lt, pe_iload2, pe_icmp_le, pe_sipush, pe_goto, pe_goto_w, pe_call1, pm_af_ret, pm_af_void, pm_af_thr, pe_aload0, pe_getfield, pe_icmp_ne, pe_i2l, pe_lastore, pe_dup_i, pe_dup_r, pe_dup_x1_ii, pe_dup_x1_ir, pe_dup_x1_ri, pe_dup_x1_rr, pe_iadd, pe_putfield, pe_call2, pm_prog_1, pm_ob_some, Nat.reduceDiv, Nat.reduceMod, Nat.reduceMul, Nat.reduceAdd, Int.reduceToNat, pm_kill_i, pm_kill_r, pm_kill_n, pm_kill_j, pm_kill_l, pm_kill_d, pm_cats_nil, pm_cats_i, pm_cats_r, pm_cats_n, pm_cats_l, pm_cats_d, sz_1, sz_2, sl_1, sl_2, lc_0, lc_lt, lc_le, li_ne, va_rf, wr_m1, we_m1, pm_kill_w, Int32.reduceOfInt, Int64.reduceOfInt, Int32.reduceOfNat, Int32.reduceLT, Int32.reduceLE, Prod.mk.injEq, Nat.reduceEqDiff, reduceCtorEq, and_true, true_and, and_false, false_and, and_self, ite_true, ite_false, ↓reduceIte, not_true_eq_false, not_false_eq_true, pe_ri, pe_rz, pe_rc, p_throw, t522, w_junk hA, Cf_g0_10 hA, Cf_g0_8 hA, Cf_g0_9 hA, Cf_p0_10 hA, Cf_w18 hA, Cf_w19 hA, eq_false k1, eq_false k3, k5]
/-- TimberHouse$FingerLengths.group(IZ)Z -/
theorem c523 {d : Nat} {h : pm_H} {a : Nat} {x0 : Int32} {x1 : Int32} (hc : pm_cls h a = some 8) : pm_call pm_prog (d + 1) 523 [.ref a, .int x0, .int x1] h = pm_ev pm_prog (pm_call pm_prog d) 523 0 b523_0 [.ref a, .int x0, .int x1, pm_junk] [] h := pm_cal (pm_rc1 hc rfl) rfl rfl rfl
theorem g523_1 {cl : pm_C} {ls st : List Value} {h : pm_H} : pm_go pm_prog cl 523 1 ls st h = pm_ev pm_prog cl 523 1 b523_1 ls st h := pm_go_eq pm_prog cl 523 1 ls st h
theorem g523_2 {cl : pm_C} {ls st : List Value} {h : pm_H} : pm_go pm_prog cl 523 2 ls st h = pm_ev pm_prog cl 523 2 b523_2 ls st h := pm_go_eq pm_prog cl 523 2 ls st h
theorem t523 {cl : pm_C} {j : Nat} {ls : List Value} {c : Nat} {h : pm_H} : pm_thr pm_prog cl 523 j ls c h = some (.threw c, h) := rfl
noncomputable def f523_2 (S : wS) (x1 : Int32) (x2 : Int32) (y0 : Int32) : Option ((Nat × wS) ⊕ (Int32 × wS)) :=
  if 0 ≤ x1 ∧ x1 < 8 then
    (f518 (sz S (21, 0, 0) x1 (vp_nar .boolean x2)) y0).bind fun (v2, S3) =>
    if v2 = 0 ∨ v2 = 1 then
      some (.inr (v2, S3))
    else none
  else none
/-- TimberHouse$FingerLengths.group(IZ)Z -/
noncomputable def f523 (S : wS) (x1 : Int32) (x2 : Int32) : Option ((Nat × wS) ⊕ (Int32 × wS)) :=
  (f516 (Int32.toInt64 x1) 0 7).bind fun v1 =>
  (f517 v1).bind fun r => match r with
  | .inl c4 =>
    some (.inl (c4, S))
  | .inr _ =>
  if 0 ≤ x1 ∧ x1 < 8 then
    if (S.1 (21, 0, 0) x1) = x2 then
      f523_2 S x1 x2 0
    else
      f523_2 S x1 x2 1
  else none
theorem y523_2  {A : wK → Nat} {h : pm_H} {D : Nat} {S : wS} {x1 : Int32} {x2 : Int32} {y0 : Int32} {r : (Nat × wS) ⊕ (Int32 × wS)}  (hA : wok A Cf_d h.1) (hD : 1 ≤ D) (e : f523_2 S x1 x2 y0 = some r) : ∀ q3 : Value, pm_go pm_prog (pm_call pm_prog D) 523 2 [.ref (A (0, 0, 0)), .int x1, .int x2, q3] [.int y0] (wput A Cf_d S h) = some (match (generalizing := false) r with | .inl (c, S1) => (Outcome.threw c, (wput A Cf_d S1 (pm_new h 6 (.inr (c, []))))) | .inr (w0, S1) => (Outcome.returned (some (.int w0)), (wput A Cf_d S1 h))) := by
  intro q3
  simp only [f523_2] at e
  rw [g523_2, b523_2]
  by_cases k1 : 0 ≤ x1 ∧ x1 < 8
  · rw [if_pos k1] at e
    obtain ⟨⟨v2, S3⟩, k2, e⟩ := Option.bind_eq_some_iff.mp e
    try dsimp only at e
    have z2 := x518 (D := D) (h := h) hA (by omega) k2
    dsimp only at z2
    by_cases k3 : v2 = 0 ∨ v2 = 1
    · rw [if_pos k3] at e
      have e := Option.some.inj e; subst e
      simp -implicitDefEqProofs (disch := first | assumption | exact Nat.le_of_ble_eq_true rfl | decide) only [b523_0, g523_1, b523_1, pe_iload1, pe_i2l, pe_bipush, pe_call3, pm_af_ret, pm_af_void, pm_af_thr, pe_call1, pe_aload0, pe_getfield, pe_baload, pe_iload2, pe_icmp_eq, pe_sipush, pe_goto, pe_goto_w, pe_istore3, pe_bastore, pe_iload3, pe_call2, pm_prog_1, pm_ob_some, Nat.reduceDiv, Nat.reduceMod, Nat.reduceMul, Nat.reduceAdd, Int.reduceToNat, pm_kill_i, pm_kill_r, pm_kill_n, pm_kill_j, pm_kill_l, pm_kill_d, pm_cats_nil, pm_cats_i, pm_cats_r, pm_cats_n, pm_cats_l, pm_cats_d, sz_1, sz_2, sl_1, sl_2, lc_0, lc_lt, lc_le, li_ne, va_rf, wr_m1, we_m1, pm_kill_w, Int32.reduceOfInt, Int64.reduceOfInt, Int32.reduceOfNat, Int32.reduceLT, Int32.reduceLE, Prod.mk.injEq, Nat.reduceEqDiff, reduceCtorEq, and_true, true_and, and_false, false_and, and_self, ite_true, ite_false, ↓reduceIte, not_true_eq_false, not_false_eq_true, pe_ri, pe_rz, pe_rc, p_throw, t523, w_junk hA, Cf_g0_11 hA, Cf_r21 hA, Cf_w21 hA, z2]
    · rw [if_neg k3] at e; cases e
  · rw [if_neg k1] at e; cases e
theorem x523  {A : wK → Nat} {h : pm_H} {D : Nat} {S : wS} {x1 : Int32} {x2 : Int32} {r : (Nat × wS) ⊕ (Int32 × wS)}  (hA : wok A Cf_d h.1) (hD : 2 ≤ D) (e : f523 S x1 x2 = some r) : pm_call pm_prog D 523 [.ref (A (0, 0, 0)), .int x1, .int x2] (wput A Cf_d S h) = some (match (generalizing := false) r with | .inl (c, S1) => (Outcome.threw c, (wput A Cf_d S1 (pm_new h 6 (.inr (c, []))))) | .inr (w0, S1) => (Outcome.returned (some (.int w0)), (wput A Cf_d S1 h))) := by
  obtain ⟨D, rfl⟩ : ∃ D', D = D' + 1 := ⟨D - 1, by omega⟩
  have hD : 1 ≤ D := by omega
  simp only [f523] at e
  rw [c523 (Cf_c0 hA), b523_0]
  obtain ⟨v1, k1, e⟩ := Option.bind_eq_some_iff.mp e
  try dsimp only at e
  have z1 := fun h => x516 (D := D) (h := h) (by omega) k1
  obtain ⟨r, k2, e⟩ := Option.bind_eq_some_iff.mp e
  have z2 := fun h => x517 (D := D) (h := h) (by omega) k2
  rcases r with c4 | _
  · dsimp only at e z2
    have e := Option.some.inj e; subst e
    simp -implicitDefEqProofs (disch := first | assumption | exact Nat.le_of_ble_eq_true rfl | decide) only [b523_0, g523_1, b523_1, pe_iload1, pe_i2l, pe_bipush, pe_call3, pm_af_ret, pm_af_void, pm_af_thr, pe_call1, pe_aload0, pe_getfield, pe_baload, pe_iload2, pe_icmp_eq, pe_sipush, pe_goto, pe_goto_w, pe_istore3, pe_bastore, pe_iload3, pe_call2, pm_prog_1, pm_ob_some, Nat.reduceDiv, Nat.reduceMod, Nat.reduceMul, Nat.reduceAdd, Int.reduceToNat, pm_kill_i, pm_kill_r, pm_kill_n, pm_kill_j, pm_kill_l, pm_kill_d, pm_cats_nil, pm_cats_i, pm_cats_r, pm_cats_n, pm_cats_l, pm_cats_d, sz_1, sz_2, sl_1, sl_2, lc_0, lc_lt, lc_le, li_ne, va_rf, wr_m1, we_m1, pm_kill_w, Int32.reduceOfInt, Int64.reduceOfInt, Int32.reduceOfNat, Int32.reduceLT, Int32.reduceLE, Prod.mk.injEq, Nat.reduceEqDiff, reduceCtorEq, and_true, true_and, and_false, false_and, and_self, ite_true, ite_false, ↓reduceIte, not_true_eq_false, not_false_eq_true, pe_ri, pe_rz, pe_rc, p_throw, t523, w_junk hA, Cf_g0_11 hA, Cf_r21 hA, Cf_w21 hA, z1, z2]
  · dsimp only at e z2
    by_cases k3 : 0 ≤ x1 ∧ x1 < 8
    · rw [if_pos k3] at e
      by_cases k4 : (S.1 (21, 0, 0) x1) = x2
      · rw [if_pos k4] at e
        have k5 := y523_2 (h := h) hA hD e
        simp -implicitDefEqProofs (disch := first | assumption | exact Nat.le_of_ble_eq_true rfl | decide) only [b523_0, g523_1, b523_1, pe_iload1, pe_i2l, pe_bipush, pe_call3, pm_af_ret, pm_af_void, pm_af_thr, pe_call1, pe_aload0, pe_getfield, pe_baload, pe_iload2, pe_icmp_eq, pe_sipush, pe_goto, pe_goto_w, pe_istore3, pe_bastore, pe_iload3, pe_call2, pm_prog_1, pm_ob_some, Nat.reduceDiv, Nat.reduceMod, Nat.reduceMul, Nat.reduceAdd, Int.reduceToNat, pm_kill_i, pm_kill_r, pm_kill_n, pm_kill_j, pm_kill_l, pm_kill_d, pm_cats_nil, pm_cats_i, pm_cats_r, pm_cats_n, pm_cats_l, pm_cats_d, sz_1, sz_2, sl_1, sl_2, lc_0, lc_lt, lc_le, li_ne, va_rf, wr_m1, we_m1, pm_kill_w, Int32.reduceOfInt, Int64.reduceOfInt, Int32.reduceOfNat, Int32.reduceLT, Int32.reduceLE, Prod.mk.injEq, Nat.reduceEqDiff, reduceCtorEq, and_true, true_and, and_false, false_and, and_self, ite_true, ite_false, ↓reduceIte, not_true_eq_false, not_false_eq_true, pe_ri, pe_rz, pe_rc, p_throw, t523, w_junk hA, Cf_g0_11 hA, Cf_r21 hA, Cf_w21 hA, z1, z2, eq_true k4, k5]
      · rw [if_neg k4] at e
        have k6 := y523_2 (h := h) hA hD e
        simp -implicitDefEqProofs (disch := first | assumption | exact Nat.le_of_ble_eq_true rfl | decide) only [b523_0, g523_1, b523_1, pe_iload1, pe_i2l, pe_bipush, pe_call3, pm_af_ret, pm_af_void, pm_af_thr, pe_call1, pe_aload0, pe_getfield, pe_baload, pe_iload2, pe_icmp_eq, pe_sipush, pe_goto, pe_goto_w, pe_istore3, pe_bastore, pe_iload3, pe_call2, pm_prog_1, pm_ob_some, Nat.reduceDiv, Nat.reduceMod, Nat.reduceMul, Nat.reduceAdd, Int.reduceToNat, pm_kill_i, pm_kill_r, pm_kill_n, pm_kill_j, pm_kill_l, pm_kill_d, pm_cats_nil, pm_cats_i, pm_cats_r, pm_cats_n, pm_cats_l, pm_cats_d, sz_1, sz_2, sl_1, sl_2, lc_0, lc_lt, lc_le, li_ne, va_rf, wr_m1, we_m1, pm_kill_w, Int32.reduceOfInt, Int64.reduceOfInt, Int32.reduceOfNat, Int32.reduceLT, Int32.reduceLE, Prod.mk.injEq, Nat.reduceEqDiff, reduceCtorEq, and_true, true_and, and_false, false_and, and_self, ite_true, ite_false, ↓reduceIte, not_true_eq_false, not_false_eq_true, pe_ri, pe_rz, pe_rc, p_throw, t523, w_junk hA, Cf_g0_11 hA, Cf_r21 hA, Cf_w21 hA, z1, z2, eq_false k4, k6]
    · rw [if_neg k3] at e; cases e
/-- TimberHouse$FingerLengths.inTurn()V -/
theorem c525 {d : Nat} {h : pm_H} {a : Nat} (hc : pm_cls h a = some 8) : pm_call pm_prog (d + 1) 525 [.ref a] h = pm_ev pm_prog (pm_call pm_prog d) 525 0 b525_0 [.ref a, pm_junk] [] h := pm_cal (pm_rc1 hc rfl) rfl rfl rfl
theorem g525_1 {cl : pm_C} {ls st : List Value} {h : pm_H} : pm_go pm_prog cl 525 1 ls st h = pm_ev pm_prog cl 525 1 b525_1 ls st h := pm_go_eq pm_prog cl 525 1 ls st h
theorem g525_2 {cl : pm_C} {ls st : List Value} {h : pm_H} : pm_go pm_prog cl 525 2 ls st h = pm_ev pm_prog cl 525 2 b525_2 ls st h := pm_go_eq pm_prog cl 525 2 ls st h
noncomputable def f525_b1 : Int32 × wS → Option ((Int32 × wS) ⊕ ((wS))) := fun (x1, S) =>
  if x1 < (S.1 (0, 0, 0) 4) then
    if 0 ≤ x1 ∧ x1 < 24 then
      some (.inl ((x1 + 1), (sz S (22, 0, 0) x1 x1)))
    else none
  else
    some (.inr S)
/-- TimberHouse$FingerLengths.inTurn()V -/
noncomputable def f525 (S : wS) : Option (wS) :=
  (lp (f525_b1) FU (0, S)).bind fun S1 =>
  some S1
def go525_1 (A : wK → Nat) (h : pm_H) (D : Nat) (R : Outcome × pm_H) : Int32 × wS → Prop := fun (x1, S) => pm_go pm_prog (pm_call pm_prog D) 525 1 [.ref (A (0, 0, 0)), .int x1] [] (wput A Cf_d S h) = some R
def ex525_1 (A : wK → Nat) (h : pm_H) (D : Nat) (R : Outcome × pm_H) : (wS) → Prop := fun S => ∀ q0 q1 : Value, pm_go pm_prog (pm_call pm_prog D) 525 2 [q0, q1] [] (wput A Cf_d S h) = some R
theorem y525_b1  {A : wK → Nat} {h : pm_H} {D : Nat} {R : Outcome × pm_H}  (hA : wok A Cf_d h.1) (hD : 0 ≤ D) (a : Int32 × wS) (r : (Int32 × wS) ⊕ ((wS))) (e : f525_b1 a = some r) (hc : Sum.elim (go525_1 A h D R) (ex525_1 A h D R) r) : go525_1 A h D R a := by
  obtain ⟨x1, S⟩ := a
  dsimp only [go525_1]
  simp only [f525_b1] at e
  rw [g525_1, b525_1]
  by_cases k1 : x1 < (S.1 (0, 0, 0) 4)
  · rw [if_pos k1] at e
    by_cases k2 : 0 ≤ x1 ∧ x1 < 24
    · rw [if_pos k2] at e
      have e := Option.some.inj e; subst e
      dsimp only [Sum.elim_inl, go525_1] at hc
      simp -implicitDefEqProofs (disch := first | assumption | exact Nat.le_of_ble_eq_true rfl | decide) only [b525_0, g525_2, b525_2, pe_sipush, pe_istore1, pe_goto_w, pe_iload1, pe_aload0, pe_getfield, pe_icmp_ge, pe_iastore, pe_iinc1, pe_goto, pe_return, pm_prog_1, pm_ob_some, Nat.reduceDiv, Nat.reduceMod, Nat.reduceMul, Nat.reduceAdd, Int.reduceToNat, pm_kill_i, pm_kill_r, pm_kill_n, pm_kill_j, pm_kill_l, pm_kill_d, pm_cats_nil, pm_cats_i, pm_cats_r, pm_cats_n, pm_cats_l, pm_cats_d, sz_1, sz_2, sl_1, sl_2, lc_0, lc_lt, lc_le, li_ne, va_rf, wr_m1, we_m1, pm_kill_w, Int32.reduceOfInt, Int64.reduceOfInt, Int32.reduceOfNat, Int32.reduceLT, Int32.reduceLE, Prod.mk.injEq, Nat.reduceEqDiff, reduceCtorEq, and_true, true_and, and_false, false_and, and_self, ite_true, ite_false, ↓reduceIte, not_true_eq_false, not_false_eq_true, pe_ri, pe_rz, pe_rc, Cf_g0_12 hA, Cf_g0_4 hA, Cf_w22 hA, eq_true k1, hc]
    · rw [if_neg k2] at e; cases e
  · rw [if_neg k1] at e
    have e := Option.some.inj e; subst e
    dsimp only [Sum.elim_inr, ex525_1] at hc
    simp -implicitDefEqProofs (disch := first | assumption | exact Nat.le_of_ble_eq_true rfl | decide) only [b525_0, g525_2, b525_2, pe_sipush, pe_istore1, pe_goto_w, pe_iload1, pe_aload0, pe_getfield, pe_icmp_ge, pe_iastore, pe_iinc1, pe_goto, pe_return, pm_prog_1, pm_ob_some, Nat.reduceDiv, Nat.reduceMod, Nat.reduceMul, Nat.reduceAdd, Int.reduceToNat, pm_kill_i, pm_kill_r, pm_kill_n, pm_kill_j, pm_kill_l, pm_kill_d, pm_cats_nil, pm_cats_i, pm_cats_r, pm_cats_n, pm_cats_l, pm_cats_d, sz_1, sz_2, sl_1, sl_2, lc_0, lc_lt, lc_le, li_ne, va_rf, wr_m1, we_m1, pm_kill_w, Int32.reduceOfInt, Int64.reduceOfInt, Int32.reduceOfNat, Int32.reduceLT, Int32.reduceLE, Prod.mk.injEq, Nat.reduceEqDiff, reduceCtorEq, and_true, true_and, and_false, false_and, and_self, ite_true, ite_false, ↓reduceIte, not_true_eq_false, not_false_eq_true, pe_ri, pe_rz, pe_rc, Cf_g0_12 hA, Cf_g0_4 hA, Cf_w22 hA, eq_false k1, hc]
theorem z525_1  {A : wK → Nat} {h : pm_H} {D : Nat} {R : Outcome × pm_H}  (hA : wok A Cf_d h.1) (hD : 0 ≤ D) {n : Nat} {a : Int32 × wS} {b : (wS)} (e : lp (f525_b1) n a = some b) (hx : ex525_1 A h D R b) : go525_1 A h D R a := lp_run (fun a r => y525_b1 hA hD a r) n a b e hx
theorem x525  {A : wK → Nat} {h : pm_H} {D : Nat} {S : wS} {r : wS}  (hA : wok A Cf_d h.1) (hD : 1 ≤ D) (e : f525 S = some r) : pm_call pm_prog D 525 [.ref (A (0, 0, 0))] (wput A Cf_d S h) = some (Outcome.returned none, (wput A Cf_d r h)) := by
  obtain ⟨D, rfl⟩ : ∃ D', D = D' + 1 := ⟨D - 1, by omega⟩
  have hD : 0 ≤ D := by omega
  simp only [f525] at e
  rw [c525 (Cf_c0 hA), b525_0]
  obtain ⟨S1, k1, e⟩ := Option.bind_eq_some_iff.mp e
  try dsimp only at e
  try simp -implicitDefEqProofs (disch := first | assumption | exact Nat.le_of_ble_eq_true rfl | decide) only [b525_0, g525_2, b525_2, pe_sipush, pe_istore1, pe_goto_w, pe_iload1, pe_aload0, pe_getfield, pe_icmp_ge, pe_iastore, pe_iinc1, pe_goto, pe_return, pm_prog_1, pm_ob_some, Nat.reduceDiv, Nat.reduceMod, Nat.reduceMul, Nat.reduceAdd, Int.reduceToNat, pm_kill_i, pm_kill_r, pm_kill_n, pm_kill_j, pm_kill_l, pm_kill_d, pm_cats_nil, pm_cats_i, pm_cats_r, pm_cats_n, pm_cats_l, pm_cats_d, sz_1, sz_2, sl_1, sl_2, lc_0, lc_lt, lc_le, li_ne, va_rf, wr_m1, we_m1, pm_kill_w, Int32.reduceOfInt, Int64.reduceOfInt, Int32.reduceOfNat, Int32.reduceLT, Int32.reduceLE, Prod.mk.injEq, Nat.reduceEqDiff, reduceCtorEq, and_true, true_and, and_false, false_and, and_self, ite_true, ite_false, ↓reduceIte, not_true_eq_false, not_false_eq_true, pe_ri, pe_rz, pe_rc, Cf_g0_12 hA, Cf_g0_4 hA, Cf_w22 hA]
  refine z525_1 hA hD k1 ?_
  dsimp only [ex525_1]
  intro q0 q1
  have e := Option.some.inj e; subst e
  simp -implicitDefEqProofs (disch := first | assumption | exact Nat.le_of_ble_eq_true rfl | decide) only [b525_0, g525_2, b525_2, pe_sipush, pe_istore1, pe_goto_w, pe_iload1, pe_aload0, pe_getfield, pe_icmp_ge, pe_iastore, pe_iinc1, pe_goto, pe_return, pm_prog_1, pm_ob_some, Nat.reduceDiv, Nat.reduceMod, Nat.reduceMul, Nat.reduceAdd, Int.reduceToNat, pm_kill_i, pm_kill_r, pm_kill_n, pm_kill_j, pm_kill_l, pm_kill_d, pm_cats_nil, pm_cats_i, pm_cats_r, pm_cats_n, pm_cats_l, pm_cats_d, sz_1, sz_2, sl_1, sl_2, lc_0, lc_lt, lc_le, li_ne, va_rf, wr_m1, we_m1, pm_kill_w, Int32.reduceOfInt, Int64.reduceOfInt, Int32.reduceOfNat, Int32.reduceLT, Int32.reduceLE, Prod.mk.injEq, Nat.reduceEqDiff, reduceCtorEq, and_true, true_and, and_false, false_and, and_self, ite_true, ite_false, ↓reduceIte, not_true_eq_false, not_false_eq_true, pe_ri, pe_rz, pe_rc, Cf_g0_12 hA, Cf_g0_4 hA, Cf_w22 hA]
/-- TimberHouse$FingerLengths$Score.set(JII)V -/
theorem c577 {d : Nat} {h : pm_H} {a : Nat} {x0 : Int64} {x1 : Int32} {x2 : Int32} (hc : pm_cls h a = some 9) : pm_call pm_prog (d + 1) 577 [.ref a, .long x0, .int x1, .int x2] h = pm_ev pm_prog (pm_call pm_prog d) 577 0 b577_0 [.ref a, .long x0, pm_junk, .int x1, .int x2] [] h := pm_cal (pm_rc1 hc rfl) rfl rfl rfl
/-- TimberHouse$FingerLengths$Score.set(JII)V -/
noncomputable def f577 (S : wS) (x0i : Int32) (x0j : Int32) (x1 : Int64) (x3 : Int32) (x4 : Int32) : Option (wS) :=
  if 0 ≤ x0i ∧ x0i < 25 then
    if 0 ≤ x0j ∧ x0j < 61 then
      some (sz (sz (sl S (3, x0i, x0j) 0 x1) (3, x0i, x0j) 1 x3) (3, x0i, x0j) 2 x4)
    else none
  else none
theorem x577  {A : wK → Nat} {h : pm_H} {D : Nat} {S : wS} {x0i : Int32} {x0j : Int32} {x1 : Int64} {x3 : Int32} {x4 : Int32} {r : wS}  (hA : wok A Cf_d h.1) (hD : 1 ≤ D) (e : f577 S x0i x0j x1 x3 x4 = some r) : pm_call pm_prog D 577 [.ref (A (3, x0i, x0j)), .long x1, .int x3, .int x4] (wput A Cf_d S h) = some (Outcome.returned none, (wput A Cf_d r h)) := by
  obtain ⟨D, rfl⟩ : ∃ D', D = D' + 1 := ⟨D - 1, by omega⟩
  have hD : 0 ≤ D := by omega
  simp only [f577] at e
  have k1 : 0 ≤ x0i ∧ x0i < 25 := by
    by_cases q : 0 ≤ x0i ∧ x0i < 25
    · exact q
    · rw [if_neg q] at e; cases e
  rw [if_pos k1] at e
  have k2 : 0 ≤ x0j ∧ x0j < 61 := by
    by_cases q : 0 ≤ x0j ∧ x0j < 61
    · exact q
    · rw [if_neg q] at e; cases e
  rw [if_pos k2] at e
  rw [c577 (Cf_c3 hA k1 k2), b577_0]
  have e := Option.some.inj e; subst e
  simp -implicitDefEqProofs (disch := first | assumption | exact Nat.le_of_ble_eq_true rfl | decide) only [b577_0, pe_aload0, pe_lload1, pe_putfield, pe_iload3, pe_iload4, pe_return, pm_prog_1, pm_ob_some, Nat.reduceDiv, Nat.reduceMod, Nat.reduceMul, Nat.reduceAdd, Int.reduceToNat, pm_kill_i, pm_kill_r, pm_kill_n, pm_kill_j, pm_kill_l, pm_kill_d, pm_cats_nil, pm_cats_i, pm_cats_r, pm_cats_n, pm_cats_l, pm_cats_d, sz_1, sz_2, sl_1, sl_2, lc_0, lc_lt, lc_le, li_ne, va_rf, wr_m1, we_m1, pm_kill_w, Int32.reduceOfInt, Int64.reduceOfInt, Int32.reduceOfNat, Int32.reduceLT, Int32.reduceLE, Prod.mk.injEq, Nat.reduceEqDiff, reduceCtorEq, and_true, true_and, and_false, false_and, and_self, ite_true, ite_false, ↓reduceIte, not_true_eq_false, not_false_eq_true, pe_ri, pe_rz, pe_rc, Cf_p3_0 hA, Cf_p3_1 hA, Cf_p3_2 hA]
/-- TimberHouse$FingerLengths$Score.copy(LTimberHouse$FingerLengths$Score;)V -/
theorem c578 {d : Nat} {h : pm_H} {a : Nat} {r0 : Nat} (hc : pm_cls h a = some 9) : pm_call pm_prog (d + 1) 578 [.ref a, .ref r0] h = pm_ev pm_prog (pm_call pm_prog d) 578 0 b578_0 [.ref a, .ref r0] [] h := pm_cal (pm_rc1 hc rfl) rfl rfl rfl
/-- TimberHouse$FingerLengths$Score.copy(LTimberHouse$FingerLengths$Score;)V -/
noncomputable def f578 (S : wS) (x0i : Int32) (x0j : Int32) (x1i : Int32) (x1j : Int32) : Option (wS) :=
  if 0 ≤ x0i ∧ x0i < 25 then
    if 0 ≤ x0j ∧ x0j < 61 then
      if 0 ≤ x1i ∧ x1i < 25 then
        if 0 ≤ x1j ∧ x1j < 61 then
          (f577 S x0i x0j (S.2 (3, x1i, x1j) 0) (S.1 (3, x1i, x1j) 1) (S.1 (3, x1i, x1j) 2)).bind fun S1 =>
          some S1
        else none
      else none
    else none
  else none
theorem x578  {A : wK → Nat} {h : pm_H} {D : Nat} {S : wS} {x0i : Int32} {x0j : Int32} {x1i : Int32} {x1j : Int32} {r : wS}  (hA : wok A Cf_d h.1) (hD : 2 ≤ D) (e : f578 S x0i x0j x1i x1j = some r) : pm_call pm_prog D 578 [.ref (A (3, x0i, x0j)), .ref (A (3, x1i, x1j))] (wput A Cf_d S h) = some (Outcome.returned none, (wput A Cf_d r h)) := by
  obtain ⟨D, rfl⟩ : ∃ D', D = D' + 1 := ⟨D - 1, by omega⟩
  have hD : 1 ≤ D := by omega
  simp only [f578] at e
  have k1 : 0 ≤ x0i ∧ x0i < 25 := by
    by_cases q : 0 ≤ x0i ∧ x0i < 25
    · exact q
    · rw [if_neg q] at e; cases e
  rw [if_pos k1] at e
  have k2 : 0 ≤ x0j ∧ x0j < 61 := by
    by_cases q : 0 ≤ x0j ∧ x0j < 61
    · exact q
    · rw [if_neg q] at e; cases e
  rw [if_pos k2] at e
  have k3 : 0 ≤ x1i ∧ x1i < 25 := by
    by_cases q : 0 ≤ x1i ∧ x1i < 25
    · exact q
    · rw [if_neg q] at e; cases e
  rw [if_pos k3] at e
  have k4 : 0 ≤ x1j ∧ x1j < 61 := by
    by_cases q : 0 ≤ x1j ∧ x1j < 61
    · exact q
    · rw [if_neg q] at e; cases e
  rw [if_pos k4] at e
  rw [c578 (Cf_c3 hA k1 k2), b578_0]
  obtain ⟨S1, k5, e⟩ := Option.bind_eq_some_iff.mp e
  try dsimp only at e
  have z5 := x577 (D := D) (h := h) hA (by omega) k5
  have e := Option.some.inj e; subst e
  simp -implicitDefEqProofs (disch := first | assumption | exact Nat.le_of_ble_eq_true rfl | decide) only [b578_0, pe_aload0, pe_aload1, pe_getfield, pe_call4, pm_af_ret, pm_af_void, pm_af_thr, pe_return, pm_prog_1, pm_ob_some, Nat.reduceDiv, Nat.reduceMod, Nat.reduceMul, Nat.reduceAdd, Int.reduceToNat, pm_kill_i, pm_kill_r, pm_kill_n, pm_kill_j, pm_kill_l, pm_kill_d, pm_cats_nil, pm_cats_i, pm_cats_r, pm_cats_n, pm_cats_l, pm_cats_d, sz_1, sz_2, sl_1, sl_2, lc_0, lc_lt, lc_le, li_ne, va_rf, wr_m1, we_m1, pm_kill_w, Int32.reduceOfInt, Int64.reduceOfInt, Int32.reduceOfNat, Int32.reduceLT, Int32.reduceLE, Prod.mk.injEq, Nat.reduceEqDiff, reduceCtorEq, and_true, true_and, and_false, false_and, and_self, ite_true, ite_false, ↓reduceIte, not_true_eq_false, not_false_eq_true, pe_ri, pe_rz, pe_rc, Cf_g3_0 hA, Cf_g3_1 hA, Cf_g3_2 hA, z5]
/-- TimberHouse$FingerLengths$Score.set(JII)V -/
noncomputable def f577v1 (S : wS) (x1 : Int64) (x3 : Int32) (x4 : Int32) : Option (wS) :=
  some (sz (sz (sl S (4, 0, 0) 0 x1) (4, 0, 0) 1 x3) (4, 0, 0) 2 x4)
theorem x577v1  {A : wK → Nat} {h : pm_H} {D : Nat} {S : wS} {x1 : Int64} {x3 : Int32} {x4 : Int32} {r : wS}  (hA : wok A Cf_d h.1) (hD : 1 ≤ D) (e : f577v1 S x1 x3 x4 = some r) : pm_call pm_prog D 577 [.ref (A (4, 0, 0)), .long x1, .int x3, .int x4] (wput A Cf_d S h) = some (Outcome.returned none, (wput A Cf_d r h)) := by
  obtain ⟨D, rfl⟩ : ∃ D', D = D' + 1 := ⟨D - 1, by omega⟩
  have hD : 0 ≤ D := by omega
  simp only [f577v1] at e
  rw [c577 (Cf_c4 hA), b577_0]
  have e := Option.some.inj e; subst e
  simp -implicitDefEqProofs (disch := first | assumption | exact Nat.le_of_ble_eq_true rfl | decide) only [b577_0, pe_aload0, pe_lload1, pe_putfield, pe_iload3, pe_iload4, pe_return, pm_prog_1, pm_ob_some, Nat.reduceDiv, Nat.reduceMod, Nat.reduceMul, Nat.reduceAdd, Int.reduceToNat, pm_kill_i, pm_kill_r, pm_kill_n, pm_kill_j, pm_kill_l, pm_kill_d, pm_cats_nil, pm_cats_i, pm_cats_r, pm_cats_n, pm_cats_l, pm_cats_d, sz_1, sz_2, sl_1, sl_2, lc_0, lc_lt, lc_le, li_ne, va_rf, wr_m1, we_m1, pm_kill_w, Int32.reduceOfInt, Int64.reduceOfInt, Int32.reduceOfNat, Int32.reduceLT, Int32.reduceLE, Prod.mk.injEq, Nat.reduceEqDiff, reduceCtorEq, and_true, true_and, and_false, false_and, and_self, ite_true, ite_false, ↓reduceIte, not_true_eq_false, not_false_eq_true, pe_ri, pe_rz, pe_rc, Cf_p4_0 hA, Cf_p4_1 hA, Cf_p4_2 hA]
/-- TimberHouse$FingerLengths.waste(II)V -/
theorem c527 {d : Nat} {h : pm_H} {a : Nat} {x0 : Int32} {x1 : Int32} (hc : pm_cls h a = some 8) : pm_call pm_prog (d + 1) 527 [.ref a, .int x0, .int x1] h = pm_ev pm_prog (pm_call pm_prog d) 527 0 b527_0 [.ref a, .int x0, .int x1, pm_junk] [] h := pm_cal (pm_rc1 hc rfl) rfl rfl rfl
/-- TimberHouse$FingerLengths.waste(II)V -/
noncomputable def f527 (S : wS) (x1 : Int32) (x2 : Int32) : Option (wS) :=
  if 0 ≤ x1 ∧ x1 < 25 then
    if 0 ≤ (x2 + 1) ∧ (x2 + 1) < 61 then
      (f577v1 S (S.2 (3, x1, (x2 + 1)) 0) (S.1 (3, x1, (x2 + 1)) 1) ((S.1 (3, x1, (x2 + 1)) 2) + 1)).bind fun S1 =>
      some S1
    else none
  else none
theorem x527  {A : wK → Nat} {h : pm_H} {D : Nat} {S : wS} {x1 : Int32} {x2 : Int32} {r : wS}  (hA : wok A Cf_d h.1) (hD : 2 ≤ D) (e : f527 S x1 x2 = some r) : pm_call pm_prog D 527 [.ref (A (0, 0, 0)), .int x1, .int x2] (wput A Cf_d S h) = some (Outcome.returned none, (wput A Cf_d r h)) := by
  obtain ⟨D, rfl⟩ : ∃ D', D = D' + 1 := ⟨D - 1, by omega⟩
  have hD : 1 ≤ D := by omega
  simp only [f527] at e
  rw [c527 (Cf_c0 hA), b527_0]
  by_cases k1 : 0 ≤ x1 ∧ x1 < 25
  · rw [if_pos k1] at e
    by_cases k2 : 0 ≤ (x2 + 1) ∧ (x2 + 1) < 61
    · rw [if_pos k2] at e
      obtain ⟨S1, k3, e⟩ := Option.bind_eq_some_iff.mp e
      try dsimp only at e
      have z3 := x577v1 (D := D) (h := h) hA (by omega) k3
      have e := Option.some.inj e; subst e
      simp -implicitDefEqProofs (disch := first | assumption | exact Nat.le_of_ble_eq_true rfl | decide) only [b527_0, pe_aload0, pe_getfield, pe_iload1, pe_aaload, pe_iload2, pe_sipush, pe_iadd, pe_astore3, pe_aload3, pe_call4, pm_af_ret, pm_af_void, pm_af_thr, pe_return, pm_prog_1, pm_ob_some, Nat.reduceDiv, Nat.reduceMod, Nat.reduceMul, Nat.reduceAdd, Int.reduceToNat, pm_kill_i, pm_kill_r, pm_kill_n, pm_kill_j, pm_kill_l, pm_kill_d, pm_cats_nil, pm_cats_i, pm_cats_r, pm_cats_n, pm_cats_l, pm_cats_d, sz_1, sz_2, sl_1, sl_2, lc_0, lc_lt, lc_le, li_ne, va_rf, wr_m1, we_m1, pm_kill_w, Int32.reduceOfInt, Int64.reduceOfInt, Int32.reduceOfNat, Int32.reduceLT, Int32.reduceLE, Prod.mk.injEq, Nat.reduceEqDiff, reduceCtorEq, and_true, true_and, and_false, false_and, and_self, ite_true, ite_false, ↓reduceIte, not_true_eq_false, not_false_eq_true, pe_ri, pe_rz, pe_rc, Cf_g0_14 hA, Cf_g0_15 hA, Cf_g3_0 hA, Cf_g3_1 hA, Cf_g3_2 hA, Cf_r1 hA, Cf_r2 hA, z3]
    · rw [if_neg k2] at e; cases e
  · rw [if_neg k1] at e; cases e
/-- TimberHouse$FingerLengths$Score.copy(LTimberHouse$FingerLengths$Score;)V -/
noncomputable def f578v1 (S : wS) (x0i : Int32) (x0j : Int32) : Option (wS) :=
  if 0 ≤ x0i ∧ x0i < 25 then
    if 0 ≤ x0j ∧ x0j < 61 then
      (f577 S x0i x0j (S.2 (4, 0, 0) 0) (S.1 (4, 0, 0) 1) (S.1 (4, 0, 0) 2)).bind fun S1 =>
      some S1
    else none
  else none
theorem x578v1  {A : wK → Nat} {h : pm_H} {D : Nat} {S : wS} {x0i : Int32} {x0j : Int32} {r : wS}  (hA : wok A Cf_d h.1) (hD : 2 ≤ D) (e : f578v1 S x0i x0j = some r) : pm_call pm_prog D 578 [.ref (A (3, x0i, x0j)), .ref (A (4, 0, 0))] (wput A Cf_d S h) = some (Outcome.returned none, (wput A Cf_d r h)) := by
  obtain ⟨D, rfl⟩ : ∃ D', D = D' + 1 := ⟨D - 1, by omega⟩
  have hD : 1 ≤ D := by omega
  simp only [f578v1] at e
  have k1 : 0 ≤ x0i ∧ x0i < 25 := by
    by_cases q : 0 ≤ x0i ∧ x0i < 25
    · exact q
    · rw [if_neg q] at e; cases e
  rw [if_pos k1] at e
  have k2 : 0 ≤ x0j ∧ x0j < 61 := by
    by_cases q : 0 ≤ x0j ∧ x0j < 61
    · exact q
    · rw [if_neg q] at e; cases e
  rw [if_pos k2] at e
  rw [c578 (Cf_c3 hA k1 k2), b578_0]
  obtain ⟨S1, k3, e⟩ := Option.bind_eq_some_iff.mp e
  try dsimp only at e
  have z3 := x577 (D := D) (h := h) hA (by omega) k3
  have e := Option.some.inj e; subst e
  simp -implicitDefEqProofs (disch := first | assumption | exact Nat.le_of_ble_eq_true rfl | decide) only [b578_0, pe_aload0, pe_aload1, pe_getfield, pe_call4, pm_af_ret, pm_af_void, pm_af_thr, pe_return, pm_prog_1, pm_ob_some, Nat.reduceDiv, Nat.reduceMod, Nat.reduceMul, Nat.reduceAdd, Int.reduceToNat, pm_kill_i, pm_kill_r, pm_kill_n, pm_kill_j, pm_kill_l, pm_kill_d, pm_cats_nil, pm_cats_i, pm_cats_r, pm_cats_n, pm_cats_l, pm_cats_d, sz_1, sz_2, sl_1, sl_2, lc_0, lc_lt, lc_le, li_ne, va_rf, wr_m1, we_m1, pm_kill_w, Int32.reduceOfInt, Int64.reduceOfInt, Int32.reduceOfNat, Int32.reduceLT, Int32.reduceLE, Prod.mk.injEq, Nat.reduceEqDiff, reduceCtorEq, and_true, true_and, and_false, false_and, and_self, ite_true, ite_false, ↓reduceIte, not_true_eq_false, not_false_eq_true, pe_ri, pe_rz, pe_rc, Cf_g4_0 hA, Cf_g4_1 hA, Cf_g4_2 hA, z3]
/-- TimberHouse$FingerLengths.mayJoin(III)Z -/
theorem c530 {d : Nat} {h : pm_H} {a : Nat} {x0 : Int32} {x1 : Int32} {x2 : Int32} (hc : pm_cls h a = some 8) : pm_call pm_prog (d + 1) 530 [.ref a, .int x0, .int x1, .int x2] h = pm_ev pm_prog (pm_call pm_prog d) 530 0 b530_0 [.ref a, .int x0, .int x1, .int x2, pm_junk, pm_junk, pm_junk, pm_junk, pm_junk, pm_junk] [] h := pm_cal (pm_rc1 hc rfl) rfl rfl rfl
theorem g530_1 {cl : pm_C} {ls st : List Value} {h : pm_H} : pm_go pm_prog cl 530 1 ls st h = pm_ev pm_prog cl 530 1 b530_1 ls st h := pm_go_eq pm_prog cl 530 1 ls st h
theorem g530_2 {cl : pm_C} {ls st : List Value} {h : pm_H} : pm_go pm_prog cl 530 2 ls st h = pm_ev pm_prog cl 530 2 b530_2 ls st h := pm_go_eq pm_prog cl 530 2 ls st h
theorem g530_3 {cl : pm_C} {ls st : List Value} {h : pm_H} : pm_go pm_prog cl 530 3 ls st h = pm_ev pm_prog cl 530 3 b530_3 ls st h := pm_go_eq pm_prog cl 530 3 ls st h
theorem g530_4 {cl : pm_C} {ls st : List Value} {h : pm_H} : pm_go pm_prog cl 530 4 ls st h = pm_ev pm_prog cl 530 4 b530_4 ls st h := pm_go_eq pm_prog cl 530 4 ls st h
theorem g530_5 {cl : pm_C} {ls st : List Value} {h : pm_H} : pm_go pm_prog cl 530 5 ls st h = pm_ev pm_prog cl 530 5 b530_5 ls st h := pm_go_eq pm_prog cl 530 5 ls st h
theorem g530_6 {cl : pm_C} {ls st : List Value} {h : pm_H} : pm_go pm_prog cl 530 6 ls st h = pm_ev pm_prog cl 530 6 b530_6 ls st h := pm_go_eq pm_prog cl 530 6 ls st h
theorem g530_7 {cl : pm_C} {ls st : List Value} {h : pm_H} : pm_go pm_prog cl 530 7 ls st h = pm_ev pm_prog cl 530 7 b530_7 ls st h := pm_go_eq pm_prog cl 530 7 ls st h
theorem g530_8 {cl : pm_C} {ls st : List Value} {h : pm_H} : pm_go pm_prog cl 530 8 ls st h = pm_ev pm_prog cl 530 8 b530_8 ls st h := pm_go_eq pm_prog cl 530 8 ls st h
noncomputable def f530_b4 (S : wS) : Int32 × Int64 × Int32 → Option ((Int32 × Int64 × Int32) ⊕ ((Int32))) := fun (x6, x7, x9) =>
  if x9 < (S.1 (0, 0, 0) 10) then
    if 0 ≤ x9 ∧ x9 < 8 then
      if x7 ≤ (S.2 (18, 0, 0) x9) then
        some (.inl ((x6 &&& 1), x7, (x9 + 1)))
      else
        if x7 < (S.2 (19, 0, 0) x9) then
          some (.inl ((x6 &&& 0), x7, (x9 + 1)))
        else
          some (.inl ((x6 &&& 1), x7, (x9 + 1)))
    else none
  else
    some (.inr x6)
noncomputable def f530_3 (S : wS) (x1 : Int32) (y0 : Int32) : Option (Int32) :=
  (lp (f530_b4 S) FU (y0, ((Int32.toInt64 x1) * (Int32.toInt64 (S.1 (0, 0, 0) 0))), 0)).bind fun v1 =>
  if v1 = 0 ∨ v1 = 1 then
    some v1
  else none
/-- TimberHouse$FingerLengths.mayJoin(III)Z -/
noncomputable def f530 (S : wS) (x1 : Int32) (x2 : Int32) (x3 : Int32) : Option (Int32) :=
  if 0 ≤ x2 ∧ x2 < 24 then
    if 0 ≤ (S.1 (22, 0, 0) x2) ∧ (S.1 (22, 0, 0) x2) < 24 then
      if 0 ≤ x3 ∧ x3 < 24 then
        if 0 ≤ (S.1 (22, 0, 0) x3) ∧ (S.1 (22, 0, 0) x3) < 24 then
          if (S.1 (12, 0, 0) (S.1 (22, 0, 0) x3)) ≤ (S.1 (0, 0, 0) 1) then
            f530_3 S x1 0
          else
            if (S.1 (13, 0, 0) (S.1 (22, 0, 0) x2)) = (S.1 (13, 0, 0) (S.1 (22, 0, 0) x3)) then
              f530_3 S x1 1
            else
              if 0 ≤ (S.1 (13, 0, 0) (S.1 (22, 0, 0) x2)) ∧ (S.1 (13, 0, 0) (S.1 (22, 0, 0) x2)) < 8 then
                if (S.1 (21, 0, 0) (S.1 (13, 0, 0) (S.1 (22, 0, 0) x2))) = 0 then
                  if 0 ≤ (S.1 (13, 0, 0) (S.1 (22, 0, 0) x3)) ∧ (S.1 (13, 0, 0) (S.1 (22, 0, 0) x3)) < 8 then
                    if (S.1 (21, 0, 0) (S.1 (13, 0, 0) (S.1 (22, 0, 0) x3))) = 0 then
                      f530_3 S x1 1
                    else
                      f530_3 S x1 0
                  else none
                else
                  f530_3 S x1 0
              else none
        else none
      else none
    else none
  else none
def go530_4 (A : wK → Nat) (h : pm_H) (D : Nat) (R : Outcome × pm_H) (S : wS) : Int32 × Int64 × Int32 → Prop := fun (x6, x7, x9) => ∀ q1 q2 q3 q4 q5 : Value, pm_go pm_prog (pm_call pm_prog D) 530 4 [.ref (A (0, 0, 0)), q1, q2, q3, q4, q5, .int x6, .long x7, pm_junk, .int x9] [] (wput A Cf_d S h) = some R
def ex530_4 (A : wK → Nat) (h : pm_H) (D : Nat) (R : Outcome × pm_H) (S : wS) : (Int32) → Prop := fun x6 => ∀ q0 q1 q2 q3 q4 q5 q7 q8 q9 : Value, pm_go pm_prog (pm_call pm_prog D) 530 8 [q0, q1, q2, q3, q4, q5, .int x6, q7, q8, q9] [] (wput A Cf_d S h) = some R
theorem y530_b4  {A : wK → Nat} {h : pm_H} {D : Nat} {R : Outcome × pm_H} {S : wS}  (hA : wok A Cf_d h.1) (hD : 0 ≤ D) (a : Int32 × Int64 × Int32) (r : (Int32 × Int64 × Int32) ⊕ ((Int32))) (e : f530_b4 S a = some r) (hc : Sum.elim (go530_4 A h D R S) (ex530_4 A h D R S) r) : go530_4 A h D R S a := by
  obtain ⟨x6, x7, x9⟩ := a
  dsimp only [go530_4]
  intro q1 q2 q3 q4 q5
  simp only [f530_b4] at e
  rw [g530_4, b530_4]
  by_cases k1 : x9 < (S.1 (0, 0, 0) 10)
  · rw [if_pos k1] at e
    by_cases k2 : 0 ≤ x9 ∧ x9 < 8
    · rw [if_pos k2] at e
      by_cases k3 : x7 ≤ (S.2 (18, 0, 0) x9)
      · rw [if_pos k3] at e
        have e := Option.some.inj e; subst e
        dsimp only [Sum.elim_inl, go530_4] at hc
        simp -implicitDefEqProofs (disch := first | assumption | exact Nat.le_of_ble_eq_true rfl | decide) only [b530_0, g530_1, b530_1, g530_2, b530_2, g530_5, b530_5, g530_6, b530_6, g530_7, b530_7, g530_8, b530_8, pe_aload0, pe_getfield, pe_iload2, pe_iaload, pe_istore4, pe_iload3, pe_istore5, pe_icmp_le, pe_iload4, pe_iload5, pe_icmp_eq, pe_baload, pe_if_ne, pe_goto_w, pe_sipush, pe_goto, pe_istore6, pe_iload1, pe_i2l, pe_lmul, pe_lstore7, pe_istore9, pe_iload9, pe_icmp_ge, pe_iload6, pe_lload7, pe_laload, pe_lcmp, pe_if_le, pe_if_lt, pe_iand, pe_iinc9, pm_prog_1, pm_ob_some, Nat.reduceDiv, Nat.reduceMod, Nat.reduceMul, Nat.reduceAdd, Int.reduceToNat, pm_kill_i, pm_kill_r, pm_kill_n, pm_kill_j, pm_kill_l, pm_kill_d, pm_cats_nil, pm_cats_i, pm_cats_r, pm_cats_n, pm_cats_l, pm_cats_d, sz_1, sz_2, sl_1, sl_2, lc_0, lc_lt, lc_le, li_ne, va_rf, wr_m1, we_m1, pm_kill_w, Int32.reduceOfInt, Int64.reduceOfInt, Int32.reduceOfNat, Int32.reduceLT, Int32.reduceLE, Prod.mk.injEq, Nat.reduceEqDiff, reduceCtorEq, and_true, true_and, and_false, false_and, and_self, ite_true, ite_false, ↓reduceIte, not_true_eq_false, not_false_eq_true, pe_ri, pe_rz, pe_rc, Cf_g0_0 hA, Cf_g0_1 hA, Cf_g0_10 hA, Cf_g0_11 hA, Cf_g0_12 hA, Cf_g0_2 hA, Cf_g0_3 hA, Cf_g0_8 hA, Cf_g0_9 hA, Cf_r12 hA, Cf_r13 hA, Cf_r18 hA, Cf_r19 hA, Cf_r21 hA, Cf_r22 hA, eq_true k1, eq_true k3, hc]
      · rw [if_neg k3] at e
        by_cases k4 : x7 < (S.2 (19, 0, 0) x9)
        · rw [if_pos k4] at e
          have e := Option.some.inj e; subst e
          dsimp only [Sum.elim_inl, go530_4] at hc
          simp -implicitDefEqProofs (disch := first | assumption | exact Nat.le_of_ble_eq_true rfl | decide) only [b530_0, g530_1, b530_1, g530_2, b530_2, g530_5, b530_5, g530_6, b530_6, g530_7, b530_7, g530_8, b530_8, pe_aload0, pe_getfield, pe_iload2, pe_iaload, pe_istore4, pe_iload3, pe_istore5, pe_icmp_le, pe_iload4, pe_iload5, pe_icmp_eq, pe_baload, pe_if_ne, pe_goto_w, pe_sipush, pe_goto, pe_istore6, pe_iload1, pe_i2l, pe_lmul, pe_lstore7, pe_istore9, pe_iload9, pe_icmp_ge, pe_iload6, pe_lload7, pe_laload, pe_lcmp, pe_if_le, pe_if_lt, pe_iand, pe_iinc9, pm_prog_1, pm_ob_some, Nat.reduceDiv, Nat.reduceMod, Nat.reduceMul, Nat.reduceAdd, Int.reduceToNat, pm_kill_i, pm_kill_r, pm_kill_n, pm_kill_j, pm_kill_l, pm_kill_d, pm_cats_nil, pm_cats_i, pm_cats_r, pm_cats_n, pm_cats_l, pm_cats_d, sz_1, sz_2, sl_1, sl_2, lc_0, lc_lt, lc_le, li_ne, va_rf, wr_m1, we_m1, pm_kill_w, Int32.reduceOfInt, Int64.reduceOfInt, Int32.reduceOfNat, Int32.reduceLT, Int32.reduceLE, Prod.mk.injEq, Nat.reduceEqDiff, reduceCtorEq, and_true, true_and, and_false, false_and, and_self, ite_true, ite_false, ↓reduceIte, not_true_eq_false, not_false_eq_true, pe_ri, pe_rz, pe_rc, Cf_g0_0 hA, Cf_g0_1 hA, Cf_g0_10 hA, Cf_g0_11 hA, Cf_g0_12 hA, Cf_g0_2 hA, Cf_g0_3 hA, Cf_g0_8 hA, Cf_g0_9 hA, Cf_r12 hA, Cf_r13 hA, Cf_r18 hA, Cf_r19 hA, Cf_r21 hA, Cf_r22 hA, eq_true k1, eq_false k3, eq_true k4, hc]
        · rw [if_neg k4] at e
          have e := Option.some.inj e; subst e
          dsimp only [Sum.elim_inl, go530_4] at hc
          simp -implicitDefEqProofs (disch := first | assumption | exact Nat.le_of_ble_eq_true rfl | decide) only [b530_0, g530_1, b530_1, g530_2, b530_2, g530_5, b530_5, g530_6, b530_6, g530_7, b530_7, g530_8, b530_8, pe_aload0, pe_getfield, pe_iload2, pe_iaload, pe_istore4, pe_iload3, pe_istore5, pe_icmp_le, pe_iload4, pe_iload5, pe_icmp_eq, pe_baload, pe_if_ne, pe_goto_w, pe_sipush, pe_goto, pe_istore6, pe_iload1, pe_i2l, pe_lmul, pe_lstore7, pe_istore9, pe_iload9, pe_icmp_ge, pe_iload6, pe_lload7, pe_laload, pe_lcmp, pe_if_le, pe_if_lt, pe_iand, pe_iinc9, pm_prog_1, pm_ob_some, Nat.reduceDiv, Nat.reduceMod, Nat.reduceMul, Nat.reduceAdd, Int.reduceToNat, pm_kill_i, pm_kill_r, pm_kill_n, pm_kill_j, pm_kill_l, pm_kill_d, pm_cats_nil, pm_cats_i, pm_cats_r, pm_cats_n, pm_cats_l, pm_cats_d, sz_1, sz_2, sl_1, sl_2, lc_0, lc_lt, lc_le, li_ne, va_rf, wr_m1, we_m1, pm_kill_w, Int32.reduceOfInt, Int64.reduceOfInt, Int32.reduceOfNat, Int32.reduceLT, Int32.reduceLE, Prod.mk.injEq, Nat.reduceEqDiff, reduceCtorEq, and_true, true_and, and_false, false_and, and_self, ite_true, ite_false, ↓reduceIte, not_true_eq_false, not_false_eq_true, pe_ri, pe_rz, pe_rc, Cf_g0_0 hA, Cf_g0_1 hA, Cf_g0_10 hA, Cf_g0_11 hA, Cf_g0_12 hA, Cf_g0_2 hA, Cf_g0_3 hA, Cf_g0_8 hA, Cf_g0_9 hA, Cf_r12 hA, Cf_r13 hA, Cf_r18 hA, Cf_r19 hA, Cf_r21 hA, Cf_r22 hA, eq_true k1, eq_false k3, eq_false k4, hc]
    · rw [if_neg k2] at e; cases e
  · rw [if_neg k1] at e
    have e := Option.some.inj e; subst e
    dsimp only [Sum.elim_inr, ex530_4] at hc
    simp -implicitDefEqProofs (disch := first | assumption | exact Nat.le_of_ble_eq_true rfl | decide) only [b530_0, g530_1, b530_1, g530_2, b530_2, g530_5, b530_5, g530_6, b530_6, g530_7, b530_7, g530_8, b530_8, pe_aload0, pe_getfield, pe_iload2, pe_iaload, pe_istore4, pe_iload3, pe_istore5, pe_icmp_le, pe_iload4, pe_iload5, pe_icmp_eq, pe_baload, pe_if_ne, pe_goto_w, pe_sipush, pe_goto, pe_istore6, pe_iload1, pe_i2l, pe_lmul, pe_lstore7, pe_istore9, pe_iload9, pe_icmp_ge, pe_iload6, pe_lload7, pe_laload, pe_lcmp, pe_if_le, pe_if_lt, pe_iand, pe_iinc9, pm_prog_1, pm_ob_some, Nat.reduceDiv, Nat.reduceMod, Nat.reduceMul, Nat.reduceAdd, Int.reduceToNat, pm_kill_i, pm_kill_r, pm_kill_n, pm_kill_j, pm_kill_l, pm_kill_d, pm_cats_nil, pm_cats_i, pm_cats_r, pm_cats_n, pm_cats_l, pm_cats_d, sz_1, sz_2, sl_1, sl_2, lc_0, lc_lt, lc_le, li_ne, va_rf, wr_m1, we_m1, pm_kill_w, Int32.reduceOfInt, Int64.reduceOfInt, Int32.reduceOfNat, Int32.reduceLT, Int32.reduceLE, Prod.mk.injEq, Nat.reduceEqDiff, reduceCtorEq, and_true, true_and, and_false, false_and, and_self, ite_true, ite_false, ↓reduceIte, not_true_eq_false, not_false_eq_true, pe_ri, pe_rz, pe_rc, Cf_g0_0 hA, Cf_g0_1 hA, Cf_g0_10 hA, Cf_g0_11 hA, Cf_g0_12 hA, Cf_g0_2 hA, Cf_g0_3 hA, Cf_g0_8 hA, Cf_g0_9 hA, Cf_r12 hA, Cf_r13 hA, Cf_r18 hA, Cf_r19 hA, Cf_r21 hA, Cf_r22 hA, eq_false k1, hc]
theorem z530_4  {A : wK → Nat} {h : pm_H} {D : Nat} {R : Outcome × pm_H} {S : wS}  (hA : wok A Cf_d h.1) (hD : 0 ≤ D) {n : Nat} {a : Int32 × Int64 × Int32} {b : (Int32)} (e : lp (f530_b4 S) n a = some b) (hx : ex530_4 A h D R S b) : go530_4 A h D R S a := lp_run (fun a r => y530_b4 hA hD a r) n a b e hx
theorem y530_3  {A : wK → Nat} {h : pm_H} {D : Nat} {S : wS} {x1 : Int32} {y0 : Int32} {r : Int32}  (hA : wok A Cf_d h.1) (hD : 0 ≤ D) (e : f530_3 S x1 y0 = some r) : ∀ q2 q3 q4 q5 q6 q7 q8 q9 : Value, pm_go pm_prog (pm_call pm_prog D) 530 3 [.ref (A (0, 0, 0)), .int x1, q2, q3, q4, q5, q6, q7, q8, q9] [.int y0] (wput A Cf_d S h) = some (Outcome.returned (some (.int r)), (wput A Cf_d S h)) := by
  intro q2 q3 q4 q5 q6 q7 q8 q9
  simp only [f530_3] at e
  rw [g530_3, b530_3]
  obtain ⟨v1, k1, e⟩ := Option.bind_eq_some_iff.mp e
  try dsimp only at e
  try simp -implicitDefEqProofs (disch := first | assumption | exact Nat.le_of_ble_eq_true rfl | decide) only [b530_0, g530_1, b530_1, g530_2, b530_2, g530_5, b530_5, g530_6, b530_6, g530_7, b530_7, g530_8, b530_8, pe_aload0, pe_getfield, pe_iload2, pe_iaload, pe_istore4, pe_iload3, pe_istore5, pe_icmp_le, pe_iload4, pe_iload5, pe_icmp_eq, pe_baload, pe_if_ne, pe_goto_w, pe_sipush, pe_goto, pe_istore6, pe_iload1, pe_i2l, pe_lmul, pe_lstore7, pe_istore9, pe_iload9, pe_icmp_ge, pe_iload6, pe_lload7, pe_laload, pe_lcmp, pe_if_le, pe_if_lt, pe_iand, pe_iinc9, pm_prog_1, pm_ob_some, Nat.reduceDiv, Nat.reduceMod, Nat.reduceMul, Nat.reduceAdd, Int.reduceToNat, pm_kill_i, pm_kill_r, pm_kill_n, pm_kill_j, pm_kill_l, pm_kill_d, pm_cats_nil, pm_cats_i, pm_cats_r, pm_cats_n, pm_cats_l, pm_cats_d, sz_1, sz_2, sl_1, sl_2, lc_0, lc_lt, lc_le, li_ne, va_rf, wr_m1, we_m1, pm_kill_w, Int32.reduceOfInt, Int64.reduceOfInt, Int32.reduceOfNat, Int32.reduceLT, Int32.reduceLE, Prod.mk.injEq, Nat.reduceEqDiff, reduceCtorEq, and_true, true_and, and_false, false_and, and_self, ite_true, ite_false, ↓reduceIte, not_true_eq_false, not_false_eq_true, pe_ri, pe_rz, pe_rc, Cf_g0_0 hA, Cf_g0_1 hA, Cf_g0_10 hA, Cf_g0_11 hA, Cf_g0_12 hA, Cf_g0_2 hA, Cf_g0_3 hA, Cf_g0_8 hA, Cf_g0_9 hA, Cf_r12 hA, Cf_r13 hA, Cf_r18 hA, Cf_r19 hA, Cf_r21 hA, Cf_r22 hA]
  refine z530_4 hA hD k1 ?_ _ _ _ _ _
  dsimp only [ex530_4]
  intro q0 q1 q2 q3 q4 q5 q7 q8 q9
  by_cases k2 : v1 = 0 ∨ v1 = 1
  · rw [if_pos k2] at e
    have e := Option.some.inj e; subst e
    simp -implicitDefEqProofs (disch := first | assumption | exact Nat.le_of_ble_eq_true rfl | decide) only [b530_0, g530_1, b530_1, g530_2, b530_2, g530_5, b530_5, g530_6, b530_6, g530_7, b530_7, g530_8, b530_8, pe_aload0, pe_getfield, pe_iload2, pe_iaload, pe_istore4, pe_iload3, pe_istore5, pe_icmp_le, pe_iload4, pe_iload5, pe_icmp_eq, pe_baload, pe_if_ne, pe_goto_w, pe_sipush, pe_goto, pe_istore6, pe_iload1, pe_i2l, pe_lmul, pe_lstore7, pe_istore9, pe_iload9, pe_icmp_ge, pe_iload6, pe_lload7, pe_laload, pe_lcmp, pe_if_le, pe_if_lt, pe_iand, pe_iinc9, pm_prog_1, pm_ob_some, Nat.reduceDiv, Nat.reduceMod, Nat.reduceMul, Nat.reduceAdd, Int.reduceToNat, pm_kill_i, pm_kill_r, pm_kill_n, pm_kill_j, pm_kill_l, pm_kill_d, pm_cats_nil, pm_cats_i, pm_cats_r, pm_cats_n, pm_cats_l, pm_cats_d, sz_1, sz_2, sl_1, sl_2, lc_0, lc_lt, lc_le, li_ne, va_rf, wr_m1, we_m1, pm_kill_w, Int32.reduceOfInt, Int64.reduceOfInt, Int32.reduceOfNat, Int32.reduceLT, Int32.reduceLE, Prod.mk.injEq, Nat.reduceEqDiff, reduceCtorEq, and_true, true_and, and_false, false_and, and_self, ite_true, ite_false, ↓reduceIte, not_true_eq_false, not_false_eq_true, pe_ri, pe_rz, pe_rc, Cf_g0_0 hA, Cf_g0_1 hA, Cf_g0_10 hA, Cf_g0_11 hA, Cf_g0_12 hA, Cf_g0_2 hA, Cf_g0_3 hA, Cf_g0_8 hA, Cf_g0_9 hA, Cf_r12 hA, Cf_r13 hA, Cf_r18 hA, Cf_r19 hA, Cf_r21 hA, Cf_r22 hA]
  · rw [if_neg k2] at e; cases e
theorem x530  {A : wK → Nat} {h : pm_H} {D : Nat} {S : wS} {x1 : Int32} {x2 : Int32} {x3 : Int32} {r : Int32}  (hA : wok A Cf_d h.1) (hD : 1 ≤ D) (e : f530 S x1 x2 x3 = some r) : pm_call pm_prog D 530 [.ref (A (0, 0, 0)), .int x1, .int x2, .int x3] (wput A Cf_d S h) = some (Outcome.returned (some (.int r)), (wput A Cf_d S h)) := by
  obtain ⟨D, rfl⟩ : ∃ D', D = D' + 1 := ⟨D - 1, by omega⟩
  have hD : 0 ≤ D := by omega
  simp only [f530] at e
  rw [c530 (Cf_c0 hA), b530_0]
  by_cases k1 : 0 ≤ x2 ∧ x2 < 24
  · rw [if_pos k1] at e
    by_cases k2 : 0 ≤ (S.1 (22, 0, 0) x2) ∧ (S.1 (22, 0, 0) x2) < 24
    · rw [if_pos k2] at e
      by_cases k3 : 0 ≤ x3 ∧ x3 < 24
      · rw [if_pos k3] at e
        by_cases k4 : 0 ≤ (S.1 (22, 0, 0) x3) ∧ (S.1 (22, 0, 0) x3) < 24
        · rw [if_pos k4] at e
          by_cases k5 : (S.1 (12, 0, 0) (S.1 (22, 0, 0) x3)) ≤ (S.1 (0, 0, 0) 1)
          · rw [if_pos k5] at e
            have k6 := y530_3 (h := h) hA hD e
            simp -implicitDefEqProofs (disch := first | assumption | exact Nat.le_of_ble_eq_true rfl | decide) only [b530_0, g530_1, b530_1, g530_2, b530_2, g530_5, b530_5, g530_6, b530_6, g530_7, b530_7, g530_8, b530_8, pe_aload0, pe_getfield, pe_iload2, pe_iaload, pe_istore4, pe_iload3, pe_istore5, pe_icmp_le, pe_iload4, pe_iload5, pe_icmp_eq, pe_baload, pe_if_ne, pe_goto_w, pe_sipush, pe_goto, pe_istore6, pe_iload1, pe_i2l, pe_lmul, pe_lstore7, pe_istore9, pe_iload9, pe_icmp_ge, pe_iload6, pe_lload7, pe_laload, pe_lcmp, pe_if_le, pe_if_lt, pe_iand, pe_iinc9, pm_prog_1, pm_ob_some, Nat.reduceDiv, Nat.reduceMod, Nat.reduceMul, Nat.reduceAdd, Int.reduceToNat, pm_kill_i, pm_kill_r, pm_kill_n, pm_kill_j, pm_kill_l, pm_kill_d, pm_cats_nil, pm_cats_i, pm_cats_r, pm_cats_n, pm_cats_l, pm_cats_d, sz_1, sz_2, sl_1, sl_2, lc_0, lc_lt, lc_le, li_ne, va_rf, wr_m1, we_m1, pm_kill_w, Int32.reduceOfInt, Int64.reduceOfInt, Int32.reduceOfNat, Int32.reduceLT, Int32.reduceLE, Prod.mk.injEq, Nat.reduceEqDiff, reduceCtorEq, and_true, true_and, and_false, false_and, and_self, ite_true, ite_false, ↓reduceIte, not_true_eq_false, not_false_eq_true, pe_ri, pe_rz, pe_rc, Cf_g0_0 hA, Cf_g0_1 hA, Cf_g0_10 hA, Cf_g0_11 hA, Cf_g0_12 hA, Cf_g0_2 hA, Cf_g0_3 hA, Cf_g0_8 hA, Cf_g0_9 hA, Cf_r12 hA, Cf_r13 hA, Cf_r18 hA, Cf_r19 hA, Cf_r21 hA, Cf_r22 hA, eq_true k5, k6]
          · rw [if_neg k5] at e
            by_cases k7 : (S.1 (13, 0, 0) (S.1 (22, 0, 0) x2)) = (S.1 (13, 0, 0) (S.1 (22, 0, 0) x3))
            · rw [if_pos k7] at e
              have k8 := y530_3 (h := h) hA hD e
              simp -implicitDefEqProofs (disch := first | assumption | exact Nat.le_of_ble_eq_true rfl | decide) only [b530_0, g530_1, b530_1, g530_2, b530_2, g530_5, b530_5, g530_6, b530_6, g530_7, b530_7, g530_8, b530_8, pe_aload0, pe_getfield, pe_iload2, pe_iaload, pe_istore4, pe_iload3, pe_istore5, pe_icmp_le, pe_iload4, pe_iload5, pe_icmp_eq, pe_baload, pe_if_ne, pe_goto_w, pe_sipush, pe_goto, pe_istore6, pe_iload1, pe_i2l, pe_lmul, pe_lstore7, pe_istore9, pe_iload9, pe_icmp_ge, pe_iload6, pe_lload7, pe_laload, pe_lcmp, pe_if_le, pe_if_lt, pe_iand, pe_iinc9, pm_prog_1, pm_ob_some, Nat.reduceDiv, Nat.reduceMod, Nat.reduceMul, Nat.reduceAdd, Int.reduceToNat, pm_kill_i, pm_kill_r, pm_kill_n, pm_kill_j, pm_kill_l, pm_kill_d, pm_cats_nil, pm_cats_i, pm_cats_r, pm_cats_n, pm_cats_l, pm_cats_d, sz_1, sz_2, sl_1, sl_2, lc_0, lc_lt, lc_le, li_ne, va_rf, wr_m1, we_m1, pm_kill_w, Int32.reduceOfInt, Int64.reduceOfInt, Int32.reduceOfNat, Int32.reduceLT, Int32.reduceLE, Prod.mk.injEq, Nat.reduceEqDiff, reduceCtorEq, and_true, true_and, and_false, false_and, and_self, ite_true, ite_false, ↓reduceIte, not_true_eq_false, not_false_eq_true, pe_ri, pe_rz, pe_rc, Cf_g0_0 hA, Cf_g0_1 hA, Cf_g0_10 hA, Cf_g0_11 hA, Cf_g0_12 hA, Cf_g0_2 hA, Cf_g0_3 hA, Cf_g0_8 hA, Cf_g0_9 hA, Cf_r12 hA, Cf_r13 hA, Cf_r18 hA, Cf_r19 hA, Cf_r21 hA, Cf_r22 hA, eq_false k5, eq_true k7, k8]
            · rw [if_neg k7] at e
              by_cases k9 : 0 ≤ (S.1 (13, 0, 0) (S.1 (22, 0, 0) x2)) ∧ (S.1 (13, 0, 0) (S.1 (22, 0, 0) x2)) < 8
              · rw [if_pos k9] at e
                by_cases k10 : (S.1 (21, 0, 0) (S.1 (13, 0, 0) (S.1 (22, 0, 0) x2))) = 0
                · rw [if_pos k10] at e
                  by_cases k11 : 0 ≤ (S.1 (13, 0, 0) (S.1 (22, 0, 0) x3)) ∧ (S.1 (13, 0, 0) (S.1 (22, 0, 0) x3)) < 8
                  · rw [if_pos k11] at e
                    by_cases k12 : (S.1 (21, 0, 0) (S.1 (13, 0, 0) (S.1 (22, 0, 0) x3))) = 0
                    · rw [if_pos k12] at e
                      have k13 := y530_3 (h := h) hA hD e
                      simp -implicitDefEqProofs (disch := first | assumption | exact Nat.le_of_ble_eq_true rfl | decide) only [b530_0, g530_1, b530_1, g530_2, b530_2, g530_5, b530_5, g530_6, b530_6, g530_7, b530_7, g530_8, b530_8, pe_aload0, pe_getfield, pe_iload2, pe_iaload, pe_istore4, pe_iload3, pe_istore5, pe_icmp_le, pe_iload4, pe_iload5, pe_icmp_eq, pe_baload, pe_if_ne, pe_goto_w, pe_sipush, pe_goto, pe_istore6, pe_iload1, pe_i2l, pe_lmul, pe_lstore7, pe_istore9, pe_iload9, pe_icmp_ge, pe_iload6, pe_lload7, pe_laload, pe_lcmp, pe_if_le, pe_if_lt, pe_iand, pe_iinc9, pm_prog_1, pm_ob_some, Nat.reduceDiv, Nat.reduceMod, Nat.reduceMul, Nat.reduceAdd, Int.reduceToNat, pm_kill_i, pm_kill_r, pm_kill_n, pm_kill_j, pm_kill_l, pm_kill_d, pm_cats_nil, pm_cats_i, pm_cats_r, pm_cats_n, pm_cats_l, pm_cats_d, sz_1, sz_2, sl_1, sl_2, lc_0, lc_lt, lc_le, li_ne, va_rf, wr_m1, we_m1, pm_kill_w, Int32.reduceOfInt, Int64.reduceOfInt, Int32.reduceOfNat, Int32.reduceLT, Int32.reduceLE, Prod.mk.injEq, Nat.reduceEqDiff, reduceCtorEq, and_true, true_and, and_false, false_and, and_self, ite_true, ite_false, ↓reduceIte, not_true_eq_false, not_false_eq_true, pe_ri, pe_rz, pe_rc, Cf_g0_0 hA, Cf_g0_1 hA, Cf_g0_10 hA, Cf_g0_11 hA, Cf_g0_12 hA, Cf_g0_2 hA, Cf_g0_3 hA, Cf_g0_8 hA, Cf_g0_9 hA, Cf_r12 hA, Cf_r13 hA, Cf_r18 hA, Cf_r19 hA, Cf_r21 hA, Cf_r22 hA, eq_false k5, eq_false k7, eq_true k10, eq_true k12, k13]
                    · rw [if_neg k12] at e
                      have k14 := y530_3 (h := h) hA hD e
                      simp -implicitDefEqProofs (disch := first | assumption | exact Nat.le_of_ble_eq_true rfl | decide) only [b530_0, g530_1, b530_1, g530_2, b530_2, g530_5, b530_5, g530_6, b530_6, g530_7, b530_7, g530_8, b530_8, pe_aload0, pe_getfield, pe_iload2, pe_iaload, pe_istore4, pe_iload3, pe_istore5, pe_icmp_le, pe_iload4, pe_iload5, pe_icmp_eq, pe_baload, pe_if_ne, pe_goto_w, pe_sipush, pe_goto, pe_istore6, pe_iload1, pe_i2l, pe_lmul, pe_lstore7, pe_istore9, pe_iload9, pe_icmp_ge, pe_iload6, pe_lload7, pe_laload, pe_lcmp, pe_if_le, pe_if_lt, pe_iand, pe_iinc9, pm_prog_1, pm_ob_some, Nat.reduceDiv, Nat.reduceMod, Nat.reduceMul, Nat.reduceAdd, Int.reduceToNat, pm_kill_i, pm_kill_r, pm_kill_n, pm_kill_j, pm_kill_l, pm_kill_d, pm_cats_nil, pm_cats_i, pm_cats_r, pm_cats_n, pm_cats_l, pm_cats_d, sz_1, sz_2, sl_1, sl_2, lc_0, lc_lt, lc_le, li_ne, va_rf, wr_m1, we_m1, pm_kill_w, Int32.reduceOfInt, Int64.reduceOfInt, Int32.reduceOfNat, Int32.reduceLT, Int32.reduceLE, Prod.mk.injEq, Nat.reduceEqDiff, reduceCtorEq, and_true, true_and, and_false, false_and, and_self, ite_true, ite_false, ↓reduceIte, not_true_eq_false, not_false_eq_true, pe_ri, pe_rz, pe_rc, Cf_g0_0 hA, Cf_g0_1 hA, Cf_g0_10 hA, Cf_g0_11 hA, Cf_g0_12 hA, Cf_g0_2 hA, Cf_g0_3 hA, Cf_g0_8 hA, Cf_g0_9 hA, Cf_r12 hA, Cf_r13 hA, Cf_r18 hA, Cf_r19 hA, Cf_r21 hA, Cf_r22 hA, eq_false k5, eq_false k7, eq_true k10, eq_false k12, k14]
                  · rw [if_neg k11] at e; cases e
                · rw [if_neg k10] at e
                  have k15 := y530_3 (h := h) hA hD e
                  simp -implicitDefEqProofs (disch := first | assumption | exact Nat.le_of_ble_eq_true rfl | decide) only [b530_0, g530_1, b530_1, g530_2, b530_2, g530_5, b530_5, g530_6, b530_6, g530_7, b530_7, g530_8, b530_8, pe_aload0, pe_getfield, pe_iload2, pe_iaload, pe_istore4, pe_iload3, pe_istore5, pe_icmp_le, pe_iload4, pe_iload5, pe_icmp_eq, pe_baload, pe_if_ne, pe_goto_w, pe_sipush, pe_goto, pe_istore6, pe_iload1, pe_i2l, pe_lmul, pe_lstore7, pe_istore9, pe_iload9, pe_icmp_ge, pe_iload6, pe_lload7, pe_laload, pe_lcmp, pe_if_le, pe_if_lt, pe_iand, pe_iinc9, pm_prog_1, pm_ob_some, Nat.reduceDiv, Nat.reduceMod, Nat.reduceMul, Nat.reduceAdd, Int.reduceToNat, pm_kill_i, pm_kill_r, pm_kill_n, pm_kill_j, pm_kill_l, pm_kill_d, pm_cats_nil, pm_cats_i, pm_cats_r, pm_cats_n, pm_cats_l, pm_cats_d, sz_1, sz_2, sl_1, sl_2, lc_0, lc_lt, lc_le, li_ne, va_rf, wr_m1, we_m1, pm_kill_w, Int32.reduceOfInt, Int64.reduceOfInt, Int32.reduceOfNat, Int32.reduceLT, Int32.reduceLE, Prod.mk.injEq, Nat.reduceEqDiff, reduceCtorEq, and_true, true_and, and_false, false_and, and_self, ite_true, ite_false, ↓reduceIte, not_true_eq_false, not_false_eq_true, pe_ri, pe_rz, pe_rc, Cf_g0_0 hA, Cf_g0_1 hA, Cf_g0_10 hA, Cf_g0_11 hA, Cf_g0_12 hA, Cf_g0_2 hA, Cf_g0_3 hA, Cf_g0_8 hA, Cf_g0_9 hA, Cf_r12 hA, Cf_r13 hA, Cf_r18 hA, Cf_r19 hA, Cf_r21 hA, Cf_r22 hA, eq_false k5, eq_false k7, eq_false k10, k15]
              · rw [if_neg k9] at e; cases e
        · rw [if_neg k4] at e; cases e
      · rw [if_neg k3] at e; cases e
    · rw [if_neg k2] at e; cases e
  · rw [if_neg k1] at e; cases e
/-- TimberHouse$FingerLengths.follow(III)Z -/
theorem c529 {d : Nat} {h : pm_H} {a : Nat} {x0 : Int32} {x1 : Int32} {x2 : Int32} (hc : pm_cls h a = some 8) : pm_call pm_prog (d + 1) 529 [.ref a, .int x0, .int x1, .int x2] h = pm_ev pm_prog (pm_call pm_prog d) 529 0 b529_0 [.ref a, .int x0, .int x1, .int x2, pm_junk, pm_junk] [] h := pm_cal (pm_rc1 hc rfl) rfl rfl rfl
theorem g529_1 {cl : pm_C} {ls st : List Value} {h : pm_H} : pm_go pm_prog cl 529 1 ls st h = pm_ev pm_prog cl 529 1 b529_1 ls st h := pm_go_eq pm_prog cl 529 1 ls st h
theorem g529_2 {cl : pm_C} {ls st : List Value} {h : pm_H} : pm_go pm_prog cl 529 2 ls st h = pm_ev pm_prog cl 529 2 b529_2 ls st h := pm_go_eq pm_prog cl 529 2 ls st h
theorem g529_3 {cl : pm_C} {ls st : List Value} {h : pm_H} : pm_go pm_prog cl 529 3 ls st h = pm_ev pm_prog cl 529 3 b529_3 ls st h := pm_go_eq pm_prog cl 529 3 ls st h
theorem g529_4 {cl : pm_C} {ls st : List Value} {h : pm_H} : pm_go pm_prog cl 529 4 ls st h = pm_ev pm_prog cl 529 4 b529_4 ls st h := pm_go_eq pm_prog cl 529 4 ls st h
theorem g529_5 {cl : pm_C} {ls st : List Value} {h : pm_H} : pm_go pm_prog cl 529 5 ls st h = pm_ev pm_prog cl 529 5 b529_5 ls st h := pm_go_eq pm_prog cl 529 5 ls st h
noncomputable def f529_b1 : Int32 × Int32 × wS → Option ((Int32 × Int32 × wS) ⊕ ((wS) ⊕ (Int32 × wS) ⊕ (wS))) := fun (x1, x4, S) =>
  if 0 ≤ x1 ∧ x1 < 6 then
    if x4 < (S.1 (15, 0, 0) x1) then
      if 0 ≤ (S.1 (0, 0, 0) 17) ∧ (S.1 (0, 0, 0) 17) < 24 then
        if 0 ≤ (S.1 (22, 0, 0) (S.1 (0, 0, 0) 17)) ∧ (S.1 (22, 0, 0) (S.1 (0, 0, 0) 17)) < 24 then
          if (x4 + ((S.1 (12, 0, 0) (S.1 (22, 0, 0) (S.1 (0, 0, 0) 17))) - (S.1 (0, 0, 0) 18))) < (S.1 (15, 0, 0) x1) then
            if ((S.1 (0, 0, 0) 17) + 1) = (S.1 (0, 0, 0) 4) then
              some (.inr (.inl S))
            else
              (f530 S (x4 + ((S.1 (12, 0, 0) (S.1 (22, 0, 0) (S.1 (0, 0, 0) 17))) - (S.1 (0, 0, 0) 18))) (S.1 (0, 0, 0) 17) ((S.1 (0, 0, 0) 17) + 1)).bind fun v1 =>
              if v1 = 0 then
                some (.inr (.inl S))
              else
                some (.inl (x1, (x4 + ((S.1 (12, 0, 0) (S.1 (22, 0, 0) (S.1 (0, 0, 0) 17))) - (S.1 (0, 0, 0) 18))), (sz (sz (sz S (0, 0, 0) 17 ((S.1 (0, 0, 0) 17) + 1)) (0, 0, 0) 18 (S.1 (0, 0, 0) 1)) (0, 0, 0) 19 ((S.1 (0, 0, 0) 19) + 1))))
          else
            some (.inr (.inr (.inl (1, (sz S (0, 0, 0) 18 ((S.1 (0, 0, 0) 18) + ((S.1 (15, 0, 0) x1) - x4)))))))
        else none
      else none
    else
      some (.inr (.inr (.inr (S))))
  else none
/-- TimberHouse$FingerLengths.follow(III)Z -/
noncomputable def f529 (S : wS) (x1 : Int32) (x2 : Int32) (x3 : Int32) : Option (Int32 × wS) :=
  (lp (f529_b1) FU (x1, 0, (sz (sz (sz S (0, 0, 0) 17 x2) (0, 0, 0) 18 x3) (0, 0, 0) 19 0))).bind fun b => match b with
  | (.inl S2) =>
    some (0, S2)
  | (.inr (.inl (v4, S3))) =>
    some (v4, S3)
  | (.inr (.inr (S5))) =>
    some (1, S5)
def go529_1 (A : wK → Nat) (h : pm_H) (D : Nat) (R : Outcome × pm_H) : Int32 × Int32 × wS → Prop := fun (x1, x4, S) => ∀ q2 q3 q5 : Value, pm_go pm_prog (pm_call pm_prog D) 529 1 [.ref (A (0, 0, 0)), .int x1, q2, q3, .int x4, q5] [] (wput A Cf_d S h) = some R
def ex529_1 (A : wK → Nat) (h : pm_H) (D : Nat) (R : Outcome × pm_H) : (wS) ⊕ (Int32 × wS) ⊕ (wS) → Prop := fun b => match b with
  | (.inl S) => ∀ q0 q1 q2 q3 q4 q5 : Value, pm_go pm_prog (pm_call pm_prog D) 529 3 [q0, q1, q2, q3, q4, q5] [] (wput A Cf_d S h) = some R
  | (.inr (.inl (xr0, S))) => some (Outcome.returned (some (.int xr0)), (wput A Cf_d S h)) = some R
  | (.inr (.inr (S))) => ∀ q0 q1 q2 q3 q4 q5 : Value, pm_go pm_prog (pm_call pm_prog D) 529 5 [q0, q1, q2, q3, q4, q5] [] (wput A Cf_d S h) = some R
theorem y529_b1  {A : wK → Nat} {h : pm_H} {D : Nat} {R : Outcome × pm_H}  (hA : wok A Cf_d h.1) (hD : 1 ≤ D) (a : Int32 × Int32 × wS) (r : (Int32 × Int32 × wS) ⊕ ((wS) ⊕ (Int32 × wS) ⊕ (wS))) (e : f529_b1 a = some r) (hc : Sum.elim (go529_1 A h D R) (ex529_1 A h D R) r) : go529_1 A h D R a := by
  obtain ⟨x1, x4, S⟩ := a
  dsimp only [go529_1]
  intro q2 q3 q5
  simp only [f529_b1] at e
  rw [g529_1, b529_1]
  by_cases k1 : 0 ≤ x1 ∧ x1 < 6
  · rw [if_pos k1] at e
    by_cases k2 : x4 < (S.1 (15, 0, 0) x1)
    · rw [if_pos k2] at e
      by_cases k3 : 0 ≤ (S.1 (0, 0, 0) 17) ∧ (S.1 (0, 0, 0) 17) < 24
      · rw [if_pos k3] at e
        by_cases k4 : 0 ≤ (S.1 (22, 0, 0) (S.1 (0, 0, 0) 17)) ∧ (S.1 (22, 0, 0) (S.1 (0, 0, 0) 17)) < 24
        · rw [if_pos k4] at e
          by_cases k5 : (x4 + ((S.1 (12, 0, 0) (S.1 (22, 0, 0) (S.1 (0, 0, 0) 17))) - (S.1 (0, 0, 0) 18))) < (S.1 (15, 0, 0) x1)
          · rw [if_pos k5] at e
            by_cases k6 : ((S.1 (0, 0, 0) 17) + 1) = (S.1 (0, 0, 0) 4)
            · rw [if_pos k6] at e
              have e := Option.some.inj e; subst e
              dsimp only [Sum.elim_inr, ex529_1] at hc
              simp -implicitDefEqProofs (disch := first | assumption | exact Nat.le_of_ble_eq_true rfl | decide) only [b529_0, g529_2, b529_2, g529_3, b529_3, g529_4, b529_4, g529_5, b529_5, pe_aload0, pe_iload2, pe_putfield, pe_iload3, pe_sipush, pe_istore4, pe_goto_w, pe_iload4, pe_getfield, pe_iload1, pe_iaload, pe_icmp_ge, pe_isub, pe_istore5, pe_iload5, pe_iadd, pe_icmp_lt, pe_dup_i, pe_dup_r, pe_icmp_eq, pe_call4, pm_af_ret, pm_af_void, pm_af_thr, pe_if_ne, pe_goto, pm_prog_1, pm_ob_some, Nat.reduceDiv, Nat.reduceMod, Nat.reduceMul, Nat.reduceAdd, Int.reduceToNat, pm_kill_i, pm_kill_r, pm_kill_n, pm_kill_j, pm_kill_l, pm_kill_d, pm_cats_nil, pm_cats_i, pm_cats_r, pm_cats_n, pm_cats_l, pm_cats_d, sz_1, sz_2, sl_1, sl_2, lc_0, lc_lt, lc_le, li_ne, va_rf, wr_m1, we_m1, pm_kill_w, Int32.reduceOfInt, Int64.reduceOfInt, Int32.reduceOfNat, Int32.reduceLT, Int32.reduceLE, Prod.mk.injEq, Nat.reduceEqDiff, reduceCtorEq, and_true, true_and, and_false, false_and, and_self, ite_true, ite_false, ↓reduceIte, not_true_eq_false, not_false_eq_true, pe_ri, pe_rz, pe_rc, Cf_g0_1 hA, Cf_g0_12 hA, Cf_g0_17 hA, Cf_g0_18 hA, Cf_g0_19 hA, Cf_g0_2 hA, Cf_g0_4 hA, Cf_g0_5 hA, Cf_p0_17 hA, Cf_p0_18 hA, Cf_p0_19 hA, Cf_r12 hA, Cf_r15 hA, Cf_r22 hA, eq_true k2, eq_true k5, eq_true k6, hc]
            · rw [if_neg k6] at e
              obtain ⟨v1, k7, e⟩ := Option.bind_eq_some_iff.mp e
              try dsimp only at e
              have z7 := x530 (D := D) (h := h) hA (by omega) k7
              by_cases k8 : v1 = 0
              · rw [if_pos k8] at e
                have e := Option.some.inj e; subst e
                dsimp only [Sum.elim_inr, ex529_1] at hc
                simp -implicitDefEqProofs (disch := first | assumption | exact Nat.le_of_ble_eq_true rfl | decide) only [b529_0, g529_2, b529_2, g529_3, b529_3, g529_4, b529_4, g529_5, b529_5, pe_aload0, pe_iload2, pe_putfield, pe_iload3, pe_sipush, pe_istore4, pe_goto_w, pe_iload4, pe_getfield, pe_iload1, pe_iaload, pe_icmp_ge, pe_isub, pe_istore5, pe_iload5, pe_iadd, pe_icmp_lt, pe_dup_i, pe_dup_r, pe_icmp_eq, pe_call4, pm_af_ret, pm_af_void, pm_af_thr, pe_if_ne, pe_goto, pm_prog_1, pm_ob_some, Nat.reduceDiv, Nat.reduceMod, Nat.reduceMul, Nat.reduceAdd, Int.reduceToNat, pm_kill_i, pm_kill_r, pm_kill_n, pm_kill_j, pm_kill_l, pm_kill_d, pm_cats_nil, pm_cats_i, pm_cats_r, pm_cats_n, pm_cats_l, pm_cats_d, sz_1, sz_2, sl_1, sl_2, lc_0, lc_lt, lc_le, li_ne, va_rf, wr_m1, we_m1, pm_kill_w, Int32.reduceOfInt, Int64.reduceOfInt, Int32.reduceOfNat, Int32.reduceLT, Int32.reduceLE, Prod.mk.injEq, Nat.reduceEqDiff, reduceCtorEq, and_true, true_and, and_false, false_and, and_self, ite_true, ite_false, ↓reduceIte, not_true_eq_false, not_false_eq_true, pe_ri, pe_rz, pe_rc, Cf_g0_1 hA, Cf_g0_12 hA, Cf_g0_17 hA, Cf_g0_18 hA, Cf_g0_19 hA, Cf_g0_2 hA, Cf_g0_4 hA, Cf_g0_5 hA, Cf_p0_17 hA, Cf_p0_18 hA, Cf_p0_19 hA, Cf_r12 hA, Cf_r15 hA, Cf_r22 hA, eq_true k2, eq_true k5, eq_false k6, z7, eq_true k8, hc]
              · rw [if_neg k8] at e
                have e := Option.some.inj e; subst e
                dsimp only [Sum.elim_inl, go529_1] at hc
                simp -implicitDefEqProofs (disch := first | assumption | exact Nat.le_of_ble_eq_true rfl | decide) only [b529_0, g529_2, b529_2, g529_3, b529_3, g529_4, b529_4, g529_5, b529_5, pe_aload0, pe_iload2, pe_putfield, pe_iload3, pe_sipush, pe_istore4, pe_goto_w, pe_iload4, pe_getfield, pe_iload1, pe_iaload, pe_icmp_ge, pe_isub, pe_istore5, pe_iload5, pe_iadd, pe_icmp_lt, pe_dup_i, pe_dup_r, pe_icmp_eq, pe_call4, pm_af_ret, pm_af_void, pm_af_thr, pe_if_ne, pe_goto, pm_prog_1, pm_ob_some, Nat.reduceDiv, Nat.reduceMod, Nat.reduceMul, Nat.reduceAdd, Int.reduceToNat, pm_kill_i, pm_kill_r, pm_kill_n, pm_kill_j, pm_kill_l, pm_kill_d, pm_cats_nil, pm_cats_i, pm_cats_r, pm_cats_n, pm_cats_l, pm_cats_d, sz_1, sz_2, sl_1, sl_2, lc_0, lc_lt, lc_le, li_ne, va_rf, wr_m1, we_m1, pm_kill_w, Int32.reduceOfInt, Int64.reduceOfInt, Int32.reduceOfNat, Int32.reduceLT, Int32.reduceLE, Prod.mk.injEq, Nat.reduceEqDiff, reduceCtorEq, and_true, true_and, and_false, false_and, and_self, ite_true, ite_false, ↓reduceIte, not_true_eq_false, not_false_eq_true, pe_ri, pe_rz, pe_rc, Cf_g0_1 hA, Cf_g0_12 hA, Cf_g0_17 hA, Cf_g0_18 hA, Cf_g0_19 hA, Cf_g0_2 hA, Cf_g0_4 hA, Cf_g0_5 hA, Cf_p0_17 hA, Cf_p0_18 hA, Cf_p0_19 hA, Cf_r12 hA, Cf_r15 hA, Cf_r22 hA, eq_true k2, eq_true k5, eq_false k6, z7, eq_false k8, hc]
          · rw [if_neg k5] at e
            have e := Option.some.inj e; subst e
            dsimp only [Sum.elim_inr, ex529_1] at hc
            have hc := Option.some.inj hc; subst hc
            simp -implicitDefEqProofs (disch := first | assumption | exact Nat.le_of_ble_eq_true rfl | decide) only [b529_0, g529_2, b529_2, g529_3, b529_3, g529_4, b529_4, g529_5, b529_5, pe_aload0, pe_iload2, pe_putfield, pe_iload3, pe_sipush, pe_istore4, pe_goto_w, pe_iload4, pe_getfield, pe_iload1, pe_iaload, pe_icmp_ge, pe_isub, pe_istore5, pe_iload5, pe_iadd, pe_icmp_lt, pe_dup_i, pe_dup_r, pe_icmp_eq, pe_call4, pm_af_ret, pm_af_void, pm_af_thr, pe_if_ne, pe_goto, pm_prog_1, pm_ob_some, Nat.reduceDiv, Nat.reduceMod, Nat.reduceMul, Nat.reduceAdd, Int.reduceToNat, pm_kill_i, pm_kill_r, pm_kill_n, pm_kill_j, pm_kill_l, pm_kill_d, pm_cats_nil, pm_cats_i, pm_cats_r, pm_cats_n, pm_cats_l, pm_cats_d, sz_1, sz_2, sl_1, sl_2, lc_0, lc_lt, lc_le, li_ne, va_rf, wr_m1, we_m1, pm_kill_w, Int32.reduceOfInt, Int64.reduceOfInt, Int32.reduceOfNat, Int32.reduceLT, Int32.reduceLE, Prod.mk.injEq, Nat.reduceEqDiff, reduceCtorEq, and_true, true_and, and_false, false_and, and_self, ite_true, ite_false, ↓reduceIte, not_true_eq_false, not_false_eq_true, pe_ri, pe_rz, pe_rc, Cf_g0_1 hA, Cf_g0_12 hA, Cf_g0_17 hA, Cf_g0_18 hA, Cf_g0_19 hA, Cf_g0_2 hA, Cf_g0_4 hA, Cf_g0_5 hA, Cf_p0_17 hA, Cf_p0_18 hA, Cf_p0_19 hA, Cf_r12 hA, Cf_r15 hA, Cf_r22 hA, eq_true k2, eq_false k5]
        · rw [if_neg k4] at e; cases e
      · rw [if_neg k3] at e; cases e
    · rw [if_neg k2] at e
      have e := Option.some.inj e; subst e
      dsimp only [Sum.elim_inr, ex529_1] at hc
      simp -implicitDefEqProofs (disch := first | assumption | exact Nat.le_of_ble_eq_true rfl | decide) only [b529_0, g529_2, b529_2, g529_3, b529_3, g529_4, b529_4, g529_5, b529_5, pe_aload0, pe_iload2, pe_putfield, pe_iload3, pe_sipush, pe_istore4, pe_goto_w, pe_iload4, pe_getfield, pe_iload1, pe_iaload, pe_icmp_ge, pe_isub, pe_istore5, pe_iload5, pe_iadd, pe_icmp_lt, pe_dup_i, pe_dup_r, pe_icmp_eq, pe_call4, pm_af_ret, pm_af_void, pm_af_thr, pe_if_ne, pe_goto, pm_prog_1, pm_ob_some, Nat.reduceDiv, Nat.reduceMod, Nat.reduceMul, Nat.reduceAdd, Int.reduceToNat, pm_kill_i, pm_kill_r, pm_kill_n, pm_kill_j, pm_kill_l, pm_kill_d, pm_cats_nil, pm_cats_i, pm_cats_r, pm_cats_n, pm_cats_l, pm_cats_d, sz_1, sz_2, sl_1, sl_2, lc_0, lc_lt, lc_le, li_ne, va_rf, wr_m1, we_m1, pm_kill_w, Int32.reduceOfInt, Int64.reduceOfInt, Int32.reduceOfNat, Int32.reduceLT, Int32.reduceLE, Prod.mk.injEq, Nat.reduceEqDiff, reduceCtorEq, and_true, true_and, and_false, false_and, and_self, ite_true, ite_false, ↓reduceIte, not_true_eq_false, not_false_eq_true, pe_ri, pe_rz, pe_rc, Cf_g0_1 hA, Cf_g0_12 hA, Cf_g0_17 hA, Cf_g0_18 hA, Cf_g0_19 hA, Cf_g0_2 hA, Cf_g0_4 hA, Cf_g0_5 hA, Cf_p0_17 hA, Cf_p0_18 hA, Cf_p0_19 hA, Cf_r12 hA, Cf_r15 hA, Cf_r22 hA, eq_false k2, hc]
  · rw [if_neg k1] at e; cases e
theorem z529_1  {A : wK → Nat} {h : pm_H} {D : Nat} {R : Outcome × pm_H}  (hA : wok A Cf_d h.1) (hD : 1 ≤ D) {n : Nat} {a : Int32 × Int32 × wS} {b : (wS) ⊕ (Int32 × wS) ⊕ (wS)} (e : lp (f529_b1) n a = some b) (hx : ex529_1 A h D R b) : go529_1 A h D R a := lp_run (fun a r => y529_b1 hA hD a r) n a b e hx
theorem x529  {A : wK → Nat} {h : pm_H} {D : Nat} {S : wS} {x1 : Int32} {x2 : Int32} {x3 : Int32} {r : Int32 × wS}  (hA : wok A Cf_d h.1) (hD : 2 ≤ D) (e : f529 S x1 x2 x3 = some r) : pm_call pm_prog D 529 [.ref (A (0, 0, 0)), .int x1, .int x2, .int x3] (wput A Cf_d S h) = some (match (generalizing := false) r with | (w0, S1) => (Outcome.returned (some (.int w0)), (wput A Cf_d S1 h))) := by
  obtain ⟨D, rfl⟩ : ∃ D', D = D' + 1 := ⟨D - 1, by omega⟩
  have hD : 1 ≤ D := by omega
  simp only [f529] at e
  rw [c529 (Cf_c0 hA), b529_0]
  obtain ⟨b, k1, e⟩ := Option.bind_eq_some_iff.mp e
  rcases b with S2 | ⟨v4, S3⟩ | S5
  ·
    try dsimp only at e
    try simp -implicitDefEqProofs (disch := first | assumption | exact Nat.le_of_ble_eq_true rfl | decide) only [b529_0, g529_2, b529_2, g529_3, b529_3, g529_4, b529_4, g529_5, b529_5, pe_aload0, pe_iload2, pe_putfield, pe_iload3, pe_sipush, pe_istore4, pe_goto_w, pe_iload4, pe_getfield, pe_iload1, pe_iaload, pe_icmp_ge, pe_isub, pe_istore5, pe_iload5, pe_iadd, pe_icmp_lt, pe_dup_i, pe_dup_r, pe_icmp_eq, pe_call4, pm_af_ret, pm_af_void, pm_af_thr, pe_if_ne, pe_goto, pm_prog_1, pm_ob_some, Nat.reduceDiv, Nat.reduceMod, Nat.reduceMul, Nat.reduceAdd, Int.reduceToNat, pm_kill_i, pm_kill_r, pm_kill_n, pm_kill_j, pm_kill_l, pm_kill_d, pm_cats_nil, pm_cats_i, pm_cats_r, pm_cats_n, pm_cats_l, pm_cats_d, sz_1, sz_2, sl_1, sl_2, lc_0, lc_lt, lc_le, li_ne, va_rf, wr_m1, we_m1, pm_kill_w, Int32.reduceOfInt, Int64.reduceOfInt, Int32.reduceOfNat, Int32.reduceLT, Int32.reduceLE, Prod.mk.injEq, Nat.reduceEqDiff, reduceCtorEq, and_true, true_and, and_false, false_and, and_self, ite_true, ite_false, ↓reduceIte, not_true_eq_false, not_false_eq_true, pe_ri, pe_rz, pe_rc, Cf_g0_1 hA, Cf_g0_12 hA, Cf_g0_17 hA, Cf_g0_18 hA, Cf_g0_19 hA, Cf_g0_2 hA, Cf_g0_4 hA, Cf_g0_5 hA, Cf_p0_17 hA, Cf_p0_18 hA, Cf_p0_19 hA, Cf_r12 hA, Cf_r15 hA, Cf_r22 hA]
    refine z529_1 hA hD k1 ?_ _ _ _
    dsimp only [ex529_1]
    intro q0 q1 q2 q3 q4 q5
    have e := Option.some.inj e; subst e
    simp -implicitDefEqProofs (disch := first | assumption | exact Nat.le_of_ble_eq_true rfl | decide) only [b529_0, g529_2, b529_2, g529_3, b529_3, g529_4, b529_4, g529_5, b529_5, pe_aload0, pe_iload2, pe_putfield, pe_iload3, pe_sipush, pe_istore4, pe_goto_w, pe_iload4, pe_getfield, pe_iload1, pe_iaload, pe_icmp_ge, pe_isub, pe_istore5, pe_iload5, pe_iadd, pe_icmp_lt, pe_dup_i, pe_dup_r, pe_icmp_eq, pe_call4, pm_af_ret, pm_af_void, pm_af_thr, pe_if_ne, pe_goto, pm_prog_1, pm_ob_some, Nat.reduceDiv, Nat.reduceMod, Nat.reduceMul, Nat.reduceAdd, Int.reduceToNat, pm_kill_i, pm_kill_r, pm_kill_n, pm_kill_j, pm_kill_l, pm_kill_d, pm_cats_nil, pm_cats_i, pm_cats_r, pm_cats_n, pm_cats_l, pm_cats_d, sz_1, sz_2, sl_1, sl_2, lc_0, lc_lt, lc_le, li_ne, va_rf, wr_m1, we_m1, pm_kill_w, Int32.reduceOfInt, Int64.reduceOfInt, Int32.reduceOfNat, Int32.reduceLT, Int32.reduceLE, Prod.mk.injEq, Nat.reduceEqDiff, reduceCtorEq, and_true, true_and, and_false, false_and, and_self, ite_true, ite_false, ↓reduceIte, not_true_eq_false, not_false_eq_true, pe_ri, pe_rz, pe_rc, Cf_g0_1 hA, Cf_g0_12 hA, Cf_g0_17 hA, Cf_g0_18 hA, Cf_g0_19 hA, Cf_g0_2 hA, Cf_g0_4 hA, Cf_g0_5 hA, Cf_p0_17 hA, Cf_p0_18 hA, Cf_p0_19 hA, Cf_r12 hA, Cf_r15 hA, Cf_r22 hA]
  ·
    try dsimp only at e
    try simp -implicitDefEqProofs (disch := first | assumption | exact Nat.le_of_ble_eq_true rfl | decide) only [b529_0, g529_2, b529_2, g529_3, b529_3, g529_4, b529_4, g529_5, b529_5, pe_aload0, pe_iload2, pe_putfield, pe_iload3, pe_sipush, pe_istore4, pe_goto_w, pe_iload4, pe_getfield, pe_iload1, pe_iaload, pe_icmp_ge, pe_isub, pe_istore5, pe_iload5, pe_iadd, pe_icmp_lt, pe_dup_i, pe_dup_r, pe_icmp_eq, pe_call4, pm_af_ret, pm_af_void, pm_af_thr, pe_if_ne, pe_goto, pm_prog_1, pm_ob_some, Nat.reduceDiv, Nat.reduceMod, Nat.reduceMul, Nat.reduceAdd, Int.reduceToNat, pm_kill_i, pm_kill_r, pm_kill_n, pm_kill_j, pm_kill_l, pm_kill_d, pm_cats_nil, pm_cats_i, pm_cats_r, pm_cats_n, pm_cats_l, pm_cats_d, sz_1, sz_2, sl_1, sl_2, lc_0, lc_lt, lc_le, li_ne, va_rf, wr_m1, we_m1, pm_kill_w, Int32.reduceOfInt, Int64.reduceOfInt, Int32.reduceOfNat, Int32.reduceLT, Int32.reduceLE, Prod.mk.injEq, Nat.reduceEqDiff, reduceCtorEq, and_true, true_and, and_false, false_and, and_self, ite_true, ite_false, ↓reduceIte, not_true_eq_false, not_false_eq_true, pe_ri, pe_rz, pe_rc, Cf_g0_1 hA, Cf_g0_12 hA, Cf_g0_17 hA, Cf_g0_18 hA, Cf_g0_19 hA, Cf_g0_2 hA, Cf_g0_4 hA, Cf_g0_5 hA, Cf_p0_17 hA, Cf_p0_18 hA, Cf_p0_19 hA, Cf_r12 hA, Cf_r15 hA, Cf_r22 hA]
    refine z529_1 hA hD k1 ?_ _ _ _
    dsimp only [ex529_1]
    have e := Option.some.inj e; subst e
    simp -implicitDefEqProofs (disch := first | assumption | exact Nat.le_of_ble_eq_true rfl | decide) only [b529_0, g529_2, b529_2, g529_3, b529_3, g529_4, b529_4, g529_5, b529_5, pe_aload0, pe_iload2, pe_putfield, pe_iload3, pe_sipush, pe_istore4, pe_goto_w, pe_iload4, pe_getfield, pe_iload1, pe_iaload, pe_icmp_ge, pe_isub, pe_istore5, pe_iload5, pe_iadd, pe_icmp_lt, pe_dup_i, pe_dup_r, pe_icmp_eq, pe_call4, pm_af_ret, pm_af_void, pm_af_thr, pe_if_ne, pe_goto, pm_prog_1, pm_ob_some, Nat.reduceDiv, Nat.reduceMod, Nat.reduceMul, Nat.reduceAdd, Int.reduceToNat, pm_kill_i, pm_kill_r, pm_kill_n, pm_kill_j, pm_kill_l, pm_kill_d, pm_cats_nil, pm_cats_i, pm_cats_r, pm_cats_n, pm_cats_l, pm_cats_d, sz_1, sz_2, sl_1, sl_2, lc_0, lc_lt, lc_le, li_ne, va_rf, wr_m1, we_m1, pm_kill_w, Int32.reduceOfInt, Int64.reduceOfInt, Int32.reduceOfNat, Int32.reduceLT, Int32.reduceLE, Prod.mk.injEq, Nat.reduceEqDiff, reduceCtorEq, and_true, true_and, and_false, false_and, and_self, ite_true, ite_false, ↓reduceIte, not_true_eq_false, not_false_eq_true, pe_ri, pe_rz, pe_rc, Cf_g0_1 hA, Cf_g0_12 hA, Cf_g0_17 hA, Cf_g0_18 hA, Cf_g0_19 hA, Cf_g0_2 hA, Cf_g0_4 hA, Cf_g0_5 hA, Cf_p0_17 hA, Cf_p0_18 hA, Cf_p0_19 hA, Cf_r12 hA, Cf_r15 hA, Cf_r22 hA]
  ·
    try dsimp only at e
    try simp -implicitDefEqProofs (disch := first | assumption | exact Nat.le_of_ble_eq_true rfl | decide) only [b529_0, g529_2, b529_2, g529_3, b529_3, g529_4, b529_4, g529_5, b529_5, pe_aload0, pe_iload2, pe_putfield, pe_iload3, pe_sipush, pe_istore4, pe_goto_w, pe_iload4, pe_getfield, pe_iload1, pe_iaload, pe_icmp_ge, pe_isub, pe_istore5, pe_iload5, pe_iadd, pe_icmp_lt, pe_dup_i, pe_dup_r, pe_icmp_eq, pe_call4, pm_af_ret, pm_af_void, pm_af_thr, pe_if_ne, pe_goto, pm_prog_1, pm_ob_some, Nat.reduceDiv, Nat.reduceMod, Nat.reduceMul, Nat.reduceAdd, Int.reduceToNat, pm_kill_i, pm_kill_r, pm_kill_n, pm_kill_j, pm_kill_l, pm_kill_d, pm_cats_nil, pm_cats_i, pm_cats_r, pm_cats_n, pm_cats_l, pm_cats_d, sz_1, sz_2, sl_1, sl_2, lc_0, lc_lt, lc_le, li_ne, va_rf, wr_m1, we_m1, pm_kill_w, Int32.reduceOfInt, Int64.reduceOfInt, Int32.reduceOfNat, Int32.reduceLT, Int32.reduceLE, Prod.mk.injEq, Nat.reduceEqDiff, reduceCtorEq, and_true, true_and, and_false, false_and, and_self, ite_true, ite_false, ↓reduceIte, not_true_eq_false, not_false_eq_true, pe_ri, pe_rz, pe_rc, Cf_g0_1 hA, Cf_g0_12 hA, Cf_g0_17 hA, Cf_g0_18 hA, Cf_g0_19 hA, Cf_g0_2 hA, Cf_g0_4 hA, Cf_g0_5 hA, Cf_p0_17 hA, Cf_p0_18 hA, Cf_p0_19 hA, Cf_r12 hA, Cf_r15 hA, Cf_r22 hA]
    refine z529_1 hA hD k1 ?_ _ _ _
    dsimp only [ex529_1]
    intro q0 q1 q2 q3 q4 q5
    have e := Option.some.inj e; subst e
    simp -implicitDefEqProofs (disch := first | assumption | exact Nat.le_of_ble_eq_true rfl | decide) only [b529_0, g529_2, b529_2, g529_3, b529_3, g529_4, b529_4, g529_5, b529_5, pe_aload0, pe_iload2, pe_putfield, pe_iload3, pe_sipush, pe_istore4, pe_goto_w, pe_iload4, pe_getfield, pe_iload1, pe_iaload, pe_icmp_ge, pe_isub, pe_istore5, pe_iload5, pe_iadd, pe_icmp_lt, pe_dup_i, pe_dup_r, pe_icmp_eq, pe_call4, pm_af_ret, pm_af_void, pm_af_thr, pe_if_ne, pe_goto, pm_prog_1, pm_ob_some, Nat.reduceDiv, Nat.reduceMod, Nat.reduceMul, Nat.reduceAdd, Int.reduceToNat, pm_kill_i, pm_kill_r, pm_kill_n, pm_kill_j, pm_kill_l, pm_kill_d, pm_cats_nil, pm_cats_i, pm_cats_r, pm_cats_n, pm_cats_l, pm_cats_d, sz_1, sz_2, sl_1, sl_2, lc_0, lc_lt, lc_le, li_ne, va_rf, wr_m1, we_m1, pm_kill_w, Int32.reduceOfInt, Int64.reduceOfInt, Int32.reduceOfNat, Int32.reduceLT, Int32.reduceLE, Prod.mk.injEq, Nat.reduceEqDiff, reduceCtorEq, and_true, true_and, and_false, false_and, and_self, ite_true, ite_false, ↓reduceIte, not_true_eq_false, not_false_eq_true, pe_ri, pe_rz, pe_rc, Cf_g0_1 hA, Cf_g0_12 hA, Cf_g0_17 hA, Cf_g0_18 hA, Cf_g0_19 hA, Cf_g0_2 hA, Cf_g0_4 hA, Cf_g0_5 hA, Cf_p0_17 hA, Cf_p0_18 hA, Cf_p0_19 hA, Cf_r12 hA, Cf_r15 hA, Cf_r22 hA]
/-- TimberHouse$FingerLengths.begin(III)Z -/
theorem c528 {d : Nat} {h : pm_H} {a : Nat} {x0 : Int32} {x1 : Int32} {x2 : Int32} (hc : pm_cls h a = some 8) : pm_call pm_prog (d + 1) 528 [.ref a, .int x0, .int x1, .int x2] h = pm_ev pm_prog (pm_call pm_prog d) 528 0 b528_0 [.ref a, .int x0, .int x1, .int x2, pm_junk, pm_junk] [] h := pm_cal (pm_rc1 hc rfl) rfl rfl rfl
theorem g528_1 {cl : pm_C} {ls st : List Value} {h : pm_H} : pm_go pm_prog cl 528 1 ls st h = pm_ev pm_prog cl 528 1 b528_1 ls st h := pm_go_eq pm_prog cl 528 1 ls st h
/-- TimberHouse$FingerLengths.begin(III)Z -/
noncomputable def f528 (S : wS) (x1 : Int32) (x2 : Int32) (x3 : Int32) : Option (Int32 × wS) :=
  (f529 S x1 x2 x3).bind fun (v1, S2) =>
  if v1 = 0 then
    if v1 = 0 ∨ v1 = 1 then
      some (v1, S2)
    else none
  else
    if 0 ≤ (S2.1 (0, 0, 0) 17) ∧ (S2.1 (0, 0, 0) 17) < 25 then
      if 0 ≤ (S2.1 (0, 0, 0) 18) ∧ (S2.1 (0, 0, 0) 18) < 61 then
        if 0 ≤ x1 ∧ x1 < 6 then
          (f577v1 S2 ((S2.2 (16, 0, 0) x1) + (S2.2 (3, (S2.1 (0, 0, 0) 17), (S2.1 (0, 0, 0) 18)) 0)) ((S2.1 (0, 0, 0) 19) + (S2.1 (3, (S2.1 (0, 0, 0) 17), (S2.1 (0, 0, 0) 18)) 1)) (S2.1 (3, (S2.1 (0, 0, 0) 17), (S2.1 (0, 0, 0) 18)) 2)).bind fun S3 =>
          if v1 = 0 ∨ v1 = 1 then
            some (v1, S3)
          else none
        else none
      else none
    else none
theorem x528  {A : wK → Nat} {h : pm_H} {D : Nat} {S : wS} {x1 : Int32} {x2 : Int32} {x3 : Int32} {r : Int32 × wS}  (hA : wok A Cf_d h.1) (hD : 3 ≤ D) (e : f528 S x1 x2 x3 = some r) : pm_call pm_prog D 528 [.ref (A (0, 0, 0)), .int x1, .int x2, .int x3] (wput A Cf_d S h) = some (match (generalizing := false) r with | (w0, S1) => (Outcome.returned (some (.int w0)), (wput A Cf_d S1 h))) := by
  obtain ⟨D, rfl⟩ : ∃ D', D = D' + 1 := ⟨D - 1, by omega⟩
  have hD : 2 ≤ D := by omega
  simp only [f528] at e
  rw [c528 (Cf_c0 hA), b528_0]
  obtain ⟨⟨v1, S2⟩, k1, e⟩ := Option.bind_eq_some_iff.mp e
  try dsimp only at e
  have z1 := x529 (D := D) (h := h) hA (by omega) k1
  dsimp only at z1
  by_cases k2 : v1 = 0
  · rw [if_pos k2] at e
    by_cases k3 : v1 = 0 ∨ v1 = 1
    · rw [if_pos k3] at e
      have e := Option.some.inj e; subst e
      simp -implicitDefEqProofs (disch := first | assumption | exact Nat.le_of_ble_eq_true rfl | decide) only [b528_0, g528_1, b528_1, pe_aload0, pe_iload1, pe_iload2, pe_iload3, pe_call4, pm_af_ret, pm_af_void, pm_af_thr, pe_istore4, pe_iload4, pe_if_eq, pe_getfield, pe_aaload, pe_astore5, pe_laload, pe_aload5, pe_ladd, pe_iadd, pe_goto_w, pm_prog_1, pm_ob_some, Nat.reduceDiv, Nat.reduceMod, Nat.reduceMul, Nat.reduceAdd, Int.reduceToNat, pm_kill_i, pm_kill_r, pm_kill_n, pm_kill_j, pm_kill_l, pm_kill_d, pm_cats_nil, pm_cats_i, pm_cats_r, pm_cats_n, pm_cats_l, pm_cats_d, sz_1, sz_2, sl_1, sl_2, lc_0, lc_lt, lc_le, li_ne, va_rf, wr_m1, we_m1, pm_kill_w, Int32.reduceOfInt, Int64.reduceOfInt, Int32.reduceOfNat, Int32.reduceLT, Int32.reduceLE, Prod.mk.injEq, Nat.reduceEqDiff, reduceCtorEq, and_true, true_and, and_false, false_and, and_self, ite_true, ite_false, ↓reduceIte, not_true_eq_false, not_false_eq_true, pe_ri, pe_rz, pe_rc, Cf_g0_14 hA, Cf_g0_15 hA, Cf_g0_17 hA, Cf_g0_18 hA, Cf_g0_19 hA, Cf_g0_6 hA, Cf_g3_0 hA, Cf_g3_1 hA, Cf_g3_2 hA, Cf_r1 hA, Cf_r16 hA, Cf_r2 hA, z1, eq_true k2]
    · rw [if_neg k3] at e; cases e
  · rw [if_neg k2] at e
    by_cases k4 : 0 ≤ (S2.1 (0, 0, 0) 17) ∧ (S2.1 (0, 0, 0) 17) < 25
    · rw [if_pos k4] at e
      by_cases k5 : 0 ≤ (S2.1 (0, 0, 0) 18) ∧ (S2.1 (0, 0, 0) 18) < 61
      · rw [if_pos k5] at e
        by_cases k6 : 0 ≤ x1 ∧ x1 < 6
        · rw [if_pos k6] at e
          obtain ⟨S3, k7, e⟩ := Option.bind_eq_some_iff.mp e
          try dsimp only at e
          have z7 := x577v1 (D := D) (h := h) hA (by omega) k7
          by_cases k8 : v1 = 0 ∨ v1 = 1
          · rw [if_pos k8] at e
            have e := Option.some.inj e; subst e
            simp -implicitDefEqProofs (disch := first | assumption | exact Nat.le_of_ble_eq_true rfl | decide) only [b528_0, g528_1, b528_1, pe_aload0, pe_iload1, pe_iload2, pe_iload3, pe_call4, pm_af_ret, pm_af_void, pm_af_thr, pe_istore4, pe_iload4, pe_if_eq, pe_getfield, pe_aaload, pe_astore5, pe_laload, pe_aload5, pe_ladd, pe_iadd, pe_goto_w, pm_prog_1, pm_ob_some, Nat.reduceDiv, Nat.reduceMod, Nat.reduceMul, Nat.reduceAdd, Int.reduceToNat, pm_kill_i, pm_kill_r, pm_kill_n, pm_kill_j, pm_kill_l, pm_kill_d, pm_cats_nil, pm_cats_i, pm_cats_r, pm_cats_n, pm_cats_l, pm_cats_d, sz_1, sz_2, sl_1, sl_2, lc_0, lc_lt, lc_le, li_ne, va_rf, wr_m1, we_m1, pm_kill_w, Int32.reduceOfInt, Int64.reduceOfInt, Int32.reduceOfNat, Int32.reduceLT, Int32.reduceLE, Prod.mk.injEq, Nat.reduceEqDiff, reduceCtorEq, and_true, true_and, and_false, false_and, and_self, ite_true, ite_false, ↓reduceIte, not_true_eq_false, not_false_eq_true, pe_ri, pe_rz, pe_rc, Cf_g0_14 hA, Cf_g0_15 hA, Cf_g0_17 hA, Cf_g0_18 hA, Cf_g0_19 hA, Cf_g0_6 hA, Cf_g3_0 hA, Cf_g3_1 hA, Cf_g3_2 hA, Cf_r1 hA, Cf_r16 hA, Cf_r2 hA, z1, eq_false k2, z7]
          · rw [if_neg k8] at e; cases e
        · rw [if_neg k6] at e; cases e
      · rw [if_neg k5] at e; cases e
    · rw [if_neg k4] at e; cases e
/-- TimberHouse$FingerLengths$Score.isBetter(LTimberHouse$FingerLengths$Score;)Z -/
theorem c579 {d : Nat} {h : pm_H} {a : Nat} {r0 : Nat} (hc : pm_cls h a = some 9) : pm_call pm_prog (d + 1) 579 [.ref a, .ref r0] h = pm_ev pm_prog (pm_call pm_prog d) 579 0 b579_0 [.ref a, .ref r0] [] h := pm_cal (pm_rc1 hc rfl) rfl rfl rfl
theorem g579_1 {cl : pm_C} {ls st : List Value} {h : pm_H} : pm_go pm_prog cl 579 1 ls st h = pm_ev pm_prog cl 579 1 b579_1 ls st h := pm_go_eq pm_prog cl 579 1 ls st h
theorem g579_2 {cl : pm_C} {ls st : List Value} {h : pm_H} : pm_go pm_prog cl 579 2 ls st h = pm_ev pm_prog cl 579 2 b579_2 ls st h := pm_go_eq pm_prog cl 579 2 ls st h
theorem g579_3 {cl : pm_C} {ls st : List Value} {h : pm_H} : pm_go pm_prog cl 579 3 ls st h = pm_ev pm_prog cl 579 3 b579_3 ls st h := pm_go_eq pm_prog cl 579 3 ls st h
theorem g579_4 {cl : pm_C} {ls st : List Value} {h : pm_H} : pm_go pm_prog cl 579 4 ls st h = pm_ev pm_prog cl 579 4 b579_4 ls st h := pm_go_eq pm_prog cl 579 4 ls st h
theorem g579_5 {cl : pm_C} {ls st : List Value} {h : pm_H} : pm_go pm_prog cl 579 5 ls st h = pm_ev pm_prog cl 579 5 b579_5 ls st h := pm_go_eq pm_prog cl 579 5 ls st h
theorem g579_6 {cl : pm_C} {ls st : List Value} {h : pm_H} : pm_go pm_prog cl 579 6 ls st h = pm_ev pm_prog cl 579 6 b579_6 ls st h := pm_go_eq pm_prog cl 579 6 ls st h
/-- TimberHouse$FingerLengths$Score.isBetter(LTimberHouse$FingerLengths$Score;)Z -/
noncomputable def f579 (S : wS) (x1i : Int32) (x1j : Int32) : Option (Int32) :=
  if 0 ≤ x1i ∧ x1i < 25 then
    if 0 ≤ x1j ∧ x1j < 61 then
      if (S.2 (4, 0, 0) 0) = (S.2 (3, x1i, x1j) 0) then
        if (S.1 (4, 0, 0) 1) = (S.1 (3, x1i, x1j) 1) then
          if (S.1 (4, 0, 0) 2) < (S.1 (3, x1i, x1j) 2) then
            some 1
          else
            some 0
        else
          if (S.1 (4, 0, 0) 1) < (S.1 (3, x1i, x1j) 1) then
            some 1
          else
            some 0
      else
        if (S.2 (4, 0, 0) 0) ≤ (S.2 (3, x1i, x1j) 0) then
          some 0
        else
          some 1
    else none
  else none
theorem x579  {A : wK → Nat} {h : pm_H} {D : Nat} {S : wS} {x1i : Int32} {x1j : Int32} {r : Int32}  (hA : wok A Cf_d h.1) (hD : 1 ≤ D) (e : f579 S x1i x1j = some r) : pm_call pm_prog D 579 [.ref (A (4, 0, 0)), .ref (A (3, x1i, x1j))] (wput A Cf_d S h) = some (Outcome.returned (some (.int r)), (wput A Cf_d S h)) := by
  obtain ⟨D, rfl⟩ : ∃ D', D = D' + 1 := ⟨D - 1, by omega⟩
  have hD : 0 ≤ D := by omega
  simp only [f579] at e
  have k1 : 0 ≤ x1i ∧ x1i < 25 := by
    by_cases q : 0 ≤ x1i ∧ x1i < 25
    · exact q
    · rw [if_neg q] at e; cases e
  rw [if_pos k1] at e
  have k2 : 0 ≤ x1j ∧ x1j < 61 := by
    by_cases q : 0 ≤ x1j ∧ x1j < 61
    · exact q
    · rw [if_neg q] at e; cases e
  rw [if_pos k2] at e
  rw [c579 (Cf_c4 hA), b579_0]
  by_cases k3 : (S.2 (4, 0, 0) 0) = (S.2 (3, x1i, x1j) 0)
  · rw [if_pos k3] at e
    by_cases k4 : (S.1 (4, 0, 0) 1) = (S.1 (3, x1i, x1j) 1)
    · rw [if_pos k4] at e
      by_cases k5 : (S.1 (4, 0, 0) 2) < (S.1 (3, x1i, x1j) 2)
      · rw [if_pos k5] at e
        have e := Option.some.inj e; subst e
        simp -implicitDefEqProofs (disch := first | assumption | exact Nat.le_of_ble_eq_true rfl | decide) only [b579_0, g579_1, b579_1, g579_2, b579_2, g579_3, b579_3, g579_4, b579_4, g579_5, b579_5, g579_6, b579_6, pe_aload0, pe_getfield, pe_aload1, pe_lcmp, pe_if_eq, pe_if_le, pe_sipush, pe_goto, pe_icmp_eq, pe_icmp_ge, pe_goto_w, pm_prog_1, pm_ob_some, Nat.reduceDiv, Nat.reduceMod, Nat.reduceMul, Nat.reduceAdd, Int.reduceToNat, pm_kill_i, pm_kill_r, pm_kill_n, pm_kill_j, pm_kill_l, pm_kill_d, pm_cats_nil, pm_cats_i, pm_cats_r, pm_cats_n, pm_cats_l, pm_cats_d, sz_1, sz_2, sl_1, sl_2, lc_0, lc_lt, lc_le, li_ne, va_rf, wr_m1, we_m1, pm_kill_w, Int32.reduceOfInt, Int64.reduceOfInt, Int32.reduceOfNat, Int32.reduceLT, Int32.reduceLE, Prod.mk.injEq, Nat.reduceEqDiff, reduceCtorEq, and_true, true_and, and_false, false_and, and_self, ite_true, ite_false, ↓reduceIte, not_true_eq_false, not_false_eq_true, pe_ri, pe_rz, pe_rc, Cf_g3_0 hA, Cf_g3_1 hA, Cf_g3_2 hA, Cf_g4_0 hA, Cf_g4_1 hA, Cf_g4_2 hA, eq_true k3, eq_true k4, eq_true k5]
      · rw [if_neg k5] at e
        have e := Option.some.inj e; subst e
        simp -implicitDefEqProofs (disch := first | assumption | exact Nat.le_of_ble_eq_true rfl | decide) only [b579_0, g579_1, b579_1, g579_2, b579_2, g579_3, b579_3, g579_4, b579_4, g579_5, b579_5, g579_6, b579_6, pe_aload0, pe_getfield, pe_aload1, pe_lcmp, pe_if_eq, pe_if_le, pe_sipush, pe_goto, pe_icmp_eq, pe_icmp_ge, pe_goto_w, pm_prog_1, pm_ob_some, Nat.reduceDiv, Nat.reduceMod, Nat.reduceMul, Nat.reduceAdd, Int.reduceToNat, pm_kill_i, pm_kill_r, pm_kill_n, pm_kill_j, pm_kill_l, pm_kill_d, pm_cats_nil, pm_cats_i, pm_cats_r, pm_cats_n, pm_cats_l, pm_cats_d, sz_1, sz_2, sl_1, sl_2, lc_0, lc_lt, lc_le, li_ne, va_rf, wr_m1, we_m1, pm_kill_w, Int32.reduceOfInt, Int64.reduceOfInt, Int32.reduceOfNat, Int32.reduceLT, Int32.reduceLE, Prod.mk.injEq, Nat.reduceEqDiff, reduceCtorEq, and_true, true_and, and_false, false_and, and_self, ite_true, ite_false, ↓reduceIte, not_true_eq_false, not_false_eq_true, pe_ri, pe_rz, pe_rc, Cf_g3_0 hA, Cf_g3_1 hA, Cf_g3_2 hA, Cf_g4_0 hA, Cf_g4_1 hA, Cf_g4_2 hA, eq_true k3, eq_true k4, eq_false k5]
    · rw [if_neg k4] at e
      by_cases k6 : (S.1 (4, 0, 0) 1) < (S.1 (3, x1i, x1j) 1)
      · rw [if_pos k6] at e
        have e := Option.some.inj e; subst e
        simp -implicitDefEqProofs (disch := first | assumption | exact Nat.le_of_ble_eq_true rfl | decide) only [b579_0, g579_1, b579_1, g579_2, b579_2, g579_3, b579_3, g579_4, b579_4, g579_5, b579_5, g579_6, b579_6, pe_aload0, pe_getfield, pe_aload1, pe_lcmp, pe_if_eq, pe_if_le, pe_sipush, pe_goto, pe_icmp_eq, pe_icmp_ge, pe_goto_w, pm_prog_1, pm_ob_some, Nat.reduceDiv, Nat.reduceMod, Nat.reduceMul, Nat.reduceAdd, Int.reduceToNat, pm_kill_i, pm_kill_r, pm_kill_n, pm_kill_j, pm_kill_l, pm_kill_d, pm_cats_nil, pm_cats_i, pm_cats_r, pm_cats_n, pm_cats_l, pm_cats_d, sz_1, sz_2, sl_1, sl_2, lc_0, lc_lt, lc_le, li_ne, va_rf, wr_m1, we_m1, pm_kill_w, Int32.reduceOfInt, Int64.reduceOfInt, Int32.reduceOfNat, Int32.reduceLT, Int32.reduceLE, Prod.mk.injEq, Nat.reduceEqDiff, reduceCtorEq, and_true, true_and, and_false, false_and, and_self, ite_true, ite_false, ↓reduceIte, not_true_eq_false, not_false_eq_true, pe_ri, pe_rz, pe_rc, Cf_g3_0 hA, Cf_g3_1 hA, Cf_g3_2 hA, Cf_g4_0 hA, Cf_g4_1 hA, Cf_g4_2 hA, eq_true k3, eq_false k4, eq_true k6]
      · rw [if_neg k6] at e
        have e := Option.some.inj e; subst e
        simp -implicitDefEqProofs (disch := first | assumption | exact Nat.le_of_ble_eq_true rfl | decide) only [b579_0, g579_1, b579_1, g579_2, b579_2, g579_3, b579_3, g579_4, b579_4, g579_5, b579_5, g579_6, b579_6, pe_aload0, pe_getfield, pe_aload1, pe_lcmp, pe_if_eq, pe_if_le, pe_sipush, pe_goto, pe_icmp_eq, pe_icmp_ge, pe_goto_w, pm_prog_1, pm_ob_some, Nat.reduceDiv, Nat.reduceMod, Nat.reduceMul, Nat.reduceAdd, Int.reduceToNat, pm_kill_i, pm_kill_r, pm_kill_n, pm_kill_j, pm_kill_l, pm_kill_d, pm_cats_nil, pm_cats_i, pm_cats_r, pm_cats_n, pm_cats_l, pm_cats_d, sz_1, sz_2, sl_1, sl_2, lc_0, lc_lt, lc_le, li_ne, va_rf, wr_m1, we_m1, pm_kill_w, Int32.reduceOfInt, Int64.reduceOfInt, Int32.reduceOfNat, Int32.reduceLT, Int32.reduceLE, Prod.mk.injEq, Nat.reduceEqDiff, reduceCtorEq, and_true, true_and, and_false, false_and, and_self, ite_true, ite_false, ↓reduceIte, not_true_eq_false, not_false_eq_true, pe_ri, pe_rz, pe_rc, Cf_g3_0 hA, Cf_g3_1 hA, Cf_g3_2 hA, Cf_g4_0 hA, Cf_g4_1 hA, Cf_g4_2 hA, eq_true k3, eq_false k4, eq_false k6]
  · rw [if_neg k3] at e
    by_cases k7 : (S.2 (4, 0, 0) 0) ≤ (S.2 (3, x1i, x1j) 0)
    · rw [if_pos k7] at e
      have e := Option.some.inj e; subst e
      simp -implicitDefEqProofs (disch := first | assumption | exact Nat.le_of_ble_eq_true rfl | decide) only [b579_0, g579_1, b579_1, g579_2, b579_2, g579_3, b579_3, g579_4, b579_4, g579_5, b579_5, g579_6, b579_6, pe_aload0, pe_getfield, pe_aload1, pe_lcmp, pe_if_eq, pe_if_le, pe_sipush, pe_goto, pe_icmp_eq, pe_icmp_ge, pe_goto_w, pm_prog_1, pm_ob_some, Nat.reduceDiv, Nat.reduceMod, Nat.reduceMul, Nat.reduceAdd, Int.reduceToNat, pm_kill_i, pm_kill_r, pm_kill_n, pm_kill_j, pm_kill_l, pm_kill_d, pm_cats_nil, pm_cats_i, pm_cats_r, pm_cats_n, pm_cats_l, pm_cats_d, sz_1, sz_2, sl_1, sl_2, lc_0, lc_lt, lc_le, li_ne, va_rf, wr_m1, we_m1, pm_kill_w, Int32.reduceOfInt, Int64.reduceOfInt, Int32.reduceOfNat, Int32.reduceLT, Int32.reduceLE, Prod.mk.injEq, Nat.reduceEqDiff, reduceCtorEq, and_true, true_and, and_false, false_and, and_self, ite_true, ite_false, ↓reduceIte, not_true_eq_false, not_false_eq_true, pe_ri, pe_rz, pe_rc, Cf_g3_0 hA, Cf_g3_1 hA, Cf_g3_2 hA, Cf_g4_0 hA, Cf_g4_1 hA, Cf_g4_2 hA, eq_false k3, eq_true k7]
    · rw [if_neg k7] at e
      have e := Option.some.inj e; subst e
      simp -implicitDefEqProofs (disch := first | assumption | exact Nat.le_of_ble_eq_true rfl | decide) only [b579_0, g579_1, b579_1, g579_2, b579_2, g579_3, b579_3, g579_4, b579_4, g579_5, b579_5, g579_6, b579_6, pe_aload0, pe_getfield, pe_aload1, pe_lcmp, pe_if_eq, pe_if_le, pe_sipush, pe_goto, pe_icmp_eq, pe_icmp_ge, pe_goto_w, pm_prog_1, pm_ob_some, Nat.reduceDiv, Nat.reduceMod, Nat.reduceMul, Nat.reduceAdd, Int.reduceToNat, pm_kill_i, pm_kill_r, pm_kill_n, pm_kill_j, pm_kill_l, pm_kill_d, pm_cats_nil, pm_cats_i, pm_cats_r, pm_cats_n, pm_cats_l, pm_cats_d, sz_1, sz_2, sl_1, sl_2, lc_0, lc_lt, lc_le, li_ne, va_rf, wr_m1, we_m1, pm_kill_w, Int32.reduceOfInt, Int64.reduceOfInt, Int32.reduceOfNat, Int32.reduceLT, Int32.reduceLE, Prod.mk.injEq, Nat.reduceEqDiff, reduceCtorEq, and_true, true_and, and_false, false_and, and_self, ite_true, ite_false, ↓reduceIte, not_true_eq_false, not_false_eq_true, pe_ri, pe_rz, pe_rc, Cf_g3_0 hA, Cf_g3_1 hA, Cf_g3_2 hA, Cf_g4_0 hA, Cf_g4_1 hA, Cf_g4_2 hA, eq_false k3, eq_false k7]
/-- TimberHouse$FingerLengths.fill()V -/
theorem c526 {d : Nat} {h : pm_H} {a : Nat} (hc : pm_cls h a = some 8) : pm_call pm_prog (d + 1) 526 [.ref a] h = pm_ev pm_prog (pm_call pm_prog d) 526 0 b526_0 [.ref a, pm_junk, pm_junk, pm_junk, pm_junk] [] h := pm_cal (pm_rc1 hc rfl) rfl rfl rfl
theorem g526_1 {cl : pm_C} {ls st : List Value} {h : pm_H} : pm_go pm_prog cl 526 1 ls st h = pm_ev pm_prog cl 526 1 b526_1 ls st h := pm_go_eq pm_prog cl 526 1 ls st h
theorem g526_2 {cl : pm_C} {ls st : List Value} {h : pm_H} : pm_go pm_prog cl 526 2 ls st h = pm_ev pm_prog cl 526 2 b526_2 ls st h := pm_go_eq pm_prog cl 526 2 ls st h
theorem g526_3 {cl : pm_C} {ls st : List Value} {h : pm_H} : pm_go pm_prog cl 526 3 ls st h = pm_ev pm_prog cl 526 3 b526_3 ls st h := pm_go_eq pm_prog cl 526 3 ls st h
theorem g526_4 {cl : pm_C} {ls st : List Value} {h : pm_H} : pm_go pm_prog cl 526 4 ls st h = pm_ev pm_prog cl 526 4 b526_4 ls st h := pm_go_eq pm_prog cl 526 4 ls st h
theorem g526_5 {cl : pm_C} {ls st : List Value} {h : pm_H} : pm_go pm_prog cl 526 5 ls st h = pm_ev pm_prog cl 526 5 b526_5 ls st h := pm_go_eq pm_prog cl 526 5 ls st h
theorem g526_6 {cl : pm_C} {ls st : List Value} {h : pm_H} : pm_go pm_prog cl 526 6 ls st h = pm_ev pm_prog cl 526 6 b526_6 ls st h := pm_go_eq pm_prog cl 526 6 ls st h
theorem g526_7 {cl : pm_C} {ls st : List Value} {h : pm_H} : pm_go pm_prog cl 526 7 ls st h = pm_ev pm_prog cl 526 7 b526_7 ls st h := pm_go_eq pm_prog cl 526 7 ls st h
noncomputable def f526_b3 : Int32 × Int32 × Int32 × wS → Option ((Int32 × Int32 × Int32 × wS) ⊕ ((Int32 × Int32 × wS))) := fun (x1, x3, x4, S) =>
  if x4 < (S.1 (0, 0, 0) 7) then
    (f528 S x4 x1 x3).bind fun (v5, S6) =>
    if v5 = 0 then
      some (.inl (x1, x3, (x4 + 1), S6))
    else
      if 0 ≤ x1 ∧ x1 < 25 then
        if 0 ≤ x3 ∧ x3 < 61 then
          (f579 S6 x1 x3).bind fun v7 =>
          if v7 = 0 then
            some (.inl (x1, x3, (x4 + 1), S6))
          else
            (f578v1 S6 x1 x3).bind fun S8 =>
            some (.inl (x1, x3, (x4 + 1), S8))
        else none
      else none
  else
    some (.inr (x1, x3, S))
noncomputable def f526_b2 : Int32 × Int32 × wS → Option ((Int32 × Int32 × wS) ⊕ ((Int32 × wS))) := fun (x1, x3, S) =>
  if x3 < 0 then
    some (.inr (x1, S))
  else
    (f527 S x1 x3).bind fun S3 =>
    if 0 ≤ x1 ∧ x1 < 25 then
      if 0 ≤ x3 ∧ x3 < 61 then
        (f578v1 S3 x1 x3).bind fun S4 =>
        (lp (f526_b3) FU (x1, x3, 0, S4)).bind fun (v11, v12, S9) =>
        some (.inl (v11, (v12 + (-1)), S9))
      else none
    else none
noncomputable def f526_b1 : Int32 × wS → Option ((Int32 × wS) ⊕ ((wS))) := fun (x1, S) =>
  if x1 < 0 then
    some (.inr S)
  else
    if 0 ≤ x1 ∧ x1 < 24 then
      if 0 ≤ (S.1 (22, 0, 0) x1) ∧ (S.1 (22, 0, 0) x1) < 24 then
        if 0 ≤ x1 ∧ x1 < 25 then
          if 0 ≤ (S.1 (12, 0, 0) (S.1 (22, 0, 0) x1)) ∧ (S.1 (12, 0, 0) (S.1 (22, 0, 0) x1)) < 61 then
            if 0 ≤ (x1 + 1) ∧ (x1 + 1) < 25 then
              (f578 S x1 (S.1 (12, 0, 0) (S.1 (22, 0, 0) x1)) (x1 + 1) 0).bind fun S2 =>
              (lp (f526_b2) FU (x1, ((S.1 (12, 0, 0) (S.1 (22, 0, 0) x1)) - 1), S2)).bind fun (v15, S13) =>
              some (.inl ((v15 + (-1)), S13))
            else none
          else none
        else none
      else none
    else none
/-- TimberHouse$FingerLengths.fill()V -/
noncomputable def f526 (S : wS) : Option (wS) :=
  if 0 ≤ (S.1 (0, 0, 0) 4) ∧ (S.1 (0, 0, 0) 4) < 25 then
    (f577 S (S.1 (0, 0, 0) 4) 0 0 0 0).bind fun S1 =>
    (lp (f526_b1) FU (((S1.1 (0, 0, 0) 4) - 1), S1)).bind fun S16 =>
    some S16
  else none
def go526_3 (A : wK → Nat) (h : pm_H) (D : Nat) (R : Outcome × pm_H) : Int32 × Int32 × Int32 × wS → Prop := fun (x1, x3, x4, S) => ∀ q2 : Value, pm_go pm_prog (pm_call pm_prog D) 526 3 [.ref (A (0, 0, 0)), .int x1, q2, .int x3, .int x4] [] (wput A Cf_d S h) = some R
def ex526_3 (A : wK → Nat) (h : pm_H) (D : Nat) (R : Outcome × pm_H) : (Int32 × Int32 × wS) → Prop := fun (x1, x3, S) => ∀ q2 q4 : Value, pm_go pm_prog (pm_call pm_prog D) 526 5 [.ref (A (0, 0, 0)), .int x1, q2, .int x3, q4] [] (wput A Cf_d S h) = some R
theorem y526_b3  {A : wK → Nat} {h : pm_H} {D : Nat} {R : Outcome × pm_H}  (hA : wok A Cf_d h.1) (hD : 3 ≤ D) (a : Int32 × Int32 × Int32 × wS) (r : (Int32 × Int32 × Int32 × wS) ⊕ ((Int32 × Int32 × wS))) (e : f526_b3 a = some r) (hc : Sum.elim (go526_3 A h D R) (ex526_3 A h D R) r) : go526_3 A h D R a := by
  obtain ⟨x1, x3, x4, S⟩ := a
  dsimp only [go526_3]
  intro q2
  simp only [f526_b3] at e
  rw [g526_3, b526_3]
  by_cases k1 : x4 < (S.1 (0, 0, 0) 7)
  · rw [if_pos k1] at e
    obtain ⟨⟨v5, S6⟩, k2, e⟩ := Option.bind_eq_some_iff.mp e
    try dsimp only at e
    have z2 := x528 (D := D) (h := h) hA (by omega) k2
    dsimp only at z2
    by_cases k3 : v5 = 0
    · rw [if_pos k3] at e
      have e := Option.some.inj e; subst e
      dsimp only [Sum.elim_inl, go526_3] at hc
      simp -implicitDefEqProofs (disch := first | assumption | exact Nat.le_of_ble_eq_true rfl | decide) only [b526_0, g526_4, b526_4, g526_5, b526_5, g526_6, b526_6, g526_7, b526_7, pe_aload0, pe_getfield, pe_aaload, pe_sipush, pe_bipush, pe_call4, pm_af_ret, pm_af_void, pm_af_thr, pe_isub, pe_istore1, pe_goto_w, pe_iload1, pe_if_lt, pe_iaload, pe_istore2, pe_iload2, pe_iadd, pe_call2, pe_istore3, pe_iload3, pe_call3, pe_istore4, pe_iload4, pe_icmp_ge, pe_if_eq, pe_iinc4, pe_goto, pe_iinc3, pe_iinc1, pe_return, pm_prog_1, pm_ob_some, Nat.reduceDiv, Nat.reduceMod, Nat.reduceMul, Nat.reduceAdd, Int.reduceToNat, pm_kill_i, pm_kill_r, pm_kill_n, pm_kill_j, pm_kill_l, pm_kill_d, pm_cats_nil, pm_cats_i, pm_cats_r, pm_cats_n, pm_cats_l, pm_cats_d, sz_1, sz_2, sl_1, sl_2, lc_0, lc_lt, lc_le, li_ne, va_rf, wr_m1, we_m1, pm_kill_w, Int32.reduceOfInt, Int64.reduceOfInt, Int32.reduceOfNat, Int32.reduceLT, Int32.reduceLE, Prod.mk.injEq, Nat.reduceEqDiff, reduceCtorEq, and_true, true_and, and_false, false_and, and_self, ite_true, ite_false, ↓reduceIte, not_true_eq_false, not_false_eq_true, pe_ri, pe_rz, pe_rc, Cf_g0_12 hA, Cf_g0_14 hA, Cf_g0_15 hA, Cf_g0_2 hA, Cf_g0_4 hA, Cf_g0_7 hA, Cf_r1 hA, Cf_r12 hA, Cf_r2 hA, Cf_r22 hA, eq_true k1, z2, eq_true k3, hc]
    · rw [if_neg k3] at e
      by_cases k4 : 0 ≤ x1 ∧ x1 < 25
      · rw [if_pos k4] at e
        by_cases k5 : 0 ≤ x3 ∧ x3 < 61
        · rw [if_pos k5] at e
          obtain ⟨v7, k6, e⟩ := Option.bind_eq_some_iff.mp e
          try dsimp only at e
          have z6 := x579 (D := D) (h := h) hA (by omega) k6
          by_cases k7 : v7 = 0
          · rw [if_pos k7] at e
            have e := Option.some.inj e; subst e
            dsimp only [Sum.elim_inl, go526_3] at hc
            simp -implicitDefEqProofs (disch := first | assumption | exact Nat.le_of_ble_eq_true rfl | decide) only [b526_0, g526_4, b526_4, g526_5, b526_5, g526_6, b526_6, g526_7, b526_7, pe_aload0, pe_getfield, pe_aaload, pe_sipush, pe_bipush, pe_call4, pm_af_ret, pm_af_void, pm_af_thr, pe_isub, pe_istore1, pe_goto_w, pe_iload1, pe_if_lt, pe_iaload, pe_istore2, pe_iload2, pe_iadd, pe_call2, pe_istore3, pe_iload3, pe_call3, pe_istore4, pe_iload4, pe_icmp_ge, pe_if_eq, pe_iinc4, pe_goto, pe_iinc3, pe_iinc1, pe_return, pm_prog_1, pm_ob_some, Nat.reduceDiv, Nat.reduceMod, Nat.reduceMul, Nat.reduceAdd, Int.reduceToNat, pm_kill_i, pm_kill_r, pm_kill_n, pm_kill_j, pm_kill_l, pm_kill_d, pm_cats_nil, pm_cats_i, pm_cats_r, pm_cats_n, pm_cats_l, pm_cats_d, sz_1, sz_2, sl_1, sl_2, lc_0, lc_lt, lc_le, li_ne, va_rf, wr_m1, we_m1, pm_kill_w, Int32.reduceOfInt, Int64.reduceOfInt, Int32.reduceOfNat, Int32.reduceLT, Int32.reduceLE, Prod.mk.injEq, Nat.reduceEqDiff, reduceCtorEq, and_true, true_and, and_false, false_and, and_self, ite_true, ite_false, ↓reduceIte, not_true_eq_false, not_false_eq_true, pe_ri, pe_rz, pe_rc, Cf_g0_12 hA, Cf_g0_14 hA, Cf_g0_15 hA, Cf_g0_2 hA, Cf_g0_4 hA, Cf_g0_7 hA, Cf_r1 hA, Cf_r12 hA, Cf_r2 hA, Cf_r22 hA, eq_true k1, z2, eq_false k3, z6, eq_true k7, hc]
          · rw [if_neg k7] at e
            obtain ⟨S8, k8, e⟩ := Option.bind_eq_some_iff.mp e
            try dsimp only at e
            have z8 := x578v1 (D := D) (h := h) hA (by omega) k8
            have e := Option.some.inj e; subst e
            dsimp only [Sum.elim_inl, go526_3] at hc
            simp -implicitDefEqProofs (disch := first | assumption | exact Nat.le_of_ble_eq_true rfl | decide) only [b526_0, g526_4, b526_4, g526_5, b526_5, g526_6, b526_6, g526_7, b526_7, pe_aload0, pe_getfield, pe_aaload, pe_sipush, pe_bipush, pe_call4, pm_af_ret, pm_af_void, pm_af_thr, pe_isub, pe_istore1, pe_goto_w, pe_iload1, pe_if_lt, pe_iaload, pe_istore2, pe_iload2, pe_iadd, pe_call2, pe_istore3, pe_iload3, pe_call3, pe_istore4, pe_iload4, pe_icmp_ge, pe_if_eq, pe_iinc4, pe_goto, pe_iinc3, pe_iinc1, pe_return, pm_prog_1, pm_ob_some, Nat.reduceDiv, Nat.reduceMod, Nat.reduceMul, Nat.reduceAdd, Int.reduceToNat, pm_kill_i, pm_kill_r, pm_kill_n, pm_kill_j, pm_kill_l, pm_kill_d, pm_cats_nil, pm_cats_i, pm_cats_r, pm_cats_n, pm_cats_l, pm_cats_d, sz_1, sz_2, sl_1, sl_2, lc_0, lc_lt, lc_le, li_ne, va_rf, wr_m1, we_m1, pm_kill_w, Int32.reduceOfInt, Int64.reduceOfInt, Int32.reduceOfNat, Int32.reduceLT, Int32.reduceLE, Prod.mk.injEq, Nat.reduceEqDiff, reduceCtorEq, and_true, true_and, and_false, false_and, and_self, ite_true, ite_false, ↓reduceIte, not_true_eq_false, not_false_eq_true, pe_ri, pe_rz, pe_rc, Cf_g0_12 hA, Cf_g0_14 hA, Cf_g0_15 hA, Cf_g0_2 hA, Cf_g0_4 hA, Cf_g0_7 hA, Cf_r1 hA, Cf_r12 hA, Cf_r2 hA, Cf_r22 hA, eq_true k1, z2, eq_false k3, z6, eq_false k7, z8, hc]
        · rw [if_neg k5] at e; cases e
      · rw [if_neg k4] at e; cases e
  · rw [if_neg k1] at e
    have e := Option.some.inj e; subst e
    dsimp only [Sum.elim_inr, ex526_3] at hc
    simp -implicitDefEqProofs (disch := first | assumption | exact Nat.le_of_ble_eq_true rfl | decide) only [b526_0, g526_4, b526_4, g526_5, b526_5, g526_6, b526_6, g526_7, b526_7, pe_aload0, pe_getfield, pe_aaload, pe_sipush, pe_bipush, pe_call4, pm_af_ret, pm_af_void, pm_af_thr, pe_isub, pe_istore1, pe_goto_w, pe_iload1, pe_if_lt, pe_iaload, pe_istore2, pe_iload2, pe_iadd, pe_call2, pe_istore3, pe_iload3, pe_call3, pe_istore4, pe_iload4, pe_icmp_ge, pe_if_eq, pe_iinc4, pe_goto, pe_iinc3, pe_iinc1, pe_return, pm_prog_1, pm_ob_some, Nat.reduceDiv, Nat.reduceMod, Nat.reduceMul, Nat.reduceAdd, Int.reduceToNat, pm_kill_i, pm_kill_r, pm_kill_n, pm_kill_j, pm_kill_l, pm_kill_d, pm_cats_nil, pm_cats_i, pm_cats_r, pm_cats_n, pm_cats_l, pm_cats_d, sz_1, sz_2, sl_1, sl_2, lc_0, lc_lt, lc_le, li_ne, va_rf, wr_m1, we_m1, pm_kill_w, Int32.reduceOfInt, Int64.reduceOfInt, Int32.reduceOfNat, Int32.reduceLT, Int32.reduceLE, Prod.mk.injEq, Nat.reduceEqDiff, reduceCtorEq, and_true, true_and, and_false, false_and, and_self, ite_true, ite_false, ↓reduceIte, not_true_eq_false, not_false_eq_true, pe_ri, pe_rz, pe_rc, Cf_g0_12 hA, Cf_g0_14 hA, Cf_g0_15 hA, Cf_g0_2 hA, Cf_g0_4 hA, Cf_g0_7 hA, Cf_r1 hA, Cf_r12 hA, Cf_r2 hA, Cf_r22 hA, eq_false k1, hc]
theorem z526_3  {A : wK → Nat} {h : pm_H} {D : Nat} {R : Outcome × pm_H}  (hA : wok A Cf_d h.1) (hD : 3 ≤ D) {n : Nat} {a : Int32 × Int32 × Int32 × wS} {b : (Int32 × Int32 × wS)} (e : lp (f526_b3) n a = some b) (hx : ex526_3 A h D R b) : go526_3 A h D R a := lp_run (fun a r => y526_b3 hA hD a r) n a b e hx
def go526_2 (A : wK → Nat) (h : pm_H) (D : Nat) (R : Outcome × pm_H) : Int32 × Int32 × wS → Prop := fun (x1, x3, S) => ∀ q2 q4 : Value, pm_go pm_prog (pm_call pm_prog D) 526 2 [.ref (A (0, 0, 0)), .int x1, q2, .int x3, q4] [] (wput A Cf_d S h) = some R
def ex526_2 (A : wK → Nat) (h : pm_H) (D : Nat) (R : Outcome × pm_H) : (Int32 × wS) → Prop := fun (x1, S) => ∀ q2 q3 q4 : Value, pm_go pm_prog (pm_call pm_prog D) 526 6 [.ref (A (0, 0, 0)), .int x1, q2, q3, q4] [] (wput A Cf_d S h) = some R
theorem y526_b2  {A : wK → Nat} {h : pm_H} {D : Nat} {R : Outcome × pm_H}  (hA : wok A Cf_d h.1) (hD : 3 ≤ D) (a : Int32 × Int32 × wS) (r : (Int32 × Int32 × wS) ⊕ ((Int32 × wS))) (e : f526_b2 a = some r) (hc : Sum.elim (go526_2 A h D R) (ex526_2 A h D R) r) : go526_2 A h D R a := by
  obtain ⟨x1, x3, S⟩ := a
  dsimp only [go526_2]
  intro q2 q4
  simp only [f526_b2] at e
  rw [g526_2, b526_2]
  by_cases k1 : x3 < 0
  · rw [if_pos k1] at e
    have e := Option.some.inj e; subst e
    dsimp only [Sum.elim_inr, ex526_2] at hc
    simp -implicitDefEqProofs (disch := first | assumption | exact Nat.le_of_ble_eq_true rfl | decide) only [b526_0, g526_4, b526_4, g526_5, b526_5, g526_6, b526_6, g526_7, b526_7, pe_aload0, pe_getfield, pe_aaload, pe_sipush, pe_bipush, pe_call4, pm_af_ret, pm_af_void, pm_af_thr, pe_isub, pe_istore1, pe_goto_w, pe_iload1, pe_if_lt, pe_iaload, pe_istore2, pe_iload2, pe_iadd, pe_call2, pe_istore3, pe_iload3, pe_call3, pe_istore4, pe_iload4, pe_icmp_ge, pe_if_eq, pe_iinc4, pe_goto, pe_iinc3, pe_iinc1, pe_return, pm_prog_1, pm_ob_some, Nat.reduceDiv, Nat.reduceMod, Nat.reduceMul, Nat.reduceAdd, Int.reduceToNat, pm_kill_i, pm_kill_r, pm_kill_n, pm_kill_j, pm_kill_l, pm_kill_d, pm_cats_nil, pm_cats_i, pm_cats_r, pm_cats_n, pm_cats_l, pm_cats_d, sz_1, sz_2, sl_1, sl_2, lc_0, lc_lt, lc_le, li_ne, va_rf, wr_m1, we_m1, pm_kill_w, Int32.reduceOfInt, Int64.reduceOfInt, Int32.reduceOfNat, Int32.reduceLT, Int32.reduceLE, Prod.mk.injEq, Nat.reduceEqDiff, reduceCtorEq, and_true, true_and, and_false, false_and, and_self, ite_true, ite_false, ↓reduceIte, not_true_eq_false, not_false_eq_true, pe_ri, pe_rz, pe_rc, Cf_g0_12 hA, Cf_g0_14 hA, Cf_g0_15 hA, Cf_g0_2 hA, Cf_g0_4 hA, Cf_g0_7 hA, Cf_r1 hA, Cf_r12 hA, Cf_r2 hA, Cf_r22 hA, eq_true k1, hc]
  · rw [if_neg k1] at e
    obtain ⟨S3, k2, e⟩ := Option.bind_eq_some_iff.mp e
    try dsimp only at e
    have z2 := x527 (D := D) (h := h) hA (by omega) k2
    by_cases k3 : 0 ≤ x1 ∧ x1 < 25
    · rw [if_pos k3] at e
      by_cases k4 : 0 ≤ x3 ∧ x3 < 61
      · rw [if_pos k4] at e
        obtain ⟨S4, k5, e⟩ := Option.bind_eq_some_iff.mp e
        try dsimp only at e
        have z5 := x578v1 (D := D) (h := h) hA (by omega) k5
        obtain ⟨⟨v11, v12, S9⟩, k6, e⟩ := Option.bind_eq_some_iff.mp e
        try dsimp only at e
        try simp -implicitDefEqProofs (disch := first | assumption | exact Nat.le_of_ble_eq_true rfl | decide) only [b526_0, g526_4, b526_4, g526_5, b526_5, g526_6, b526_6, g526_7, b526_7, pe_aload0, pe_getfield, pe_aaload, pe_sipush, pe_bipush, pe_call4, pm_af_ret, pm_af_void, pm_af_thr, pe_isub, pe_istore1, pe_goto_w, pe_iload1, pe_if_lt, pe_iaload, pe_istore2, pe_iload2, pe_iadd, pe_call2, pe_istore3, pe_iload3, pe_call3, pe_istore4, pe_iload4, pe_icmp_ge, pe_if_eq, pe_iinc4, pe_goto, pe_iinc3, pe_iinc1, pe_return, pm_prog_1, pm_ob_some, Nat.reduceDiv, Nat.reduceMod, Nat.reduceMul, Nat.reduceAdd, Int.reduceToNat, pm_kill_i, pm_kill_r, pm_kill_n, pm_kill_j, pm_kill_l, pm_kill_d, pm_cats_nil, pm_cats_i, pm_cats_r, pm_cats_n, pm_cats_l, pm_cats_d, sz_1, sz_2, sl_1, sl_2, lc_0, lc_lt, lc_le, li_ne, va_rf, wr_m1, we_m1, pm_kill_w, Int32.reduceOfInt, Int64.reduceOfInt, Int32.reduceOfNat, Int32.reduceLT, Int32.reduceLE, Prod.mk.injEq, Nat.reduceEqDiff, reduceCtorEq, and_true, true_and, and_false, false_and, and_self, ite_true, ite_false, ↓reduceIte, not_true_eq_false, not_false_eq_true, pe_ri, pe_rz, pe_rc, Cf_g0_12 hA, Cf_g0_14 hA, Cf_g0_15 hA, Cf_g0_2 hA, Cf_g0_4 hA, Cf_g0_7 hA, Cf_r1 hA, Cf_r12 hA, Cf_r2 hA, Cf_r22 hA, eq_false k1, z2, z5]
        refine z526_3 hA hD k6 ?_ _
        dsimp only [ex526_3]
        intro q2 q4
        have e := Option.some.inj e; subst e
        dsimp only [Sum.elim_inl, go526_2] at hc
        simp -implicitDefEqProofs (disch := first | assumption | exact Nat.le_of_ble_eq_true rfl | decide) only [b526_0, g526_4, b526_4, g526_5, b526_5, g526_6, b526_6, g526_7, b526_7, pe_aload0, pe_getfield, pe_aaload, pe_sipush, pe_bipush, pe_call4, pm_af_ret, pm_af_void, pm_af_thr, pe_isub, pe_istore1, pe_goto_w, pe_iload1, pe_if_lt, pe_iaload, pe_istore2, pe_iload2, pe_iadd, pe_call2, pe_istore3, pe_iload3, pe_call3, pe_istore4, pe_iload4, pe_icmp_ge, pe_if_eq, pe_iinc4, pe_goto, pe_iinc3, pe_iinc1, pe_return, pm_prog_1, pm_ob_some, Nat.reduceDiv, Nat.reduceMod, Nat.reduceMul, Nat.reduceAdd, Int.reduceToNat, pm_kill_i, pm_kill_r, pm_kill_n, pm_kill_j, pm_kill_l, pm_kill_d, pm_cats_nil, pm_cats_i, pm_cats_r, pm_cats_n, pm_cats_l, pm_cats_d, sz_1, sz_2, sl_1, sl_2, lc_0, lc_lt, lc_le, li_ne, va_rf, wr_m1, we_m1, pm_kill_w, Int32.reduceOfInt, Int64.reduceOfInt, Int32.reduceOfNat, Int32.reduceLT, Int32.reduceLE, Prod.mk.injEq, Nat.reduceEqDiff, reduceCtorEq, and_true, true_and, and_false, false_and, and_self, ite_true, ite_false, ↓reduceIte, not_true_eq_false, not_false_eq_true, pe_ri, pe_rz, pe_rc, Cf_g0_12 hA, Cf_g0_14 hA, Cf_g0_15 hA, Cf_g0_2 hA, Cf_g0_4 hA, Cf_g0_7 hA, Cf_r1 hA, Cf_r12 hA, Cf_r2 hA, Cf_r22 hA, eq_false k1, z2, z5, hc]
      · rw [if_neg k4] at e; cases e
    · rw [if_neg k3] at e; cases e
theorem z526_2  {A : wK → Nat} {h : pm_H} {D : Nat} {R : Outcome × pm_H}  (hA : wok A Cf_d h.1) (hD : 3 ≤ D) {n : Nat} {a : Int32 × Int32 × wS} {b : (Int32 × wS)} (e : lp (f526_b2) n a = some b) (hx : ex526_2 A h D R b) : go526_2 A h D R a := lp_run (fun a r => y526_b2 hA hD a r) n a b e hx
def go526_1 (A : wK → Nat) (h : pm_H) (D : Nat) (R : Outcome × pm_H) : Int32 × wS → Prop := fun (x1, S) => ∀ q2 q3 q4 : Value, pm_go pm_prog (pm_call pm_prog D) 526 1 [.ref (A (0, 0, 0)), .int x1, q2, q3, q4] [] (wput A Cf_d S h) = some R
def ex526_1 (A : wK → Nat) (h : pm_H) (D : Nat) (R : Outcome × pm_H) : (wS) → Prop := fun S => ∀ q0 q1 q2 q3 q4 : Value, pm_go pm_prog (pm_call pm_prog D) 526 7 [q0, q1, q2, q3, q4] [] (wput A Cf_d S h) = some R
theorem y526_b1  {A : wK → Nat} {h : pm_H} {D : Nat} {R : Outcome × pm_H}  (hA : wok A Cf_d h.1) (hD : 3 ≤ D) (a : Int32 × wS) (r : (Int32 × wS) ⊕ ((wS))) (e : f526_b1 a = some r) (hc : Sum.elim (go526_1 A h D R) (ex526_1 A h D R) r) : go526_1 A h D R a := by
  obtain ⟨x1, S⟩ := a
  dsimp only [go526_1]
  intro q2 q3 q4
  simp only [f526_b1] at e
  rw [g526_1, b526_1]
  by_cases k1 : x1 < 0
  · rw [if_pos k1] at e
    have e := Option.some.inj e; subst e
    dsimp only [Sum.elim_inr, ex526_1] at hc
    simp -implicitDefEqProofs (disch := first | assumption | exact Nat.le_of_ble_eq_true rfl | decide) only [b526_0, g526_4, b526_4, g526_5, b526_5, g526_6, b526_6, g526_7, b526_7, pe_aload0, pe_getfield, pe_aaload, pe_sipush, pe_bipush, pe_call4, pm_af_ret, pm_af_void, pm_af_thr, pe_isub, pe_istore1, pe_goto_w, pe_iload1, pe_if_lt, pe_iaload, pe_istore2, pe_iload2, pe_iadd, pe_call2, pe_istore3, pe_iload3, pe_call3, pe_istore4, pe_iload4, pe_icmp_ge, pe_if_eq, pe_iinc4, pe_goto, pe_iinc3, pe_iinc1, pe_return, pm_prog_1, pm_ob_some, Nat.reduceDiv, Nat.reduceMod, Nat.reduceMul, Nat.reduceAdd, Int.reduceToNat, pm_kill_i, pm_kill_r, pm_kill_n, pm_kill_j, pm_kill_l, pm_kill_d, pm_cats_nil, pm_cats_i, pm_cats_r, pm_cats_n, pm_cats_l, pm_cats_d, sz_1, sz_2, sl_1, sl_2, lc_0, lc_lt, lc_le, li_ne, va_rf, wr_m1, we_m1, pm_kill_w, Int32.reduceOfInt, Int64.reduceOfInt, Int32.reduceOfNat, Int32.reduceLT, Int32.reduceLE, Prod.mk.injEq, Nat.reduceEqDiff, reduceCtorEq, and_true, true_and, and_false, false_and, and_self, ite_true, ite_false, ↓reduceIte, not_true_eq_false, not_false_eq_true, pe_ri, pe_rz, pe_rc, Cf_g0_12 hA, Cf_g0_14 hA, Cf_g0_15 hA, Cf_g0_2 hA, Cf_g0_4 hA, Cf_g0_7 hA, Cf_r1 hA, Cf_r12 hA, Cf_r2 hA, Cf_r22 hA, eq_true k1, hc]
  · rw [if_neg k1] at e
    by_cases k2 : 0 ≤ x1 ∧ x1 < 24
    · rw [if_pos k2] at e
      by_cases k3 : 0 ≤ (S.1 (22, 0, 0) x1) ∧ (S.1 (22, 0, 0) x1) < 24
      · rw [if_pos k3] at e
        by_cases k4 : 0 ≤ x1 ∧ x1 < 25
        · rw [if_pos k4] at e
          by_cases k5 : 0 ≤ (S.1 (12, 0, 0) (S.1 (22, 0, 0) x1)) ∧ (S.1 (12, 0, 0) (S.1 (22, 0, 0) x1)) < 61
          · rw [if_pos k5] at e
            by_cases k6 : 0 ≤ (x1 + 1) ∧ (x1 + 1) < 25
            · rw [if_pos k6] at e
              obtain ⟨S2, k7, e⟩ := Option.bind_eq_some_iff.mp e
              try dsimp only at e
              have z7 := x578 (D := D) (h := h) hA (by omega) k7
              obtain ⟨⟨v15, S13⟩, k8, e⟩ := Option.bind_eq_some_iff.mp e
              try dsimp only at e
              try simp -implicitDefEqProofs (disch := first | assumption | exact Nat.le_of_ble_eq_true rfl | decide) only [b526_0, g526_4, b526_4, g526_5, b526_5, g526_6, b526_6, g526_7, b526_7, pe_aload0, pe_getfield, pe_aaload, pe_sipush, pe_bipush, pe_call4, pm_af_ret, pm_af_void, pm_af_thr, pe_isub, pe_istore1, pe_goto_w, pe_iload1, pe_if_lt, pe_iaload, pe_istore2, pe_iload2, pe_iadd, pe_call2, pe_istore3, pe_iload3, pe_call3, pe_istore4, pe_iload4, pe_icmp_ge, pe_if_eq, pe_iinc4, pe_goto, pe_iinc3, pe_iinc1, pe_return, pm_prog_1, pm_ob_some, Nat.reduceDiv, Nat.reduceMod, Nat.reduceMul, Nat.reduceAdd, Int.reduceToNat, pm_kill_i, pm_kill_r, pm_kill_n, pm_kill_j, pm_kill_l, pm_kill_d, pm_cats_nil, pm_cats_i, pm_cats_r, pm_cats_n, pm_cats_l, pm_cats_d, sz_1, sz_2, sl_1, sl_2, lc_0, lc_lt, lc_le, li_ne, va_rf, wr_m1, we_m1, pm_kill_w, Int32.reduceOfInt, Int64.reduceOfInt, Int32.reduceOfNat, Int32.reduceLT, Int32.reduceLE, Prod.mk.injEq, Nat.reduceEqDiff, reduceCtorEq, and_true, true_and, and_false, false_and, and_self, ite_true, ite_false, ↓reduceIte, not_true_eq_false, not_false_eq_true, pe_ri, pe_rz, pe_rc, Cf_g0_12 hA, Cf_g0_14 hA, Cf_g0_15 hA, Cf_g0_2 hA, Cf_g0_4 hA, Cf_g0_7 hA, Cf_r1 hA, Cf_r12 hA, Cf_r2 hA, Cf_r22 hA, eq_false k1, z7]
              refine z526_2 hA hD k8 ?_ _ _
              dsimp only [ex526_2]
              intro q2 q3 q4
              have e := Option.some.inj e; subst e
              dsimp only [Sum.elim_inl, go526_1] at hc
              simp -implicitDefEqProofs (disch := first | assumption | exact Nat.le_of_ble_eq_true rfl | decide) only [b526_0, g526_4, b526_4, g526_5, b526_5, g526_6, b526_6, g526_7, b526_7, pe_aload0, pe_getfield, pe_aaload, pe_sipush, pe_bipush, pe_call4, pm_af_ret, pm_af_void, pm_af_thr, pe_isub, pe_istore1, pe_goto_w, pe_iload1, pe_if_lt, pe_iaload, pe_istore2, pe_iload2, pe_iadd, pe_call2, pe_istore3, pe_iload3, pe_call3, pe_istore4, pe_iload4, pe_icmp_ge, pe_if_eq, pe_iinc4, pe_goto, pe_iinc3, pe_iinc1, pe_return, pm_prog_1, pm_ob_some, Nat.reduceDiv, Nat.reduceMod, Nat.reduceMul, Nat.reduceAdd, Int.reduceToNat, pm_kill_i, pm_kill_r, pm_kill_n, pm_kill_j, pm_kill_l, pm_kill_d, pm_cats_nil, pm_cats_i, pm_cats_r, pm_cats_n, pm_cats_l, pm_cats_d, sz_1, sz_2, sl_1, sl_2, lc_0, lc_lt, lc_le, li_ne, va_rf, wr_m1, we_m1, pm_kill_w, Int32.reduceOfInt, Int64.reduceOfInt, Int32.reduceOfNat, Int32.reduceLT, Int32.reduceLE, Prod.mk.injEq, Nat.reduceEqDiff, reduceCtorEq, and_true, true_and, and_false, false_and, and_self, ite_true, ite_false, ↓reduceIte, not_true_eq_false, not_false_eq_true, pe_ri, pe_rz, pe_rc, Cf_g0_12 hA, Cf_g0_14 hA, Cf_g0_15 hA, Cf_g0_2 hA, Cf_g0_4 hA, Cf_g0_7 hA, Cf_r1 hA, Cf_r12 hA, Cf_r2 hA, Cf_r22 hA, eq_false k1, z7, hc]
            · rw [if_neg k6] at e; cases e
          · rw [if_neg k5] at e; cases e
        · rw [if_neg k4] at e; cases e
      · rw [if_neg k3] at e; cases e
    · rw [if_neg k2] at e; cases e
theorem z526_1  {A : wK → Nat} {h : pm_H} {D : Nat} {R : Outcome × pm_H}  (hA : wok A Cf_d h.1) (hD : 3 ≤ D) {n : Nat} {a : Int32 × wS} {b : (wS)} (e : lp (f526_b1) n a = some b) (hx : ex526_1 A h D R b) : go526_1 A h D R a := lp_run (fun a r => y526_b1 hA hD a r) n a b e hx
theorem x526  {A : wK → Nat} {h : pm_H} {D : Nat} {S : wS} {r : wS}  (hA : wok A Cf_d h.1) (hD : 4 ≤ D) (e : f526 S = some r) : pm_call pm_prog D 526 [.ref (A (0, 0, 0))] (wput A Cf_d S h) = some (Outcome.returned none, (wput A Cf_d r h)) := by
  obtain ⟨D, rfl⟩ : ∃ D', D = D' + 1 := ⟨D - 1, by omega⟩
  have hD : 3 ≤ D := by omega
  simp only [f526] at e
  rw [c526 (Cf_c0 hA), b526_0]
  by_cases k1 : 0 ≤ (S.1 (0, 0, 0) 4) ∧ (S.1 (0, 0, 0) 4) < 25
  · rw [if_pos k1] at e
    obtain ⟨S1, k2, e⟩ := Option.bind_eq_some_iff.mp e
    try dsimp only at e
    have z2 := x577 (D := D) (h := h) hA (by omega) k2
    obtain ⟨S16, k3, e⟩ := Option.bind_eq_some_iff.mp e
    try dsimp only at e
    try simp -implicitDefEqProofs (disch := first | assumption | exact Nat.le_of_ble_eq_true rfl | decide) only [b526_0, g526_4, b526_4, g526_5, b526_5, g526_6, b526_6, g526_7, b526_7, pe_aload0, pe_getfield, pe_aaload, pe_sipush, pe_bipush, pe_call4, pm_af_ret, pm_af_void, pm_af_thr, pe_isub, pe_istore1, pe_goto_w, pe_iload1, pe_if_lt, pe_iaload, pe_istore2, pe_iload2, pe_iadd, pe_call2, pe_istore3, pe_iload3, pe_call3, pe_istore4, pe_iload4, pe_icmp_ge, pe_if_eq, pe_iinc4, pe_goto, pe_iinc3, pe_iinc1, pe_return, pm_prog_1, pm_ob_some, Nat.reduceDiv, Nat.reduceMod, Nat.reduceMul, Nat.reduceAdd, Int.reduceToNat, pm_kill_i, pm_kill_r, pm_kill_n, pm_kill_j, pm_kill_l, pm_kill_d, pm_cats_nil, pm_cats_i, pm_cats_r, pm_cats_n, pm_cats_l, pm_cats_d, sz_1, sz_2, sl_1, sl_2, lc_0, lc_lt, lc_le, li_ne, va_rf, wr_m1, we_m1, pm_kill_w, Int32.reduceOfInt, Int64.reduceOfInt, Int32.reduceOfNat, Int32.reduceLT, Int32.reduceLE, Prod.mk.injEq, Nat.reduceEqDiff, reduceCtorEq, and_true, true_and, and_false, false_and, and_self, ite_true, ite_false, ↓reduceIte, not_true_eq_false, not_false_eq_true, pe_ri, pe_rz, pe_rc, Cf_g0_12 hA, Cf_g0_14 hA, Cf_g0_15 hA, Cf_g0_2 hA, Cf_g0_4 hA, Cf_g0_7 hA, Cf_r1 hA, Cf_r12 hA, Cf_r2 hA, Cf_r22 hA, z2]
    refine z526_1 hA hD k3 ?_ _ _ _
    dsimp only [ex526_1]
    intro q0 q1 q2 q3 q4
    have e := Option.some.inj e; subst e
    simp -implicitDefEqProofs (disch := first | assumption | exact Nat.le_of_ble_eq_true rfl | decide) only [b526_0, g526_4, b526_4, g526_5, b526_5, g526_6, b526_6, g526_7, b526_7, pe_aload0, pe_getfield, pe_aaload, pe_sipush, pe_bipush, pe_call4, pm_af_ret, pm_af_void, pm_af_thr, pe_isub, pe_istore1, pe_goto_w, pe_iload1, pe_if_lt, pe_iaload, pe_istore2, pe_iload2, pe_iadd, pe_call2, pe_istore3, pe_iload3, pe_call3, pe_istore4, pe_iload4, pe_icmp_ge, pe_if_eq, pe_iinc4, pe_goto, pe_iinc3, pe_iinc1, pe_return, pm_prog_1, pm_ob_some, Nat.reduceDiv, Nat.reduceMod, Nat.reduceMul, Nat.reduceAdd, Int.reduceToNat, pm_kill_i, pm_kill_r, pm_kill_n, pm_kill_j, pm_kill_l, pm_kill_d, pm_cats_nil, pm_cats_i, pm_cats_r, pm_cats_n, pm_cats_l, pm_cats_d, sz_1, sz_2, sl_1, sl_2, lc_0, lc_lt, lc_le, li_ne, va_rf, wr_m1, we_m1, pm_kill_w, Int32.reduceOfInt, Int64.reduceOfInt, Int32.reduceOfNat, Int32.reduceLT, Int32.reduceLE, Prod.mk.injEq, Nat.reduceEqDiff, reduceCtorEq, and_true, true_and, and_false, false_and, and_self, ite_true, ite_false, ↓reduceIte, not_true_eq_false, not_false_eq_true, pe_ri, pe_rz, pe_rc, Cf_g0_12 hA, Cf_g0_14 hA, Cf_g0_15 hA, Cf_g0_2 hA, Cf_g0_4 hA, Cf_g0_7 hA, Cf_r1 hA, Cf_r12 hA, Cf_r2 hA, Cf_r22 hA, z2]
  · rw [if_neg k1] at e; cases e
/-- TimberHouse$FingerLengths$Score.isSame(LTimberHouse$FingerLengths$Score;)Z -/
theorem c580 {d : Nat} {h : pm_H} {a : Nat} {r0 : Nat} (hc : pm_cls h a = some 9) : pm_call pm_prog (d + 1) 580 [.ref a, .ref r0] h = pm_ev pm_prog (pm_call pm_prog d) 580 0 b580_0 [.ref a, .ref r0] [] h := pm_cal (pm_rc1 hc rfl) rfl rfl rfl
theorem g580_1 {cl : pm_C} {ls st : List Value} {h : pm_H} : pm_go pm_prog cl 580 1 ls st h = pm_ev pm_prog cl 580 1 b580_1 ls st h := pm_go_eq pm_prog cl 580 1 ls st h
theorem g580_2 {cl : pm_C} {ls st : List Value} {h : pm_H} : pm_go pm_prog cl 580 2 ls st h = pm_ev pm_prog cl 580 2 b580_2 ls st h := pm_go_eq pm_prog cl 580 2 ls st h
/-- TimberHouse$FingerLengths$Score.isSame(LTimberHouse$FingerLengths$Score;)Z -/
noncomputable def f580 (S : wS) (x1i : Int32) (x1j : Int32) : Option (Int32) :=
  if 0 ≤ x1i ∧ x1i < 25 then
    if 0 ≤ x1j ∧ x1j < 61 then
      if (S.2 (4, 0, 0) 0) = (S.2 (3, x1i, x1j) 0) then
        if (S.1 (4, 0, 0) 1) = (S.1 (3, x1i, x1j) 1) then
          if (S.1 (4, 0, 0) 2) = (S.1 (3, x1i, x1j) 2) then
            some 1
          else
            some 0
        else
          some 0
      else
        some 0
    else none
  else none
theorem x580  {A : wK → Nat} {h : pm_H} {D : Nat} {S : wS} {x1i : Int32} {x1j : Int32} {r : Int32}  (hA : wok A Cf_d h.1) (hD : 1 ≤ D) (e : f580 S x1i x1j = some r) : pm_call pm_prog D 580 [.ref (A (4, 0, 0)), .ref (A (3, x1i, x1j))] (wput A Cf_d S h) = some (Outcome.returned (some (.int r)), (wput A Cf_d S h)) := by
  obtain ⟨D, rfl⟩ : ∃ D', D = D' + 1 := ⟨D - 1, by omega⟩
  have hD : 0 ≤ D := by omega
  simp only [f580] at e
  have k1 : 0 ≤ x1i ∧ x1i < 25 := by
    by_cases q : 0 ≤ x1i ∧ x1i < 25
    · exact q
    · rw [if_neg q] at e; cases e
  rw [if_pos k1] at e
  have k2 : 0 ≤ x1j ∧ x1j < 61 := by
    by_cases q : 0 ≤ x1j ∧ x1j < 61
    · exact q
    · rw [if_neg q] at e; cases e
  rw [if_pos k2] at e
  rw [c580 (Cf_c4 hA), b580_0]
  by_cases k3 : (S.2 (4, 0, 0) 0) = (S.2 (3, x1i, x1j) 0)
  · rw [if_pos k3] at e
    by_cases k4 : (S.1 (4, 0, 0) 1) = (S.1 (3, x1i, x1j) 1)
    · rw [if_pos k4] at e
      by_cases k5 : (S.1 (4, 0, 0) 2) = (S.1 (3, x1i, x1j) 2)
      · rw [if_pos k5] at e
        have e := Option.some.inj e; subst e
        simp -implicitDefEqProofs (disch := first | assumption | exact Nat.le_of_ble_eq_true rfl | decide) only [b580_0, g580_1, b580_1, g580_2, b580_2, pe_aload0, pe_getfield, pe_aload1, pe_lcmp, pe_if_ne, pe_icmp_ne, pe_sipush, pe_goto, pe_goto_w, pm_prog_1, pm_ob_some, Nat.reduceDiv, Nat.reduceMod, Nat.reduceMul, Nat.reduceAdd, Int.reduceToNat, pm_kill_i, pm_kill_r, pm_kill_n, pm_kill_j, pm_kill_l, pm_kill_d, pm_cats_nil, pm_cats_i, pm_cats_r, pm_cats_n, pm_cats_l, pm_cats_d, sz_1, sz_2, sl_1, sl_2, lc_0, lc_lt, lc_le, li_ne, va_rf, wr_m1, we_m1, pm_kill_w, Int32.reduceOfInt, Int64.reduceOfInt, Int32.reduceOfNat, Int32.reduceLT, Int32.reduceLE, Prod.mk.injEq, Nat.reduceEqDiff, reduceCtorEq, and_true, true_and, and_false, false_and, and_self, ite_true, ite_false, ↓reduceIte, not_true_eq_false, not_false_eq_true, pe_ri, pe_rz, pe_rc, Cf_g3_0 hA, Cf_g3_1 hA, Cf_g3_2 hA, Cf_g4_0 hA, Cf_g4_1 hA, Cf_g4_2 hA, eq_true k3, eq_true k4, eq_true k5]
      · rw [if_neg k5] at e
        have e := Option.some.inj e; subst e
        simp -implicitDefEqProofs (disch := first | assumption | exact Nat.le_of_ble_eq_true rfl | decide) only [b580_0, g580_1, b580_1, g580_2, b580_2, pe_aload0, pe_getfield, pe_aload1, pe_lcmp, pe_if_ne, pe_icmp_ne, pe_sipush, pe_goto, pe_goto_w, pm_prog_1, pm_ob_some, Nat.reduceDiv, Nat.reduceMod, Nat.reduceMul, Nat.reduceAdd, Int.reduceToNat, pm_kill_i, pm_kill_r, pm_kill_n, pm_kill_j, pm_kill_l, pm_kill_d, pm_cats_nil, pm_cats_i, pm_cats_r, pm_cats_n, pm_cats_l, pm_cats_d, sz_1, sz_2, sl_1, sl_2, lc_0, lc_lt, lc_le, li_ne, va_rf, wr_m1, we_m1, pm_kill_w, Int32.reduceOfInt, Int64.reduceOfInt, Int32.reduceOfNat, Int32.reduceLT, Int32.reduceLE, Prod.mk.injEq, Nat.reduceEqDiff, reduceCtorEq, and_true, true_and, and_false, false_and, and_self, ite_true, ite_false, ↓reduceIte, not_true_eq_false, not_false_eq_true, pe_ri, pe_rz, pe_rc, Cf_g3_0 hA, Cf_g3_1 hA, Cf_g3_2 hA, Cf_g4_0 hA, Cf_g4_1 hA, Cf_g4_2 hA, eq_true k3, eq_true k4, eq_false k5]
    · rw [if_neg k4] at e
      have e := Option.some.inj e; subst e
      simp -implicitDefEqProofs (disch := first | assumption | exact Nat.le_of_ble_eq_true rfl | decide) only [b580_0, g580_1, b580_1, g580_2, b580_2, pe_aload0, pe_getfield, pe_aload1, pe_lcmp, pe_if_ne, pe_icmp_ne, pe_sipush, pe_goto, pe_goto_w, pm_prog_1, pm_ob_some, Nat.reduceDiv, Nat.reduceMod, Nat.reduceMul, Nat.reduceAdd, Int.reduceToNat, pm_kill_i, pm_kill_r, pm_kill_n, pm_kill_j, pm_kill_l, pm_kill_d, pm_cats_nil, pm_cats_i, pm_cats_r, pm_cats_n, pm_cats_l, pm_cats_d, sz_1, sz_2, sl_1, sl_2, lc_0, lc_lt, lc_le, li_ne, va_rf, wr_m1, we_m1, pm_kill_w, Int32.reduceOfInt, Int64.reduceOfInt, Int32.reduceOfNat, Int32.reduceLT, Int32.reduceLE, Prod.mk.injEq, Nat.reduceEqDiff, reduceCtorEq, and_true, true_and, and_false, false_and, and_self, ite_true, ite_false, ↓reduceIte, not_true_eq_false, not_false_eq_true, pe_ri, pe_rz, pe_rc, Cf_g3_0 hA, Cf_g3_1 hA, Cf_g3_2 hA, Cf_g4_0 hA, Cf_g4_1 hA, Cf_g4_2 hA, eq_true k3, eq_false k4]
  · rw [if_neg k3] at e
    have e := Option.some.inj e; subst e
    simp -implicitDefEqProofs (disch := first | assumption | exact Nat.le_of_ble_eq_true rfl | decide) only [b580_0, g580_1, b580_1, g580_2, b580_2, pe_aload0, pe_getfield, pe_aload1, pe_lcmp, pe_if_ne, pe_icmp_ne, pe_sipush, pe_goto, pe_goto_w, pm_prog_1, pm_ob_some, Nat.reduceDiv, Nat.reduceMod, Nat.reduceMul, Nat.reduceAdd, Int.reduceToNat, pm_kill_i, pm_kill_r, pm_kill_n, pm_kill_j, pm_kill_l, pm_kill_d, pm_cats_nil, pm_cats_i, pm_cats_r, pm_cats_n, pm_cats_l, pm_cats_d, sz_1, sz_2, sl_1, sl_2, lc_0, lc_lt, lc_le, li_ne, va_rf, wr_m1, we_m1, pm_kill_w, Int32.reduceOfInt, Int64.reduceOfInt, Int32.reduceOfNat, Int32.reduceLT, Int32.reduceLE, Prod.mk.injEq, Nat.reduceEqDiff, reduceCtorEq, and_true, true_and, and_false, false_and, and_self, ite_true, ite_false, ↓reduceIte, not_true_eq_false, not_false_eq_true, pe_ri, pe_rz, pe_rc, Cf_g3_0 hA, Cf_g3_1 hA, Cf_g3_2 hA, Cf_g4_0 hA, Cf_g4_1 hA, Cf_g4_2 hA, eq_false k3]
/-- TimberHouse$FingerLengths.make(III)V -/
theorem c532 {d : Nat} {h : pm_H} {a : Nat} {x0 : Int32} {x1 : Int32} {x2 : Int32} (hc : pm_cls h a = some 8) : pm_call pm_prog (d + 1) 532 [.ref a, .int x0, .int x1, .int x2] h = pm_ev pm_prog (pm_call pm_prog d) 532 0 b532_0 [.ref a, .int x0, .int x1, .int x2, pm_junk, pm_junk, pm_junk] [] h := pm_cal (pm_rc1 hc rfl) rfl rfl rfl
theorem g532_1 {cl : pm_C} {ls st : List Value} {h : pm_H} : pm_go pm_prog cl 532 1 ls st h = pm_ev pm_prog cl 532 1 b532_1 ls st h := pm_go_eq pm_prog cl 532 1 ls st h
theorem g532_2 {cl : pm_C} {ls st : List Value} {h : pm_H} : pm_go pm_prog cl 532 2 ls st h = pm_ev pm_prog cl 532 2 b532_2 ls st h := pm_go_eq pm_prog cl 532 2 ls st h
noncomputable def f532_b1 : Int32 × Int32 × Int32 × wS → Option ((Int32 × Int32 × Int32 × wS) ⊕ ((wS))) := fun (x2, x5, x6, S) =>
  if x6 < (S.1 (0, 0, 0) 19) then
    if 0 ≤ (S.1 (0, 0, 0) 30) ∧ (S.1 (0, 0, 0) 30) < 24 then
      if 0 ≤ ((x2 + 1) + x6) ∧ ((x2 + 1) + x6) < 24 then
        if 0 ≤ (S.1 (22, 0, 0) ((x2 + 1) + x6)) ∧ (S.1 (22, 0, 0) ((x2 + 1) + x6)) < 24 then
          some (.inl (x2, (x5 + ((S.1 (12, 0, 0) (S.1 (22, 0, 0) ((x2 + 1) + x6))) - (S.1 (0, 0, 0) 1))), (x6 + 1), (sz (sz (sz (sz S (37, 0, 0) (S.1 (0, 0, 0) 30) (S.1 (0, 0, 0) 26)) (38, 0, 0) (S.1 (0, 0, 0) 30) x5) (0, 0, 0) 30 ((S.1 (0, 0, 0) 30) + 1)) (39, 0, 0) (S.1 (0, 0, 0) 30) ((x2 + 1) + x6))))
        else none
      else none
    else none
  else
    some (.inr S)
/-- TimberHouse$FingerLengths.make(III)V -/
noncomputable def f532 (S : wS) (x1 : Int32) (x2 : Int32) (x3 : Int32) : Option (wS) :=
  (f529 S x1 x2 x3).bind fun (v1, S2) =>
  if 0 ≤ (S2.1 (0, 0, 0) 26) ∧ (S2.1 (0, 0, 0) 26) < 1440 then
    if 0 ≤ x2 ∧ x2 < 24 then
      if 0 ≤ (S2.1 (22, 0, 0) x2) ∧ (S2.1 (22, 0, 0) x2) < 24 then
        (lp (f532_b1) FU (x2, ((S2.1 (12, 0, 0) (S2.1 (22, 0, 0) x2)) - x3), 0, (sz (sz (sz (sz (sz S2 (31, 0, 0) (S2.1 (0, 0, 0) 26) x1) (32, 0, 0) (S2.1 (0, 0, 0) 26) x2) (33, 0, 0) (S2.1 (0, 0, 0) 26) x3) (34, 0, 0) (S2.1 (0, 0, 0) 26) (S2.1 (0, 0, 0) 19)) (35, 0, 0) (S2.1 (0, 0, 0) 26) 0))).bind fun S3 =>
        some (sz S3 (0, 0, 0) 26 ((S3.1 (0, 0, 0) 26) + 1))
      else none
    else none
  else none
def go532_1 (A : wK → Nat) (h : pm_H) (D : Nat) (R : Outcome × pm_H) : Int32 × Int32 × Int32 × wS → Prop := fun (x2, x5, x6, S) => ∀ q1 q3 q4 : Value, pm_go pm_prog (pm_call pm_prog D) 532 1 [.ref (A (0, 0, 0)), q1, .int x2, q3, q4, .int x5, .int x6] [] (wput A Cf_d S h) = some R
def ex532_1 (A : wK → Nat) (h : pm_H) (D : Nat) (R : Outcome × pm_H) : (wS) → Prop := fun S => ∀ q1 q2 q3 q4 q5 q6 : Value, pm_go pm_prog (pm_call pm_prog D) 532 2 [.ref (A (0, 0, 0)), q1, q2, q3, q4, q5, q6] [] (wput A Cf_d S h) = some R
theorem y532_b1  {A : wK → Nat} {h : pm_H} {D : Nat} {R : Outcome × pm_H}  (hA : wok A Cf_d h.1) (hD : 2 ≤ D) (a : Int32 × Int32 × Int32 × wS) (r : (Int32 × Int32 × Int32 × wS) ⊕ ((wS))) (e : f532_b1 a = some r) (hc : Sum.elim (go532_1 A h D R) (ex532_1 A h D R) r) : go532_1 A h D R a := by
  obtain ⟨x2, x5, x6, S⟩ := a
  dsimp only [go532_1]
  intro q1 q3 q4
  simp only [f532_b1] at e
  rw [g532_1, b532_1]
  by_cases k1 : x6 < (S.1 (0, 0, 0) 19)
  · rw [if_pos k1] at e
    by_cases k2 : 0 ≤ (S.1 (0, 0, 0) 30) ∧ (S.1 (0, 0, 0) 30) < 24
    · rw [if_pos k2] at e
      by_cases k3 : 0 ≤ ((x2 + 1) + x6) ∧ ((x2 + 1) + x6) < 24
      · rw [if_pos k3] at e
        by_cases k4 : 0 ≤ (S.1 (22, 0, 0) ((x2 + 1) + x6)) ∧ (S.1 (22, 0, 0) ((x2 + 1) + x6)) < 24
        · rw [if_pos k4] at e
          have e := Option.some.inj e; subst e
          dsimp only [Sum.elim_inl, go532_1] at hc
          simp -implicitDefEqProofs (disch := first | assumption | exact Nat.le_of_ble_eq_true rfl | decide) only [b532_0, g532_2, b532_2, pe_aload0, pe_iload1, pe_iload2, pe_iload3, pe_call4, pm_af_ret, pm_af_void, pm_af_thr, pe_istore4, pe_getfield, pe_iastore, pe_sipush, pe_iaload, pe_isub, pe_istore5, pe_istore6, pe_goto_w, pe_iload6, pe_icmp_ge, pe_iload5, pe_dup_i, pe_dup_r, pe_dup_x1_ii, pe_dup_x1_ir, pe_dup_x1_ri, pe_dup_x1_rr, pe_iadd, pe_putfield, pe_iinc6, pe_goto, pe_return, pm_prog_1, pm_ob_some, Nat.reduceDiv, Nat.reduceMod, Nat.reduceMul, Nat.reduceAdd, Int.reduceToNat, pm_kill_i, pm_kill_r, pm_kill_n, pm_kill_j, pm_kill_l, pm_kill_d, pm_cats_nil, pm_cats_i, pm_cats_r, pm_cats_n, pm_cats_l, pm_cats_d, sz_1, sz_2, sl_1, sl_2, lc_0, lc_lt, lc_le, li_ne, va_rf, wr_m1, we_m1, pm_kill_w, Int32.reduceOfInt, Int64.reduceOfInt, Int32.reduceOfNat, Int32.reduceLT, Int32.reduceLE, Prod.mk.injEq, Nat.reduceEqDiff, reduceCtorEq, and_true, true_and, and_false, false_and, and_self, ite_true, ite_false, ↓reduceIte, not_true_eq_false, not_false_eq_true, pe_ri, pe_rz, pe_rc, Cf_g0_1 hA, Cf_g0_12 hA, Cf_g0_19 hA, Cf_g0_2 hA, Cf_g0_21 hA, Cf_g0_22 hA, Cf_g0_23 hA, Cf_g0_24 hA, Cf_g0_25 hA, Cf_g0_26 hA, Cf_g0_27 hA, Cf_g0_28 hA, Cf_g0_29 hA, Cf_g0_30 hA, Cf_p0_26 hA, Cf_p0_30 hA, Cf_r12 hA, Cf_r22 hA, Cf_w31 hA, Cf_w32 hA, Cf_w33 hA, Cf_w34 hA, Cf_w35 hA, Cf_w37 hA, Cf_w38 hA, Cf_w39 hA, eq_true k1, hc]
        · rw [if_neg k4] at e; cases e
      · rw [if_neg k3] at e; cases e
    · rw [if_neg k2] at e; cases e
  · rw [if_neg k1] at e
    have e := Option.some.inj e; subst e
    dsimp only [Sum.elim_inr, ex532_1] at hc
    simp -implicitDefEqProofs (disch := first | assumption | exact Nat.le_of_ble_eq_true rfl | decide) only [b532_0, g532_2, b532_2, pe_aload0, pe_iload1, pe_iload2, pe_iload3, pe_call4, pm_af_ret, pm_af_void, pm_af_thr, pe_istore4, pe_getfield, pe_iastore, pe_sipush, pe_iaload, pe_isub, pe_istore5, pe_istore6, pe_goto_w, pe_iload6, pe_icmp_ge, pe_iload5, pe_dup_i, pe_dup_r, pe_dup_x1_ii, pe_dup_x1_ir, pe_dup_x1_ri, pe_dup_x1_rr, pe_iadd, pe_putfield, pe_iinc6, pe_goto, pe_return, pm_prog_1, pm_ob_some, Nat.reduceDiv, Nat.reduceMod, Nat.reduceMul, Nat.reduceAdd, Int.reduceToNat, pm_kill_i, pm_kill_r, pm_kill_n, pm_kill_j, pm_kill_l, pm_kill_d, pm_cats_nil, pm_cats_i, pm_cats_r, pm_cats_n, pm_cats_l, pm_cats_d, sz_1, sz_2, sl_1, sl_2, lc_0, lc_lt, lc_le, li_ne, va_rf, wr_m1, we_m1, pm_kill_w, Int32.reduceOfInt, Int64.reduceOfInt, Int32.reduceOfNat, Int32.reduceLT, Int32.reduceLE, Prod.mk.injEq, Nat.reduceEqDiff, reduceCtorEq, and_true, true_and, and_false, false_and, and_self, ite_true, ite_false, ↓reduceIte, not_true_eq_false, not_false_eq_true, pe_ri, pe_rz, pe_rc, Cf_g0_1 hA, Cf_g0_12 hA, Cf_g0_19 hA, Cf_g0_2 hA, Cf_g0_21 hA, Cf_g0_22 hA, Cf_g0_23 hA, Cf_g0_24 hA, Cf_g0_25 hA, Cf_g0_26 hA, Cf_g0_27 hA, Cf_g0_28 hA, Cf_g0_29 hA, Cf_g0_30 hA, Cf_p0_26 hA, Cf_p0_30 hA, Cf_r12 hA, Cf_r22 hA, Cf_w31 hA, Cf_w32 hA, Cf_w33 hA, Cf_w34 hA, Cf_w35 hA, Cf_w37 hA, Cf_w38 hA, Cf_w39 hA, eq_false k1, hc]
theorem z532_1  {A : wK → Nat} {h : pm_H} {D : Nat} {R : Outcome × pm_H}  (hA : wok A Cf_d h.1) (hD : 2 ≤ D) {n : Nat} {a : Int32 × Int32 × Int32 × wS} {b : (wS)} (e : lp (f532_b1) n a = some b) (hx : ex532_1 A h D R b) : go532_1 A h D R a := lp_run (fun a r => y532_b1 hA hD a r) n a b e hx
theorem x532  {A : wK → Nat} {h : pm_H} {D : Nat} {S : wS} {x1 : Int32} {x2 : Int32} {x3 : Int32} {r : wS}  (hA : wok A Cf_d h.1) (hD : 3 ≤ D) (e : f532 S x1 x2 x3 = some r) : pm_call pm_prog D 532 [.ref (A (0, 0, 0)), .int x1, .int x2, .int x3] (wput A Cf_d S h) = some (Outcome.returned none, (wput A Cf_d r h)) := by
  obtain ⟨D, rfl⟩ : ∃ D', D = D' + 1 := ⟨D - 1, by omega⟩
  have hD : 2 ≤ D := by omega
  simp only [f532] at e
  rw [c532 (Cf_c0 hA), b532_0]
  obtain ⟨⟨v1, S2⟩, k1, e⟩ := Option.bind_eq_some_iff.mp e
  try dsimp only at e
  have z1 := x529 (D := D) (h := h) hA (by omega) k1
  dsimp only at z1
  by_cases k2 : 0 ≤ (S2.1 (0, 0, 0) 26) ∧ (S2.1 (0, 0, 0) 26) < 1440
  · rw [if_pos k2] at e
    by_cases k3 : 0 ≤ x2 ∧ x2 < 24
    · rw [if_pos k3] at e
      by_cases k4 : 0 ≤ (S2.1 (22, 0, 0) x2) ∧ (S2.1 (22, 0, 0) x2) < 24
      · rw [if_pos k4] at e
        obtain ⟨S3, k5, e⟩ := Option.bind_eq_some_iff.mp e
        try dsimp only at e
        try simp -implicitDefEqProofs (disch := first | assumption | exact Nat.le_of_ble_eq_true rfl | decide) only [b532_0, g532_2, b532_2, pe_aload0, pe_iload1, pe_iload2, pe_iload3, pe_call4, pm_af_ret, pm_af_void, pm_af_thr, pe_istore4, pe_getfield, pe_iastore, pe_sipush, pe_iaload, pe_isub, pe_istore5, pe_istore6, pe_goto_w, pe_iload6, pe_icmp_ge, pe_iload5, pe_dup_i, pe_dup_r, pe_dup_x1_ii, pe_dup_x1_ir, pe_dup_x1_ri, pe_dup_x1_rr, pe_iadd, pe_putfield, pe_iinc6, pe_goto, pe_return, pm_prog_1, pm_ob_some, Nat.reduceDiv, Nat.reduceMod, Nat.reduceMul, Nat.reduceAdd, Int.reduceToNat, pm_kill_i, pm_kill_r, pm_kill_n, pm_kill_j, pm_kill_l, pm_kill_d, pm_cats_nil, pm_cats_i, pm_cats_r, pm_cats_n, pm_cats_l, pm_cats_d, sz_1, sz_2, sl_1, sl_2, lc_0, lc_lt, lc_le, li_ne, va_rf, wr_m1, we_m1, pm_kill_w, Int32.reduceOfInt, Int64.reduceOfInt, Int32.reduceOfNat, Int32.reduceLT, Int32.reduceLE, Prod.mk.injEq, Nat.reduceEqDiff, reduceCtorEq, and_true, true_and, and_false, false_and, and_self, ite_true, ite_false, ↓reduceIte, not_true_eq_false, not_false_eq_true, pe_ri, pe_rz, pe_rc, Cf_g0_1 hA, Cf_g0_12 hA, Cf_g0_19 hA, Cf_g0_2 hA, Cf_g0_21 hA, Cf_g0_22 hA, Cf_g0_23 hA, Cf_g0_24 hA, Cf_g0_25 hA, Cf_g0_26 hA, Cf_g0_27 hA, Cf_g0_28 hA, Cf_g0_29 hA, Cf_g0_30 hA, Cf_p0_26 hA, Cf_p0_30 hA, Cf_r12 hA, Cf_r22 hA, Cf_w31 hA, Cf_w32 hA, Cf_w33 hA, Cf_w34 hA, Cf_w35 hA, Cf_w37 hA, Cf_w38 hA, Cf_w39 hA, z1]
        refine z532_1 hA hD k5 ?_ _ _ _
        dsimp only [ex532_1]
        intro q1 q2 q3 q4 q5 q6
        have e := Option.some.inj e; subst e
        simp -implicitDefEqProofs (disch := first | assumption | exact Nat.le_of_ble_eq_true rfl | decide) only [b532_0, g532_2, b532_2, pe_aload0, pe_iload1, pe_iload2, pe_iload3, pe_call4, pm_af_ret, pm_af_void, pm_af_thr, pe_istore4, pe_getfield, pe_iastore, pe_sipush, pe_iaload, pe_isub, pe_istore5, pe_istore6, pe_goto_w, pe_iload6, pe_icmp_ge, pe_iload5, pe_dup_i, pe_dup_r, pe_dup_x1_ii, pe_dup_x1_ir, pe_dup_x1_ri, pe_dup_x1_rr, pe_iadd, pe_putfield, pe_iinc6, pe_goto, pe_return, pm_prog_1, pm_ob_some, Nat.reduceDiv, Nat.reduceMod, Nat.reduceMul, Nat.reduceAdd, Int.reduceToNat, pm_kill_i, pm_kill_r, pm_kill_n, pm_kill_j, pm_kill_l, pm_kill_d, pm_cats_nil, pm_cats_i, pm_cats_r, pm_cats_n, pm_cats_l, pm_cats_d, sz_1, sz_2, sl_1, sl_2, lc_0, lc_lt, lc_le, li_ne, va_rf, wr_m1, we_m1, pm_kill_w, Int32.reduceOfInt, Int64.reduceOfInt, Int32.reduceOfNat, Int32.reduceLT, Int32.reduceLE, Prod.mk.injEq, Nat.reduceEqDiff, reduceCtorEq, and_true, true_and, and_false, false_and, and_self, ite_true, ite_false, ↓reduceIte, not_true_eq_false, not_false_eq_true, pe_ri, pe_rz, pe_rc, Cf_g0_1 hA, Cf_g0_12 hA, Cf_g0_19 hA, Cf_g0_2 hA, Cf_g0_21 hA, Cf_g0_22 hA, Cf_g0_23 hA, Cf_g0_24 hA, Cf_g0_25 hA, Cf_g0_26 hA, Cf_g0_27 hA, Cf_g0_28 hA, Cf_g0_29 hA, Cf_g0_30 hA, Cf_p0_26 hA, Cf_p0_30 hA, Cf_r12 hA, Cf_r22 hA, Cf_w31 hA, Cf_w32 hA, Cf_w33 hA, Cf_w34 hA, Cf_w35 hA, Cf_w37 hA, Cf_w38 hA, Cf_w39 hA, z1]
      · rw [if_neg k4] at e; cases e
    · rw [if_neg k3] at e; cases e
  · rw [if_neg k2] at e; cases e
/-- TimberHouse$FingerLengths.walk()V -/
theorem c531 {d : Nat} {h : pm_H} {a : Nat} (hc : pm_cls h a = some 8) : pm_call pm_prog (d + 1) 531 [.ref a] h = pm_ev pm_prog (pm_call pm_prog d) 531 0 b531_0 [.ref a, pm_junk, pm_junk, pm_junk, pm_junk] [] h := pm_cal (pm_rc1 hc rfl) rfl rfl rfl
theorem g531_1 {cl : pm_C} {ls st : List Value} {h : pm_H} : pm_go pm_prog cl 531 1 ls st h = pm_ev pm_prog cl 531 1 b531_1 ls st h := pm_go_eq pm_prog cl 531 1 ls st h
theorem g531_2 {cl : pm_C} {ls st : List Value} {h : pm_H} : pm_go pm_prog cl 531 2 ls st h = pm_ev pm_prog cl 531 2 b531_2 ls st h := pm_go_eq pm_prog cl 531 2 ls st h
theorem g531_3 {cl : pm_C} {ls st : List Value} {h : pm_H} : pm_go pm_prog cl 531 3 ls st h = pm_ev pm_prog cl 531 3 b531_3 ls st h := pm_go_eq pm_prog cl 531 3 ls st h
theorem g531_4 {cl : pm_C} {ls st : List Value} {h : pm_H} : pm_go pm_prog cl 531 4 ls st h = pm_ev pm_prog cl 531 4 b531_4 ls st h := pm_go_eq pm_prog cl 531 4 ls st h
theorem g531_5 {cl : pm_C} {ls st : List Value} {h : pm_H} : pm_go pm_prog cl 531 5 ls st h = pm_ev pm_prog cl 531 5 b531_5 ls st h := pm_go_eq pm_prog cl 531 5 ls st h
theorem g531_6 {cl : pm_C} {ls st : List Value} {h : pm_H} : pm_go pm_prog cl 531 6 ls st h = pm_ev pm_prog cl 531 6 b531_6 ls st h := pm_go_eq pm_prog cl 531 6 ls st h
theorem g531_7 {cl : pm_C} {ls st : List Value} {h : pm_H} : pm_go pm_prog cl 531 7 ls st h = pm_ev pm_prog cl 531 7 b531_7 ls st h := pm_go_eq pm_prog cl 531 7 ls st h
noncomputable def f531_b3 : Int32 × Int32 × Int32 × wS → Option ((Int32 × Int32 × Int32 × wS) ⊕ ((Int32 × Int32 × Int32 × wS))) := fun (x1, x2, x3, S) =>
  if x3 < (S.1 (0, 0, 0) 7) then
    (f528 S x3 x1 x2).bind fun (v1, S2) =>
    if v1 = 0 then
      some (.inl (x1, x2, (x3 + 1), S2))
    else
      if 0 ≤ x1 ∧ x1 < 25 then
        if 0 ≤ x2 ∧ x2 < 61 then
          (f580 S2 x1 x2).bind fun v3 =>
          if v3 = 0 then
            some (.inl (x1, x2, (x3 + 1), S2))
          else
            some (.inr (x1, x2, x3, S2))
        else none
      else none
  else
    some (.inr (x1, x2, x3, S))
noncomputable def f531_5_1 (S : wS) (x1 : Int32) (x2 : Int32) (x3 : Int32) : Option ((Int32 × Int32 × wS) ⊕ ((wS))) :=
  if x3 = (S.1 (0, 0, 0) 7) then
    some (.inl (x1, (x2 + 1), S))
  else
    (f532 S x3 x1 x2).bind fun S9 =>
    (f529 S9 x3 x1 x2).bind fun (v10, S11) =>
    some (.inl ((S11.1 (0, 0, 0) 17), (S11.1 (0, 0, 0) 18), S11))
noncomputable def f531_b1 : Int32 × Int32 × wS → Option ((Int32 × Int32 × wS) ⊕ ((wS))) := fun (x1, x2, S) =>
  if x1 < (S.1 (0, 0, 0) 4) then
    if 0 ≤ x1 ∧ x1 < 24 then
      if 0 ≤ (S.1 (22, 0, 0) x1) ∧ (S.1 (22, 0, 0) x1) < 24 then
        if x2 = (S.1 (12, 0, 0) (S.1 (22, 0, 0) x1)) then
          some (.inl ((x1 + 1), 0, S))
        else
          (lp (f531_b3) FU (x1, x2, 0, S)).bind fun (v6, v7, v8, S4) =>
          f531_5_1 S4 v6 v7 v8
      else none
    else none
  else
    some (.inr S)
/-- TimberHouse$FingerLengths.walk()V -/
noncomputable def f531 (S : wS) : Option (wS) :=
  (lp (f531_b1) FU (0, 0, (sz (sz S (0, 0, 0) 30 0) (0, 0, 0) 26 0))).bind fun S12 =>
  some (sz S12 (0, 0, 0) 20 1)
def go531_3 (A : wK → Nat) (h : pm_H) (D : Nat) (R : Outcome × pm_H) : Int32 × Int32 × Int32 × wS → Prop := fun (x1, x2, x3, S) => ∀ q4 : Value, pm_go pm_prog (pm_call pm_prog D) 531 3 [.ref (A (0, 0, 0)), .int x1, .int x2, .int x3, q4] [] (wput A Cf_d S h) = some R
def ex531_3 (A : wK → Nat) (h : pm_H) (D : Nat) (R : Outcome × pm_H) : (Int32 × Int32 × Int32 × wS) → Prop := fun (x1, x2, x3, S) => ∀ q4 : Value, pm_go pm_prog (pm_call pm_prog D) 531 5 [.ref (A (0, 0, 0)), .int x1, .int x2, .int x3, q4] [] (wput A Cf_d S h) = some R
theorem y531_b3  {A : wK → Nat} {h : pm_H} {D : Nat} {R : Outcome × pm_H}  (hA : wok A Cf_d h.1) (hD : 3 ≤ D) (a : Int32 × Int32 × Int32 × wS) (r : (Int32 × Int32 × Int32 × wS) ⊕ ((Int32 × Int32 × Int32 × wS))) (e : f531_b3 a = some r) (hc : Sum.elim (go531_3 A h D R) (ex531_3 A h D R) r) : go531_3 A h D R a := by
  obtain ⟨x1, x2, x3, S⟩ := a
  dsimp only [go531_3]
  intro q4
  simp only [f531_b3] at e
  rw [g531_3, b531_3]
  by_cases k1 : x3 < (S.1 (0, 0, 0) 7)
  · rw [if_pos k1] at e
    obtain ⟨⟨v1, S2⟩, k2, e⟩ := Option.bind_eq_some_iff.mp e
    try dsimp only at e
    have z2 := x528 (D := D) (h := h) hA (by omega) k2
    dsimp only at z2
    by_cases k3 : v1 = 0
    · rw [if_pos k3] at e
      have e := Option.some.inj e; subst e
      dsimp only [Sum.elim_inl, go531_3] at hc
      simp -implicitDefEqProofs (disch := first | assumption | exact Nat.le_of_ble_eq_true rfl | decide) only [b531_0, g531_2, b531_2, g531_4, b531_4, g531_6, b531_6, g531_7, b531_7, pe_aload0, pe_sipush, pe_dup_x1_ii, pe_dup_x1_ir, pe_dup_x1_ri, pe_dup_x1_rr, pe_putfield, pe_istore1, pe_istore2, pe_goto_w, pe_iload1, pe_getfield, pe_icmp_ge, pe_iload2, pe_iaload, pe_icmp_ne, pe_iinc1, pe_goto, pe_istore3, pe_iload3, pe_call4, pm_af_ret, pm_af_void, pm_af_thr, pe_if_eq, pe_aaload, pe_call2, pe_if_ne, pe_iinc3, pe_iinc2, pe_istore4, pe_return, pm_prog_1, pm_ob_some, Nat.reduceDiv, Nat.reduceMod, Nat.reduceMul, Nat.reduceAdd, Int.reduceToNat, pm_kill_i, pm_kill_r, pm_kill_n, pm_kill_j, pm_kill_l, pm_kill_d, pm_cats_nil, pm_cats_i, pm_cats_r, pm_cats_n, pm_cats_l, pm_cats_d, sz_1, sz_2, sl_1, sl_2, lc_0, lc_lt, lc_le, li_ne, va_rf, wr_m1, we_m1, pm_kill_w, Int32.reduceOfInt, Int64.reduceOfInt, Int32.reduceOfNat, Int32.reduceLT, Int32.reduceLE, Prod.mk.injEq, Nat.reduceEqDiff, reduceCtorEq, and_true, true_and, and_false, false_and, and_self, ite_true, ite_false, ↓reduceIte, not_true_eq_false, not_false_eq_true, pe_ri, pe_rz, pe_rc, Cf_g0_12 hA, Cf_g0_14 hA, Cf_g0_15 hA, Cf_g0_17 hA, Cf_g0_18 hA, Cf_g0_2 hA, Cf_g0_4 hA, Cf_g0_7 hA, Cf_p0_20 hA, Cf_p0_26 hA, Cf_p0_30 hA, Cf_r1 hA, Cf_r12 hA, Cf_r2 hA, Cf_r22 hA, eq_true k1, z2, eq_true k3, hc]
    · rw [if_neg k3] at e
      by_cases k4 : 0 ≤ x1 ∧ x1 < 25
      · rw [if_pos k4] at e
        by_cases k5 : 0 ≤ x2 ∧ x2 < 61
        · rw [if_pos k5] at e
          obtain ⟨v3, k6, e⟩ := Option.bind_eq_some_iff.mp e
          try dsimp only at e
          have z6 := x580 (D := D) (h := h) hA (by omega) k6
          by_cases k7 : v3 = 0
          · rw [if_pos k7] at e
            have e := Option.some.inj e; subst e
            dsimp only [Sum.elim_inl, go531_3] at hc
            simp -implicitDefEqProofs (disch := first | assumption | exact Nat.le_of_ble_eq_true rfl | decide) only [b531_0, g531_2, b531_2, g531_4, b531_4, g531_6, b531_6, g531_7, b531_7, pe_aload0, pe_sipush, pe_dup_x1_ii, pe_dup_x1_ir, pe_dup_x1_ri, pe_dup_x1_rr, pe_putfield, pe_istore1, pe_istore2, pe_goto_w, pe_iload1, pe_getfield, pe_icmp_ge, pe_iload2, pe_iaload, pe_icmp_ne, pe_iinc1, pe_goto, pe_istore3, pe_iload3, pe_call4, pm_af_ret, pm_af_void, pm_af_thr, pe_if_eq, pe_aaload, pe_call2, pe_if_ne, pe_iinc3, pe_iinc2, pe_istore4, pe_return, pm_prog_1, pm_ob_some, Nat.reduceDiv, Nat.reduceMod, Nat.reduceMul, Nat.reduceAdd, Int.reduceToNat, pm_kill_i, pm_kill_r, pm_kill_n, pm_kill_j, pm_kill_l, pm_kill_d, pm_cats_nil, pm_cats_i, pm_cats_r, pm_cats_n, pm_cats_l, pm_cats_d, sz_1, sz_2, sl_1, sl_2, lc_0, lc_lt, lc_le, li_ne, va_rf, wr_m1, we_m1, pm_kill_w, Int32.reduceOfInt, Int64.reduceOfInt, Int32.reduceOfNat, Int32.reduceLT, Int32.reduceLE, Prod.mk.injEq, Nat.reduceEqDiff, reduceCtorEq, and_true, true_and, and_false, false_and, and_self, ite_true, ite_false, ↓reduceIte, not_true_eq_false, not_false_eq_true, pe_ri, pe_rz, pe_rc, Cf_g0_12 hA, Cf_g0_14 hA, Cf_g0_15 hA, Cf_g0_17 hA, Cf_g0_18 hA, Cf_g0_2 hA, Cf_g0_4 hA, Cf_g0_7 hA, Cf_p0_20 hA, Cf_p0_26 hA, Cf_p0_30 hA, Cf_r1 hA, Cf_r12 hA, Cf_r2 hA, Cf_r22 hA, eq_true k1, z2, eq_false k3, z6, eq_true k7, hc]
          · rw [if_neg k7] at e
            have e := Option.some.inj e; subst e
            dsimp only [Sum.elim_inr, ex531_3] at hc
            simp -implicitDefEqProofs (disch := first | assumption | exact Nat.le_of_ble_eq_true rfl | decide) only [b531_0, g531_2, b531_2, g531_4, b531_4, g531_6, b531_6, g531_7, b531_7, pe_aload0, pe_sipush, pe_dup_x1_ii, pe_dup_x1_ir, pe_dup_x1_ri, pe_dup_x1_rr, pe_putfield, pe_istore1, pe_istore2, pe_goto_w, pe_iload1, pe_getfield, pe_icmp_ge, pe_iload2, pe_iaload, pe_icmp_ne, pe_iinc1, pe_goto, pe_istore3, pe_iload3, pe_call4, pm_af_ret, pm_af_void, pm_af_thr, pe_if_eq, pe_aaload, pe_call2, pe_if_ne, pe_iinc3, pe_iinc2, pe_istore4, pe_return, pm_prog_1, pm_ob_some, Nat.reduceDiv, Nat.reduceMod, Nat.reduceMul, Nat.reduceAdd, Int.reduceToNat, pm_kill_i, pm_kill_r, pm_kill_n, pm_kill_j, pm_kill_l, pm_kill_d, pm_cats_nil, pm_cats_i, pm_cats_r, pm_cats_n, pm_cats_l, pm_cats_d, sz_1, sz_2, sl_1, sl_2, lc_0, lc_lt, lc_le, li_ne, va_rf, wr_m1, we_m1, pm_kill_w, Int32.reduceOfInt, Int64.reduceOfInt, Int32.reduceOfNat, Int32.reduceLT, Int32.reduceLE, Prod.mk.injEq, Nat.reduceEqDiff, reduceCtorEq, and_true, true_and, and_false, false_and, and_self, ite_true, ite_false, ↓reduceIte, not_true_eq_false, not_false_eq_true, pe_ri, pe_rz, pe_rc, Cf_g0_12 hA, Cf_g0_14 hA, Cf_g0_15 hA, Cf_g0_17 hA, Cf_g0_18 hA, Cf_g0_2 hA, Cf_g0_4 hA, Cf_g0_7 hA, Cf_p0_20 hA, Cf_p0_26 hA, Cf_p0_30 hA, Cf_r1 hA, Cf_r12 hA, Cf_r2 hA, Cf_r22 hA, eq_true k1, z2, eq_false k3, z6, eq_false k7, hc]
        · rw [if_neg k5] at e; cases e
      · rw [if_neg k4] at e; cases e
  · rw [if_neg k1] at e
    have e := Option.some.inj e; subst e
    dsimp only [Sum.elim_inr, ex531_3] at hc
    simp -implicitDefEqProofs (disch := first | assumption | exact Nat.le_of_ble_eq_true rfl | decide) only [b531_0, g531_2, b531_2, g531_4, b531_4, g531_6, b531_6, g531_7, b531_7, pe_aload0, pe_sipush, pe_dup_x1_ii, pe_dup_x1_ir, pe_dup_x1_ri, pe_dup_x1_rr, pe_putfield, pe_istore1, pe_istore2, pe_goto_w, pe_iload1, pe_getfield, pe_icmp_ge, pe_iload2, pe_iaload, pe_icmp_ne, pe_iinc1, pe_goto, pe_istore3, pe_iload3, pe_call4, pm_af_ret, pm_af_void, pm_af_thr, pe_if_eq, pe_aaload, pe_call2, pe_if_ne, pe_iinc3, pe_iinc2, pe_istore4, pe_return, pm_prog_1, pm_ob_some, Nat.reduceDiv, Nat.reduceMod, Nat.reduceMul, Nat.reduceAdd, Int.reduceToNat, pm_kill_i, pm_kill_r, pm_kill_n, pm_kill_j, pm_kill_l, pm_kill_d, pm_cats_nil, pm_cats_i, pm_cats_r, pm_cats_n, pm_cats_l, pm_cats_d, sz_1, sz_2, sl_1, sl_2, lc_0, lc_lt, lc_le, li_ne, va_rf, wr_m1, we_m1, pm_kill_w, Int32.reduceOfInt, Int64.reduceOfInt, Int32.reduceOfNat, Int32.reduceLT, Int32.reduceLE, Prod.mk.injEq, Nat.reduceEqDiff, reduceCtorEq, and_true, true_and, and_false, false_and, and_self, ite_true, ite_false, ↓reduceIte, not_true_eq_false, not_false_eq_true, pe_ri, pe_rz, pe_rc, Cf_g0_12 hA, Cf_g0_14 hA, Cf_g0_15 hA, Cf_g0_17 hA, Cf_g0_18 hA, Cf_g0_2 hA, Cf_g0_4 hA, Cf_g0_7 hA, Cf_p0_20 hA, Cf_p0_26 hA, Cf_p0_30 hA, Cf_r1 hA, Cf_r12 hA, Cf_r2 hA, Cf_r22 hA, eq_false k1, hc]
theorem z531_3  {A : wK → Nat} {h : pm_H} {D : Nat} {R : Outcome × pm_H}  (hA : wok A Cf_d h.1) (hD : 3 ≤ D) {n : Nat} {a : Int32 × Int32 × Int32 × wS} {b : (Int32 × Int32 × Int32 × wS)} (e : lp (f531_b3) n a = some b) (hx : ex531_3 A h D R b) : go531_3 A h D R a := lp_run (fun a r => y531_b3 hA hD a r) n a b e hx
def go531_1 (A : wK → Nat) (h : pm_H) (D : Nat) (R : Outcome × pm_H) : Int32 × Int32 × wS → Prop := fun (x1, x2, S) => ∀ q3 q4 : Value, pm_go pm_prog (pm_call pm_prog D) 531 1 [.ref (A (0, 0, 0)), .int x1, .int x2, q3, q4] [] (wput A Cf_d S h) = some R
def ex531_1 (A : wK → Nat) (h : pm_H) (D : Nat) (R : Outcome × pm_H) : (wS) → Prop := fun S => ∀ q1 q2 q3 q4 : Value, pm_go pm_prog (pm_call pm_prog D) 531 7 [.ref (A (0, 0, 0)), q1, q2, q3, q4] [] (wput A Cf_d S h) = some R
theorem y531_5_1  {A : wK → Nat} {h : pm_H} {D : Nat} {R : Outcome × pm_H} {S : wS} {x1 : Int32} {x2 : Int32} {x3 : Int32} {r : (Int32 × Int32 × wS) ⊕ ((wS))}  (hA : wok A Cf_d h.1) (hD : 3 ≤ D) (e : f531_5_1 S x1 x2 x3 = some r) (hc : Sum.elim (go531_1 A h D R) (ex531_1 A h D R) r) : ∀ q4 : Value, pm_go pm_prog (pm_call pm_prog D) 531 5 [.ref (A (0, 0, 0)), .int x1, .int x2, .int x3, q4] [] (wput A Cf_d S h) = some R := by
  intro q4
  simp only [f531_5_1] at e
  rw [g531_5, b531_5]
  by_cases k1 : x3 = (S.1 (0, 0, 0) 7)
  · rw [if_pos k1] at e
    have e := Option.some.inj e; subst e
    dsimp only [Sum.elim_inl, go531_1] at hc
    simp -implicitDefEqProofs (disch := first | assumption | exact Nat.le_of_ble_eq_true rfl | decide) only [b531_0, g531_2, b531_2, g531_4, b531_4, g531_6, b531_6, g531_7, b531_7, pe_aload0, pe_sipush, pe_dup_x1_ii, pe_dup_x1_ir, pe_dup_x1_ri, pe_dup_x1_rr, pe_putfield, pe_istore1, pe_istore2, pe_goto_w, pe_iload1, pe_getfield, pe_icmp_ge, pe_iload2, pe_iaload, pe_icmp_ne, pe_iinc1, pe_goto, pe_istore3, pe_iload3, pe_call4, pm_af_ret, pm_af_void, pm_af_thr, pe_if_eq, pe_aaload, pe_call2, pe_if_ne, pe_iinc3, pe_iinc2, pe_istore4, pe_return, pm_prog_1, pm_ob_some, Nat.reduceDiv, Nat.reduceMod, Nat.reduceMul, Nat.reduceAdd, Int.reduceToNat, pm_kill_i, pm_kill_r, pm_kill_n, pm_kill_j, pm_kill_l, pm_kill_d, pm_cats_nil, pm_cats_i, pm_cats_r, pm_cats_n, pm_cats_l, pm_cats_d, sz_1, sz_2, sl_1, sl_2, lc_0, lc_lt, lc_le, li_ne, va_rf, wr_m1, we_m1, pm_kill_w, Int32.reduceOfInt, Int64.reduceOfInt, Int32.reduceOfNat, Int32.reduceLT, Int32.reduceLE, Prod.mk.injEq, Nat.reduceEqDiff, reduceCtorEq, and_true, true_and, and_false, false_and, and_self, ite_true, ite_false, ↓reduceIte, not_true_eq_false, not_false_eq_true, pe_ri, pe_rz, pe_rc, Cf_g0_12 hA, Cf_g0_14 hA, Cf_g0_15 hA, Cf_g0_17 hA, Cf_g0_18 hA, Cf_g0_2 hA, Cf_g0_4 hA, Cf_g0_7 hA, Cf_p0_20 hA, Cf_p0_26 hA, Cf_p0_30 hA, Cf_r1 hA, Cf_r12 hA, Cf_r2 hA, Cf_r22 hA, eq_true k1, hc]
  · rw [if_neg k1] at e
    obtain ⟨S9, k2, e⟩ := Option.bind_eq_some_iff.mp e
    try dsimp only at e
    have z2 := x532 (D := D) (h := h) hA (by omega) k2
    obtain ⟨⟨v10, S11⟩, k3, e⟩ := Option.bind_eq_some_iff.mp e
    try dsimp only at e
    have z3 := x529 (D := D) (h := h) hA (by omega) k3
    dsimp only at z3
    have e := Option.some.inj e; subst e
    dsimp only [Sum.elim_inl, go531_1] at hc
    simp -implicitDefEqProofs (disch := first | assumption | exact Nat.le_of_ble_eq_true rfl | decide) only [b531_0, g531_2, b531_2, g531_4, b531_4, g531_6, b531_6, g531_7, b531_7, pe_aload0, pe_sipush, pe_dup_x1_ii, pe_dup_x1_ir, pe_dup_x1_ri, pe_dup_x1_rr, pe_putfield, pe_istore1, pe_istore2, pe_goto_w, pe_iload1, pe_getfield, pe_icmp_ge, pe_iload2, pe_iaload, pe_icmp_ne, pe_iinc1, pe_goto, pe_istore3, pe_iload3, pe_call4, pm_af_ret, pm_af_void, pm_af_thr, pe_if_eq, pe_aaload, pe_call2, pe_if_ne, pe_iinc3, pe_iinc2, pe_istore4, pe_return, pm_prog_1, pm_ob_some, Nat.reduceDiv, Nat.reduceMod, Nat.reduceMul, Nat.reduceAdd, Int.reduceToNat, pm_kill_i, pm_kill_r, pm_kill_n, pm_kill_j, pm_kill_l, pm_kill_d, pm_cats_nil, pm_cats_i, pm_cats_r, pm_cats_n, pm_cats_l, pm_cats_d, sz_1, sz_2, sl_1, sl_2, lc_0, lc_lt, lc_le, li_ne, va_rf, wr_m1, we_m1, pm_kill_w, Int32.reduceOfInt, Int64.reduceOfInt, Int32.reduceOfNat, Int32.reduceLT, Int32.reduceLE, Prod.mk.injEq, Nat.reduceEqDiff, reduceCtorEq, and_true, true_and, and_false, false_and, and_self, ite_true, ite_false, ↓reduceIte, not_true_eq_false, not_false_eq_true, pe_ri, pe_rz, pe_rc, Cf_g0_12 hA, Cf_g0_14 hA, Cf_g0_15 hA, Cf_g0_17 hA, Cf_g0_18 hA, Cf_g0_2 hA, Cf_g0_4 hA, Cf_g0_7 hA, Cf_p0_20 hA, Cf_p0_26 hA, Cf_p0_30 hA, Cf_r1 hA, Cf_r12 hA, Cf_r2 hA, Cf_r22 hA, eq_false k1, z2, z3, hc]
theorem y531_b1  {A : wK → Nat} {h : pm_H} {D : Nat} {R : Outcome × pm_H}  (hA : wok A Cf_d h.1) (hD : 3 ≤ D) (a : Int32 × Int32 × wS) (r : (Int32 × Int32 × wS) ⊕ ((wS))) (e : f531_b1 a = some r) (hc : Sum.elim (go531_1 A h D R) (ex531_1 A h D R) r) : go531_1 A h D R a := by
  obtain ⟨x1, x2, S⟩ := a
  dsimp only [go531_1]
  intro q3 q4
  simp only [f531_b1] at e
  rw [g531_1, b531_1]
  by_cases k1 : x1 < (S.1 (0, 0, 0) 4)
  · rw [if_pos k1] at e
    by_cases k2 : 0 ≤ x1 ∧ x1 < 24
    · rw [if_pos k2] at e
      by_cases k3 : 0 ≤ (S.1 (22, 0, 0) x1) ∧ (S.1 (22, 0, 0) x1) < 24
      · rw [if_pos k3] at e
        by_cases k4 : x2 = (S.1 (12, 0, 0) (S.1 (22, 0, 0) x1))
        · rw [if_pos k4] at e
          have e := Option.some.inj e; subst e
          dsimp only [Sum.elim_inl, go531_1] at hc
          simp -implicitDefEqProofs (disch := first | assumption | exact Nat.le_of_ble_eq_true rfl | decide) only [b531_0, g531_2, b531_2, g531_4, b531_4, g531_6, b531_6, g531_7, b531_7, pe_aload0, pe_sipush, pe_dup_x1_ii, pe_dup_x1_ir, pe_dup_x1_ri, pe_dup_x1_rr, pe_putfield, pe_istore1, pe_istore2, pe_goto_w, pe_iload1, pe_getfield, pe_icmp_ge, pe_iload2, pe_iaload, pe_icmp_ne, pe_iinc1, pe_goto, pe_istore3, pe_iload3, pe_call4, pm_af_ret, pm_af_void, pm_af_thr, pe_if_eq, pe_aaload, pe_call2, pe_if_ne, pe_iinc3, pe_iinc2, pe_istore4, pe_return, pm_prog_1, pm_ob_some, Nat.reduceDiv, Nat.reduceMod, Nat.reduceMul, Nat.reduceAdd, Int.reduceToNat, pm_kill_i, pm_kill_r, pm_kill_n, pm_kill_j, pm_kill_l, pm_kill_d, pm_cats_nil, pm_cats_i, pm_cats_r, pm_cats_n, pm_cats_l, pm_cats_d, sz_1, sz_2, sl_1, sl_2, lc_0, lc_lt, lc_le, li_ne, va_rf, wr_m1, we_m1, pm_kill_w, Int32.reduceOfInt, Int64.reduceOfInt, Int32.reduceOfNat, Int32.reduceLT, Int32.reduceLE, Prod.mk.injEq, Nat.reduceEqDiff, reduceCtorEq, and_true, true_and, and_false, false_and, and_self, ite_true, ite_false, ↓reduceIte, not_true_eq_false, not_false_eq_true, pe_ri, pe_rz, pe_rc, Cf_g0_12 hA, Cf_g0_14 hA, Cf_g0_15 hA, Cf_g0_17 hA, Cf_g0_18 hA, Cf_g0_2 hA, Cf_g0_4 hA, Cf_g0_7 hA, Cf_p0_20 hA, Cf_p0_26 hA, Cf_p0_30 hA, Cf_r1 hA, Cf_r12 hA, Cf_r2 hA, Cf_r22 hA, eq_true k1, eq_true k4, hc]
        · rw [if_neg k4] at e
          obtain ⟨⟨v6, v7, v8, S4⟩, k5, e⟩ := Option.bind_eq_some_iff.mp e
          try dsimp only at e
          try simp -implicitDefEqProofs (disch := first | assumption | exact Nat.le_of_ble_eq_true rfl | decide) only [b531_0, g531_2, b531_2, g531_4, b531_4, g531_6, b531_6, g531_7, b531_7, pe_aload0, pe_sipush, pe_dup_x1_ii, pe_dup_x1_ir, pe_dup_x1_ri, pe_dup_x1_rr, pe_putfield, pe_istore1, pe_istore2, pe_goto_w, pe_iload1, pe_getfield, pe_icmp_ge, pe_iload2, pe_iaload, pe_icmp_ne, pe_iinc1, pe_goto, pe_istore3, pe_iload3, pe_call4, pm_af_ret, pm_af_void, pm_af_thr, pe_if_eq, pe_aaload, pe_call2, pe_if_ne, pe_iinc3, pe_iinc2, pe_istore4, pe_return, pm_prog_1, pm_ob_some, Nat.reduceDiv, Nat.reduceMod, Nat.reduceMul, Nat.reduceAdd, Int.reduceToNat, pm_kill_i, pm_kill_r, pm_kill_n, pm_kill_j, pm_kill_l, pm_kill_d, pm_cats_nil, pm_cats_i, pm_cats_r, pm_cats_n, pm_cats_l, pm_cats_d, sz_1, sz_2, sl_1, sl_2, lc_0, lc_lt, lc_le, li_ne, va_rf, wr_m1, we_m1, pm_kill_w, Int32.reduceOfInt, Int64.reduceOfInt, Int32.reduceOfNat, Int32.reduceLT, Int32.reduceLE, Prod.mk.injEq, Nat.reduceEqDiff, reduceCtorEq, and_true, true_and, and_false, false_and, and_self, ite_true, ite_false, ↓reduceIte, not_true_eq_false, not_false_eq_true, pe_ri, pe_rz, pe_rc, Cf_g0_12 hA, Cf_g0_14 hA, Cf_g0_15 hA, Cf_g0_17 hA, Cf_g0_18 hA, Cf_g0_2 hA, Cf_g0_4 hA, Cf_g0_7 hA, Cf_p0_20 hA, Cf_p0_26 hA, Cf_p0_30 hA, Cf_r1 hA, Cf_r12 hA, Cf_r2 hA, Cf_r22 hA, eq_true k1, eq_false k4]
          refine z531_3 hA hD k5 ?_ _
          dsimp only [ex531_3]
          intro q4
          have k6 := y531_5_1 (h := h) hA hD e hc
          simp -implicitDefEqProofs (disch := first | assumption | exact Nat.le_of_ble_eq_true rfl | decide) only [b531_0, g531_2, b531_2, g531_4, b531_4, g531_6, b531_6, g531_7, b531_7, pe_aload0, pe_sipush, pe_dup_x1_ii, pe_dup_x1_ir, pe_dup_x1_ri, pe_dup_x1_rr, pe_putfield, pe_istore1, pe_istore2, pe_goto_w, pe_iload1, pe_getfield, pe_icmp_ge, pe_iload2, pe_iaload, pe_icmp_ne, pe_iinc1, pe_goto, pe_istore3, pe_iload3, pe_call4, pm_af_ret, pm_af_void, pm_af_thr, pe_if_eq, pe_aaload, pe_call2, pe_if_ne, pe_iinc3, pe_iinc2, pe_istore4, pe_return, pm_prog_1, pm_ob_some, Nat.reduceDiv, Nat.reduceMod, Nat.reduceMul, Nat.reduceAdd, Int.reduceToNat, pm_kill_i, pm_kill_r, pm_kill_n, pm_kill_j, pm_kill_l, pm_kill_d, pm_cats_nil, pm_cats_i, pm_cats_r, pm_cats_n, pm_cats_l, pm_cats_d, sz_1, sz_2, sl_1, sl_2, lc_0, lc_lt, lc_le, li_ne, va_rf, wr_m1, we_m1, pm_kill_w, Int32.reduceOfInt, Int64.reduceOfInt, Int32.reduceOfNat, Int32.reduceLT, Int32.reduceLE, Prod.mk.injEq, Nat.reduceEqDiff, reduceCtorEq, and_true, true_and, and_false, false_and, and_self, ite_true, ite_false, ↓reduceIte, not_true_eq_false, not_false_eq_true, pe_ri, pe_rz, pe_rc, Cf_g0_12 hA, Cf_g0_14 hA, Cf_g0_15 hA, Cf_g0_17 hA, Cf_g0_18 hA, Cf_g0_2 hA, Cf_g0_4 hA, Cf_g0_7 hA, Cf_p0_20 hA, Cf_p0_26 hA, Cf_p0_30 hA, Cf_r1 hA, Cf_r12 hA, Cf_r2 hA, Cf_r22 hA, eq_true k1, eq_false k4, k6]
      · rw [if_neg k3] at e; cases e
    · rw [if_neg k2] at e; cases e
  · rw [if_neg k1] at e
    have e := Option.some.inj e; subst e
    dsimp only [Sum.elim_inr, ex531_1] at hc
    simp -implicitDefEqProofs (disch := first | assumption | exact Nat.le_of_ble_eq_true rfl | decide) only [b531_0, g531_2, b531_2, g531_4, b531_4, g531_6, b531_6, g531_7, b531_7, pe_aload0, pe_sipush, pe_dup_x1_ii, pe_dup_x1_ir, pe_dup_x1_ri, pe_dup_x1_rr, pe_putfield, pe_istore1, pe_istore2, pe_goto_w, pe_iload1, pe_getfield, pe_icmp_ge, pe_iload2, pe_iaload, pe_icmp_ne, pe_iinc1, pe_goto, pe_istore3, pe_iload3, pe_call4, pm_af_ret, pm_af_void, pm_af_thr, pe_if_eq, pe_aaload, pe_call2, pe_if_ne, pe_iinc3, pe_iinc2, pe_istore4, pe_return, pm_prog_1, pm_ob_some, Nat.reduceDiv, Nat.reduceMod, Nat.reduceMul, Nat.reduceAdd, Int.reduceToNat, pm_kill_i, pm_kill_r, pm_kill_n, pm_kill_j, pm_kill_l, pm_kill_d, pm_cats_nil, pm_cats_i, pm_cats_r, pm_cats_n, pm_cats_l, pm_cats_d, sz_1, sz_2, sl_1, sl_2, lc_0, lc_lt, lc_le, li_ne, va_rf, wr_m1, we_m1, pm_kill_w, Int32.reduceOfInt, Int64.reduceOfInt, Int32.reduceOfNat, Int32.reduceLT, Int32.reduceLE, Prod.mk.injEq, Nat.reduceEqDiff, reduceCtorEq, and_true, true_and, and_false, false_and, and_self, ite_true, ite_false, ↓reduceIte, not_true_eq_false, not_false_eq_true, pe_ri, pe_rz, pe_rc, Cf_g0_12 hA, Cf_g0_14 hA, Cf_g0_15 hA, Cf_g0_17 hA, Cf_g0_18 hA, Cf_g0_2 hA, Cf_g0_4 hA, Cf_g0_7 hA, Cf_p0_20 hA, Cf_p0_26 hA, Cf_p0_30 hA, Cf_r1 hA, Cf_r12 hA, Cf_r2 hA, Cf_r22 hA, eq_false k1, hc]
theorem z531_1  {A : wK → Nat} {h : pm_H} {D : Nat} {R : Outcome × pm_H}  (hA : wok A Cf_d h.1) (hD : 3 ≤ D) {n : Nat} {a : Int32 × Int32 × wS} {b : (wS)} (e : lp (f531_b1) n a = some b) (hx : ex531_1 A h D R b) : go531_1 A h D R a := lp_run (fun a r => y531_b1 hA hD a r) n a b e hx
theorem x531  {A : wK → Nat} {h : pm_H} {D : Nat} {S : wS} {r : wS}  (hA : wok A Cf_d h.1) (hD : 4 ≤ D) (e : f531 S = some r) : pm_call pm_prog D 531 [.ref (A (0, 0, 0))] (wput A Cf_d S h) = some (Outcome.returned none, (wput A Cf_d r h)) := by
  obtain ⟨D, rfl⟩ : ∃ D', D = D' + 1 := ⟨D - 1, by omega⟩
  have hD : 3 ≤ D := by omega
  simp only [f531] at e
  rw [c531 (Cf_c0 hA), b531_0]
  obtain ⟨S12, k1, e⟩ := Option.bind_eq_some_iff.mp e
  try dsimp only at e
  try simp -implicitDefEqProofs (disch := first | assumption | exact Nat.le_of_ble_eq_true rfl | decide) only [b531_0, g531_2, b531_2, g531_4, b531_4, g531_6, b531_6, g531_7, b531_7, pe_aload0, pe_sipush, pe_dup_x1_ii, pe_dup_x1_ir, pe_dup_x1_ri, pe_dup_x1_rr, pe_putfield, pe_istore1, pe_istore2, pe_goto_w, pe_iload1, pe_getfield, pe_icmp_ge, pe_iload2, pe_iaload, pe_icmp_ne, pe_iinc1, pe_goto, pe_istore3, pe_iload3, pe_call4, pm_af_ret, pm_af_void, pm_af_thr, pe_if_eq, pe_aaload, pe_call2, pe_if_ne, pe_iinc3, pe_iinc2, pe_istore4, pe_return, pm_prog_1, pm_ob_some, Nat.reduceDiv, Nat.reduceMod, Nat.reduceMul, Nat.reduceAdd, Int.reduceToNat, pm_kill_i, pm_kill_r, pm_kill_n, pm_kill_j, pm_kill_l, pm_kill_d, pm_cats_nil, pm_cats_i, pm_cats_r, pm_cats_n, pm_cats_l, pm_cats_d, sz_1, sz_2, sl_1, sl_2, lc_0, lc_lt, lc_le, li_ne, va_rf, wr_m1, we_m1, pm_kill_w, Int32.reduceOfInt, Int64.reduceOfInt, Int32.reduceOfNat, Int32.reduceLT, Int32.reduceLE, Prod.mk.injEq, Nat.reduceEqDiff, reduceCtorEq, and_true, true_and, and_false, false_and, and_self, ite_true, ite_false, ↓reduceIte, not_true_eq_false, not_false_eq_true, pe_ri, pe_rz, pe_rc, Cf_g0_12 hA, Cf_g0_14 hA, Cf_g0_15 hA, Cf_g0_17 hA, Cf_g0_18 hA, Cf_g0_2 hA, Cf_g0_4 hA, Cf_g0_7 hA, Cf_p0_20 hA, Cf_p0_26 hA, Cf_p0_30 hA, Cf_r1 hA, Cf_r12 hA, Cf_r2 hA, Cf_r22 hA]
  refine z531_1 hA hD k1 ?_ _ _
  dsimp only [ex531_1]
  intro q1 q2 q3 q4
  have e := Option.some.inj e; subst e
  simp -implicitDefEqProofs (disch := first | assumption | exact Nat.le_of_ble_eq_true rfl | decide) only [b531_0, g531_2, b531_2, g531_4, b531_4, g531_6, b531_6, g531_7, b531_7, pe_aload0, pe_sipush, pe_dup_x1_ii, pe_dup_x1_ir, pe_dup_x1_ri, pe_dup_x1_rr, pe_putfield, pe_istore1, pe_istore2, pe_goto_w, pe_iload1, pe_getfield, pe_icmp_ge, pe_iload2, pe_iaload, pe_icmp_ne, pe_iinc1, pe_goto, pe_istore3, pe_iload3, pe_call4, pm_af_ret, pm_af_void, pm_af_thr, pe_if_eq, pe_aaload, pe_call2, pe_if_ne, pe_iinc3, pe_iinc2, pe_istore4, pe_return, pm_prog_1, pm_ob_some, Nat.reduceDiv, Nat.reduceMod, Nat.reduceMul, Nat.reduceAdd, Int.reduceToNat, pm_kill_i, pm_kill_r, pm_kill_n, pm_kill_j, pm_kill_l, pm_kill_d, pm_cats_nil, pm_cats_i, pm_cats_r, pm_cats_n, pm_cats_l, pm_cats_d, sz_1, sz_2, sl_1, sl_2, lc_0, lc_lt, lc_le, li_ne, va_rf, wr_m1, we_m1, pm_kill_w, Int32.reduceOfInt, Int64.reduceOfInt, Int32.reduceOfNat, Int32.reduceLT, Int32.reduceLE, Prod.mk.injEq, Nat.reduceEqDiff, reduceCtorEq, and_true, true_and, and_false, false_and, and_self, ite_true, ite_false, ↓reduceIte, not_true_eq_false, not_false_eq_true, pe_ri, pe_rz, pe_rc, Cf_g0_12 hA, Cf_g0_14 hA, Cf_g0_15 hA, Cf_g0_17 hA, Cf_g0_18 hA, Cf_g0_2 hA, Cf_g0_4 hA, Cf_g0_7 hA, Cf_p0_20 hA, Cf_p0_26 hA, Cf_p0_30 hA, Cf_r1 hA, Cf_r12 hA, Cf_r2 hA, Cf_r22 hA]
/-- TimberHouse$FingerLengths.run()I -/
theorem c524 {d : Nat} {h : pm_H} {a : Nat} (hc : pm_cls h a = some 8) : pm_call pm_prog (d + 1) 524 [.ref a] h = pm_ev pm_prog (pm_call pm_prog d) 524 0 b524_0 [.ref a] [] h := pm_cal (pm_rc1 hc rfl) rfl rfl rfl
/-- TimberHouse$FingerLengths.run()I -/
noncomputable def f524 (S : wS) : Option (Int32 × wS) :=
  (f525 S).bind fun S1 =>
  (f526 S1).bind fun S2 =>
  (f531 S2).bind fun S3 =>
  some ((S3.1 (0, 0, 0) 26), S3)
theorem x524  {A : wK → Nat} {h : pm_H} {D : Nat} {S : wS} {r : Int32 × wS}  (hA : wok A Cf_d h.1) (hD : 5 ≤ D) (e : f524 S = some r) : pm_call pm_prog D 524 [.ref (A (0, 0, 0))] (wput A Cf_d S h) = some (match (generalizing := false) r with | (w0, S1) => (Outcome.returned (some (.int w0)), (wput A Cf_d S1 h))) := by
  obtain ⟨D, rfl⟩ : ∃ D', D = D' + 1 := ⟨D - 1, by omega⟩
  have hD : 4 ≤ D := by omega
  simp only [f524] at e
  rw [c524 (Cf_c0 hA), b524_0]
  obtain ⟨S1, k1, e⟩ := Option.bind_eq_some_iff.mp e
  try dsimp only at e
  have z1 := x525 (D := D) (h := h) hA (by omega) k1
  obtain ⟨S2, k2, e⟩ := Option.bind_eq_some_iff.mp e
  try dsimp only at e
  have z2 := x526 (D := D) (h := h) hA (by omega) k2
  obtain ⟨S3, k3, e⟩ := Option.bind_eq_some_iff.mp e
  try dsimp only at e
  have z3 := x531 (D := D) (h := h) hA (by omega) k3
  have e := Option.some.inj e; subst e
  simp -implicitDefEqProofs (disch := first | assumption | exact Nat.le_of_ble_eq_true rfl | decide) only [b524_0, pe_aload0, pe_call1, pm_af_ret, pm_af_void, pm_af_thr, pe_getfield, pm_prog_1, pm_ob_some, Nat.reduceDiv, Nat.reduceMod, Nat.reduceMul, Nat.reduceAdd, Int.reduceToNat, pm_kill_i, pm_kill_r, pm_kill_n, pm_kill_j, pm_kill_l, pm_kill_d, pm_cats_nil, pm_cats_i, pm_cats_r, pm_cats_n, pm_cats_l, pm_cats_d, sz_1, sz_2, sl_1, sl_2, lc_0, lc_lt, lc_le, li_ne, va_rf, wr_m1, we_m1, pm_kill_w, Int32.reduceOfInt, Int64.reduceOfInt, Int32.reduceOfNat, Int32.reduceLT, Int32.reduceLE, Prod.mk.injEq, Nat.reduceEqDiff, reduceCtorEq, and_true, true_and, and_false, false_and, and_self, ite_true, ite_false, ↓reduceIte, not_true_eq_false, not_false_eq_true, pe_ri, pe_rz, pe_rc, Cf_g0_26 hA, z1, z2, z3]
/-- TimberHouse$FingerLengths$Score.isBetter(LTimberHouse$FingerLengths$Score;)Z -/
noncomputable def f579v1 (S : wS) (x0i : Int32) (x0j : Int32) : Option (Int32) :=
  if 0 ≤ x0i ∧ x0i < 25 then
    if 0 ≤ x0j ∧ x0j < 61 then
      if (S.2 (3, x0i, x0j) 0) = (S.2 (5, 0, 0) 0) then
        if (S.1 (3, x0i, x0j) 1) = (S.1 (5, 0, 0) 1) then
          if (S.1 (3, x0i, x0j) 2) < (S.1 (5, 0, 0) 2) then
            some 1
          else
            some 0
        else
          if (S.1 (3, x0i, x0j) 1) < (S.1 (5, 0, 0) 1) then
            some 1
          else
            some 0
      else
        if (S.2 (3, x0i, x0j) 0) ≤ (S.2 (5, 0, 0) 0) then
          some 0
        else
          some 1
    else none
  else none
theorem x579v1  {A : wK → Nat} {h : pm_H} {D : Nat} {S : wS} {x0i : Int32} {x0j : Int32} {r : Int32}  (hA : wok A Cf_d h.1) (hD : 1 ≤ D) (e : f579v1 S x0i x0j = some r) : pm_call pm_prog D 579 [.ref (A (3, x0i, x0j)), .ref (A (5, 0, 0))] (wput A Cf_d S h) = some (Outcome.returned (some (.int r)), (wput A Cf_d S h)) := by
  obtain ⟨D, rfl⟩ : ∃ D', D = D' + 1 := ⟨D - 1, by omega⟩
  have hD : 0 ≤ D := by omega
  simp only [f579v1] at e
  have k1 : 0 ≤ x0i ∧ x0i < 25 := by
    by_cases q : 0 ≤ x0i ∧ x0i < 25
    · exact q
    · rw [if_neg q] at e; cases e
  rw [if_pos k1] at e
  have k2 : 0 ≤ x0j ∧ x0j < 61 := by
    by_cases q : 0 ≤ x0j ∧ x0j < 61
    · exact q
    · rw [if_neg q] at e; cases e
  rw [if_pos k2] at e
  rw [c579 (Cf_c3 hA k1 k2), b579_0]
  by_cases k3 : (S.2 (3, x0i, x0j) 0) = (S.2 (5, 0, 0) 0)
  · rw [if_pos k3] at e
    by_cases k4 : (S.1 (3, x0i, x0j) 1) = (S.1 (5, 0, 0) 1)
    · rw [if_pos k4] at e
      by_cases k5 : (S.1 (3, x0i, x0j) 2) < (S.1 (5, 0, 0) 2)
      · rw [if_pos k5] at e
        have e := Option.some.inj e; subst e
        simp -implicitDefEqProofs (disch := first | assumption | exact Nat.le_of_ble_eq_true rfl | decide) only [b579_0, g579_1, b579_1, g579_2, b579_2, g579_3, b579_3, g579_4, b579_4, g579_5, b579_5, g579_6, b579_6, pe_aload0, pe_getfield, pe_aload1, pe_lcmp, pe_if_eq, pe_if_le, pe_sipush, pe_goto, pe_icmp_eq, pe_icmp_ge, pe_goto_w, pm_prog_1, pm_ob_some, Nat.reduceDiv, Nat.reduceMod, Nat.reduceMul, Nat.reduceAdd, Int.reduceToNat, pm_kill_i, pm_kill_r, pm_kill_n, pm_kill_j, pm_kill_l, pm_kill_d, pm_cats_nil, pm_cats_i, pm_cats_r, pm_cats_n, pm_cats_l, pm_cats_d, sz_1, sz_2, sl_1, sl_2, lc_0, lc_lt, lc_le, li_ne, va_rf, wr_m1, we_m1, pm_kill_w, Int32.reduceOfInt, Int64.reduceOfInt, Int32.reduceOfNat, Int32.reduceLT, Int32.reduceLE, Prod.mk.injEq, Nat.reduceEqDiff, reduceCtorEq, and_true, true_and, and_false, false_and, and_self, ite_true, ite_false, ↓reduceIte, not_true_eq_false, not_false_eq_true, pe_ri, pe_rz, pe_rc, Cf_g3_0 hA, Cf_g3_1 hA, Cf_g3_2 hA, Cf_g5_0 hA, Cf_g5_1 hA, Cf_g5_2 hA, eq_true k3, eq_true k4, eq_true k5]
      · rw [if_neg k5] at e
        have e := Option.some.inj e; subst e
        simp -implicitDefEqProofs (disch := first | assumption | exact Nat.le_of_ble_eq_true rfl | decide) only [b579_0, g579_1, b579_1, g579_2, b579_2, g579_3, b579_3, g579_4, b579_4, g579_5, b579_5, g579_6, b579_6, pe_aload0, pe_getfield, pe_aload1, pe_lcmp, pe_if_eq, pe_if_le, pe_sipush, pe_goto, pe_icmp_eq, pe_icmp_ge, pe_goto_w, pm_prog_1, pm_ob_some, Nat.reduceDiv, Nat.reduceMod, Nat.reduceMul, Nat.reduceAdd, Int.reduceToNat, pm_kill_i, pm_kill_r, pm_kill_n, pm_kill_j, pm_kill_l, pm_kill_d, pm_cats_nil, pm_cats_i, pm_cats_r, pm_cats_n, pm_cats_l, pm_cats_d, sz_1, sz_2, sl_1, sl_2, lc_0, lc_lt, lc_le, li_ne, va_rf, wr_m1, we_m1, pm_kill_w, Int32.reduceOfInt, Int64.reduceOfInt, Int32.reduceOfNat, Int32.reduceLT, Int32.reduceLE, Prod.mk.injEq, Nat.reduceEqDiff, reduceCtorEq, and_true, true_and, and_false, false_and, and_self, ite_true, ite_false, ↓reduceIte, not_true_eq_false, not_false_eq_true, pe_ri, pe_rz, pe_rc, Cf_g3_0 hA, Cf_g3_1 hA, Cf_g3_2 hA, Cf_g5_0 hA, Cf_g5_1 hA, Cf_g5_2 hA, eq_true k3, eq_true k4, eq_false k5]
    · rw [if_neg k4] at e
      by_cases k6 : (S.1 (3, x0i, x0j) 1) < (S.1 (5, 0, 0) 1)
      · rw [if_pos k6] at e
        have e := Option.some.inj e; subst e
        simp -implicitDefEqProofs (disch := first | assumption | exact Nat.le_of_ble_eq_true rfl | decide) only [b579_0, g579_1, b579_1, g579_2, b579_2, g579_3, b579_3, g579_4, b579_4, g579_5, b579_5, g579_6, b579_6, pe_aload0, pe_getfield, pe_aload1, pe_lcmp, pe_if_eq, pe_if_le, pe_sipush, pe_goto, pe_icmp_eq, pe_icmp_ge, pe_goto_w, pm_prog_1, pm_ob_some, Nat.reduceDiv, Nat.reduceMod, Nat.reduceMul, Nat.reduceAdd, Int.reduceToNat, pm_kill_i, pm_kill_r, pm_kill_n, pm_kill_j, pm_kill_l, pm_kill_d, pm_cats_nil, pm_cats_i, pm_cats_r, pm_cats_n, pm_cats_l, pm_cats_d, sz_1, sz_2, sl_1, sl_2, lc_0, lc_lt, lc_le, li_ne, va_rf, wr_m1, we_m1, pm_kill_w, Int32.reduceOfInt, Int64.reduceOfInt, Int32.reduceOfNat, Int32.reduceLT, Int32.reduceLE, Prod.mk.injEq, Nat.reduceEqDiff, reduceCtorEq, and_true, true_and, and_false, false_and, and_self, ite_true, ite_false, ↓reduceIte, not_true_eq_false, not_false_eq_true, pe_ri, pe_rz, pe_rc, Cf_g3_0 hA, Cf_g3_1 hA, Cf_g3_2 hA, Cf_g5_0 hA, Cf_g5_1 hA, Cf_g5_2 hA, eq_true k3, eq_false k4, eq_true k6]
      · rw [if_neg k6] at e
        have e := Option.some.inj e; subst e
        simp -implicitDefEqProofs (disch := first | assumption | exact Nat.le_of_ble_eq_true rfl | decide) only [b579_0, g579_1, b579_1, g579_2, b579_2, g579_3, b579_3, g579_4, b579_4, g579_5, b579_5, g579_6, b579_6, pe_aload0, pe_getfield, pe_aload1, pe_lcmp, pe_if_eq, pe_if_le, pe_sipush, pe_goto, pe_icmp_eq, pe_icmp_ge, pe_goto_w, pm_prog_1, pm_ob_some, Nat.reduceDiv, Nat.reduceMod, Nat.reduceMul, Nat.reduceAdd, Int.reduceToNat, pm_kill_i, pm_kill_r, pm_kill_n, pm_kill_j, pm_kill_l, pm_kill_d, pm_cats_nil, pm_cats_i, pm_cats_r, pm_cats_n, pm_cats_l, pm_cats_d, sz_1, sz_2, sl_1, sl_2, lc_0, lc_lt, lc_le, li_ne, va_rf, wr_m1, we_m1, pm_kill_w, Int32.reduceOfInt, Int64.reduceOfInt, Int32.reduceOfNat, Int32.reduceLT, Int32.reduceLE, Prod.mk.injEq, Nat.reduceEqDiff, reduceCtorEq, and_true, true_and, and_false, false_and, and_self, ite_true, ite_false, ↓reduceIte, not_true_eq_false, not_false_eq_true, pe_ri, pe_rz, pe_rc, Cf_g3_0 hA, Cf_g3_1 hA, Cf_g3_2 hA, Cf_g5_0 hA, Cf_g5_1 hA, Cf_g5_2 hA, eq_true k3, eq_false k4, eq_false k6]
  · rw [if_neg k3] at e
    by_cases k7 : (S.2 (3, x0i, x0j) 0) ≤ (S.2 (5, 0, 0) 0)
    · rw [if_pos k7] at e
      have e := Option.some.inj e; subst e
      simp -implicitDefEqProofs (disch := first | assumption | exact Nat.le_of_ble_eq_true rfl | decide) only [b579_0, g579_1, b579_1, g579_2, b579_2, g579_3, b579_3, g579_4, b579_4, g579_5, b579_5, g579_6, b579_6, pe_aload0, pe_getfield, pe_aload1, pe_lcmp, pe_if_eq, pe_if_le, pe_sipush, pe_goto, pe_icmp_eq, pe_icmp_ge, pe_goto_w, pm_prog_1, pm_ob_some, Nat.reduceDiv, Nat.reduceMod, Nat.reduceMul, Nat.reduceAdd, Int.reduceToNat, pm_kill_i, pm_kill_r, pm_kill_n, pm_kill_j, pm_kill_l, pm_kill_d, pm_cats_nil, pm_cats_i, pm_cats_r, pm_cats_n, pm_cats_l, pm_cats_d, sz_1, sz_2, sl_1, sl_2, lc_0, lc_lt, lc_le, li_ne, va_rf, wr_m1, we_m1, pm_kill_w, Int32.reduceOfInt, Int64.reduceOfInt, Int32.reduceOfNat, Int32.reduceLT, Int32.reduceLE, Prod.mk.injEq, Nat.reduceEqDiff, reduceCtorEq, and_true, true_and, and_false, false_and, and_self, ite_true, ite_false, ↓reduceIte, not_true_eq_false, not_false_eq_true, pe_ri, pe_rz, pe_rc, Cf_g3_0 hA, Cf_g3_1 hA, Cf_g3_2 hA, Cf_g5_0 hA, Cf_g5_1 hA, Cf_g5_2 hA, eq_false k3, eq_true k7]
    · rw [if_neg k7] at e
      have e := Option.some.inj e; subst e
      simp -implicitDefEqProofs (disch := first | assumption | exact Nat.le_of_ble_eq_true rfl | decide) only [b579_0, g579_1, b579_1, g579_2, b579_2, g579_3, b579_3, g579_4, b579_4, g579_5, b579_5, g579_6, b579_6, pe_aload0, pe_getfield, pe_aload1, pe_lcmp, pe_if_eq, pe_if_le, pe_sipush, pe_goto, pe_icmp_eq, pe_icmp_ge, pe_goto_w, pm_prog_1, pm_ob_some, Nat.reduceDiv, Nat.reduceMod, Nat.reduceMul, Nat.reduceAdd, Int.reduceToNat, pm_kill_i, pm_kill_r, pm_kill_n, pm_kill_j, pm_kill_l, pm_kill_d, pm_cats_nil, pm_cats_i, pm_cats_r, pm_cats_n, pm_cats_l, pm_cats_d, sz_1, sz_2, sl_1, sl_2, lc_0, lc_lt, lc_le, li_ne, va_rf, wr_m1, we_m1, pm_kill_w, Int32.reduceOfInt, Int64.reduceOfInt, Int32.reduceOfNat, Int32.reduceLT, Int32.reduceLE, Prod.mk.injEq, Nat.reduceEqDiff, reduceCtorEq, and_true, true_and, and_false, false_and, and_self, ite_true, ite_false, ↓reduceIte, not_true_eq_false, not_false_eq_true, pe_ri, pe_rz, pe_rc, Cf_g3_0 hA, Cf_g3_1 hA, Cf_g3_2 hA, Cf_g5_0 hA, Cf_g5_1 hA, Cf_g5_2 hA, eq_false k3, eq_false k7]
/-- TimberHouse$FingerLengths.swap(II)V -/
theorem c535 {d : Nat} {h : pm_H} {a : Nat} {x0 : Int32} {x1 : Int32} (hc : pm_cls h a = some 8) : pm_call pm_prog (d + 1) 535 [.ref a, .int x0, .int x1] h = pm_ev pm_prog (pm_call pm_prog d) 535 0 b535_0 [.ref a, .int x0, .int x1, pm_junk] [] h := pm_cal (pm_rc1 hc rfl) rfl rfl rfl
/-- TimberHouse$FingerLengths.swap(II)V -/
noncomputable def f535 (S : wS) (x1 : Int32) (x2 : Int32) : Option (wS) :=
  if 0 ≤ x1 ∧ x1 < 24 then
    if 0 ≤ x2 ∧ x2 < 24 then
      some (sz (sz S (22, 0, 0) x1 (S.1 (22, 0, 0) x2)) (22, 0, 0) x2 (S.1 (22, 0, 0) x1))
    else none
  else none
theorem x535  {A : wK → Nat} {h : pm_H} {D : Nat} {S : wS} {x1 : Int32} {x2 : Int32} {r : wS}  (hA : wok A Cf_d h.1) (hD : 1 ≤ D) (e : f535 S x1 x2 = some r) : pm_call pm_prog D 535 [.ref (A (0, 0, 0)), .int x1, .int x2] (wput A Cf_d S h) = some (Outcome.returned none, (wput A Cf_d r h)) := by
  obtain ⟨D, rfl⟩ : ∃ D', D = D' + 1 := ⟨D - 1, by omega⟩
  have hD : 0 ≤ D := by omega
  simp only [f535] at e
  rw [c535 (Cf_c0 hA), b535_0]
  by_cases k1 : 0 ≤ x1 ∧ x1 < 24
  · rw [if_pos k1] at e
    by_cases k2 : 0 ≤ x2 ∧ x2 < 24
    · rw [if_pos k2] at e
      have e := Option.some.inj e; subst e
      simp -implicitDefEqProofs (disch := first | assumption | exact Nat.le_of_ble_eq_true rfl | decide) only [b535_0, pe_aload0, pe_getfield, pe_iload1, pe_iaload, pe_istore3, pe_iload2, pe_iastore, pe_iload3, pe_return, pm_prog_1, pm_ob_some, Nat.reduceDiv, Nat.reduceMod, Nat.reduceMul, Nat.reduceAdd, Int.reduceToNat, pm_kill_i, pm_kill_r, pm_kill_n, pm_kill_j, pm_kill_l, pm_kill_d, pm_cats_nil, pm_cats_i, pm_cats_r, pm_cats_n, pm_cats_l, pm_cats_d, sz_1, sz_2, sl_1, sl_2, lc_0, lc_lt, lc_le, li_ne, va_rf, wr_m1, we_m1, pm_kill_w, Int32.reduceOfInt, Int64.reduceOfInt, Int32.reduceOfNat, Int32.reduceLT, Int32.reduceLE, Prod.mk.injEq, Nat.reduceEqDiff, reduceCtorEq, and_true, true_and, and_false, false_and, and_self, ite_true, ite_false, ↓reduceIte, not_true_eq_false, not_false_eq_true, pe_ri, pe_rz, pe_rc, Cf_g0_12 hA, Cf_r22 hA, Cf_w22 hA]
    · rw [if_neg k2] at e; cases e
  · rw [if_neg k1] at e; cases e
/-- TimberHouse$FingerLengths.next(I)Z -/
theorem c534 {d : Nat} {h : pm_H} {a : Nat} {x0 : Int32} (hc : pm_cls h a = some 8) : pm_call pm_prog (d + 1) 534 [.ref a, .int x0] h = pm_ev pm_prog (pm_call pm_prog d) 534 0 b534_0 [.ref a, .int x0, pm_junk, pm_junk, pm_junk, pm_junk] [] h := pm_cal (pm_rc1 hc rfl) rfl rfl rfl
theorem g534_1 {cl : pm_C} {ls st : List Value} {h : pm_H} : pm_go pm_prog cl 534 1 ls st h = pm_ev pm_prog cl 534 1 b534_1 ls st h := pm_go_eq pm_prog cl 534 1 ls st h
theorem g534_2 {cl : pm_C} {ls st : List Value} {h : pm_H} : pm_go pm_prog cl 534 2 ls st h = pm_ev pm_prog cl 534 2 b534_2 ls st h := pm_go_eq pm_prog cl 534 2 ls st h
theorem g534_3 {cl : pm_C} {ls st : List Value} {h : pm_H} : pm_go pm_prog cl 534 3 ls st h = pm_ev pm_prog cl 534 3 b534_3 ls st h := pm_go_eq pm_prog cl 534 3 ls st h
theorem g534_4 {cl : pm_C} {ls st : List Value} {h : pm_H} : pm_go pm_prog cl 534 4 ls st h = pm_ev pm_prog cl 534 4 b534_4 ls st h := pm_go_eq pm_prog cl 534 4 ls st h
theorem g534_5 {cl : pm_C} {ls st : List Value} {h : pm_H} : pm_go pm_prog cl 534 5 ls st h = pm_ev pm_prog cl 534 5 b534_5 ls st h := pm_go_eq pm_prog cl 534 5 ls st h
theorem g534_6 {cl : pm_C} {ls st : List Value} {h : pm_H} : pm_go pm_prog cl 534 6 ls st h = pm_ev pm_prog cl 534 6 b534_6 ls st h := pm_go_eq pm_prog cl 534 6 ls st h
theorem g534_7 {cl : pm_C} {ls st : List Value} {h : pm_H} : pm_go pm_prog cl 534 7 ls st h = pm_ev pm_prog cl 534 7 b534_7 ls st h := pm_go_eq pm_prog cl 534 7 ls st h
noncomputable def f534_b1 (S : wS) : Int32 × Int32 → Option ((Int32 × Int32) ⊕ ((Int32 × Int32))) := fun (x1, x2) =>
  if x2 < 0 then
    some (.inr (x1, x2))
  else
    if 0 ≤ x2 ∧ x2 < 24 then
      if 0 ≤ (x2 + 1) ∧ (x2 + 1) < 24 then
        if (S.1 (22, 0, 0) x2) ≤ (S.1 (22, 0, 0) (x2 + 1)) then
          some (.inr (x1, x2))
        else
          some (.inl (x1, (x2 + (-1))))
      else none
    else none
noncomputable def f534_b4 (S : wS) : Int32 × Int32 × Int32 → Option ((Int32 × Int32 × Int32) ⊕ ((Int32 × Int32 × Int32))) := fun (x1, x2, x3) =>
  if 0 ≤ x3 ∧ x3 < 24 then
    if 0 ≤ x2 ∧ x2 < 24 then
      if (S.1 (22, 0, 0) x3) < (S.1 (22, 0, 0) x2) then
        some (.inl (x1, x2, (x3 + (-1))))
      else
        some (.inr (x1, x2, x3))
    else none
  else none
noncomputable def f534_b6 : Int32 × Int32 × wS → Option ((Int32 × Int32 × wS) ⊕ ((wS))) := fun (x4, x5, S) =>
  if x4 < x5 then
    (f535 S x4 x5).bind fun S9 =>
    some (.inl ((x4 + 1), (x5 + (-1)), S9))
  else
    some (.inr S)
noncomputable def f534_2 (S : wS) (x1 : Int32) (x2 : Int32) : Option (Int32 × wS) :=
  if x2 < 0 then
    some (0, S)
  else
    (lp (f534_b4 S) FU (x1, x2, (x1 - 1))).bind fun (v5, v6, v7) =>
    (f535 S v6 v7).bind fun S8 =>
    (lp (f534_b6) FU ((v6 + 1), (v5 - 1), S8)).bind fun S10 =>
    some (1, S10)
/-- TimberHouse$FingerLengths.next(I)Z -/
noncomputable def f534 (S : wS) (x1 : Int32) : Option (Int32 × wS) :=
  (lp (f534_b1 S) FU (x1, (x1 - 2))).bind fun (v2, v3) =>
  f534_2 S v2 v3
def go534_1 (A : wK → Nat) (h : pm_H) (D : Nat) (R : Outcome × pm_H) (S : wS) : Int32 × Int32 → Prop := fun (x1, x2) => ∀ q3 q4 q5 : Value, pm_go pm_prog (pm_call pm_prog D) 534 1 [.ref (A (0, 0, 0)), .int x1, .int x2, q3, q4, q5] [] (wput A Cf_d S h) = some R
def ex534_1 (A : wK → Nat) (h : pm_H) (D : Nat) (R : Outcome × pm_H) (S : wS) : (Int32 × Int32) → Prop := fun (x1, x2) => ∀ q3 q4 q5 : Value, pm_go pm_prog (pm_call pm_prog D) 534 2 [.ref (A (0, 0, 0)), .int x1, .int x2, q3, q4, q5] [] (wput A Cf_d S h) = some R
theorem y534_b1  {A : wK → Nat} {h : pm_H} {D : Nat} {R : Outcome × pm_H} {S : wS}  (hA : wok A Cf_d h.1) (hD : 1 ≤ D) (a : Int32 × Int32) (r : (Int32 × Int32) ⊕ ((Int32 × Int32))) (e : f534_b1 S a = some r) (hc : Sum.elim (go534_1 A h D R S) (ex534_1 A h D R S) r) : go534_1 A h D R S a := by
  obtain ⟨x1, x2⟩ := a
  dsimp only [go534_1]
  intro q3 q4 q5
  simp only [f534_b1] at e
  rw [g534_1, b534_1]
  by_cases k1 : x2 < 0
  · rw [if_pos k1] at e
    have e := Option.some.inj e; subst e
    dsimp only [Sum.elim_inr, ex534_1] at hc
    simp -implicitDefEqProofs (disch := first | assumption | exact Nat.le_of_ble_eq_true rfl | decide) only [b534_0, g534_3, b534_3, g534_5, b534_5, g534_7, b534_7, pe_iload1, pe_sipush, pe_isub, pe_istore2, pe_goto_w, pe_iload2, pe_if_lt, pe_aload0, pe_getfield, pe_iaload, pe_iadd, pe_icmp_le, pe_iinc2, pe_goto, pe_if_ge, pe_istore3, pe_iload3, pe_icmp_ge, pe_iinc3, pe_call3, pm_af_ret, pm_af_void, pm_af_thr, pe_istore4, pe_istore5, pe_iload4, pe_iload5, pe_iinc4, pe_iinc5, pm_prog_1, pm_ob_some, Nat.reduceDiv, Nat.reduceMod, Nat.reduceMul, Nat.reduceAdd, Int.reduceToNat, pm_kill_i, pm_kill_r, pm_kill_n, pm_kill_j, pm_kill_l, pm_kill_d, pm_cats_nil, pm_cats_i, pm_cats_r, pm_cats_n, pm_cats_l, pm_cats_d, sz_1, sz_2, sl_1, sl_2, lc_0, lc_lt, lc_le, li_ne, va_rf, wr_m1, we_m1, pm_kill_w, Int32.reduceOfInt, Int64.reduceOfInt, Int32.reduceOfNat, Int32.reduceLT, Int32.reduceLE, Prod.mk.injEq, Nat.reduceEqDiff, reduceCtorEq, and_true, true_and, and_false, false_and, and_self, ite_true, ite_false, ↓reduceIte, not_true_eq_false, not_false_eq_true, pe_ri, pe_rz, pe_rc, Cf_g0_12 hA, Cf_r22 hA, eq_true k1, hc]
  · rw [if_neg k1] at e
    by_cases k2 : 0 ≤ x2 ∧ x2 < 24
    · rw [if_pos k2] at e
      by_cases k3 : 0 ≤ (x2 + 1) ∧ (x2 + 1) < 24
      · rw [if_pos k3] at e
        by_cases k4 : (S.1 (22, 0, 0) x2) ≤ (S.1 (22, 0, 0) (x2 + 1))
        · rw [if_pos k4] at e
          have e := Option.some.inj e; subst e
          dsimp only [Sum.elim_inr, ex534_1] at hc
          simp -implicitDefEqProofs (disch := first | assumption | exact Nat.le_of_ble_eq_true rfl | decide) only [b534_0, g534_3, b534_3, g534_5, b534_5, g534_7, b534_7, pe_iload1, pe_sipush, pe_isub, pe_istore2, pe_goto_w, pe_iload2, pe_if_lt, pe_aload0, pe_getfield, pe_iaload, pe_iadd, pe_icmp_le, pe_iinc2, pe_goto, pe_if_ge, pe_istore3, pe_iload3, pe_icmp_ge, pe_iinc3, pe_call3, pm_af_ret, pm_af_void, pm_af_thr, pe_istore4, pe_istore5, pe_iload4, pe_iload5, pe_iinc4, pe_iinc5, pm_prog_1, pm_ob_some, Nat.reduceDiv, Nat.reduceMod, Nat.reduceMul, Nat.reduceAdd, Int.reduceToNat, pm_kill_i, pm_kill_r, pm_kill_n, pm_kill_j, pm_kill_l, pm_kill_d, pm_cats_nil, pm_cats_i, pm_cats_r, pm_cats_n, pm_cats_l, pm_cats_d, sz_1, sz_2, sl_1, sl_2, lc_0, lc_lt, lc_le, li_ne, va_rf, wr_m1, we_m1, pm_kill_w, Int32.reduceOfInt, Int64.reduceOfInt, Int32.reduceOfNat, Int32.reduceLT, Int32.reduceLE, Prod.mk.injEq, Nat.reduceEqDiff, reduceCtorEq, and_true, true_and, and_false, false_and, and_self, ite_true, ite_false, ↓reduceIte, not_true_eq_false, not_false_eq_true, pe_ri, pe_rz, pe_rc, Cf_g0_12 hA, Cf_r22 hA, eq_false k1, eq_true k4, hc]
        · rw [if_neg k4] at e
          have e := Option.some.inj e; subst e
          dsimp only [Sum.elim_inl, go534_1] at hc
          simp -implicitDefEqProofs (disch := first | assumption | exact Nat.le_of_ble_eq_true rfl | decide) only [b534_0, g534_3, b534_3, g534_5, b534_5, g534_7, b534_7, pe_iload1, pe_sipush, pe_isub, pe_istore2, pe_goto_w, pe_iload2, pe_if_lt, pe_aload0, pe_getfield, pe_iaload, pe_iadd, pe_icmp_le, pe_iinc2, pe_goto, pe_if_ge, pe_istore3, pe_iload3, pe_icmp_ge, pe_iinc3, pe_call3, pm_af_ret, pm_af_void, pm_af_thr, pe_istore4, pe_istore5, pe_iload4, pe_iload5, pe_iinc4, pe_iinc5, pm_prog_1, pm_ob_some, Nat.reduceDiv, Nat.reduceMod, Nat.reduceMul, Nat.reduceAdd, Int.reduceToNat, pm_kill_i, pm_kill_r, pm_kill_n, pm_kill_j, pm_kill_l, pm_kill_d, pm_cats_nil, pm_cats_i, pm_cats_r, pm_cats_n, pm_cats_l, pm_cats_d, sz_1, sz_2, sl_1, sl_2, lc_0, lc_lt, lc_le, li_ne, va_rf, wr_m1, we_m1, pm_kill_w, Int32.reduceOfInt, Int64.reduceOfInt, Int32.reduceOfNat, Int32.reduceLT, Int32.reduceLE, Prod.mk.injEq, Nat.reduceEqDiff, reduceCtorEq, and_true, true_and, and_false, false_and, and_self, ite_true, ite_false, ↓reduceIte, not_true_eq_false, not_false_eq_true, pe_ri, pe_rz, pe_rc, Cf_g0_12 hA, Cf_r22 hA, eq_false k1, eq_false k4, hc]
      · rw [if_neg k3] at e; cases e
    · rw [if_neg k2] at e; cases e
theorem z534_1  {A : wK → Nat} {h : pm_H} {D : Nat} {R : Outcome × pm_H} {S : wS}  (hA : wok A Cf_d h.1) (hD : 1 ≤ D) {n : Nat} {a : Int32 × Int32} {b : (Int32 × Int32)} (e : lp (f534_b1 S) n a = some b) (hx : ex534_1 A h D R S b) : go534_1 A h D R S a := lp_run (fun a r => y534_b1 hA hD a r) n a b e hx
def go534_4 (A : wK → Nat) (h : pm_H) (D : Nat) (R : Outcome × pm_H) (S : wS) : Int32 × Int32 × Int32 → Prop := fun (x1, x2, x3) => ∀ q4 q5 : Value, pm_go pm_prog (pm_call pm_prog D) 534 4 [.ref (A (0, 0, 0)), .int x1, .int x2, .int x3, q4, q5] [] (wput A Cf_d S h) = some R
def ex534_4 (A : wK → Nat) (h : pm_H) (D : Nat) (R : Outcome × pm_H) (S : wS) : (Int32 × Int32 × Int32) → Prop := fun (x1, x2, x3) => ∀ q4 q5 : Value, pm_go pm_prog (pm_call pm_prog D) 534 5 [.ref (A (0, 0, 0)), .int x1, .int x2, .int x3, q4, q5] [] (wput A Cf_d S h) = some R
theorem y534_b4  {A : wK → Nat} {h : pm_H} {D : Nat} {R : Outcome × pm_H} {S : wS}  (hA : wok A Cf_d h.1) (hD : 1 ≤ D) (a : Int32 × Int32 × Int32) (r : (Int32 × Int32 × Int32) ⊕ ((Int32 × Int32 × Int32))) (e : f534_b4 S a = some r) (hc : Sum.elim (go534_4 A h D R S) (ex534_4 A h D R S) r) : go534_4 A h D R S a := by
  obtain ⟨x1, x2, x3⟩ := a
  dsimp only [go534_4]
  intro q4 q5
  simp only [f534_b4] at e
  rw [g534_4, b534_4]
  by_cases k1 : 0 ≤ x3 ∧ x3 < 24
  · rw [if_pos k1] at e
    by_cases k2 : 0 ≤ x2 ∧ x2 < 24
    · rw [if_pos k2] at e
      by_cases k3 : (S.1 (22, 0, 0) x3) < (S.1 (22, 0, 0) x2)
      · rw [if_pos k3] at e
        have e := Option.some.inj e; subst e
        dsimp only [Sum.elim_inl, go534_4] at hc
        simp -implicitDefEqProofs (disch := first | assumption | exact Nat.le_of_ble_eq_true rfl | decide) only [b534_0, g534_3, b534_3, g534_5, b534_5, g534_7, b534_7, pe_iload1, pe_sipush, pe_isub, pe_istore2, pe_goto_w, pe_iload2, pe_if_lt, pe_aload0, pe_getfield, pe_iaload, pe_iadd, pe_icmp_le, pe_iinc2, pe_goto, pe_if_ge, pe_istore3, pe_iload3, pe_icmp_ge, pe_iinc3, pe_call3, pm_af_ret, pm_af_void, pm_af_thr, pe_istore4, pe_istore5, pe_iload4, pe_iload5, pe_iinc4, pe_iinc5, pm_prog_1, pm_ob_some, Nat.reduceDiv, Nat.reduceMod, Nat.reduceMul, Nat.reduceAdd, Int.reduceToNat, pm_kill_i, pm_kill_r, pm_kill_n, pm_kill_j, pm_kill_l, pm_kill_d, pm_cats_nil, pm_cats_i, pm_cats_r, pm_cats_n, pm_cats_l, pm_cats_d, sz_1, sz_2, sl_1, sl_2, lc_0, lc_lt, lc_le, li_ne, va_rf, wr_m1, we_m1, pm_kill_w, Int32.reduceOfInt, Int64.reduceOfInt, Int32.reduceOfNat, Int32.reduceLT, Int32.reduceLE, Prod.mk.injEq, Nat.reduceEqDiff, reduceCtorEq, and_true, true_and, and_false, false_and, and_self, ite_true, ite_false, ↓reduceIte, not_true_eq_false, not_false_eq_true, pe_ri, pe_rz, pe_rc, Cf_g0_12 hA, Cf_r22 hA, eq_true k3, hc]
      · rw [if_neg k3] at e
        have e := Option.some.inj e; subst e
        dsimp only [Sum.elim_inr, ex534_4] at hc
        simp -implicitDefEqProofs (disch := first | assumption | exact Nat.le_of_ble_eq_true rfl | decide) only [b534_0, g534_3, b534_3, g534_5, b534_5, g534_7, b534_7, pe_iload1, pe_sipush, pe_isub, pe_istore2, pe_goto_w, pe_iload2, pe_if_lt, pe_aload0, pe_getfield, pe_iaload, pe_iadd, pe_icmp_le, pe_iinc2, pe_goto, pe_if_ge, pe_istore3, pe_iload3, pe_icmp_ge, pe_iinc3, pe_call3, pm_af_ret, pm_af_void, pm_af_thr, pe_istore4, pe_istore5, pe_iload4, pe_iload5, pe_iinc4, pe_iinc5, pm_prog_1, pm_ob_some, Nat.reduceDiv, Nat.reduceMod, Nat.reduceMul, Nat.reduceAdd, Int.reduceToNat, pm_kill_i, pm_kill_r, pm_kill_n, pm_kill_j, pm_kill_l, pm_kill_d, pm_cats_nil, pm_cats_i, pm_cats_r, pm_cats_n, pm_cats_l, pm_cats_d, sz_1, sz_2, sl_1, sl_2, lc_0, lc_lt, lc_le, li_ne, va_rf, wr_m1, we_m1, pm_kill_w, Int32.reduceOfInt, Int64.reduceOfInt, Int32.reduceOfNat, Int32.reduceLT, Int32.reduceLE, Prod.mk.injEq, Nat.reduceEqDiff, reduceCtorEq, and_true, true_and, and_false, false_and, and_self, ite_true, ite_false, ↓reduceIte, not_true_eq_false, not_false_eq_true, pe_ri, pe_rz, pe_rc, Cf_g0_12 hA, Cf_r22 hA, eq_false k3, hc]
    · rw [if_neg k2] at e; cases e
  · rw [if_neg k1] at e; cases e
theorem z534_4  {A : wK → Nat} {h : pm_H} {D : Nat} {R : Outcome × pm_H} {S : wS}  (hA : wok A Cf_d h.1) (hD : 1 ≤ D) {n : Nat} {a : Int32 × Int32 × Int32} {b : (Int32 × Int32 × Int32)} (e : lp (f534_b4 S) n a = some b) (hx : ex534_4 A h D R S b) : go534_4 A h D R S a := lp_run (fun a r => y534_b4 hA hD a r) n a b e hx
def go534_6 (A : wK → Nat) (h : pm_H) (D : Nat) (R : Outcome × pm_H) : Int32 × Int32 × wS → Prop := fun (x4, x5, S) => ∀ q1 q2 q3 : Value, pm_go pm_prog (pm_call pm_prog D) 534 6 [.ref (A (0, 0, 0)), q1, q2, q3, .int x4, .int x5] [] (wput A Cf_d S h) = some R
def ex534_6 (A : wK → Nat) (h : pm_H) (D : Nat) (R : Outcome × pm_H) : (wS) → Prop := fun S => ∀ q0 q1 q2 q3 q4 q5 : Value, pm_go pm_prog (pm_call pm_prog D) 534 7 [q0, q1, q2, q3, q4, q5] [] (wput A Cf_d S h) = some R
theorem y534_b6  {A : wK → Nat} {h : pm_H} {D : Nat} {R : Outcome × pm_H}  (hA : wok A Cf_d h.1) (hD : 1 ≤ D) (a : Int32 × Int32 × wS) (r : (Int32 × Int32 × wS) ⊕ ((wS))) (e : f534_b6 a = some r) (hc : Sum.elim (go534_6 A h D R) (ex534_6 A h D R) r) : go534_6 A h D R a := by
  obtain ⟨x4, x5, S⟩ := a
  dsimp only [go534_6]
  intro q1 q2 q3
  simp only [f534_b6] at e
  rw [g534_6, b534_6]
  by_cases k1 : x4 < x5
  · rw [if_pos k1] at e
    obtain ⟨S9, k2, e⟩ := Option.bind_eq_some_iff.mp e
    try dsimp only at e
    have z2 := x535 (D := D) (h := h) hA (by omega) k2
    have e := Option.some.inj e; subst e
    dsimp only [Sum.elim_inl, go534_6] at hc
    simp -implicitDefEqProofs (disch := first | assumption | exact Nat.le_of_ble_eq_true rfl | decide) only [b534_0, g534_3, b534_3, g534_5, b534_5, g534_7, b534_7, pe_iload1, pe_sipush, pe_isub, pe_istore2, pe_goto_w, pe_iload2, pe_if_lt, pe_aload0, pe_getfield, pe_iaload, pe_iadd, pe_icmp_le, pe_iinc2, pe_goto, pe_if_ge, pe_istore3, pe_iload3, pe_icmp_ge, pe_iinc3, pe_call3, pm_af_ret, pm_af_void, pm_af_thr, pe_istore4, pe_istore5, pe_iload4, pe_iload5, pe_iinc4, pe_iinc5, pm_prog_1, pm_ob_some, Nat.reduceDiv, Nat.reduceMod, Nat.reduceMul, Nat.reduceAdd, Int.reduceToNat, pm_kill_i, pm_kill_r, pm_kill_n, pm_kill_j, pm_kill_l, pm_kill_d, pm_cats_nil, pm_cats_i, pm_cats_r, pm_cats_n, pm_cats_l, pm_cats_d, sz_1, sz_2, sl_1, sl_2, lc_0, lc_lt, lc_le, li_ne, va_rf, wr_m1, we_m1, pm_kill_w, Int32.reduceOfInt, Int64.reduceOfInt, Int32.reduceOfNat, Int32.reduceLT, Int32.reduceLE, Prod.mk.injEq, Nat.reduceEqDiff, reduceCtorEq, and_true, true_and, and_false, false_and, and_self, ite_true, ite_false, ↓reduceIte, not_true_eq_false, not_false_eq_true, pe_ri, pe_rz, pe_rc, Cf_g0_12 hA, Cf_r22 hA, eq_true k1, z2, hc]
  · rw [if_neg k1] at e
    have e := Option.some.inj e; subst e
    dsimp only [Sum.elim_inr, ex534_6] at hc
    simp -implicitDefEqProofs (disch := first | assumption | exact Nat.le_of_ble_eq_true rfl | decide) only [b534_0, g534_3, b534_3, g534_5, b534_5, g534_7, b534_7, pe_iload1, pe_sipush, pe_isub, pe_istore2, pe_goto_w, pe_iload2, pe_if_lt, pe_aload0, pe_getfield, pe_iaload, pe_iadd, pe_icmp_le, pe_iinc2, pe_goto, pe_if_ge, pe_istore3, pe_iload3, pe_icmp_ge, pe_iinc3, pe_call3, pm_af_ret, pm_af_void, pm_af_thr, pe_istore4, pe_istore5, pe_iload4, pe_iload5, pe_iinc4, pe_iinc5, pm_prog_1, pm_ob_some, Nat.reduceDiv, Nat.reduceMod, Nat.reduceMul, Nat.reduceAdd, Int.reduceToNat, pm_kill_i, pm_kill_r, pm_kill_n, pm_kill_j, pm_kill_l, pm_kill_d, pm_cats_nil, pm_cats_i, pm_cats_r, pm_cats_n, pm_cats_l, pm_cats_d, sz_1, sz_2, sl_1, sl_2, lc_0, lc_lt, lc_le, li_ne, va_rf, wr_m1, we_m1, pm_kill_w, Int32.reduceOfInt, Int64.reduceOfInt, Int32.reduceOfNat, Int32.reduceLT, Int32.reduceLE, Prod.mk.injEq, Nat.reduceEqDiff, reduceCtorEq, and_true, true_and, and_false, false_and, and_self, ite_true, ite_false, ↓reduceIte, not_true_eq_false, not_false_eq_true, pe_ri, pe_rz, pe_rc, Cf_g0_12 hA, Cf_r22 hA, eq_false k1, hc]
theorem z534_6  {A : wK → Nat} {h : pm_H} {D : Nat} {R : Outcome × pm_H}  (hA : wok A Cf_d h.1) (hD : 1 ≤ D) {n : Nat} {a : Int32 × Int32 × wS} {b : (wS)} (e : lp (f534_b6) n a = some b) (hx : ex534_6 A h D R b) : go534_6 A h D R a := lp_run (fun a r => y534_b6 hA hD a r) n a b e hx
theorem y534_2  {A : wK → Nat} {h : pm_H} {D : Nat} {S : wS} {x1 : Int32} {x2 : Int32} {r : Int32 × wS}  (hA : wok A Cf_d h.1) (hD : 1 ≤ D) (e : f534_2 S x1 x2 = some r) : ∀ q3 q4 q5 : Value, pm_go pm_prog (pm_call pm_prog D) 534 2 [.ref (A (0, 0, 0)), .int x1, .int x2, q3, q4, q5] [] (wput A Cf_d S h) = some (match (generalizing := false) r with | (w0, S1) => (Outcome.returned (some (.int w0)), (wput A Cf_d S1 h))) := by
  intro q3 q4 q5
  simp only [f534_2] at e
  rw [g534_2, b534_2]
  by_cases k1 : x2 < 0
  · rw [if_pos k1] at e
    have e := Option.some.inj e; subst e
    simp -implicitDefEqProofs (disch := first | assumption | exact Nat.le_of_ble_eq_true rfl | decide) only [b534_0, g534_3, b534_3, g534_5, b534_5, g534_7, b534_7, pe_iload1, pe_sipush, pe_isub, pe_istore2, pe_goto_w, pe_iload2, pe_if_lt, pe_aload0, pe_getfield, pe_iaload, pe_iadd, pe_icmp_le, pe_iinc2, pe_goto, pe_if_ge, pe_istore3, pe_iload3, pe_icmp_ge, pe_iinc3, pe_call3, pm_af_ret, pm_af_void, pm_af_thr, pe_istore4, pe_istore5, pe_iload4, pe_iload5, pe_iinc4, pe_iinc5, pm_prog_1, pm_ob_some, Nat.reduceDiv, Nat.reduceMod, Nat.reduceMul, Nat.reduceAdd, Int.reduceToNat, pm_kill_i, pm_kill_r, pm_kill_n, pm_kill_j, pm_kill_l, pm_kill_d, pm_cats_nil, pm_cats_i, pm_cats_r, pm_cats_n, pm_cats_l, pm_cats_d, sz_1, sz_2, sl_1, sl_2, lc_0, lc_lt, lc_le, li_ne, va_rf, wr_m1, we_m1, pm_kill_w, Int32.reduceOfInt, Int64.reduceOfInt, Int32.reduceOfNat, Int32.reduceLT, Int32.reduceLE, Prod.mk.injEq, Nat.reduceEqDiff, reduceCtorEq, and_true, true_and, and_false, false_and, and_self, ite_true, ite_false, ↓reduceIte, not_true_eq_false, not_false_eq_true, pe_ri, pe_rz, pe_rc, Cf_g0_12 hA, Cf_r22 hA, eq_true k1]
  · rw [if_neg k1] at e
    obtain ⟨⟨v5, v6, v7⟩, k2, e⟩ := Option.bind_eq_some_iff.mp e
    try dsimp only at e
    try simp -implicitDefEqProofs (disch := first | assumption | exact Nat.le_of_ble_eq_true rfl | decide) only [b534_0, g534_3, b534_3, g534_5, b534_5, g534_7, b534_7, pe_iload1, pe_sipush, pe_isub, pe_istore2, pe_goto_w, pe_iload2, pe_if_lt, pe_aload0, pe_getfield, pe_iaload, pe_iadd, pe_icmp_le, pe_iinc2, pe_goto, pe_if_ge, pe_istore3, pe_iload3, pe_icmp_ge, pe_iinc3, pe_call3, pm_af_ret, pm_af_void, pm_af_thr, pe_istore4, pe_istore5, pe_iload4, pe_iload5, pe_iinc4, pe_iinc5, pm_prog_1, pm_ob_some, Nat.reduceDiv, Nat.reduceMod, Nat.reduceMul, Nat.reduceAdd, Int.reduceToNat, pm_kill_i, pm_kill_r, pm_kill_n, pm_kill_j, pm_kill_l, pm_kill_d, pm_cats_nil, pm_cats_i, pm_cats_r, pm_cats_n, pm_cats_l, pm_cats_d, sz_1, sz_2, sl_1, sl_2, lc_0, lc_lt, lc_le, li_ne, va_rf, wr_m1, we_m1, pm_kill_w, Int32.reduceOfInt, Int64.reduceOfInt, Int32.reduceOfNat, Int32.reduceLT, Int32.reduceLE, Prod.mk.injEq, Nat.reduceEqDiff, reduceCtorEq, and_true, true_and, and_false, false_and, and_self, ite_true, ite_false, ↓reduceIte, not_true_eq_false, not_false_eq_true, pe_ri, pe_rz, pe_rc, Cf_g0_12 hA, Cf_r22 hA, eq_false k1]
    refine z534_4 hA hD k2 ?_ _ _
    dsimp only [ex534_4]
    intro q4 q5
    obtain ⟨S8, k3, e⟩ := Option.bind_eq_some_iff.mp e
    try dsimp only at e
    have z3 := x535 (D := D) (h := h) hA (by omega) k3
    obtain ⟨S10, k4, e⟩ := Option.bind_eq_some_iff.mp e
    try dsimp only at e
    try simp -implicitDefEqProofs (disch := first | assumption | exact Nat.le_of_ble_eq_true rfl | decide) only [b534_0, g534_3, b534_3, g534_5, b534_5, g534_7, b534_7, pe_iload1, pe_sipush, pe_isub, pe_istore2, pe_goto_w, pe_iload2, pe_if_lt, pe_aload0, pe_getfield, pe_iaload, pe_iadd, pe_icmp_le, pe_iinc2, pe_goto, pe_if_ge, pe_istore3, pe_iload3, pe_icmp_ge, pe_iinc3, pe_call3, pm_af_ret, pm_af_void, pm_af_thr, pe_istore4, pe_istore5, pe_iload4, pe_iload5, pe_iinc4, pe_iinc5, pm_prog_1, pm_ob_some, Nat.reduceDiv, Nat.reduceMod, Nat.reduceMul, Nat.reduceAdd, Int.reduceToNat, pm_kill_i, pm_kill_r, pm_kill_n, pm_kill_j, pm_kill_l, pm_kill_d, pm_cats_nil, pm_cats_i, pm_cats_r, pm_cats_n, pm_cats_l, pm_cats_d, sz_1, sz_2, sl_1, sl_2, lc_0, lc_lt, lc_le, li_ne, va_rf, wr_m1, we_m1, pm_kill_w, Int32.reduceOfInt, Int64.reduceOfInt, Int32.reduceOfNat, Int32.reduceLT, Int32.reduceLE, Prod.mk.injEq, Nat.reduceEqDiff, reduceCtorEq, and_true, true_and, and_false, false_and, and_self, ite_true, ite_false, ↓reduceIte, not_true_eq_false, not_false_eq_true, pe_ri, pe_rz, pe_rc, Cf_g0_12 hA, Cf_r22 hA, eq_false k1, z3]
    refine z534_6 hA hD k4 ?_ _ _ _
    dsimp only [ex534_6]
    intro q0 q1 q2 q3 q4 q5
    have e := Option.some.inj e; subst e
    simp -implicitDefEqProofs (disch := first | assumption | exact Nat.le_of_ble_eq_true rfl | decide) only [b534_0, g534_3, b534_3, g534_5, b534_5, g534_7, b534_7, pe_iload1, pe_sipush, pe_isub, pe_istore2, pe_goto_w, pe_iload2, pe_if_lt, pe_aload0, pe_getfield, pe_iaload, pe_iadd, pe_icmp_le, pe_iinc2, pe_goto, pe_if_ge, pe_istore3, pe_iload3, pe_icmp_ge, pe_iinc3, pe_call3, pm_af_ret, pm_af_void, pm_af_thr, pe_istore4, pe_istore5, pe_iload4, pe_iload5, pe_iinc4, pe_iinc5, pm_prog_1, pm_ob_some, Nat.reduceDiv, Nat.reduceMod, Nat.reduceMul, Nat.reduceAdd, Int.reduceToNat, pm_kill_i, pm_kill_r, pm_kill_n, pm_kill_j, pm_kill_l, pm_kill_d, pm_cats_nil, pm_cats_i, pm_cats_r, pm_cats_n, pm_cats_l, pm_cats_d, sz_1, sz_2, sl_1, sl_2, lc_0, lc_lt, lc_le, li_ne, va_rf, wr_m1, we_m1, pm_kill_w, Int32.reduceOfInt, Int64.reduceOfInt, Int32.reduceOfNat, Int32.reduceLT, Int32.reduceLE, Prod.mk.injEq, Nat.reduceEqDiff, reduceCtorEq, and_true, true_and, and_false, false_and, and_self, ite_true, ite_false, ↓reduceIte, not_true_eq_false, not_false_eq_true, pe_ri, pe_rz, pe_rc, Cf_g0_12 hA, Cf_r22 hA, eq_false k1, z3]
theorem x534  {A : wK → Nat} {h : pm_H} {D : Nat} {S : wS} {x1 : Int32} {r : Int32 × wS}  (hA : wok A Cf_d h.1) (hD : 2 ≤ D) (e : f534 S x1 = some r) : pm_call pm_prog D 534 [.ref (A (0, 0, 0)), .int x1] (wput A Cf_d S h) = some (match (generalizing := false) r with | (w0, S1) => (Outcome.returned (some (.int w0)), (wput A Cf_d S1 h))) := by
  obtain ⟨D, rfl⟩ : ∃ D', D = D' + 1 := ⟨D - 1, by omega⟩
  have hD : 1 ≤ D := by omega
  simp only [f534] at e
  rw [c534 (Cf_c0 hA), b534_0]
  obtain ⟨⟨v2, v3⟩, k1, e⟩ := Option.bind_eq_some_iff.mp e
  try dsimp only at e
  try simp -implicitDefEqProofs (disch := first | assumption | exact Nat.le_of_ble_eq_true rfl | decide) only [b534_0, g534_3, b534_3, g534_5, b534_5, g534_7, b534_7, pe_iload1, pe_sipush, pe_isub, pe_istore2, pe_goto_w, pe_iload2, pe_if_lt, pe_aload0, pe_getfield, pe_iaload, pe_iadd, pe_icmp_le, pe_iinc2, pe_goto, pe_if_ge, pe_istore3, pe_iload3, pe_icmp_ge, pe_iinc3, pe_call3, pm_af_ret, pm_af_void, pm_af_thr, pe_istore4, pe_istore5, pe_iload4, pe_iload5, pe_iinc4, pe_iinc5, pm_prog_1, pm_ob_some, Nat.reduceDiv, Nat.reduceMod, Nat.reduceMul, Nat.reduceAdd, Int.reduceToNat, pm_kill_i, pm_kill_r, pm_kill_n, pm_kill_j, pm_kill_l, pm_kill_d, pm_cats_nil, pm_cats_i, pm_cats_r, pm_cats_n, pm_cats_l, pm_cats_d, sz_1, sz_2, sl_1, sl_2, lc_0, lc_lt, lc_le, li_ne, va_rf, wr_m1, we_m1, pm_kill_w, Int32.reduceOfInt, Int64.reduceOfInt, Int32.reduceOfNat, Int32.reduceLT, Int32.reduceLE, Prod.mk.injEq, Nat.reduceEqDiff, reduceCtorEq, and_true, true_and, and_false, false_and, and_self, ite_true, ite_false, ↓reduceIte, not_true_eq_false, not_false_eq_true, pe_ri, pe_rz, pe_rc, Cf_g0_12 hA, Cf_r22 hA]
  refine z534_1 hA hD k1 ?_ _ _ _
  dsimp only [ex534_1]
  intro q3 q4 q5
  have k2 := y534_2 (h := h) hA hD e
  simp -implicitDefEqProofs (disch := first | assumption | exact Nat.le_of_ble_eq_true rfl | decide) only [b534_0, g534_3, b534_3, g534_5, b534_5, g534_7, b534_7, pe_iload1, pe_sipush, pe_isub, pe_istore2, pe_goto_w, pe_iload2, pe_if_lt, pe_aload0, pe_getfield, pe_iaload, pe_iadd, pe_icmp_le, pe_iinc2, pe_goto, pe_if_ge, pe_istore3, pe_iload3, pe_icmp_ge, pe_iinc3, pe_call3, pm_af_ret, pm_af_void, pm_af_thr, pe_istore4, pe_istore5, pe_iload4, pe_iload5, pe_iinc4, pe_iinc5, pm_prog_1, pm_ob_some, Nat.reduceDiv, Nat.reduceMod, Nat.reduceMul, Nat.reduceAdd, Int.reduceToNat, pm_kill_i, pm_kill_r, pm_kill_n, pm_kill_j, pm_kill_l, pm_kill_d, pm_cats_nil, pm_cats_i, pm_cats_r, pm_cats_n, pm_cats_l, pm_cats_d, sz_1, sz_2, sl_1, sl_2, lc_0, lc_lt, lc_le, li_ne, va_rf, wr_m1, we_m1, pm_kill_w, Int32.reduceOfInt, Int64.reduceOfInt, Int32.reduceOfNat, Int32.reduceLT, Int32.reduceLE, Prod.mk.injEq, Nat.reduceEqDiff, reduceCtorEq, and_true, true_and, and_false, false_and, and_self, ite_true, ite_false, ↓reduceIte, not_true_eq_false, not_false_eq_true, pe_ri, pe_rz, pe_rc, Cf_g0_12 hA, Cf_r22 hA, k2]
/-- TimberHouse$FingerLengths$Score.set(JII)V -/
noncomputable def f577v2 (S : wS) (x1 : Int64) (x3 : Int32) (x4 : Int32) : Option (wS) :=
  some (sz (sz (sl S (5, 0, 0) 0 x1) (5, 0, 0) 1 x3) (5, 0, 0) 2 x4)
theorem x577v2  {A : wK → Nat} {h : pm_H} {D : Nat} {S : wS} {x1 : Int64} {x3 : Int32} {x4 : Int32} {r : wS}  (hA : wok A Cf_d h.1) (hD : 1 ≤ D) (e : f577v2 S x1 x3 x4 = some r) : pm_call pm_prog D 577 [.ref (A (5, 0, 0)), .long x1, .int x3, .int x4] (wput A Cf_d S h) = some (Outcome.returned none, (wput A Cf_d r h)) := by
  obtain ⟨D, rfl⟩ : ∃ D', D = D' + 1 := ⟨D - 1, by omega⟩
  have hD : 0 ≤ D := by omega
  simp only [f577v2] at e
  rw [c577 (Cf_c5 hA), b577_0]
  have e := Option.some.inj e; subst e
  simp -implicitDefEqProofs (disch := first | assumption | exact Nat.le_of_ble_eq_true rfl | decide) only [b577_0, pe_aload0, pe_lload1, pe_putfield, pe_iload3, pe_iload4, pe_return, pm_prog_1, pm_ob_some, Nat.reduceDiv, Nat.reduceMod, Nat.reduceMul, Nat.reduceAdd, Int.reduceToNat, pm_kill_i, pm_kill_r, pm_kill_n, pm_kill_j, pm_kill_l, pm_kill_d, pm_cats_nil, pm_cats_i, pm_cats_r, pm_cats_n, pm_cats_l, pm_cats_d, sz_1, sz_2, sl_1, sl_2, lc_0, lc_lt, lc_le, li_ne, va_rf, wr_m1, we_m1, pm_kill_w, Int32.reduceOfInt, Int64.reduceOfInt, Int32.reduceOfNat, Int32.reduceLT, Int32.reduceLE, Prod.mk.injEq, Nat.reduceEqDiff, reduceCtorEq, and_true, true_and, and_false, false_and, and_self, ite_true, ite_false, ↓reduceIte, not_true_eq_false, not_false_eq_true, pe_ri, pe_rz, pe_rc, Cf_p5_0 hA, Cf_p5_1 hA, Cf_p5_2 hA]
/-- TimberHouse$FingerLengths$Score.copy(LTimberHouse$FingerLengths$Score;)V -/
noncomputable def f578v2 (S : wS) (x1i : Int32) (x1j : Int32) : Option (wS) :=
  if 0 ≤ x1i ∧ x1i < 25 then
    if 0 ≤ x1j ∧ x1j < 61 then
      (f577v2 S (S.2 (3, x1i, x1j) 0) (S.1 (3, x1i, x1j) 1) (S.1 (3, x1i, x1j) 2)).bind fun S1 =>
      some S1
    else none
  else none
theorem x578v2  {A : wK → Nat} {h : pm_H} {D : Nat} {S : wS} {x1i : Int32} {x1j : Int32} {r : wS}  (hA : wok A Cf_d h.1) (hD : 2 ≤ D) (e : f578v2 S x1i x1j = some r) : pm_call pm_prog D 578 [.ref (A (5, 0, 0)), .ref (A (3, x1i, x1j))] (wput A Cf_d S h) = some (Outcome.returned none, (wput A Cf_d r h)) := by
  obtain ⟨D, rfl⟩ : ∃ D', D = D' + 1 := ⟨D - 1, by omega⟩
  have hD : 1 ≤ D := by omega
  simp only [f578v2] at e
  have k1 : 0 ≤ x1i ∧ x1i < 25 := by
    by_cases q : 0 ≤ x1i ∧ x1i < 25
    · exact q
    · rw [if_neg q] at e; cases e
  rw [if_pos k1] at e
  have k2 : 0 ≤ x1j ∧ x1j < 61 := by
    by_cases q : 0 ≤ x1j ∧ x1j < 61
    · exact q
    · rw [if_neg q] at e; cases e
  rw [if_pos k2] at e
  rw [c578 (Cf_c5 hA), b578_0]
  obtain ⟨S1, k3, e⟩ := Option.bind_eq_some_iff.mp e
  try dsimp only at e
  have z3 := x577v2 (D := D) (h := h) hA (by omega) k3
  have e := Option.some.inj e; subst e
  simp -implicitDefEqProofs (disch := first | assumption | exact Nat.le_of_ble_eq_true rfl | decide) only [b578_0, pe_aload0, pe_aload1, pe_getfield, pe_call4, pm_af_ret, pm_af_void, pm_af_thr, pe_return, pm_prog_1, pm_ob_some, Nat.reduceDiv, Nat.reduceMod, Nat.reduceMul, Nat.reduceAdd, Int.reduceToNat, pm_kill_i, pm_kill_r, pm_kill_n, pm_kill_j, pm_kill_l, pm_kill_d, pm_cats_nil, pm_cats_i, pm_cats_r, pm_cats_n, pm_cats_l, pm_cats_d, sz_1, sz_2, sl_1, sl_2, lc_0, lc_lt, lc_le, li_ne, va_rf, wr_m1, we_m1, pm_kill_w, Int32.reduceOfInt, Int64.reduceOfInt, Int32.reduceOfNat, Int32.reduceLT, Int32.reduceLE, Prod.mk.injEq, Nat.reduceEqDiff, reduceCtorEq, and_true, true_and, and_false, false_and, and_self, ite_true, ite_false, ↓reduceIte, not_true_eq_false, not_false_eq_true, pe_ri, pe_rz, pe_rc, Cf_g3_0 hA, Cf_g3_1 hA, Cf_g3_2 hA, z3]
/-- TimberHouse$FingerLengths.order(I)I -/
theorem c533 {d : Nat} {h : pm_H} {a : Nat} {x0 : Int32} (hc : pm_cls h a = some 8) : pm_call pm_prog (d + 1) 533 [.ref a, .int x0] h = pm_ev pm_prog (pm_call pm_prog d) 533 0 b533_0 [.ref a, .int x0, pm_junk, pm_junk] [] h := pm_cal (pm_rc1 hc rfl) rfl rfl rfl
theorem g533_1 {cl : pm_C} {ls st : List Value} {h : pm_H} : pm_go pm_prog cl 533 1 ls st h = pm_ev pm_prog cl 533 1 b533_1 ls st h := pm_go_eq pm_prog cl 533 1 ls st h
theorem g533_2 {cl : pm_C} {ls st : List Value} {h : pm_H} : pm_go pm_prog cl 533 2 ls st h = pm_ev pm_prog cl 533 2 b533_2 ls st h := pm_go_eq pm_prog cl 533 2 ls st h
theorem g533_3 {cl : pm_C} {ls st : List Value} {h : pm_H} : pm_go pm_prog cl 533 3 ls st h = pm_ev pm_prog cl 533 3 b533_3 ls st h := pm_go_eq pm_prog cl 533 3 ls st h
theorem t533 {cl : pm_C} {j : Nat} {ls : List Value} {c : Nat} {h : pm_H} : pm_thr pm_prog cl 533 j ls c h = some (.threw c, h) := rfl
noncomputable def f533_3_1 (S : wS) (x2 : Int32) (x3 : Int32) : Option ((Int32 × Int32 × wS) ⊕ ((Int32 × wS))) :=
  (f534 S x2).bind fun (v6, S7) =>
  if v6 = 0 then
    if (0 : Int32) ≤ 0 ∧ (0 : Int32) ≤ 0 ∧ (0 : Int32) ≤ (S7.1 (0, 0, 0) 4) ∧ ((S7.1 (0, 0, 0) 4) : Int32) ≤ 24 - 0 ∧ ((S7.1 (0, 0, 0) 4) : Int32) ≤ 24 - 0 then
      (f526 (szc S7 (22, 0, 0) 0 (23, 0, 0) 0 (S7.1 (0, 0, 0) 4))).bind fun S8 =>
      (f531 S8).bind fun S9 =>
      some (.inr ((S9.1 (0, 0, 0) 26), S9))
    else none
  else
    some (.inl (x2, x3, S7))
noncomputable def f533_2_1 (S : wS) (x2 : Int32) : Option ((Int32 × Int32 × wS) ⊕ ((Int32 × wS))) :=
  (f578v2 S 0 0).bind fun S10 =>
  if (0 : Int32) ≤ 0 ∧ (0 : Int32) ≤ 0 ∧ (0 : Int32) ≤ (S10.1 (0, 0, 0) 4) ∧ ((S10.1 (0, 0, 0) 4) : Int32) ≤ 24 - 0 ∧ ((S10.1 (0, 0, 0) 4) : Int32) ≤ 24 - 0 then
    f533_3_1 (szc S10 (23, 0, 0) 0 (22, 0, 0) 0 (S10.1 (0, 0, 0) 4)) x2 0
  else none
noncomputable def f533_b1 : Int32 × Int32 × wS → Option ((Int32 × Int32 × wS) ⊕ ((Int32 × wS))) := fun (x2, x3, S) =>
  (f526 S).bind fun S4 =>
  if x3 = 0 then
    (f579v1 S4 0 0).bind fun v5 =>
    if v5 = 0 then
      f533_3_1 S4 x2 x3
    else
      f533_2_1 S4 x2
  else
    f533_2_1 S4 x2
/-- TimberHouse$FingerLengths.order(I)I -/
noncomputable def f533 (S : wS) (x1 : Int32) : Option ((Nat × wS) ⊕ (Int32 × wS)) :=
  (f516 (Int32.toInt64 x1) 0 5).bind fun v1 =>
  (f517 v1).bind fun r => match r with
  | .inl c13 =>
    some (.inl (c13, S))
  | .inr _ =>
  (f3840 x1 (S.1 (0, 0, 0) 4)).bind fun v2 =>
  (f525 S).bind fun S3 =>
  (lp (f533_b1) FU (v2, 1, S3)).bind fun (v12, S11) =>
  some (.inr (v12, S11))
def go533_1 (A : wK → Nat) (h : pm_H) (D : Nat) (R : Outcome × pm_H) : Int32 × Int32 × wS → Prop := fun (x2, x3, S) => ∀ q1 : Value, pm_go pm_prog (pm_call pm_prog D) 533 1 [.ref (A (0, 0, 0)), q1, .int x2, .int x3] [] (wput A Cf_d S h) = some R
def ex533_1 (A : wK → Nat) (h : pm_H) (D : Nat) (R : Outcome × pm_H) : (Int32 × wS) → Prop := fun (xr0, S) => some (Outcome.returned (some (.int xr0)), (wput A Cf_d S h)) = some R
theorem y533_3_1  {A : wK → Nat} {h : pm_H} {D : Nat} {R : Outcome × pm_H} {S : wS} {x2 : Int32} {x3 : Int32} {r : (Int32 × Int32 × wS) ⊕ ((Int32 × wS))}  (hA : wok A Cf_d h.1) (hD : 4 ≤ D) (e : f533_3_1 S x2 x3 = some r) (hc : Sum.elim (go533_1 A h D R) (ex533_1 A h D R) r) : ∀ q1 : Value, pm_go pm_prog (pm_call pm_prog D) 533 3 [.ref (A (0, 0, 0)), q1, .int x2, .int x3] [] (wput A Cf_d S h) = some R := by
  intro q1
  simp only [f533_3_1] at e
  rw [g533_3, b533_3]
  obtain ⟨⟨v6, S7⟩, k1, e⟩ := Option.bind_eq_some_iff.mp e
  try dsimp only at e
  have z1 := x534 (D := D) (h := h) hA (by omega) k1
  dsimp only at z1
  by_cases k2 : v6 = 0
  · rw [if_pos k2] at e
    by_cases k3 : (0 : Int32) ≤ 0 ∧ (0 : Int32) ≤ 0 ∧ (0 : Int32) ≤ (S7.1 (0, 0, 0) 4) ∧ ((S7.1 (0, 0, 0) 4) : Int32) ≤ 24 - 0 ∧ ((S7.1 (0, 0, 0) 4) : Int32) ≤ 24 - 0
    · rw [if_pos k3] at e
      obtain ⟨S8, k4, e⟩ := Option.bind_eq_some_iff.mp e
      try dsimp only at e
      have z4 := x526 (D := D) (h := h) hA (by omega) k4
      obtain ⟨S9, k5, e⟩ := Option.bind_eq_some_iff.mp e
      try dsimp only at e
      have z5 := x531 (D := D) (h := h) hA (by omega) k5
      have e := Option.some.inj e; subst e
      dsimp only [Sum.elim_inr, ex533_1] at hc
      have hc := Option.some.inj hc; subst hc
      simp -implicitDefEqProofs (disch := first | assumption | exact Nat.le_of_ble_eq_true rfl | decide) only [b533_0, pe_iload1, pe_i2l, pe_bipush, pe_call3, pm_af_ret, pm_af_void, pm_af_thr, pe_call1, pe_aload0, pe_getfield, pe_call2, pe_istore2, pe_sipush, pe_istore3, pe_goto_w, pe_iload3, pe_if_ne, pe_aaload, pe_if_eq, pe_acopy, pe_iload2, pm_prog_1, pm_ob_some, Nat.reduceDiv, Nat.reduceMod, Nat.reduceMul, Nat.reduceAdd, Int.reduceToNat, pm_kill_i, pm_kill_r, pm_kill_n, pm_kill_j, pm_kill_l, pm_kill_d, pm_cats_nil, pm_cats_i, pm_cats_r, pm_cats_n, pm_cats_l, pm_cats_d, sz_1, sz_2, sl_1, sl_2, lc_0, lc_lt, lc_le, li_ne, va_rf, wr_m1, we_m1, pm_kill_w, Int32.reduceOfInt, Int64.reduceOfInt, Int32.reduceOfNat, Int32.reduceLT, Int32.reduceLE, Prod.mk.injEq, Nat.reduceEqDiff, reduceCtorEq, and_true, true_and, and_false, false_and, and_self, ite_true, ite_false, ↓reduceIte, not_true_eq_false, not_false_eq_true, pe_ri, pe_rz, pe_rc, p_throw, t533, w_junk hA, Cf_g0_12 hA, Cf_g0_13 hA, Cf_g0_14 hA, Cf_g0_16 hA, Cf_g0_26 hA, Cf_g0_4 hA, Cf_r1 hA, Cf_r2 hA, Cf_y22_23 hA, Cf_y23_22 hA, z1, eq_true k2, z4, z5]
    · rw [if_neg k3] at e; cases e
  · rw [if_neg k2] at e
    have e := Option.some.inj e; subst e
    dsimp only [Sum.elim_inl, go533_1] at hc
    simp -implicitDefEqProofs (disch := first | assumption | exact Nat.le_of_ble_eq_true rfl | decide) only [b533_0, pe_iload1, pe_i2l, pe_bipush, pe_call3, pm_af_ret, pm_af_void, pm_af_thr, pe_call1, pe_aload0, pe_getfield, pe_call2, pe_istore2, pe_sipush, pe_istore3, pe_goto_w, pe_iload3, pe_if_ne, pe_aaload, pe_if_eq, pe_acopy, pe_iload2, pm_prog_1, pm_ob_some, Nat.reduceDiv, Nat.reduceMod, Nat.reduceMul, Nat.reduceAdd, Int.reduceToNat, pm_kill_i, pm_kill_r, pm_kill_n, pm_kill_j, pm_kill_l, pm_kill_d, pm_cats_nil, pm_cats_i, pm_cats_r, pm_cats_n, pm_cats_l, pm_cats_d, sz_1, sz_2, sl_1, sl_2, lc_0, lc_lt, lc_le, li_ne, va_rf, wr_m1, we_m1, pm_kill_w, Int32.reduceOfInt, Int64.reduceOfInt, Int32.reduceOfNat, Int32.reduceLT, Int32.reduceLE, Prod.mk.injEq, Nat.reduceEqDiff, reduceCtorEq, and_true, true_and, and_false, false_and, and_self, ite_true, ite_false, ↓reduceIte, not_true_eq_false, not_false_eq_true, pe_ri, pe_rz, pe_rc, p_throw, t533, w_junk hA, Cf_g0_12 hA, Cf_g0_13 hA, Cf_g0_14 hA, Cf_g0_16 hA, Cf_g0_26 hA, Cf_g0_4 hA, Cf_r1 hA, Cf_r2 hA, Cf_y22_23 hA, Cf_y23_22 hA, z1, eq_false k2, hc]
theorem y533_2_1  {A : wK → Nat} {h : pm_H} {D : Nat} {R : Outcome × pm_H} {S : wS} {x2 : Int32} {r : (Int32 × Int32 × wS) ⊕ ((Int32 × wS))}  (hA : wok A Cf_d h.1) (hD : 4 ≤ D) (e : f533_2_1 S x2 = some r) (hc : Sum.elim (go533_1 A h D R) (ex533_1 A h D R) r) : ∀ q1 q3 : Value, pm_go pm_prog (pm_call pm_prog D) 533 2 [.ref (A (0, 0, 0)), q1, .int x2, q3] [] (wput A Cf_d S h) = some R := by
  intro q1 q3
  simp only [f533_2_1] at e
  rw [g533_2, b533_2]
  obtain ⟨S10, k1, e⟩ := Option.bind_eq_some_iff.mp e
  try dsimp only at e
  have z1 := x578v2 (D := D) (h := h) hA (by omega) k1
  by_cases k2 : (0 : Int32) ≤ 0 ∧ (0 : Int32) ≤ 0 ∧ (0 : Int32) ≤ (S10.1 (0, 0, 0) 4) ∧ ((S10.1 (0, 0, 0) 4) : Int32) ≤ 24 - 0 ∧ ((S10.1 (0, 0, 0) 4) : Int32) ≤ 24 - 0
  · rw [if_pos k2] at e
    have k3 := y533_3_1 (h := h) hA hD e hc
    simp -implicitDefEqProofs (disch := first | assumption | exact Nat.le_of_ble_eq_true rfl | decide) only [b533_0, pe_iload1, pe_i2l, pe_bipush, pe_call3, pm_af_ret, pm_af_void, pm_af_thr, pe_call1, pe_aload0, pe_getfield, pe_call2, pe_istore2, pe_sipush, pe_istore3, pe_goto_w, pe_iload3, pe_if_ne, pe_aaload, pe_if_eq, pe_acopy, pe_iload2, pm_prog_1, pm_ob_some, Nat.reduceDiv, Nat.reduceMod, Nat.reduceMul, Nat.reduceAdd, Int.reduceToNat, pm_kill_i, pm_kill_r, pm_kill_n, pm_kill_j, pm_kill_l, pm_kill_d, pm_cats_nil, pm_cats_i, pm_cats_r, pm_cats_n, pm_cats_l, pm_cats_d, sz_1, sz_2, sl_1, sl_2, lc_0, lc_lt, lc_le, li_ne, va_rf, wr_m1, we_m1, pm_kill_w, Int32.reduceOfInt, Int64.reduceOfInt, Int32.reduceOfNat, Int32.reduceLT, Int32.reduceLE, Prod.mk.injEq, Nat.reduceEqDiff, reduceCtorEq, and_true, true_and, and_false, false_and, and_self, ite_true, ite_false, ↓reduceIte, not_true_eq_false, not_false_eq_true, pe_ri, pe_rz, pe_rc, p_throw, t533, w_junk hA, Cf_g0_12 hA, Cf_g0_13 hA, Cf_g0_14 hA, Cf_g0_16 hA, Cf_g0_26 hA, Cf_g0_4 hA, Cf_r1 hA, Cf_r2 hA, Cf_y22_23 hA, Cf_y23_22 hA, z1, k3]
  · rw [if_neg k2] at e; cases e
theorem y533_b1  {A : wK → Nat} {h : pm_H} {D : Nat} {R : Outcome × pm_H}  (hA : wok A Cf_d h.1) (hD : 4 ≤ D) (a : Int32 × Int32 × wS) (r : (Int32 × Int32 × wS) ⊕ ((Int32 × wS))) (e : f533_b1 a = some r) (hc : Sum.elim (go533_1 A h D R) (ex533_1 A h D R) r) : go533_1 A h D R a := by
  obtain ⟨x2, x3, S⟩ := a
  dsimp only [go533_1]
  intro q1
  simp only [f533_b1] at e
  rw [g533_1, b533_1]
  obtain ⟨S4, k1, e⟩ := Option.bind_eq_some_iff.mp e
  try dsimp only at e
  have z1 := x526 (D := D) (h := h) hA (by omega) k1
  by_cases k2 : x3 = 0
  · rw [if_pos k2] at e
    obtain ⟨v5, k3, e⟩ := Option.bind_eq_some_iff.mp e
    try dsimp only at e
    have z3 := x579v1 (D := D) (h := h) hA (by omega) k3
    by_cases k4 : v5 = 0
    · rw [if_pos k4] at e
      have k5 := y533_3_1 (h := h) hA hD e hc
      simp -implicitDefEqProofs (disch := first | assumption | exact Nat.le_of_ble_eq_true rfl | decide) only [b533_0, pe_iload1, pe_i2l, pe_bipush, pe_call3, pm_af_ret, pm_af_void, pm_af_thr, pe_call1, pe_aload0, pe_getfield, pe_call2, pe_istore2, pe_sipush, pe_istore3, pe_goto_w, pe_iload3, pe_if_ne, pe_aaload, pe_if_eq, pe_acopy, pe_iload2, pm_prog_1, pm_ob_some, Nat.reduceDiv, Nat.reduceMod, Nat.reduceMul, Nat.reduceAdd, Int.reduceToNat, pm_kill_i, pm_kill_r, pm_kill_n, pm_kill_j, pm_kill_l, pm_kill_d, pm_cats_nil, pm_cats_i, pm_cats_r, pm_cats_n, pm_cats_l, pm_cats_d, sz_1, sz_2, sl_1, sl_2, lc_0, lc_lt, lc_le, li_ne, va_rf, wr_m1, we_m1, pm_kill_w, Int32.reduceOfInt, Int64.reduceOfInt, Int32.reduceOfNat, Int32.reduceLT, Int32.reduceLE, Prod.mk.injEq, Nat.reduceEqDiff, reduceCtorEq, and_true, true_and, and_false, false_and, and_self, ite_true, ite_false, ↓reduceIte, not_true_eq_false, not_false_eq_true, pe_ri, pe_rz, pe_rc, p_throw, t533, w_junk hA, Cf_g0_12 hA, Cf_g0_13 hA, Cf_g0_14 hA, Cf_g0_16 hA, Cf_g0_26 hA, Cf_g0_4 hA, Cf_r1 hA, Cf_r2 hA, Cf_y22_23 hA, Cf_y23_22 hA, z1, eq_true k2, z3, eq_true k4, k5]
    · rw [if_neg k4] at e
      have k6 := y533_2_1 (h := h) hA hD e hc
      simp -implicitDefEqProofs (disch := first | assumption | exact Nat.le_of_ble_eq_true rfl | decide) only [b533_0, pe_iload1, pe_i2l, pe_bipush, pe_call3, pm_af_ret, pm_af_void, pm_af_thr, pe_call1, pe_aload0, pe_getfield, pe_call2, pe_istore2, pe_sipush, pe_istore3, pe_goto_w, pe_iload3, pe_if_ne, pe_aaload, pe_if_eq, pe_acopy, pe_iload2, pm_prog_1, pm_ob_some, Nat.reduceDiv, Nat.reduceMod, Nat.reduceMul, Nat.reduceAdd, Int.reduceToNat, pm_kill_i, pm_kill_r, pm_kill_n, pm_kill_j, pm_kill_l, pm_kill_d, pm_cats_nil, pm_cats_i, pm_cats_r, pm_cats_n, pm_cats_l, pm_cats_d, sz_1, sz_2, sl_1, sl_2, lc_0, lc_lt, lc_le, li_ne, va_rf, wr_m1, we_m1, pm_kill_w, Int32.reduceOfInt, Int64.reduceOfInt, Int32.reduceOfNat, Int32.reduceLT, Int32.reduceLE, Prod.mk.injEq, Nat.reduceEqDiff, reduceCtorEq, and_true, true_and, and_false, false_and, and_self, ite_true, ite_false, ↓reduceIte, not_true_eq_false, not_false_eq_true, pe_ri, pe_rz, pe_rc, p_throw, t533, w_junk hA, Cf_g0_12 hA, Cf_g0_13 hA, Cf_g0_14 hA, Cf_g0_16 hA, Cf_g0_26 hA, Cf_g0_4 hA, Cf_r1 hA, Cf_r2 hA, Cf_y22_23 hA, Cf_y23_22 hA, z1, eq_true k2, z3, eq_false k4, k6]
  · rw [if_neg k2] at e
    have k7 := y533_2_1 (h := h) hA hD e hc
    simp -implicitDefEqProofs (disch := first | assumption | exact Nat.le_of_ble_eq_true rfl | decide) only [b533_0, pe_iload1, pe_i2l, pe_bipush, pe_call3, pm_af_ret, pm_af_void, pm_af_thr, pe_call1, pe_aload0, pe_getfield, pe_call2, pe_istore2, pe_sipush, pe_istore3, pe_goto_w, pe_iload3, pe_if_ne, pe_aaload, pe_if_eq, pe_acopy, pe_iload2, pm_prog_1, pm_ob_some, Nat.reduceDiv, Nat.reduceMod, Nat.reduceMul, Nat.reduceAdd, Int.reduceToNat, pm_kill_i, pm_kill_r, pm_kill_n, pm_kill_j, pm_kill_l, pm_kill_d, pm_cats_nil, pm_cats_i, pm_cats_r, pm_cats_n, pm_cats_l, pm_cats_d, sz_1, sz_2, sl_1, sl_2, lc_0, lc_lt, lc_le, li_ne, va_rf, wr_m1, we_m1, pm_kill_w, Int32.reduceOfInt, Int64.reduceOfInt, Int32.reduceOfNat, Int32.reduceLT, Int32.reduceLE, Prod.mk.injEq, Nat.reduceEqDiff, reduceCtorEq, and_true, true_and, and_false, false_and, and_self, ite_true, ite_false, ↓reduceIte, not_true_eq_false, not_false_eq_true, pe_ri, pe_rz, pe_rc, p_throw, t533, w_junk hA, Cf_g0_12 hA, Cf_g0_13 hA, Cf_g0_14 hA, Cf_g0_16 hA, Cf_g0_26 hA, Cf_g0_4 hA, Cf_r1 hA, Cf_r2 hA, Cf_y22_23 hA, Cf_y23_22 hA, z1, eq_false k2, k7]
theorem z533_1  {A : wK → Nat} {h : pm_H} {D : Nat} {R : Outcome × pm_H}  (hA : wok A Cf_d h.1) (hD : 4 ≤ D) {n : Nat} {a : Int32 × Int32 × wS} {b : (Int32 × wS)} (e : lp (f533_b1) n a = some b) (hx : ex533_1 A h D R b) : go533_1 A h D R a := lp_run (fun a r => y533_b1 hA hD a r) n a b e hx
theorem x533  {A : wK → Nat} {h : pm_H} {D : Nat} {S : wS} {x1 : Int32} {r : (Nat × wS) ⊕ (Int32 × wS)}  (hA : wok A Cf_d h.1) (hD : 5 ≤ D) (e : f533 S x1 = some r) : pm_call pm_prog D 533 [.ref (A (0, 0, 0)), .int x1] (wput A Cf_d S h) = some (match (generalizing := false) r with | .inl (c, S1) => (Outcome.threw c, (wput A Cf_d S1 (pm_new h 6 (.inr (c, []))))) | .inr (w0, S1) => (Outcome.returned (some (.int w0)), (wput A Cf_d S1 h))) := by
  obtain ⟨D, rfl⟩ : ∃ D', D = D' + 1 := ⟨D - 1, by omega⟩
  have hD : 4 ≤ D := by omega
  simp only [f533] at e
  rw [c533 (Cf_c0 hA), b533_0]
  obtain ⟨v1, k1, e⟩ := Option.bind_eq_some_iff.mp e
  try dsimp only at e
  have z1 := fun h => x516 (D := D) (h := h) (by omega) k1
  obtain ⟨r, k2, e⟩ := Option.bind_eq_some_iff.mp e
  have z2 := fun h => x517 (D := D) (h := h) (by omega) k2
  rcases r with c13 | _
  · dsimp only at e z2
    have e := Option.some.inj e; subst e
    simp -implicitDefEqProofs (disch := first | assumption | exact Nat.le_of_ble_eq_true rfl | decide) only [b533_0, pe_iload1, pe_i2l, pe_bipush, pe_call3, pm_af_ret, pm_af_void, pm_af_thr, pe_call1, pe_aload0, pe_getfield, pe_call2, pe_istore2, pe_sipush, pe_istore3, pe_goto_w, pe_iload3, pe_if_ne, pe_aaload, pe_if_eq, pe_acopy, pe_iload2, pm_prog_1, pm_ob_some, Nat.reduceDiv, Nat.reduceMod, Nat.reduceMul, Nat.reduceAdd, Int.reduceToNat, pm_kill_i, pm_kill_r, pm_kill_n, pm_kill_j, pm_kill_l, pm_kill_d, pm_cats_nil, pm_cats_i, pm_cats_r, pm_cats_n, pm_cats_l, pm_cats_d, sz_1, sz_2, sl_1, sl_2, lc_0, lc_lt, lc_le, li_ne, va_rf, wr_m1, we_m1, pm_kill_w, Int32.reduceOfInt, Int64.reduceOfInt, Int32.reduceOfNat, Int32.reduceLT, Int32.reduceLE, Prod.mk.injEq, Nat.reduceEqDiff, reduceCtorEq, and_true, true_and, and_false, false_and, and_self, ite_true, ite_false, ↓reduceIte, not_true_eq_false, not_false_eq_true, pe_ri, pe_rz, pe_rc, p_throw, t533, w_junk hA, Cf_g0_12 hA, Cf_g0_13 hA, Cf_g0_14 hA, Cf_g0_16 hA, Cf_g0_26 hA, Cf_g0_4 hA, Cf_r1 hA, Cf_r2 hA, Cf_y22_23 hA, Cf_y23_22 hA, z1, z2]
  · dsimp only at e z2
    obtain ⟨v2, k3, e⟩ := Option.bind_eq_some_iff.mp e
    try dsimp only at e
    have z3 := fun h => x3840 (D := D) (h := h) (by omega) k3
    obtain ⟨S3, k4, e⟩ := Option.bind_eq_some_iff.mp e
    try dsimp only at e
    have z4 := x525 (D := D) (h := h) hA (by omega) k4
    obtain ⟨⟨v12, S11⟩, k5, e⟩ := Option.bind_eq_some_iff.mp e
    try dsimp only at e
    try simp -implicitDefEqProofs (disch := first | assumption | exact Nat.le_of_ble_eq_true rfl | decide) only [b533_0, pe_iload1, pe_i2l, pe_bipush, pe_call3, pm_af_ret, pm_af_void, pm_af_thr, pe_call1, pe_aload0, pe_getfield, pe_call2, pe_istore2, pe_sipush, pe_istore3, pe_goto_w, pe_iload3, pe_if_ne, pe_aaload, pe_if_eq, pe_acopy, pe_iload2, pm_prog_1, pm_ob_some, Nat.reduceDiv, Nat.reduceMod, Nat.reduceMul, Nat.reduceAdd, Int.reduceToNat, pm_kill_i, pm_kill_r, pm_kill_n, pm_kill_j, pm_kill_l, pm_kill_d, pm_cats_nil, pm_cats_i, pm_cats_r, pm_cats_n, pm_cats_l, pm_cats_d, sz_1, sz_2, sl_1, sl_2, lc_0, lc_lt, lc_le, li_ne, va_rf, wr_m1, we_m1, pm_kill_w, Int32.reduceOfInt, Int64.reduceOfInt, Int32.reduceOfNat, Int32.reduceLT, Int32.reduceLE, Prod.mk.injEq, Nat.reduceEqDiff, reduceCtorEq, and_true, true_and, and_false, false_and, and_self, ite_true, ite_false, ↓reduceIte, not_true_eq_false, not_false_eq_true, pe_ri, pe_rz, pe_rc, p_throw, t533, w_junk hA, Cf_g0_12 hA, Cf_g0_13 hA, Cf_g0_14 hA, Cf_g0_16 hA, Cf_g0_26 hA, Cf_g0_4 hA, Cf_r1 hA, Cf_r2 hA, Cf_y22_23 hA, Cf_y23_22 hA, z1, z2, z3, z4]
    refine z533_1 hA hD k5 ?_ _
    dsimp only [ex533_1]
    have e := Option.some.inj e; subst e
    simp -implicitDefEqProofs (disch := first | assumption | exact Nat.le_of_ble_eq_true rfl | decide) only [b533_0, pe_iload1, pe_i2l, pe_bipush, pe_call3, pm_af_ret, pm_af_void, pm_af_thr, pe_call1, pe_aload0, pe_getfield, pe_call2, pe_istore2, pe_sipush, pe_istore3, pe_goto_w, pe_iload3, pe_if_ne, pe_aaload, pe_if_eq, pe_acopy, pe_iload2, pm_prog_1, pm_ob_some, Nat.reduceDiv, Nat.reduceMod, Nat.reduceMul, Nat.reduceAdd, Int.reduceToNat, pm_kill_i, pm_kill_r, pm_kill_n, pm_kill_j, pm_kill_l, pm_kill_d, pm_cats_nil, pm_cats_i, pm_cats_r, pm_cats_n, pm_cats_l, pm_cats_d, sz_1, sz_2, sl_1, sl_2, lc_0, lc_lt, lc_le, li_ne, va_rf, wr_m1, we_m1, pm_kill_w, Int32.reduceOfInt, Int64.reduceOfInt, Int32.reduceOfNat, Int32.reduceLT, Int32.reduceLE, Prod.mk.injEq, Nat.reduceEqDiff, reduceCtorEq, and_true, true_and, and_false, false_and, and_self, ite_true, ite_false, ↓reduceIte, not_true_eq_false, not_false_eq_true, pe_ri, pe_rz, pe_rc, p_throw, t533, w_junk hA, Cf_g0_12 hA, Cf_g0_13 hA, Cf_g0_14 hA, Cf_g0_16 hA, Cf_g0_26 hA, Cf_g0_4 hA, Cf_r1 hA, Cf_r2 hA, Cf_y22_23 hA, Cf_y23_22 hA, z1, z2, z3, z4]
/-- TimberHouse$FingerLengths.taken(I)I -/
theorem c536 {d : Nat} {h : pm_H} {a : Nat} {x0 : Int32} (hc : pm_cls h a = some 8) : pm_call pm_prog (d + 1) 536 [.ref a, .int x0] h = pm_ev pm_prog (pm_call pm_prog d) 536 0 b536_0 [.ref a, .int x0] [] h := pm_cal (pm_rc1 hc rfl) rfl rfl rfl
theorem t536 {cl : pm_C} {j : Nat} {ls : List Value} {c : Nat} {h : pm_H} : pm_thr pm_prog cl 536 j ls c h = some (.threw c, h) := rfl
/-- TimberHouse$FingerLengths.taken(I)I -/
noncomputable def f536 (S : wS) (x1 : Int32) : Option (Nat ⊕ (Int32)) :=
  (f515 (S.1 (0, 0, 0) 20)).bind fun r => match r with
  | .inl c3 =>
    some (.inl c3)
  | .inr _ =>
  (f516 (Int32.toInt64 x1) 0 (Int32.toInt64 ((S.1 (0, 0, 0) 4) - 1))).bind fun v1 =>
  (f520 v1).bind fun r => match r with
  | .inl c2 =>
    some (.inl c2)
  | .inr _ =>
  if 0 ≤ x1 ∧ x1 < 24 then
    some (.inr (S.1 (22, 0, 0) x1))
  else none
theorem x536  {A : wK → Nat} {h : pm_H} {D : Nat} {S : wS} {x1 : Int32} {r : Nat ⊕ (Int32)}  (hA : wok A Cf_d h.1) (hD : 2 ≤ D) (e : f536 S x1 = some r) : pm_call pm_prog D 536 [.ref (A (0, 0, 0)), .int x1] (wput A Cf_d S h) = some (match (generalizing := false) r with | .inl c => (Outcome.threw c, (wput A Cf_d S (pm_new h 6 (.inr (c, []))))) | .inr w0 => (Outcome.returned (some (.int w0)), (wput A Cf_d S h))) := by
  obtain ⟨D, rfl⟩ : ∃ D', D = D' + 1 := ⟨D - 1, by omega⟩
  have hD : 1 ≤ D := by omega
  simp only [f536] at e
  rw [c536 (Cf_c0 hA), b536_0]
  obtain ⟨r, k1, e⟩ := Option.bind_eq_some_iff.mp e
  have z1 := fun h => x515 (D := D) (h := h) (by omega) k1
  rcases r with c3 | _
  · dsimp only at e z1
    have e := Option.some.inj e; subst e
    simp -implicitDefEqProofs (disch := first | assumption | exact Nat.le_of_ble_eq_true rfl | decide) only [b536_0, pe_aload0, pe_getfield, pe_call1, pm_af_ret, pm_af_void, pm_af_thr, pe_iload1, pe_i2l, pe_bipush, pe_sipush, pe_isub, pe_call3, pe_iaload, pm_prog_1, pm_ob_some, Nat.reduceDiv, Nat.reduceMod, Nat.reduceMul, Nat.reduceAdd, Int.reduceToNat, pm_kill_i, pm_kill_r, pm_kill_n, pm_kill_j, pm_kill_l, pm_kill_d, pm_cats_nil, pm_cats_i, pm_cats_r, pm_cats_n, pm_cats_l, pm_cats_d, sz_1, sz_2, sl_1, sl_2, lc_0, lc_lt, lc_le, li_ne, va_rf, wr_m1, we_m1, pm_kill_w, Int32.reduceOfInt, Int64.reduceOfInt, Int32.reduceOfNat, Int32.reduceLT, Int32.reduceLE, Prod.mk.injEq, Nat.reduceEqDiff, reduceCtorEq, and_true, true_and, and_false, false_and, and_self, ite_true, ite_false, ↓reduceIte, not_true_eq_false, not_false_eq_true, pe_ri, pe_rz, pe_rc, p_throw, t536, w_junk hA, Cf_g0_12 hA, Cf_g0_20 hA, Cf_g0_4 hA, Cf_r22 hA, z1]
  · dsimp only at e z1
    obtain ⟨v1, k2, e⟩ := Option.bind_eq_some_iff.mp e
    try dsimp only at e
    have z2 := fun h => x516 (D := D) (h := h) (by omega) k2
    obtain ⟨r, k3, e⟩ := Option.bind_eq_some_iff.mp e
    have z3 := fun h => x520 (D := D) (h := h) (by omega) k3
    rcases r with c2 | _
    · dsimp only at e z3
      have e := Option.some.inj e; subst e
      simp -implicitDefEqProofs (disch := first | assumption | exact Nat.le_of_ble_eq_true rfl | decide) only [b536_0, pe_aload0, pe_getfield, pe_call1, pm_af_ret, pm_af_void, pm_af_thr, pe_iload1, pe_i2l, pe_bipush, pe_sipush, pe_isub, pe_call3, pe_iaload, pm_prog_1, pm_ob_some, Nat.reduceDiv, Nat.reduceMod, Nat.reduceMul, Nat.reduceAdd, Int.reduceToNat, pm_kill_i, pm_kill_r, pm_kill_n, pm_kill_j, pm_kill_l, pm_kill_d, pm_cats_nil, pm_cats_i, pm_cats_r, pm_cats_n, pm_cats_l, pm_cats_d, sz_1, sz_2, sl_1, sl_2, lc_0, lc_lt, lc_le, li_ne, va_rf, wr_m1, we_m1, pm_kill_w, Int32.reduceOfInt, Int64.reduceOfInt, Int32.reduceOfNat, Int32.reduceLT, Int32.reduceLE, Prod.mk.injEq, Nat.reduceEqDiff, reduceCtorEq, and_true, true_and, and_false, false_and, and_self, ite_true, ite_false, ↓reduceIte, not_true_eq_false, not_false_eq_true, pe_ri, pe_rz, pe_rc, p_throw, t536, w_junk hA, Cf_g0_12 hA, Cf_g0_20 hA, Cf_g0_4 hA, Cf_r22 hA, z1, z2, z3]
    · dsimp only at e z3
      by_cases k4 : 0 ≤ x1 ∧ x1 < 24
      · rw [if_pos k4] at e
        have e := Option.some.inj e; subst e
        simp -implicitDefEqProofs (disch := first | assumption | exact Nat.le_of_ble_eq_true rfl | decide) only [b536_0, pe_aload0, pe_getfield, pe_call1, pm_af_ret, pm_af_void, pm_af_thr, pe_iload1, pe_i2l, pe_bipush, pe_sipush, pe_isub, pe_call3, pe_iaload, pm_prog_1, pm_ob_some, Nat.reduceDiv, Nat.reduceMod, Nat.reduceMul, Nat.reduceAdd, Int.reduceToNat, pm_kill_i, pm_kill_r, pm_kill_n, pm_kill_j, pm_kill_l, pm_kill_d, pm_cats_nil, pm_cats_i, pm_cats_r, pm_cats_n, pm_cats_l, pm_cats_d, sz_1, sz_2, sl_1, sl_2, lc_0, lc_lt, lc_le, li_ne, va_rf, wr_m1, we_m1, pm_kill_w, Int32.reduceOfInt, Int64.reduceOfInt, Int32.reduceOfNat, Int32.reduceLT, Int32.reduceLE, Prod.mk.injEq, Nat.reduceEqDiff, reduceCtorEq, and_true, true_and, and_false, false_and, and_self, ite_true, ite_false, ↓reduceIte, not_true_eq_false, not_false_eq_true, pe_ri, pe_rz, pe_rc, p_throw, t536, w_junk hA, Cf_g0_12 hA, Cf_g0_20 hA, Cf_g0_4 hA, Cf_r22 hA, z1, z2, z3]
      · rw [if_neg k4] at e; cases e
/-- TimberHouse$FingerLengths.made(I)V -/
theorem c538 {d : Nat} {h : pm_H} {a : Nat} {x0 : Int32} (hc : pm_cls h a = some 8) : pm_call pm_prog (d + 1) 538 [.ref a, .int x0] h = pm_ev pm_prog (pm_call pm_prog d) 538 0 b538_0 [.ref a, .int x0] [] h := pm_cal (pm_rc1 hc rfl) rfl rfl rfl
theorem t538 {cl : pm_C} {j : Nat} {ls : List Value} {c : Nat} {h : pm_H} : pm_thr pm_prog cl 538 j ls c h = some (.threw c, h) := rfl
/-- TimberHouse$FingerLengths.made(I)V -/
noncomputable def f538 (S : wS) (x1 : Int32) : Option (Nat ⊕ (Unit)) :=
  (f515 (S.1 (0, 0, 0) 20)).bind fun r => match r with
  | .inl c3 =>
    some (.inl c3)
  | .inr _ =>
  (f516 (Int32.toInt64 x1) 0 (Int32.toInt64 ((S.1 (0, 0, 0) 26) - 1))).bind fun v1 =>
  (f520 v1).bind fun r => match r with
  | .inl c2 =>
    some (.inl c2)
  | .inr _ =>
  some (.inr ())
theorem x538  {A : wK → Nat} {h : pm_H} {D : Nat} {S : wS} {x1 : Int32} {r : Nat ⊕ (Unit)}  (hA : wok A Cf_d h.1) (hD : 2 ≤ D) (e : f538 S x1 = some r) : pm_call pm_prog D 538 [.ref (A (0, 0, 0)), .int x1] (wput A Cf_d S h) = some (match (generalizing := false) r with | .inl c => (Outcome.threw c, (wput A Cf_d S (pm_new h 6 (.inr (c, []))))) | .inr _ => (Outcome.returned none, (wput A Cf_d S h))) := by
  obtain ⟨D, rfl⟩ : ∃ D', D = D' + 1 := ⟨D - 1, by omega⟩
  have hD : 1 ≤ D := by omega
  simp only [f538] at e
  rw [c538 (Cf_c0 hA), b538_0]
  obtain ⟨r, k1, e⟩ := Option.bind_eq_some_iff.mp e
  have z1 := fun h => x515 (D := D) (h := h) (by omega) k1
  rcases r with c3 | _
  · dsimp only at e z1
    have e := Option.some.inj e; subst e
    simp -implicitDefEqProofs (disch := first | assumption | exact Nat.le_of_ble_eq_true rfl | decide) only [b538_0, pe_aload0, pe_getfield, pe_call1, pm_af_ret, pm_af_void, pm_af_thr, pe_iload1, pe_i2l, pe_bipush, pe_sipush, pe_isub, pe_call3, pe_return, pm_prog_1, pm_ob_some, Nat.reduceDiv, Nat.reduceMod, Nat.reduceMul, Nat.reduceAdd, Int.reduceToNat, pm_kill_i, pm_kill_r, pm_kill_n, pm_kill_j, pm_kill_l, pm_kill_d, pm_cats_nil, pm_cats_i, pm_cats_r, pm_cats_n, pm_cats_l, pm_cats_d, sz_1, sz_2, sl_1, sl_2, lc_0, lc_lt, lc_le, li_ne, va_rf, wr_m1, we_m1, pm_kill_w, Int32.reduceOfInt, Int64.reduceOfInt, Int32.reduceOfNat, Int32.reduceLT, Int32.reduceLE, Prod.mk.injEq, Nat.reduceEqDiff, reduceCtorEq, and_true, true_and, and_false, false_and, and_self, ite_true, ite_false, ↓reduceIte, not_true_eq_false, not_false_eq_true, pe_ri, pe_rz, pe_rc, p_throw, t538, w_junk hA, Cf_g0_20 hA, Cf_g0_26 hA, z1]
  · dsimp only at e z1
    obtain ⟨v1, k2, e⟩ := Option.bind_eq_some_iff.mp e
    try dsimp only at e
    have z2 := fun h => x516 (D := D) (h := h) (by omega) k2
    obtain ⟨r, k3, e⟩ := Option.bind_eq_some_iff.mp e
    have z3 := fun h => x520 (D := D) (h := h) (by omega) k3
    rcases r with c2 | _
    · dsimp only at e z3
      have e := Option.some.inj e; subst e
      simp -implicitDefEqProofs (disch := first | assumption | exact Nat.le_of_ble_eq_true rfl | decide) only [b538_0, pe_aload0, pe_getfield, pe_call1, pm_af_ret, pm_af_void, pm_af_thr, pe_iload1, pe_i2l, pe_bipush, pe_sipush, pe_isub, pe_call3, pe_return, pm_prog_1, pm_ob_some, Nat.reduceDiv, Nat.reduceMod, Nat.reduceMul, Nat.reduceAdd, Int.reduceToNat, pm_kill_i, pm_kill_r, pm_kill_n, pm_kill_j, pm_kill_l, pm_kill_d, pm_cats_nil, pm_cats_i, pm_cats_r, pm_cats_n, pm_cats_l, pm_cats_d, sz_1, sz_2, sl_1, sl_2, lc_0, lc_lt, lc_le, li_ne, va_rf, wr_m1, we_m1, pm_kill_w, Int32.reduceOfInt, Int64.reduceOfInt, Int32.reduceOfNat, Int32.reduceLT, Int32.reduceLE, Prod.mk.injEq, Nat.reduceEqDiff, reduceCtorEq, and_true, true_and, and_false, false_and, and_self, ite_true, ite_false, ↓reduceIte, not_true_eq_false, not_false_eq_true, pe_ri, pe_rz, pe_rc, p_throw, t538, w_junk hA, Cf_g0_20 hA, Cf_g0_26 hA, z1, z2, z3]
    · dsimp only at e z3
      have e := Option.some.inj e; subst e
      simp -implicitDefEqProofs (disch := first | assumption | exact Nat.le_of_ble_eq_true rfl | decide) only [b538_0, pe_aload0, pe_getfield, pe_call1, pm_af_ret, pm_af_void, pm_af_thr, pe_iload1, pe_i2l, pe_bipush, pe_sipush, pe_isub, pe_call3, pe_return, pm_prog_1, pm_ob_some, Nat.reduceDiv, Nat.reduceMod, Nat.reduceMul, Nat.reduceAdd, Int.reduceToNat, pm_kill_i, pm_kill_r, pm_kill_n, pm_kill_j, pm_kill_l, pm_kill_d, pm_cats_nil, pm_cats_i, pm_cats_r, pm_cats_n, pm_cats_l, pm_cats_d, sz_1, sz_2, sl_1, sl_2, lc_0, lc_lt, lc_le, li_ne, va_rf, wr_m1, we_m1, pm_kill_w, Int32.reduceOfInt, Int64.reduceOfInt, Int32.reduceOfNat, Int32.reduceLT, Int32.reduceLE, Prod.mk.injEq, Nat.reduceEqDiff, reduceCtorEq, and_true, true_and, and_false, false_and, and_self, ite_true, ite_false, ↓reduceIte, not_true_eq_false, not_false_eq_true, pe_ri, pe_rz, pe_rc, p_throw, t538, w_junk hA, Cf_g0_20 hA, Cf_g0_26 hA, z1, z2, z3]
/-- TimberHouse$FingerLengths.product(II)I -/
theorem c537 {d : Nat} {h : pm_H} {a : Nat} {x0 : Int32} {x1 : Int32} (hc : pm_cls h a = some 8) : pm_call pm_prog (d + 1) 537 [.ref a, .int x0, .int x1] h = pm_ev pm_prog (pm_call pm_prog d) 537 0 b537_0 [.ref a, .int x0, .int x1] [] h := pm_cal (pm_rc1 hc rfl) rfl rfl rfl
theorem g537_1 {cl : pm_C} {ls st : List Value} {h : pm_H} : pm_go pm_prog cl 537 1 ls st h = pm_ev pm_prog cl 537 1 b537_1 ls st h := pm_go_eq pm_prog cl 537 1 ls st h
theorem g537_2 {cl : pm_C} {ls st : List Value} {h : pm_H} : pm_go pm_prog cl 537 2 ls st h = pm_ev pm_prog cl 537 2 b537_2 ls st h := pm_go_eq pm_prog cl 537 2 ls st h
theorem g537_3 {cl : pm_C} {ls st : List Value} {h : pm_H} : pm_go pm_prog cl 537 3 ls st h = pm_ev pm_prog cl 537 3 b537_3 ls st h := pm_go_eq pm_prog cl 537 3 ls st h
theorem g537_4 {cl : pm_C} {ls st : List Value} {h : pm_H} : pm_go pm_prog cl 537 4 ls st h = pm_ev pm_prog cl 537 4 b537_4 ls st h := pm_go_eq pm_prog cl 537 4 ls st h
theorem t537 {cl : pm_C} {j : Nat} {ls : List Value} {c : Nat} {h : pm_H} : pm_thr pm_prog cl 537 j ls c h = some (.threw c, h) := rfl
/-- TimberHouse$FingerLengths.product(II)I -/
noncomputable def f537 (S : wS) (x1 : Int32) (x2 : Int32) : Option (Nat ⊕ (Int32)) :=
  (f538 S x1).bind fun r => match r with
  | .inl c3 =>
    some (.inl c3)
  | .inr _ =>
  (f516 (Int32.toInt64 x2) 0 3).bind fun v1 =>
  (f517 v1).bind fun r => match r with
  | .inl c2 =>
    some (.inl c2)
  | .inr _ =>
  if x2 = 0 then
    if 0 ≤ x1 ∧ x1 < 1440 then
      some (.inr (S.1 (31, 0, 0) x1))
    else none
  else
    if x2 = 1 then
      if 0 ≤ x1 ∧ x1 < 1440 then
        some (.inr (S.1 (32, 0, 0) x1))
      else none
    else
      if x2 = 2 then
        if 0 ≤ x1 ∧ x1 < 1440 then
          some (.inr (S.1 (33, 0, 0) x1))
        else none
      else
        if 0 ≤ x1 ∧ x1 < 1440 then
          some (.inr (S.1 (34, 0, 0) x1))
        else none
theorem x537  {A : wK → Nat} {h : pm_H} {D : Nat} {S : wS} {x1 : Int32} {x2 : Int32} {r : Nat ⊕ (Int32)}  (hA : wok A Cf_d h.1) (hD : 3 ≤ D) (e : f537 S x1 x2 = some r) : pm_call pm_prog D 537 [.ref (A (0, 0, 0)), .int x1, .int x2] (wput A Cf_d S h) = some (match (generalizing := false) r with | .inl c => (Outcome.threw c, (wput A Cf_d S (pm_new h 6 (.inr (c, []))))) | .inr w0 => (Outcome.returned (some (.int w0)), (wput A Cf_d S h))) := by
  obtain ⟨D, rfl⟩ : ∃ D', D = D' + 1 := ⟨D - 1, by omega⟩
  have hD : 2 ≤ D := by omega
  simp only [f537] at e
  rw [c537 (Cf_c0 hA), b537_0]
  obtain ⟨r, k1, e⟩ := Option.bind_eq_some_iff.mp e
  have z1 := x538 (D := D) (h := h) hA (by omega) k1
  rcases r with c3 | _
  · dsimp only at e z1
    have e := Option.some.inj e; subst e
    simp -implicitDefEqProofs (disch := first | assumption | exact Nat.le_of_ble_eq_true rfl | decide) only [b537_0, g537_1, b537_1, g537_2, b537_2, g537_3, b537_3, g537_4, b537_4, pe_aload0, pe_iload1, pe_call2, pm_af_ret, pm_af_void, pm_af_thr, pe_iload2, pe_i2l, pe_bipush, pe_call3, pe_call1, pe_if_ne, pe_getfield, pe_iaload, pe_goto, pe_sipush, pe_icmp_ne, pe_goto_w, pm_prog_1, pm_ob_some, Nat.reduceDiv, Nat.reduceMod, Nat.reduceMul, Nat.reduceAdd, Int.reduceToNat, pm_kill_i, pm_kill_r, pm_kill_n, pm_kill_j, pm_kill_l, pm_kill_d, pm_cats_nil, pm_cats_i, pm_cats_r, pm_cats_n, pm_cats_l, pm_cats_d, sz_1, sz_2, sl_1, sl_2, lc_0, lc_lt, lc_le, li_ne, va_rf, wr_m1, we_m1, pm_kill_w, Int32.reduceOfInt, Int64.reduceOfInt, Int32.reduceOfNat, Int32.reduceLT, Int32.reduceLE, Prod.mk.injEq, Nat.reduceEqDiff, reduceCtorEq, and_true, true_and, and_false, false_and, and_self, ite_true, ite_false, ↓reduceIte, not_true_eq_false, not_false_eq_true, pe_ri, pe_rz, pe_rc, p_throw, t537, w_junk hA, Cf_g0_21 hA, Cf_g0_22 hA, Cf_g0_23 hA, Cf_g0_24 hA, Cf_r31 hA, Cf_r32 hA, Cf_r33 hA, Cf_r34 hA, z1]
  · dsimp only at e z1
    obtain ⟨v1, k2, e⟩ := Option.bind_eq_some_iff.mp e
    try dsimp only at e
    have z2 := fun h => x516 (D := D) (h := h) (by omega) k2
    obtain ⟨r, k3, e⟩ := Option.bind_eq_some_iff.mp e
    have z3 := fun h => x517 (D := D) (h := h) (by omega) k3
    rcases r with c2 | _
    · dsimp only at e z3
      have e := Option.some.inj e; subst e
      simp -implicitDefEqProofs (disch := first | assumption | exact Nat.le_of_ble_eq_true rfl | decide) only [b537_0, g537_1, b537_1, g537_2, b537_2, g537_3, b537_3, g537_4, b537_4, pe_aload0, pe_iload1, pe_call2, pm_af_ret, pm_af_void, pm_af_thr, pe_iload2, pe_i2l, pe_bipush, pe_call3, pe_call1, pe_if_ne, pe_getfield, pe_iaload, pe_goto, pe_sipush, pe_icmp_ne, pe_goto_w, pm_prog_1, pm_ob_some, Nat.reduceDiv, Nat.reduceMod, Nat.reduceMul, Nat.reduceAdd, Int.reduceToNat, pm_kill_i, pm_kill_r, pm_kill_n, pm_kill_j, pm_kill_l, pm_kill_d, pm_cats_nil, pm_cats_i, pm_cats_r, pm_cats_n, pm_cats_l, pm_cats_d, sz_1, sz_2, sl_1, sl_2, lc_0, lc_lt, lc_le, li_ne, va_rf, wr_m1, we_m1, pm_kill_w, Int32.reduceOfInt, Int64.reduceOfInt, Int32.reduceOfNat, Int32.reduceLT, Int32.reduceLE, Prod.mk.injEq, Nat.reduceEqDiff, reduceCtorEq, and_true, true_and, and_false, false_and, and_self, ite_true, ite_false, ↓reduceIte, not_true_eq_false, not_false_eq_true, pe_ri, pe_rz, pe_rc, p_throw, t537, w_junk hA, Cf_g0_21 hA, Cf_g0_22 hA, Cf_g0_23 hA, Cf_g0_24 hA, Cf_r31 hA, Cf_r32 hA, Cf_r33 hA, Cf_r34 hA, z1, z2, z3]
    · dsimp only at e z3
      by_cases k4 : x2 = 0
      · rw [if_pos k4] at e
        by_cases k5 : 0 ≤ x1 ∧ x1 < 1440
        · rw [if_pos k5] at e
          have e := Option.some.inj e; subst e
          simp -implicitDefEqProofs (disch := first | assumption | exact Nat.le_of_ble_eq_true rfl | decide) only [b537_0, g537_1, b537_1, g537_2, b537_2, g537_3, b537_3, g537_4, b537_4, pe_aload0, pe_iload1, pe_call2, pm_af_ret, pm_af_void, pm_af_thr, pe_iload2, pe_i2l, pe_bipush, pe_call3, pe_call1, pe_if_ne, pe_getfield, pe_iaload, pe_goto, pe_sipush, pe_icmp_ne, pe_goto_w, pm_prog_1, pm_ob_some, Nat.reduceDiv, Nat.reduceMod, Nat.reduceMul, Nat.reduceAdd, Int.reduceToNat, pm_kill_i, pm_kill_r, pm_kill_n, pm_kill_j, pm_kill_l, pm_kill_d, pm_cats_nil, pm_cats_i, pm_cats_r, pm_cats_n, pm_cats_l, pm_cats_d, sz_1, sz_2, sl_1, sl_2, lc_0, lc_lt, lc_le, li_ne, va_rf, wr_m1, we_m1, pm_kill_w, Int32.reduceOfInt, Int64.reduceOfInt, Int32.reduceOfNat, Int32.reduceLT, Int32.reduceLE, Prod.mk.injEq, Nat.reduceEqDiff, reduceCtorEq, and_true, true_and, and_false, false_and, and_self, ite_true, ite_false, ↓reduceIte, not_true_eq_false, not_false_eq_true, pe_ri, pe_rz, pe_rc, p_throw, t537, w_junk hA, Cf_g0_21 hA, Cf_g0_22 hA, Cf_g0_23 hA, Cf_g0_24 hA, Cf_r31 hA, Cf_r32 hA, Cf_r33 hA, Cf_r34 hA, z1, z2, z3, eq_true k4]
        · rw [if_neg k5] at e; cases e
      · rw [if_neg k4] at e
        by_cases k6 : x2 = 1
        · rw [if_pos k6] at e
          by_cases k7 : 0 ≤ x1 ∧ x1 < 1440
          · rw [if_pos k7] at e
            have e := Option.some.inj e; subst e
            simp -implicitDefEqProofs (disch := first | assumption | exact Nat.le_of_ble_eq_true rfl | decide) only [b537_0, g537_1, b537_1, g537_2, b537_2, g537_3, b537_3, g537_4, b537_4, pe_aload0, pe_iload1, pe_call2, pm_af_ret, pm_af_void, pm_af_thr, pe_iload2, pe_i2l, pe_bipush, pe_call3, pe_call1, pe_if_ne, pe_getfield, pe_iaload, pe_goto, pe_sipush, pe_icmp_ne, pe_goto_w, pm_prog_1, pm_ob_some, Nat.reduceDiv, Nat.reduceMod, Nat.reduceMul, Nat.reduceAdd, Int.reduceToNat, pm_kill_i, pm_kill_r, pm_kill_n, pm_kill_j, pm_kill_l, pm_kill_d, pm_cats_nil, pm_cats_i, pm_cats_r, pm_cats_n, pm_cats_l, pm_cats_d, sz_1, sz_2, sl_1, sl_2, lc_0, lc_lt, lc_le, li_ne, va_rf, wr_m1, we_m1, pm_kill_w, Int32.reduceOfInt, Int64.reduceOfInt, Int32.reduceOfNat, Int32.reduceLT, Int32.reduceLE, Prod.mk.injEq, Nat.reduceEqDiff, reduceCtorEq, and_true, true_and, and_false, false_and, and_self, ite_true, ite_false, ↓reduceIte, not_true_eq_false, not_false_eq_true, pe_ri, pe_rz, pe_rc, p_throw, t537, w_junk hA, Cf_g0_21 hA, Cf_g0_22 hA, Cf_g0_23 hA, Cf_g0_24 hA, Cf_r31 hA, Cf_r32 hA, Cf_r33 hA, Cf_r34 hA, z1, z2, z3, eq_false k4, eq_true k6]
          · rw [if_neg k7] at e; cases e
        · rw [if_neg k6] at e
          by_cases k8 : x2 = 2
          · rw [if_pos k8] at e
            by_cases k9 : 0 ≤ x1 ∧ x1 < 1440
            · rw [if_pos k9] at e
              have e := Option.some.inj e; subst e
              simp -implicitDefEqProofs (disch := first | assumption | exact Nat.le_of_ble_eq_true rfl | decide) only [b537_0, g537_1, b537_1, g537_2, b537_2, g537_3, b537_3, g537_4, b537_4, pe_aload0, pe_iload1, pe_call2, pm_af_ret, pm_af_void, pm_af_thr, pe_iload2, pe_i2l, pe_bipush, pe_call3, pe_call1, pe_if_ne, pe_getfield, pe_iaload, pe_goto, pe_sipush, pe_icmp_ne, pe_goto_w, pm_prog_1, pm_ob_some, Nat.reduceDiv, Nat.reduceMod, Nat.reduceMul, Nat.reduceAdd, Int.reduceToNat, pm_kill_i, pm_kill_r, pm_kill_n, pm_kill_j, pm_kill_l, pm_kill_d, pm_cats_nil, pm_cats_i, pm_cats_r, pm_cats_n, pm_cats_l, pm_cats_d, sz_1, sz_2, sl_1, sl_2, lc_0, lc_lt, lc_le, li_ne, va_rf, wr_m1, we_m1, pm_kill_w, Int32.reduceOfInt, Int64.reduceOfInt, Int32.reduceOfNat, Int32.reduceLT, Int32.reduceLE, Prod.mk.injEq, Nat.reduceEqDiff, reduceCtorEq, and_true, true_and, and_false, false_and, and_self, ite_true, ite_false, ↓reduceIte, not_true_eq_false, not_false_eq_true, pe_ri, pe_rz, pe_rc, p_throw, t537, w_junk hA, Cf_g0_21 hA, Cf_g0_22 hA, Cf_g0_23 hA, Cf_g0_24 hA, Cf_r31 hA, Cf_r32 hA, Cf_r33 hA, Cf_r34 hA, z1, z2, z3, eq_false k4, eq_false k6, eq_true k8]
            · rw [if_neg k9] at e; cases e
          · rw [if_neg k8] at e
            by_cases k10 : 0 ≤ x1 ∧ x1 < 1440
            · rw [if_pos k10] at e
              have e := Option.some.inj e; subst e
              simp -implicitDefEqProofs (disch := first | assumption | exact Nat.le_of_ble_eq_true rfl | decide) only [b537_0, g537_1, b537_1, g537_2, b537_2, g537_3, b537_3, g537_4, b537_4, pe_aload0, pe_iload1, pe_call2, pm_af_ret, pm_af_void, pm_af_thr, pe_iload2, pe_i2l, pe_bipush, pe_call3, pe_call1, pe_if_ne, pe_getfield, pe_iaload, pe_goto, pe_sipush, pe_icmp_ne, pe_goto_w, pm_prog_1, pm_ob_some, Nat.reduceDiv, Nat.reduceMod, Nat.reduceMul, Nat.reduceAdd, Int.reduceToNat, pm_kill_i, pm_kill_r, pm_kill_n, pm_kill_j, pm_kill_l, pm_kill_d, pm_cats_nil, pm_cats_i, pm_cats_r, pm_cats_n, pm_cats_l, pm_cats_d, sz_1, sz_2, sl_1, sl_2, lc_0, lc_lt, lc_le, li_ne, va_rf, wr_m1, we_m1, pm_kill_w, Int32.reduceOfInt, Int64.reduceOfInt, Int32.reduceOfNat, Int32.reduceLT, Int32.reduceLE, Prod.mk.injEq, Nat.reduceEqDiff, reduceCtorEq, and_true, true_and, and_false, false_and, and_self, ite_true, ite_false, ↓reduceIte, not_true_eq_false, not_false_eq_true, pe_ri, pe_rz, pe_rc, p_throw, t537, w_junk hA, Cf_g0_21 hA, Cf_g0_22 hA, Cf_g0_23 hA, Cf_g0_24 hA, Cf_r31 hA, Cf_r32 hA, Cf_r33 hA, Cf_r34 hA, z1, z2, z3, eq_false k4, eq_false k6, eq_false k8]
            · rw [if_neg k10] at e; cases e
/-- TimberHouse$FingerLengths.joint(II)I -/
theorem c539 {d : Nat} {h : pm_H} {a : Nat} {x0 : Int32} {x1 : Int32} (hc : pm_cls h a = some 8) : pm_call pm_prog (d + 1) 539 [.ref a, .int x0, .int x1] h = pm_ev pm_prog (pm_call pm_prog d) 539 0 b539_0 [.ref a, .int x0, .int x1] [] h := pm_cal (pm_rc1 hc rfl) rfl rfl rfl
theorem g539_1 {cl : pm_C} {ls st : List Value} {h : pm_H} : pm_go pm_prog cl 539 1 ls st h = pm_ev pm_prog cl 539 1 b539_1 ls st h := pm_go_eq pm_prog cl 539 1 ls st h
theorem g539_2 {cl : pm_C} {ls st : List Value} {h : pm_H} : pm_go pm_prog cl 539 2 ls st h = pm_ev pm_prog cl 539 2 b539_2 ls st h := pm_go_eq pm_prog cl 539 2 ls st h
theorem g539_3 {cl : pm_C} {ls st : List Value} {h : pm_H} : pm_go pm_prog cl 539 3 ls st h = pm_ev pm_prog cl 539 3 b539_3 ls st h := pm_go_eq pm_prog cl 539 3 ls st h
theorem t539 {cl : pm_C} {j : Nat} {ls : List Value} {c : Nat} {h : pm_H} : pm_thr pm_prog cl 539 j ls c h = some (.threw c, h) := rfl
/-- TimberHouse$FingerLengths.joint(II)I -/
noncomputable def f539 (S : wS) (x1 : Int32) (x2 : Int32) : Option (Nat ⊕ (Int32)) :=
  (f515 (S.1 (0, 0, 0) 20)).bind fun r => match r with
  | .inl c5 =>
    some (.inl c5)
  | .inr _ =>
  (f516 (Int32.toInt64 x1) 0 (Int32.toInt64 ((S.1 (0, 0, 0) 30) - 1))).bind fun v1 =>
  (f520 v1).bind fun r => match r with
  | .inl c4 =>
    some (.inl c4)
  | .inr _ =>
  (f516 (Int32.toInt64 x2) 0 2).bind fun v2 =>
  (f517 v2).bind fun r => match r with
  | .inl c3 =>
    some (.inl c3)
  | .inr _ =>
  if x2 = 0 then
    if 0 ≤ x1 ∧ x1 < 24 then
      some (.inr (S.1 (37, 0, 0) x1))
    else none
  else
    if x2 = 1 then
      if 0 ≤ x1 ∧ x1 < 24 then
        some (.inr (S.1 (38, 0, 0) x1))
      else none
    else
      if 0 ≤ x1 ∧ x1 < 24 then
        some (.inr (S.1 (39, 0, 0) x1))
      else none
theorem x539  {A : wK → Nat} {h : pm_H} {D : Nat} {S : wS} {x1 : Int32} {x2 : Int32} {r : Nat ⊕ (Int32)}  (hA : wok A Cf_d h.1) (hD : 2 ≤ D) (e : f539 S x1 x2 = some r) : pm_call pm_prog D 539 [.ref (A (0, 0, 0)), .int x1, .int x2] (wput A Cf_d S h) = some (match (generalizing := false) r with | .inl c => (Outcome.threw c, (wput A Cf_d S (pm_new h 6 (.inr (c, []))))) | .inr w0 => (Outcome.returned (some (.int w0)), (wput A Cf_d S h))) := by
  obtain ⟨D, rfl⟩ : ∃ D', D = D' + 1 := ⟨D - 1, by omega⟩
  have hD : 1 ≤ D := by omega
  simp only [f539] at e
  rw [c539 (Cf_c0 hA), b539_0]
  obtain ⟨r, k1, e⟩ := Option.bind_eq_some_iff.mp e
  have z1 := fun h => x515 (D := D) (h := h) (by omega) k1
  rcases r with c5 | _
  · dsimp only at e z1
    have e := Option.some.inj e; subst e
    simp -implicitDefEqProofs (disch := first | assumption | exact Nat.le_of_ble_eq_true rfl | decide) only [b539_0, g539_1, b539_1, g539_2, b539_2, g539_3, b539_3, pe_aload0, pe_getfield, pe_call1, pm_af_ret, pm_af_void, pm_af_thr, pe_iload1, pe_i2l, pe_bipush, pe_sipush, pe_isub, pe_call3, pe_iload2, pe_if_ne, pe_iaload, pe_goto, pe_icmp_ne, pe_goto_w, pm_prog_1, pm_ob_some, Nat.reduceDiv, Nat.reduceMod, Nat.reduceMul, Nat.reduceAdd, Int.reduceToNat, pm_kill_i, pm_kill_r, pm_kill_n, pm_kill_j, pm_kill_l, pm_kill_d, pm_cats_nil, pm_cats_i, pm_cats_r, pm_cats_n, pm_cats_l, pm_cats_d, sz_1, sz_2, sl_1, sl_2, lc_0, lc_lt, lc_le, li_ne, va_rf, wr_m1, we_m1, pm_kill_w, Int32.reduceOfInt, Int64.reduceOfInt, Int32.reduceOfNat, Int32.reduceLT, Int32.reduceLE, Prod.mk.injEq, Nat.reduceEqDiff, reduceCtorEq, and_true, true_and, and_false, false_and, and_self, ite_true, ite_false, ↓reduceIte, not_true_eq_false, not_false_eq_true, pe_ri, pe_rz, pe_rc, p_throw, t539, w_junk hA, Cf_g0_20 hA, Cf_g0_27 hA, Cf_g0_28 hA, Cf_g0_29 hA, Cf_g0_30 hA, Cf_r37 hA, Cf_r38 hA, Cf_r39 hA, z1]
  · dsimp only at e z1
    obtain ⟨v1, k2, e⟩ := Option.bind_eq_some_iff.mp e
    try dsimp only at e
    have z2 := fun h => x516 (D := D) (h := h) (by omega) k2
    obtain ⟨r, k3, e⟩ := Option.bind_eq_some_iff.mp e
    have z3 := fun h => x520 (D := D) (h := h) (by omega) k3
    rcases r with c4 | _
    · dsimp only at e z3
      have e := Option.some.inj e; subst e
      simp -implicitDefEqProofs (disch := first | assumption | exact Nat.le_of_ble_eq_true rfl | decide) only [b539_0, g539_1, b539_1, g539_2, b539_2, g539_3, b539_3, pe_aload0, pe_getfield, pe_call1, pm_af_ret, pm_af_void, pm_af_thr, pe_iload1, pe_i2l, pe_bipush, pe_sipush, pe_isub, pe_call3, pe_iload2, pe_if_ne, pe_iaload, pe_goto, pe_icmp_ne, pe_goto_w, pm_prog_1, pm_ob_some, Nat.reduceDiv, Nat.reduceMod, Nat.reduceMul, Nat.reduceAdd, Int.reduceToNat, pm_kill_i, pm_kill_r, pm_kill_n, pm_kill_j, pm_kill_l, pm_kill_d, pm_cats_nil, pm_cats_i, pm_cats_r, pm_cats_n, pm_cats_l, pm_cats_d, sz_1, sz_2, sl_1, sl_2, lc_0, lc_lt, lc_le, li_ne, va_rf, wr_m1, we_m1, pm_kill_w, Int32.reduceOfInt, Int64.reduceOfInt, Int32.reduceOfNat, Int32.reduceLT, Int32.reduceLE, Prod.mk.injEq, Nat.reduceEqDiff, reduceCtorEq, and_true, true_and, and_false, false_and, and_self, ite_true, ite_false, ↓reduceIte, not_true_eq_false, not_false_eq_true, pe_ri, pe_rz, pe_rc, p_throw, t539, w_junk hA, Cf_g0_20 hA, Cf_g0_27 hA, Cf_g0_28 hA, Cf_g0_29 hA, Cf_g0_30 hA, Cf_r37 hA, Cf_r38 hA, Cf_r39 hA, z1, z2, z3]
    · dsimp only at e z3
      obtain ⟨v2, k4, e⟩ := Option.bind_eq_some_iff.mp e
      try dsimp only at e
      have z4 := fun h => x516 (D := D) (h := h) (by omega) k4
      obtain ⟨r, k5, e⟩ := Option.bind_eq_some_iff.mp e
      have z5 := fun h => x517 (D := D) (h := h) (by omega) k5
      rcases r with c3 | _
      · dsimp only at e z5
        have e := Option.some.inj e; subst e
        simp -implicitDefEqProofs (disch := first | assumption | exact Nat.le_of_ble_eq_true rfl | decide) only [b539_0, g539_1, b539_1, g539_2, b539_2, g539_3, b539_3, pe_aload0, pe_getfield, pe_call1, pm_af_ret, pm_af_void, pm_af_thr, pe_iload1, pe_i2l, pe_bipush, pe_sipush, pe_isub, pe_call3, pe_iload2, pe_if_ne, pe_iaload, pe_goto, pe_icmp_ne, pe_goto_w, pm_prog_1, pm_ob_some, Nat.reduceDiv, Nat.reduceMod, Nat.reduceMul, Nat.reduceAdd, Int.reduceToNat, pm_kill_i, pm_kill_r, pm_kill_n, pm_kill_j, pm_kill_l, pm_kill_d, pm_cats_nil, pm_cats_i, pm_cats_r, pm_cats_n, pm_cats_l, pm_cats_d, sz_1, sz_2, sl_1, sl_2, lc_0, lc_lt, lc_le, li_ne, va_rf, wr_m1, we_m1, pm_kill_w, Int32.reduceOfInt, Int64.reduceOfInt, Int32.reduceOfNat, Int32.reduceLT, Int32.reduceLE, Prod.mk.injEq, Nat.reduceEqDiff, reduceCtorEq, and_true, true_and, and_false, false_and, and_self, ite_true, ite_false, ↓reduceIte, not_true_eq_false, not_false_eq_true, pe_ri, pe_rz, pe_rc, p_throw, t539, w_junk hA, Cf_g0_20 hA, Cf_g0_27 hA, Cf_g0_28 hA, Cf_g0_29 hA, Cf_g0_30 hA, Cf_r37 hA, Cf_r38 hA, Cf_r39 hA, z1, z2, z3, z4, z5]
      · dsimp only at e z5
        by_cases k6 : x2 = 0
        · rw [if_pos k6] at e
          by_cases k7 : 0 ≤ x1 ∧ x1 < 24
          · rw [if_pos k7] at e
            have e := Option.some.inj e; subst e
            simp -implicitDefEqProofs (disch := first | assumption | exact Nat.le_of_ble_eq_true rfl | decide) only [b539_0, g539_1, b539_1, g539_2, b539_2, g539_3, b539_3, pe_aload0, pe_getfield, pe_call1, pm_af_ret, pm_af_void, pm_af_thr, pe_iload1, pe_i2l, pe_bipush, pe_sipush, pe_isub, pe_call3, pe_iload2, pe_if_ne, pe_iaload, pe_goto, pe_icmp_ne, pe_goto_w, pm_prog_1, pm_ob_some, Nat.reduceDiv, Nat.reduceMod, Nat.reduceMul, Nat.reduceAdd, Int.reduceToNat, pm_kill_i, pm_kill_r, pm_kill_n, pm_kill_j, pm_kill_l, pm_kill_d, pm_cats_nil, pm_cats_i, pm_cats_r, pm_cats_n, pm_cats_l, pm_cats_d, sz_1, sz_2, sl_1, sl_2, lc_0, lc_lt, lc_le, li_ne, va_rf, wr_m1, we_m1, pm_kill_w, Int32.reduceOfInt, Int64.reduceOfInt, Int32.reduceOfNat, Int32.reduceLT, Int32.reduceLE, Prod.mk.injEq, Nat.reduceEqDiff, reduceCtorEq, and_true, true_and, and_false, false_and, and_self, ite_true, ite_false, ↓reduceIte, not_true_eq_false, not_false_eq_true, pe_ri, pe_rz, pe_rc, p_throw, t539, w_junk hA, Cf_g0_20 hA, Cf_g0_27 hA, Cf_g0_28 hA, Cf_g0_29 hA, Cf_g0_30 hA, Cf_r37 hA, Cf_r38 hA, Cf_r39 hA, z1, z2, z3, z4, z5, eq_true k6]
          · rw [if_neg k7] at e; cases e
        · rw [if_neg k6] at e
          by_cases k8 : x2 = 1
          · rw [if_pos k8] at e
            by_cases k9 : 0 ≤ x1 ∧ x1 < 24
            · rw [if_pos k9] at e
              have e := Option.some.inj e; subst e
              simp -implicitDefEqProofs (disch := first | assumption | exact Nat.le_of_ble_eq_true rfl | decide) only [b539_0, g539_1, b539_1, g539_2, b539_2, g539_3, b539_3, pe_aload0, pe_getfield, pe_call1, pm_af_ret, pm_af_void, pm_af_thr, pe_iload1, pe_i2l, pe_bipush, pe_sipush, pe_isub, pe_call3, pe_iload2, pe_if_ne, pe_iaload, pe_goto, pe_icmp_ne, pe_goto_w, pm_prog_1, pm_ob_some, Nat.reduceDiv, Nat.reduceMod, Nat.reduceMul, Nat.reduceAdd, Int.reduceToNat, pm_kill_i, pm_kill_r, pm_kill_n, pm_kill_j, pm_kill_l, pm_kill_d, pm_cats_nil, pm_cats_i, pm_cats_r, pm_cats_n, pm_cats_l, pm_cats_d, sz_1, sz_2, sl_1, sl_2, lc_0, lc_lt, lc_le, li_ne, va_rf, wr_m1, we_m1, pm_kill_w, Int32.reduceOfInt, Int64.reduceOfInt, Int32.reduceOfNat, Int32.reduceLT, Int32.reduceLE, Prod.mk.injEq, Nat.reduceEqDiff, reduceCtorEq, and_true, true_and, and_false, false_and, and_self, ite_true, ite_false, ↓reduceIte, not_true_eq_false, not_false_eq_true, pe_ri, pe_rz, pe_rc, p_throw, t539, w_junk hA, Cf_g0_20 hA, Cf_g0_27 hA, Cf_g0_28 hA, Cf_g0_29 hA, Cf_g0_30 hA, Cf_r37 hA, Cf_r38 hA, Cf_r39 hA, z1, z2, z3, z4, z5, eq_false k6, eq_true k8]
            · rw [if_neg k9] at e; cases e
          · rw [if_neg k8] at e
            by_cases k10 : 0 ≤ x1 ∧ x1 < 24
            · rw [if_pos k10] at e
              have e := Option.some.inj e; subst e
              simp -implicitDefEqProofs (disch := first | assumption | exact Nat.le_of_ble_eq_true rfl | decide) only [b539_0, g539_1, b539_1, g539_2, b539_2, g539_3, b539_3, pe_aload0, pe_getfield, pe_call1, pm_af_ret, pm_af_void, pm_af_thr, pe_iload1, pe_i2l, pe_bipush, pe_sipush, pe_isub, pe_call3, pe_iload2, pe_if_ne, pe_iaload, pe_goto, pe_icmp_ne, pe_goto_w, pm_prog_1, pm_ob_some, Nat.reduceDiv, Nat.reduceMod, Nat.reduceMul, Nat.reduceAdd, Int.reduceToNat, pm_kill_i, pm_kill_r, pm_kill_n, pm_kill_j, pm_kill_l, pm_kill_d, pm_cats_nil, pm_cats_i, pm_cats_r, pm_cats_n, pm_cats_l, pm_cats_d, sz_1, sz_2, sl_1, sl_2, lc_0, lc_lt, lc_le, li_ne, va_rf, wr_m1, we_m1, pm_kill_w, Int32.reduceOfInt, Int64.reduceOfInt, Int32.reduceOfNat, Int32.reduceLT, Int32.reduceLE, Prod.mk.injEq, Nat.reduceEqDiff, reduceCtorEq, and_true, true_and, and_false, false_and, and_self, ite_true, ite_false, ↓reduceIte, not_true_eq_false, not_false_eq_true, pe_ri, pe_rz, pe_rc, p_throw, t539, w_junk hA, Cf_g0_20 hA, Cf_g0_27 hA, Cf_g0_28 hA, Cf_g0_29 hA, Cf_g0_30 hA, Cf_r37 hA, Cf_r38 hA, Cf_r39 hA, z1, z2, z3, z4, z5, eq_false k6, eq_false k8]
            · rw [if_neg k10] at e; cases e
/-- TimberHouse$FingerLengths.cure(II)Z -/
theorem c540 {d : Nat} {h : pm_H} {a : Nat} {x0 : Int32} {x1 : Int32} (hc : pm_cls h a = some 8) : pm_call pm_prog (d + 1) 540 [.ref a, .int x0, .int x1] h = pm_ev pm_prog (pm_call pm_prog d) 540 0 b540_0 [.ref a, .int x0, .int x1, pm_junk] [] h := pm_cal (pm_rc1 hc rfl) rfl rfl rfl
theorem g540_1 {cl : pm_C} {ls st : List Value} {h : pm_H} : pm_go pm_prog cl 540 1 ls st h = pm_ev pm_prog cl 540 1 b540_1 ls st h := pm_go_eq pm_prog cl 540 1 ls st h
theorem g540_2 {cl : pm_C} {ls st : List Value} {h : pm_H} : pm_go pm_prog cl 540 2 ls st h = pm_ev pm_prog cl 540 2 b540_2 ls st h := pm_go_eq pm_prog cl 540 2 ls st h
theorem t540 {cl : pm_C} {j : Nat} {ls : List Value} {c : Nat} {h : pm_H} : pm_thr pm_prog cl 540 j ls c h = some (.threw c, h) := rfl
/-- TimberHouse$FingerLengths.cure(II)Z -/
noncomputable def f540 (S : wS) (x1 : Int32) (x2 : Int32) : Option ((Nat × wS) ⊕ (Int32 × wS)) :=
  (f538 S x1).bind fun r => match r with
  | .inl c3 =>
    some (.inl (c3, S))
  | .inr _ =>
  (f516 (Int32.toInt64 x2) 0 1000).bind fun v1 =>
  (f517 v1).bind fun r => match r with
  | .inl c2 =>
    some (.inl (c2, S))
  | .inr _ =>
  if 0 ≤ x1 ∧ x1 < 1440 then
    if (S.1 (35, 0, 0) x1) = x2 then
      some (.inr (0, (sz S (35, 0, 0) x1 x2)))
    else
      some (.inr (1, (sz S (35, 0, 0) x1 x2)))
  else none
theorem x540  {A : wK → Nat} {h : pm_H} {D : Nat} {S : wS} {x1 : Int32} {x2 : Int32} {r : (Nat × wS) ⊕ (Int32 × wS)}  (hA : wok A Cf_d h.1) (hD : 3 ≤ D) (e : f540 S x1 x2 = some r) : pm_call pm_prog D 540 [.ref (A (0, 0, 0)), .int x1, .int x2] (wput A Cf_d S h) = some (match (generalizing := false) r with | .inl (c, S1) => (Outcome.threw c, (wput A Cf_d S1 (pm_new h 6 (.inr (c, []))))) | .inr (w0, S1) => (Outcome.returned (some (.int w0)), (wput A Cf_d S1 h))) := by
  obtain ⟨D, rfl⟩ : ∃ D', D = D' + 1 := ⟨D - 1, by omega⟩
  have hD : 2 ≤ D := by omega
  simp only [f540] at e
  rw [c540 (Cf_c0 hA), b540_0]
  obtain ⟨r, k1, e⟩ := Option.bind_eq_some_iff.mp e
  have z1 := x538 (D := D) (h := h) hA (by omega) k1
  rcases r with c3 | _
  · dsimp only at e z1
    have e := Option.some.inj e; subst e
    simp -implicitDefEqProofs (disch := first | assumption | exact Nat.le_of_ble_eq_true rfl | decide) only [b540_0, g540_1, b540_1, g540_2, b540_2, pe_aload0, pe_iload1, pe_call2, pm_af_ret, pm_af_void, pm_af_thr, pe_iload2, pe_i2l, pe_bipush, pe_call3, pe_call1, pe_getfield, pe_iaload, pe_icmp_eq, pe_sipush, pe_goto, pe_goto_w, pe_istore3, pe_iastore, pe_iload3, pm_prog_1, pm_ob_some, Nat.reduceDiv, Nat.reduceMod, Nat.reduceMul, Nat.reduceAdd, Int.reduceToNat, pm_kill_i, pm_kill_r, pm_kill_n, pm_kill_j, pm_kill_l, pm_kill_d, pm_cats_nil, pm_cats_i, pm_cats_r, pm_cats_n, pm_cats_l, pm_cats_d, sz_1, sz_2, sl_1, sl_2, lc_0, lc_lt, lc_le, li_ne, va_rf, wr_m1, we_m1, pm_kill_w, Int32.reduceOfInt, Int64.reduceOfInt, Int32.reduceOfNat, Int32.reduceLT, Int32.reduceLE, Prod.mk.injEq, Nat.reduceEqDiff, reduceCtorEq, and_true, true_and, and_false, false_and, and_self, ite_true, ite_false, ↓reduceIte, not_true_eq_false, not_false_eq_true, pe_ri, pe_rz, pe_rc, p_throw, t540, w_junk hA, Cf_g0_25 hA, Cf_r35 hA, Cf_w35 hA, z1]
  · dsimp only at e z1
    obtain ⟨v1, k2, e⟩ := Option.bind_eq_some_iff.mp e
    try dsimp only at e
    have z2 := fun h => x516 (D := D) (h := h) (by omega) k2
    obtain ⟨r, k3, e⟩ := Option.bind_eq_some_iff.mp e
    have z3 := fun h => x517 (D := D) (h := h) (by omega) k3
    rcases r with c2 | _
    · dsimp only at e z3
      have e := Option.some.inj e; subst e
      simp -implicitDefEqProofs (disch := first | assumption | exact Nat.le_of_ble_eq_true rfl | decide) only [b540_0, g540_1, b540_1, g540_2, b540_2, pe_aload0, pe_iload1, pe_call2, pm_af_ret, pm_af_void, pm_af_thr, pe_iload2, pe_i2l, pe_bipush, pe_call3, pe_call1, pe_getfield, pe_iaload, pe_icmp_eq, pe_sipush, pe_goto, pe_goto_w, pe_istore3, pe_iastore, pe_iload3, pm_prog_1, pm_ob_some, Nat.reduceDiv, Nat.reduceMod, Nat.reduceMul, Nat.reduceAdd, Int.reduceToNat, pm_kill_i, pm_kill_r, pm_kill_n, pm_kill_j, pm_kill_l, pm_kill_d, pm_cats_nil, pm_cats_i, pm_cats_r, pm_cats_n, pm_cats_l, pm_cats_d, sz_1, sz_2, sl_1, sl_2, lc_0, lc_lt, lc_le, li_ne, va_rf, wr_m1, we_m1, pm_kill_w, Int32.reduceOfInt, Int64.reduceOfInt, Int32.reduceOfNat, Int32.reduceLT, Int32.reduceLE, Prod.mk.injEq, Nat.reduceEqDiff, reduceCtorEq, and_true, true_and, and_false, false_and, and_self, ite_true, ite_false, ↓reduceIte, not_true_eq_false, not_false_eq_true, pe_ri, pe_rz, pe_rc, p_throw, t540, w_junk hA, Cf_g0_25 hA, Cf_r35 hA, Cf_w35 hA, z1, z2, z3]
    · dsimp only at e z3
      by_cases k4 : 0 ≤ x1 ∧ x1 < 1440
      · rw [if_pos k4] at e
        by_cases k5 : (S.1 (35, 0, 0) x1) = x2
        · rw [if_pos k5] at e
          have e := Option.some.inj e; subst e
          simp -implicitDefEqProofs (disch := first | assumption | exact Nat.le_of_ble_eq_true rfl | decide) only [b540_0, g540_1, b540_1, g540_2, b540_2, pe_aload0, pe_iload1, pe_call2, pm_af_ret, pm_af_void, pm_af_thr, pe_iload2, pe_i2l, pe_bipush, pe_call3, pe_call1, pe_getfield, pe_iaload, pe_icmp_eq, pe_sipush, pe_goto, pe_goto_w, pe_istore3, pe_iastore, pe_iload3, pm_prog_1, pm_ob_some, Nat.reduceDiv, Nat.reduceMod, Nat.reduceMul, Nat.reduceAdd, Int.reduceToNat, pm_kill_i, pm_kill_r, pm_kill_n, pm_kill_j, pm_kill_l, pm_kill_d, pm_cats_nil, pm_cats_i, pm_cats_r, pm_cats_n, pm_cats_l, pm_cats_d, sz_1, sz_2, sl_1, sl_2, lc_0, lc_lt, lc_le, li_ne, va_rf, wr_m1, we_m1, pm_kill_w, Int32.reduceOfInt, Int64.reduceOfInt, Int32.reduceOfNat, Int32.reduceLT, Int32.reduceLE, Prod.mk.injEq, Nat.reduceEqDiff, reduceCtorEq, and_true, true_and, and_false, false_and, and_self, ite_true, ite_false, ↓reduceIte, not_true_eq_false, not_false_eq_true, pe_ri, pe_rz, pe_rc, p_throw, t540, w_junk hA, Cf_g0_25 hA, Cf_r35 hA, Cf_w35 hA, z1, z2, z3, eq_true k5]
        · rw [if_neg k5] at e
          have e := Option.some.inj e; subst e
          simp -implicitDefEqProofs (disch := first | assumption | exact Nat.le_of_ble_eq_true rfl | decide) only [b540_0, g540_1, b540_1, g540_2, b540_2, pe_aload0, pe_iload1, pe_call2, pm_af_ret, pm_af_void, pm_af_thr, pe_iload2, pe_i2l, pe_bipush, pe_call3, pe_call1, pe_getfield, pe_iaload, pe_icmp_eq, pe_sipush, pe_goto, pe_goto_w, pe_istore3, pe_iastore, pe_iload3, pm_prog_1, pm_ob_some, Nat.reduceDiv, Nat.reduceMod, Nat.reduceMul, Nat.reduceAdd, Int.reduceToNat, pm_kill_i, pm_kill_r, pm_kill_n, pm_kill_j, pm_kill_l, pm_kill_d, pm_cats_nil, pm_cats_i, pm_cats_r, pm_cats_n, pm_cats_l, pm_cats_d, sz_1, sz_2, sl_1, sl_2, lc_0, lc_lt, lc_le, li_ne, va_rf, wr_m1, we_m1, pm_kill_w, Int32.reduceOfInt, Int64.reduceOfInt, Int32.reduceOfNat, Int32.reduceLT, Int32.reduceLE, Prod.mk.injEq, Nat.reduceEqDiff, reduceCtorEq, and_true, true_and, and_false, false_and, and_self, ite_true, ite_false, ↓reduceIte, not_true_eq_false, not_false_eq_true, pe_ri, pe_rz, pe_rc, p_throw, t540, w_junk hA, Cf_g0_25 hA, Cf_r35 hA, Cf_w35 hA, z1, z2, z3, eq_false k5]
      · rw [if_neg k4] at e; cases e
/-- TimberHouse$FingerLengths.load(II)Z -/
theorem c541 {d : Nat} {h : pm_H} {a : Nat} {x0 : Int32} {x1 : Int32} (hc : pm_cls h a = some 8) : pm_call pm_prog (d + 1) 541 [.ref a, .int x0, .int x1] h = pm_ev pm_prog (pm_call pm_prog d) 541 0 b541_0 [.ref a, .int x0, .int x1] [] h := pm_cal (pm_rc1 hc rfl) rfl rfl rfl
theorem g541_1 {cl : pm_C} {ls st : List Value} {h : pm_H} : pm_go pm_prog cl 541 1 ls st h = pm_ev pm_prog cl 541 1 b541_1 ls st h := pm_go_eq pm_prog cl 541 1 ls st h
theorem g541_2 {cl : pm_C} {ls st : List Value} {h : pm_H} : pm_go pm_prog cl 541 2 ls st h = pm_ev pm_prog cl 541 2 b541_2 ls st h := pm_go_eq pm_prog cl 541 2 ls st h
theorem t541 {cl : pm_C} {j : Nat} {ls : List Value} {c : Nat} {h : pm_H} : pm_thr pm_prog cl 541 j ls c h = some (.threw c, h) := rfl
/-- TimberHouse$FingerLengths.load(II)Z -/
noncomputable def f541 (S : wS) (x1 : Int32) (x2 : Int32) : Option (Nat ⊕ (Int32)) :=
  (f538 S x1).bind fun r => match r with
  | .inl c1 =>
    some (.inl c1)
  | .inr _ =>
  if 0 ≤ x1 ∧ x1 < 1440 then
    if x2 < (S.1 (35, 0, 0) x1) then
      some (.inr 0)
    else
      some (.inr 1)
  else none
theorem x541  {A : wK → Nat} {h : pm_H} {D : Nat} {S : wS} {x1 : Int32} {x2 : Int32} {r : Nat ⊕ (Int32)}  (hA : wok A Cf_d h.1) (hD : 3 ≤ D) (e : f541 S x1 x2 = some r) : pm_call pm_prog D 541 [.ref (A (0, 0, 0)), .int x1, .int x2] (wput A Cf_d S h) = some (match (generalizing := false) r with | .inl c => (Outcome.threw c, (wput A Cf_d S (pm_new h 6 (.inr (c, []))))) | .inr w0 => (Outcome.returned (some (.int w0)), (wput A Cf_d S h))) := by
  obtain ⟨D, rfl⟩ : ∃ D', D = D' + 1 := ⟨D - 1, by omega⟩
  have hD : 2 ≤ D := by omega
  simp only [f541] at e
  rw [c541 (Cf_c0 hA), b541_0]
  obtain ⟨r, k1, e⟩ := Option.bind_eq_some_iff.mp e
  have z1 := x538 (D := D) (h := h) hA (by omega) k1
  rcases r with c1 | _
  · dsimp only at e z1
    have e := Option.some.inj e; subst e
    simp -implicitDefEqProofs (disch := first | assumption | exact Nat.le_of_ble_eq_true rfl | decide) only [b541_0, g541_1, b541_1, g541_2, b541_2, pe_aload0, pe_iload1, pe_call2, pm_af_ret, pm_af_void, pm_af_thr, pe_iload2, pe_getfield, pe_iaload, pe_icmp_lt, pe_sipush, pe_goto, pe_goto_w, pm_prog_1, pm_ob_some, Nat.reduceDiv, Nat.reduceMod, Nat.reduceMul, Nat.reduceAdd, Int.reduceToNat, pm_kill_i, pm_kill_r, pm_kill_n, pm_kill_j, pm_kill_l, pm_kill_d, pm_cats_nil, pm_cats_i, pm_cats_r, pm_cats_n, pm_cats_l, pm_cats_d, sz_1, sz_2, sl_1, sl_2, lc_0, lc_lt, lc_le, li_ne, va_rf, wr_m1, we_m1, pm_kill_w, Int32.reduceOfInt, Int64.reduceOfInt, Int32.reduceOfNat, Int32.reduceLT, Int32.reduceLE, Prod.mk.injEq, Nat.reduceEqDiff, reduceCtorEq, and_true, true_and, and_false, false_and, and_self, ite_true, ite_false, ↓reduceIte, not_true_eq_false, not_false_eq_true, pe_ri, pe_rz, pe_rc, p_throw, t541, w_junk hA, Cf_g0_25 hA, Cf_r35 hA, z1]
  · dsimp only at e z1
    by_cases k2 : 0 ≤ x1 ∧ x1 < 1440
    · rw [if_pos k2] at e
      by_cases k3 : x2 < (S.1 (35, 0, 0) x1)
      · rw [if_pos k3] at e
        have e := Option.some.inj e; subst e
        simp -implicitDefEqProofs (disch := first | assumption | exact Nat.le_of_ble_eq_true rfl | decide) only [b541_0, g541_1, b541_1, g541_2, b541_2, pe_aload0, pe_iload1, pe_call2, pm_af_ret, pm_af_void, pm_af_thr, pe_iload2, pe_getfield, pe_iaload, pe_icmp_lt, pe_sipush, pe_goto, pe_goto_w, pm_prog_1, pm_ob_some, Nat.reduceDiv, Nat.reduceMod, Nat.reduceMul, Nat.reduceAdd, Int.reduceToNat, pm_kill_i, pm_kill_r, pm_kill_n, pm_kill_j, pm_kill_l, pm_kill_d, pm_cats_nil, pm_cats_i, pm_cats_r, pm_cats_n, pm_cats_l, pm_cats_d, sz_1, sz_2, sl_1, sl_2, lc_0, lc_lt, lc_le, li_ne, va_rf, wr_m1, we_m1, pm_kill_w, Int32.reduceOfInt, Int64.reduceOfInt, Int32.reduceOfNat, Int32.reduceLT, Int32.reduceLE, Prod.mk.injEq, Nat.reduceEqDiff, reduceCtorEq, and_true, true_and, and_false, false_and, and_self, ite_true, ite_false, ↓reduceIte, not_true_eq_false, not_false_eq_true, pe_ri, pe_rz, pe_rc, p_throw, t541, w_junk hA, Cf_g0_25 hA, Cf_r35 hA, z1, eq_true k3]
      · rw [if_neg k3] at e
        have e := Option.some.inj e; subst e
        simp -implicitDefEqProofs (disch := first | assumption | exact Nat.le_of_ble_eq_true rfl | decide) only [b541_0, g541_1, b541_1, g541_2, b541_2, pe_aload0, pe_iload1, pe_call2, pm_af_ret, pm_af_void, pm_af_thr, pe_iload2, pe_getfield, pe_iaload, pe_icmp_lt, pe_sipush, pe_goto, pe_goto_w, pm_prog_1, pm_ob_some, Nat.reduceDiv, Nat.reduceMod, Nat.reduceMul, Nat.reduceAdd, Int.reduceToNat, pm_kill_i, pm_kill_r, pm_kill_n, pm_kill_j, pm_kill_l, pm_kill_d, pm_cats_nil, pm_cats_i, pm_cats_r, pm_cats_n, pm_cats_l, pm_cats_d, sz_1, sz_2, sl_1, sl_2, lc_0, lc_lt, lc_le, li_ne, va_rf, wr_m1, we_m1, pm_kill_w, Int32.reduceOfInt, Int64.reduceOfInt, Int32.reduceOfNat, Int32.reduceLT, Int32.reduceLE, Prod.mk.injEq, Nat.reduceEqDiff, reduceCtorEq, and_true, true_and, and_false, false_and, and_self, ite_true, ite_false, ↓reduceIte, not_true_eq_false, not_false_eq_true, pe_ri, pe_rz, pe_rc, p_throw, t541, w_junk hA, Cf_g0_25 hA, Cf_r35 hA, z1, eq_false k3]
    · rw [if_neg k2] at e; cases e
/-- TimberHouse$FingerLengths.stops(IZ)V -/
theorem c543 {d : Nat} {h : pm_H} {a : Nat} {x0 : Int32} {x1 : Int32} (hc : pm_cls h a = some 8) : pm_call pm_prog (d + 1) 543 [.ref a, .int x0, .int x1] h = pm_ev pm_prog (pm_call pm_prog d) 543 0 b543_0 [.ref a, .int x0, .int x1] [] h := pm_cal (pm_rc1 hc rfl) rfl rfl rfl
theorem g543_1 {cl : pm_C} {ls st : List Value} {h : pm_H} : pm_go pm_prog cl 543 1 ls st h = pm_ev pm_prog cl 543 1 b543_1 ls st h := pm_go_eq pm_prog cl 543 1 ls st h
/-- TimberHouse$FingerLengths.stops(IZ)V -/
noncomputable def f543 (S : wS) (x1 : Int32) (x2 : Int32) : Option (wS) :=
  if x2 = 0 then
    some S
  else
    if 0 ≤ x1 ∧ x1 < 3 then
      if (S.1 (44, 0, 0) x1) = 0 then
        some (sz S (44, 0, 0) x1 ((S.1 (0, 0, 0) 31) + (S.1 (0, 0, 0) 32)))
      else
        some S
    else none
theorem x543  {A : wK → Nat} {h : pm_H} {D : Nat} {S : wS} {x1 : Int32} {x2 : Int32} {r : wS}  (hA : wok A Cf_d h.1) (hD : 1 ≤ D) (e : f543 S x1 x2 = some r) : pm_call pm_prog D 543 [.ref (A (0, 0, 0)), .int x1, .int x2] (wput A Cf_d S h) = some (Outcome.returned none, (wput A Cf_d r h)) := by
  obtain ⟨D, rfl⟩ : ∃ D', D = D' + 1 := ⟨D - 1, by omega⟩
  have hD : 0 ≤ D := by omega
  simp only [f543] at e
  rw [c543 (Cf_c0 hA), b543_0]
  by_cases k1 : x2 = 0
  · rw [if_pos k1] at e
    have e := Option.some.inj e; subst e
    simp -implicitDefEqProofs (disch := first | assumption | exact Nat.le_of_ble_eq_true rfl | decide) only [b543_0, g543_1, b543_1, pe_iload2, pe_if_eq, pe_aload0, pe_getfield, pe_iload1, pe_iaload, pe_if_ne, pe_iadd, pe_iastore, pe_goto_w, pe_return, pm_prog_1, pm_ob_some, Nat.reduceDiv, Nat.reduceMod, Nat.reduceMul, Nat.reduceAdd, Int.reduceToNat, pm_kill_i, pm_kill_r, pm_kill_n, pm_kill_j, pm_kill_l, pm_kill_d, pm_cats_nil, pm_cats_i, pm_cats_r, pm_cats_n, pm_cats_l, pm_cats_d, sz_1, sz_2, sl_1, sl_2, lc_0, lc_lt, lc_le, li_ne, va_rf, wr_m1, we_m1, pm_kill_w, Int32.reduceOfInt, Int64.reduceOfInt, Int32.reduceOfNat, Int32.reduceLT, Int32.reduceLE, Prod.mk.injEq, Nat.reduceEqDiff, reduceCtorEq, and_true, true_and, and_false, false_and, and_self, ite_true, ite_false, ↓reduceIte, not_true_eq_false, not_false_eq_true, pe_ri, pe_rz, pe_rc, Cf_g0_31 hA, Cf_g0_32 hA, Cf_g0_34 hA, Cf_r44 hA, Cf_w44 hA, eq_true k1]
  · rw [if_neg k1] at e
    by_cases k2 : 0 ≤ x1 ∧ x1 < 3
    · rw [if_pos k2] at e
      by_cases k3 : (S.1 (44, 0, 0) x1) = 0
      · rw [if_pos k3] at e
        have e := Option.some.inj e; subst e
        simp -implicitDefEqProofs (disch := first | assumption | exact Nat.le_of_ble_eq_true rfl | decide) only [b543_0, g543_1, b543_1, pe_iload2, pe_if_eq, pe_aload0, pe_getfield, pe_iload1, pe_iaload, pe_if_ne, pe_iadd, pe_iastore, pe_goto_w, pe_return, pm_prog_1, pm_ob_some, Nat.reduceDiv, Nat.reduceMod, Nat.reduceMul, Nat.reduceAdd, Int.reduceToNat, pm_kill_i, pm_kill_r, pm_kill_n, pm_kill_j, pm_kill_l, pm_kill_d, pm_cats_nil, pm_cats_i, pm_cats_r, pm_cats_n, pm_cats_l, pm_cats_d, sz_1, sz_2, sl_1, sl_2, lc_0, lc_lt, lc_le, li_ne, va_rf, wr_m1, we_m1, pm_kill_w, Int32.reduceOfInt, Int64.reduceOfInt, Int32.reduceOfNat, Int32.reduceLT, Int32.reduceLE, Prod.mk.injEq, Nat.reduceEqDiff, reduceCtorEq, and_true, true_and, and_false, false_and, and_self, ite_true, ite_false, ↓reduceIte, not_true_eq_false, not_false_eq_true, pe_ri, pe_rz, pe_rc, Cf_g0_31 hA, Cf_g0_32 hA, Cf_g0_34 hA, Cf_r44 hA, Cf_w44 hA, eq_false k1, eq_true k3]
      · rw [if_neg k3] at e
        have e := Option.some.inj e; subst e
        simp -implicitDefEqProofs (disch := first | assumption | exact Nat.le_of_ble_eq_true rfl | decide) only [b543_0, g543_1, b543_1, pe_iload2, pe_if_eq, pe_aload0, pe_getfield, pe_iload1, pe_iaload, pe_if_ne, pe_iadd, pe_iastore, pe_goto_w, pe_return, pm_prog_1, pm_ob_some, Nat.reduceDiv, Nat.reduceMod, Nat.reduceMul, Nat.reduceAdd, Int.reduceToNat, pm_kill_i, pm_kill_r, pm_kill_n, pm_kill_j, pm_kill_l, pm_kill_d, pm_cats_nil, pm_cats_i, pm_cats_r, pm_cats_n, pm_cats_l, pm_cats_d, sz_1, sz_2, sl_1, sl_2, lc_0, lc_lt, lc_le, li_ne, va_rf, wr_m1, we_m1, pm_kill_w, Int32.reduceOfInt, Int64.reduceOfInt, Int32.reduceOfNat, Int32.reduceLT, Int32.reduceLE, Prod.mk.injEq, Nat.reduceEqDiff, reduceCtorEq, and_true, true_and, and_false, false_and, and_self, ite_true, ite_false, ↓reduceIte, not_true_eq_false, not_false_eq_true, pe_ri, pe_rz, pe_rc, Cf_g0_31 hA, Cf_g0_32 hA, Cf_g0_34 hA, Cf_r44 hA, Cf_w44 hA, eq_false k1, eq_false k3]
    · rw [if_neg k2] at e; cases e
/-- TimberHouse$FingerLengths.test(ID)I -/
theorem c542 {d : Nat} {h : pm_H} {a : Nat} {x0 : Int32} {x1 : UInt64} (hc : pm_cls h a = some 8) : pm_call pm_prog (d + 1) 542 [.ref a, .int x0, .double x1] h = pm_ev pm_prog (pm_call pm_prog d) 542 0 b542_0 [.ref a, .int x0, .double x1, pm_junk, pm_junk] [] h := pm_cal (pm_rc1 hc rfl) rfl rfl rfl
theorem g542_1 {cl : pm_C} {ls st : List Value} {h : pm_H} : pm_go pm_prog cl 542 1 ls st h = pm_ev pm_prog cl 542 1 b542_1 ls st h := pm_go_eq pm_prog cl 542 1 ls st h
theorem g542_2 {cl : pm_C} {ls st : List Value} {h : pm_H} : pm_go pm_prog cl 542 2 ls st h = pm_ev pm_prog cl 542 2 b542_2 ls st h := pm_go_eq pm_prog cl 542 2 ls st h
theorem g542_3 {cl : pm_C} {ls st : List Value} {h : pm_H} : pm_go pm_prog cl 542 3 ls st h = pm_ev pm_prog cl 542 3 b542_3 ls st h := pm_go_eq pm_prog cl 542 3 ls st h
theorem g542_4 {cl : pm_C} {ls st : List Value} {h : pm_H} : pm_go pm_prog cl 542 4 ls st h = pm_ev pm_prog cl 542 4 b542_4 ls st h := pm_go_eq pm_prog cl 542 4 ls st h
theorem g542_5 {cl : pm_C} {ls st : List Value} {h : pm_H} : pm_go pm_prog cl 542 5 ls st h = pm_ev pm_prog cl 542 5 b542_5 ls st h := pm_go_eq pm_prog cl 542 5 ls st h
theorem g542_6 {cl : pm_C} {ls st : List Value} {h : pm_H} : pm_go pm_prog cl 542 6 ls st h = pm_ev pm_prog cl 542 6 b542_6 ls st h := pm_go_eq pm_prog cl 542 6 ls st h
theorem g542_7 {cl : pm_C} {ls st : List Value} {h : pm_H} : pm_go pm_prog cl 542 7 ls st h = pm_ev pm_prog cl 542 7 b542_7 ls st h := pm_go_eq pm_prog cl 542 7 ls st h
theorem g542_8 {cl : pm_C} {ls st : List Value} {h : pm_H} : pm_go pm_prog cl 542 8 ls st h = pm_ev pm_prog cl 542 8 b542_8 ls st h := pm_go_eq pm_prog cl 542 8 ls st h
theorem g542_9 {cl : pm_C} {ls st : List Value} {h : pm_H} : pm_go pm_prog cl 542 9 ls st h = pm_ev pm_prog cl 542 9 b542_9 ls st h := pm_go_eq pm_prog cl 542 9 ls st h
theorem g542_10 {cl : pm_C} {ls st : List Value} {h : pm_H} : pm_go pm_prog cl 542 10 ls st h = pm_ev pm_prog cl 542 10 b542_10 ls st h := pm_go_eq pm_prog cl 542 10 ls st h
theorem g542_11 {cl : pm_C} {ls st : List Value} {h : pm_H} : pm_go pm_prog cl 542 11 ls st h = pm_ev pm_prog cl 542 11 b542_11 ls st h := pm_go_eq pm_prog cl 542 11 ls st h
theorem g542_12 {cl : pm_C} {ls st : List Value} {h : pm_H} : pm_go pm_prog cl 542 12 ls st h = pm_ev pm_prog cl 542 12 b542_12 ls st h := pm_go_eq pm_prog cl 542 12 ls st h
theorem t542 {cl : pm_C} {j : Nat} {ls : List Value} {c : Nat} {h : pm_H} : pm_thr pm_prog cl 542 j ls c h = some (.threw c, h) := rfl
noncomputable def f542_12 (S : wS) (x4 : Int32) (y1 : Int32) (y2 : Int32) : Option ((Nat × wS) ⊕ (Int32 × wS)) :=
  (f543 S y1 y2).bind fun S3 =>
  if x4 = 0 ∨ x4 = 1 then
    some (.inr (((S3.1 (0, 0, 0) 31) + (S3.1 (0, 0, 0) 32)), (sz S3 (0, 0, 0) 33 x4)))
  else none
noncomputable def f542_10 (S : wS) (x4 : Int32) (y1 : Int32) (y2 : Int32) : Option ((Nat × wS) ⊕ (Int32 × wS)) :=
  (f543 S y1 y2).bind fun S2 =>
  if ((S2.1 (0, 0, 0) 31) + (S2.1 (0, 0, 0) 32)) < 10 then
    f542_12 S2 x4 2 0
  else
    if (10 * (S2.1 (0, 0, 0) 31)) ≤ ((S2.1 (0, 0, 0) 31) + (S2.1 (0, 0, 0) 32)) then
      f542_12 S2 x4 2 0
    else
      f542_12 S2 x4 2 1
noncomputable def f542_8 (S : wS) (x4 : Int32) (y1 : Int32) (y2 : Int32) : Option ((Nat × wS) ⊕ (Int32 × wS)) :=
  (f543 (sz S (0, 0, 0) 32 (y1 + y2)) 0 x4).bind fun S1 =>
  if x4 = 0 then
    f542_10 S1 x4 1 0
  else
    if (S1.1 (0, 0, 0) 33) = 0 then
      f542_10 S1 x4 1 0
    else
      f542_10 S1 x4 1 1
noncomputable def f542_6 (S : wS) (x4 : Int32) (y1 : Int32) (y2 : Int32) : Option ((Nat × wS) ⊕ (Int32 × wS)) :=
  if x4 = 0 then
    f542_8 (sz S (0, 0, 0) 31 (y1 + y2)) x4 (S.1 (0, 0, 0) 32) 1
  else
    f542_8 (sz S (0, 0, 0) 31 (y1 + y2)) x4 (S.1 (0, 0, 0) 32) 0
noncomputable def f542_4 (S : wS) (y0 : Int32) : Option ((Nat × wS) ⊕ (Int32 × wS)) :=
  if y0 = 0 then
    f542_6 S y0 (S.1 (0, 0, 0) 31) 0
  else
    f542_6 S y0 (S.1 (0, 0, 0) 31) 1
noncomputable def f542_2 (S : wS) (x2 : UInt64) (y0 : Int32) : Option ((Nat × wS) ⊕ (Int32 × wS)) :=
  (f517 y0).bind fun r => match r with
  | .inl c4 =>
    some (.inl (c4, S))
  | .inr _ =>
  if (Op.cmpValue (FP.dcmp x2 (UInt64.ofNat 4625196817309499392)) .l) < 0 then
    f542_4 S 1
  else
    f542_4 S 0
/-- TimberHouse$FingerLengths.test(ID)I -/
noncomputable def f542 (S : wS) (x1 : Int32) (x2 : UInt64) : Option ((Nat × wS) ⊕ (Int32 × wS)) :=
  (f538 S x1).bind fun r => match r with
  | .inl c5 =>
    some (.inl (c5, S))
  | .inr _ =>
  if (Op.cmpValue (FP.dcmp x2 (UInt64.ofNat 0)) .l) < 0 then
    f542_2 S x2 0
  else
    if (Op.cmpValue (FP.dcmp x2 (UInt64.ofNat 4652007308841189376)) .g) ≤ 0 then
      f542_2 S x2 1
    else
      f542_2 S x2 0
theorem y542_12  {A : wK → Nat} {h : pm_H} {D : Nat} {S : wS} {x4 : Int32} {y1 : Int32} {y2 : Int32} {r : (Nat × wS) ⊕ (Int32 × wS)}  (hA : wok A Cf_d h.1) (hD : 2 ≤ D) (e : f542_12 S x4 y1 y2 = some r) : ∀ q1 q2 q3 : Value, pm_go pm_prog (pm_call pm_prog D) 542 12 [.ref (A (0, 0, 0)), q1, q2, q3, .int x4] [.int y2, .int y1, .ref (A (0, 0, 0))] (wput A Cf_d S h) = some (match (generalizing := false) r with | .inl (c, S1) => (Outcome.threw c, (wput A Cf_d S1 (pm_new h 6 (.inr (c, []))))) | .inr (w0, S1) => (Outcome.returned (some (.int w0)), (wput A Cf_d S1 h))) := by
  intro q1 q2 q3
  simp only [f542_12] at e
  rw [g542_12, b542_12]
  obtain ⟨S3, k1, e⟩ := Option.bind_eq_some_iff.mp e
  try dsimp only at e
  have z1 := x543 (D := D) (h := h) hA (by omega) k1
  by_cases k2 : x4 = 0 ∨ x4 = 1
  · rw [if_pos k2] at e
    have e := Option.some.inj e; subst e
    simp -implicitDefEqProofs (disch := first | assumption | exact Nat.le_of_ble_eq_true rfl | decide) only [b542_0, g542_1, b542_1, g542_3, b542_3, g542_5, b542_5, g542_7, b542_7, g542_9, b542_9, g542_11, b542_11, pe_aload0, pe_iload1, pe_call2, pm_af_ret, pm_af_void, pm_af_thr, pe_dload2, pe_ldc2, pe_dcmp, pe_if_lt, pe_if_gt, pe_sipush, pe_goto, pe_goto_w, pe_call1, pe_if_ge, pe_istore4, pe_dup_i, pe_dup_r, pe_getfield, pe_iload4, pe_if_eq, pe_iadd, pe_putfield, pe_call3, pe_icmp_lt, pe_imul, pe_icmp_le, pm_prog_1, pm_ob_some, Nat.reduceDiv, Nat.reduceMod, Nat.reduceMul, Nat.reduceAdd, Int.reduceToNat, pm_kill_i, pm_kill_r, pm_kill_n, pm_kill_j, pm_kill_l, pm_kill_d, pm_cats_nil, pm_cats_i, pm_cats_r, pm_cats_n, pm_cats_l, pm_cats_d, sz_1, sz_2, sl_1, sl_2, lc_0, lc_lt, lc_le, li_ne, va_rf, wr_m1, we_m1, pm_kill_w, Int32.reduceOfInt, Int64.reduceOfInt, Int32.reduceOfNat, Int32.reduceLT, Int32.reduceLE, Prod.mk.injEq, Nat.reduceEqDiff, reduceCtorEq, and_true, true_and, and_false, false_and, and_self, ite_true, ite_false, ↓reduceIte, not_true_eq_false, not_false_eq_true, pe_ri, pe_rz, pe_rc, p_throw, t542, w_junk hA, Cf_g0_31 hA, Cf_g0_32 hA, Cf_g0_33 hA, Cf_p0_31 hA, Cf_p0_32 hA, Cf_p0_33 hA, z1]
  · rw [if_neg k2] at e; cases e
theorem y542_10  {A : wK → Nat} {h : pm_H} {D : Nat} {S : wS} {x4 : Int32} {y1 : Int32} {y2 : Int32} {r : (Nat × wS) ⊕ (Int32 × wS)}  (hA : wok A Cf_d h.1) (hD : 2 ≤ D) (e : f542_10 S x4 y1 y2 = some r) : ∀ q1 q2 q3 : Value, pm_go pm_prog (pm_call pm_prog D) 542 10 [.ref (A (0, 0, 0)), q1, q2, q3, .int x4] [.int y2, .int y1, .ref (A (0, 0, 0))] (wput A Cf_d S h) = some (match (generalizing := false) r with | .inl (c, S1) => (Outcome.threw c, (wput A Cf_d S1 (pm_new h 6 (.inr (c, []))))) | .inr (w0, S1) => (Outcome.returned (some (.int w0)), (wput A Cf_d S1 h))) := by
  intro q1 q2 q3
  simp only [f542_10] at e
  rw [g542_10, b542_10]
  obtain ⟨S2, k1, e⟩ := Option.bind_eq_some_iff.mp e
  try dsimp only at e
  have z1 := x543 (D := D) (h := h) hA (by omega) k1
  by_cases k2 : ((S2.1 (0, 0, 0) 31) + (S2.1 (0, 0, 0) 32)) < 10
  · rw [if_pos k2] at e
    have k3 := y542_12 (h := h) hA hD e
    simp -implicitDefEqProofs (disch := first | assumption | exact Nat.le_of_ble_eq_true rfl | decide) only [b542_0, g542_1, b542_1, g542_3, b542_3, g542_5, b542_5, g542_7, b542_7, g542_9, b542_9, g542_11, b542_11, pe_aload0, pe_iload1, pe_call2, pm_af_ret, pm_af_void, pm_af_thr, pe_dload2, pe_ldc2, pe_dcmp, pe_if_lt, pe_if_gt, pe_sipush, pe_goto, pe_goto_w, pe_call1, pe_if_ge, pe_istore4, pe_dup_i, pe_dup_r, pe_getfield, pe_iload4, pe_if_eq, pe_iadd, pe_putfield, pe_call3, pe_icmp_lt, pe_imul, pe_icmp_le, pm_prog_1, pm_ob_some, Nat.reduceDiv, Nat.reduceMod, Nat.reduceMul, Nat.reduceAdd, Int.reduceToNat, pm_kill_i, pm_kill_r, pm_kill_n, pm_kill_j, pm_kill_l, pm_kill_d, pm_cats_nil, pm_cats_i, pm_cats_r, pm_cats_n, pm_cats_l, pm_cats_d, sz_1, sz_2, sl_1, sl_2, lc_0, lc_lt, lc_le, li_ne, va_rf, wr_m1, we_m1, pm_kill_w, Int32.reduceOfInt, Int64.reduceOfInt, Int32.reduceOfNat, Int32.reduceLT, Int32.reduceLE, Prod.mk.injEq, Nat.reduceEqDiff, reduceCtorEq, and_true, true_and, and_false, false_and, and_self, ite_true, ite_false, ↓reduceIte, not_true_eq_false, not_false_eq_true, pe_ri, pe_rz, pe_rc, p_throw, t542, w_junk hA, Cf_g0_31 hA, Cf_g0_32 hA, Cf_g0_33 hA, Cf_p0_31 hA, Cf_p0_32 hA, Cf_p0_33 hA, z1, eq_true k2, k3]
  · rw [if_neg k2] at e
    by_cases k4 : (10 * (S2.1 (0, 0, 0) 31)) ≤ ((S2.1 (0, 0, 0) 31) + (S2.1 (0, 0, 0) 32))
    · rw [if_pos k4] at e
      have k5 := y542_12 (h := h) hA hD e
      simp -implicitDefEqProofs (disch := first | assumption | exact Nat.le_of_ble_eq_true rfl | decide) only [b542_0, g542_1, b542_1, g542_3, b542_3, g542_5, b542_5, g542_7, b542_7, g542_9, b542_9, g542_11, b542_11, pe_aload0, pe_iload1, pe_call2, pm_af_ret, pm_af_void, pm_af_thr, pe_dload2, pe_ldc2, pe_dcmp, pe_if_lt, pe_if_gt, pe_sipush, pe_goto, pe_goto_w, pe_call1, pe_if_ge, pe_istore4, pe_dup_i, pe_dup_r, pe_getfield, pe_iload4, pe_if_eq, pe_iadd, pe_putfield, pe_call3, pe_icmp_lt, pe_imul, pe_icmp_le, pm_prog_1, pm_ob_some, Nat.reduceDiv, Nat.reduceMod, Nat.reduceMul, Nat.reduceAdd, Int.reduceToNat, pm_kill_i, pm_kill_r, pm_kill_n, pm_kill_j, pm_kill_l, pm_kill_d, pm_cats_nil, pm_cats_i, pm_cats_r, pm_cats_n, pm_cats_l, pm_cats_d, sz_1, sz_2, sl_1, sl_2, lc_0, lc_lt, lc_le, li_ne, va_rf, wr_m1, we_m1, pm_kill_w, Int32.reduceOfInt, Int64.reduceOfInt, Int32.reduceOfNat, Int32.reduceLT, Int32.reduceLE, Prod.mk.injEq, Nat.reduceEqDiff, reduceCtorEq, and_true, true_and, and_false, false_and, and_self, ite_true, ite_false, ↓reduceIte, not_true_eq_false, not_false_eq_true, pe_ri, pe_rz, pe_rc, p_throw, t542, w_junk hA, Cf_g0_31 hA, Cf_g0_32 hA, Cf_g0_33 hA, Cf_p0_31 hA, Cf_p0_32 hA, Cf_p0_33 hA, z1, eq_false k2, eq_true k4, k5]
    · rw [if_neg k4] at e
      have k6 := y542_12 (h := h) hA hD e
      simp -implicitDefEqProofs (disch := first | assumption | exact Nat.le_of_ble_eq_true rfl | decide) only [b542_0, g542_1, b542_1, g542_3, b542_3, g542_5, b542_5, g542_7, b542_7, g542_9, b542_9, g542_11, b542_11, pe_aload0, pe_iload1, pe_call2, pm_af_ret, pm_af_void, pm_af_thr, pe_dload2, pe_ldc2, pe_dcmp, pe_if_lt, pe_if_gt, pe_sipush, pe_goto, pe_goto_w, pe_call1, pe_if_ge, pe_istore4, pe_dup_i, pe_dup_r, pe_getfield, pe_iload4, pe_if_eq, pe_iadd, pe_putfield, pe_call3, pe_icmp_lt, pe_imul, pe_icmp_le, pm_prog_1, pm_ob_some, Nat.reduceDiv, Nat.reduceMod, Nat.reduceMul, Nat.reduceAdd, Int.reduceToNat, pm_kill_i, pm_kill_r, pm_kill_n, pm_kill_j, pm_kill_l, pm_kill_d, pm_cats_nil, pm_cats_i, pm_cats_r, pm_cats_n, pm_cats_l, pm_cats_d, sz_1, sz_2, sl_1, sl_2, lc_0, lc_lt, lc_le, li_ne, va_rf, wr_m1, we_m1, pm_kill_w, Int32.reduceOfInt, Int64.reduceOfInt, Int32.reduceOfNat, Int32.reduceLT, Int32.reduceLE, Prod.mk.injEq, Nat.reduceEqDiff, reduceCtorEq, and_true, true_and, and_false, false_and, and_self, ite_true, ite_false, ↓reduceIte, not_true_eq_false, not_false_eq_true, pe_ri, pe_rz, pe_rc, p_throw, t542, w_junk hA, Cf_g0_31 hA, Cf_g0_32 hA, Cf_g0_33 hA, Cf_p0_31 hA, Cf_p0_32 hA, Cf_p0_33 hA, z1, eq_false k2, eq_false k4, k6]
theorem y542_8  {A : wK → Nat} {h : pm_H} {D : Nat} {S : wS} {x4 : Int32} {y1 : Int32} {y2 : Int32} {r : (Nat × wS) ⊕ (Int32 × wS)}  (hA : wok A Cf_d h.1) (hD : 2 ≤ D) (e : f542_8 S x4 y1 y2 = some r) : ∀ q1 q2 q3 : Value, pm_go pm_prog (pm_call pm_prog D) 542 8 [.ref (A (0, 0, 0)), q1, q2, q3, .int x4] [.int y2, .int y1, .ref (A (0, 0, 0))] (wput A Cf_d S h) = some (match (generalizing := false) r with | .inl (c, S1) => (Outcome.threw c, (wput A Cf_d S1 (pm_new h 6 (.inr (c, []))))) | .inr (w0, S1) => (Outcome.returned (some (.int w0)), (wput A Cf_d S1 h))) := by
  intro q1 q2 q3
  simp only [f542_8] at e
  rw [g542_8, b542_8]
  obtain ⟨S1, k1, e⟩ := Option.bind_eq_some_iff.mp e
  try dsimp only at e
  have z1 := x543 (D := D) (h := h) hA (by omega) k1
  by_cases k2 : x4 = 0
  · rw [if_pos k2] at e
    have k3 := y542_10 (h := h) hA hD e
    simp -implicitDefEqProofs (disch := first | assumption | exact Nat.le_of_ble_eq_true rfl | decide) only [b542_0, g542_1, b542_1, g542_3, b542_3, g542_5, b542_5, g542_7, b542_7, g542_9, b542_9, g542_11, b542_11, pe_aload0, pe_iload1, pe_call2, pm_af_ret, pm_af_void, pm_af_thr, pe_dload2, pe_ldc2, pe_dcmp, pe_if_lt, pe_if_gt, pe_sipush, pe_goto, pe_goto_w, pe_call1, pe_if_ge, pe_istore4, pe_dup_i, pe_dup_r, pe_getfield, pe_iload4, pe_if_eq, pe_iadd, pe_putfield, pe_call3, pe_icmp_lt, pe_imul, pe_icmp_le, pm_prog_1, pm_ob_some, Nat.reduceDiv, Nat.reduceMod, Nat.reduceMul, Nat.reduceAdd, Int.reduceToNat, pm_kill_i, pm_kill_r, pm_kill_n, pm_kill_j, pm_kill_l, pm_kill_d, pm_cats_nil, pm_cats_i, pm_cats_r, pm_cats_n, pm_cats_l, pm_cats_d, sz_1, sz_2, sl_1, sl_2, lc_0, lc_lt, lc_le, li_ne, va_rf, wr_m1, we_m1, pm_kill_w, Int32.reduceOfInt, Int64.reduceOfInt, Int32.reduceOfNat, Int32.reduceLT, Int32.reduceLE, Prod.mk.injEq, Nat.reduceEqDiff, reduceCtorEq, and_true, true_and, and_false, false_and, and_self, ite_true, ite_false, ↓reduceIte, not_true_eq_false, not_false_eq_true, pe_ri, pe_rz, pe_rc, p_throw, t542, w_junk hA, Cf_g0_31 hA, Cf_g0_32 hA, Cf_g0_33 hA, Cf_p0_31 hA, Cf_p0_32 hA, Cf_p0_33 hA, z1, eq_true k2, k3]
  · rw [if_neg k2] at e
    by_cases k4 : (S1.1 (0, 0, 0) 33) = 0
    · rw [if_pos k4] at e
      have k5 := y542_10 (h := h) hA hD e
      simp -implicitDefEqProofs (disch := first | assumption | exact Nat.le_of_ble_eq_true rfl | decide) only [b542_0, g542_1, b542_1, g542_3, b542_3, g542_5, b542_5, g542_7, b542_7, g542_9, b542_9, g542_11, b542_11, pe_aload0, pe_iload1, pe_call2, pm_af_ret, pm_af_void, pm_af_thr, pe_dload2, pe_ldc2, pe_dcmp, pe_if_lt, pe_if_gt, pe_sipush, pe_goto, pe_goto_w, pe_call1, pe_if_ge, pe_istore4, pe_dup_i, pe_dup_r, pe_getfield, pe_iload4, pe_if_eq, pe_iadd, pe_putfield, pe_call3, pe_icmp_lt, pe_imul, pe_icmp_le, pm_prog_1, pm_ob_some, Nat.reduceDiv, Nat.reduceMod, Nat.reduceMul, Nat.reduceAdd, Int.reduceToNat, pm_kill_i, pm_kill_r, pm_kill_n, pm_kill_j, pm_kill_l, pm_kill_d, pm_cats_nil, pm_cats_i, pm_cats_r, pm_cats_n, pm_cats_l, pm_cats_d, sz_1, sz_2, sl_1, sl_2, lc_0, lc_lt, lc_le, li_ne, va_rf, wr_m1, we_m1, pm_kill_w, Int32.reduceOfInt, Int64.reduceOfInt, Int32.reduceOfNat, Int32.reduceLT, Int32.reduceLE, Prod.mk.injEq, Nat.reduceEqDiff, reduceCtorEq, and_true, true_and, and_false, false_and, and_self, ite_true, ite_false, ↓reduceIte, not_true_eq_false, not_false_eq_true, pe_ri, pe_rz, pe_rc, p_throw, t542, w_junk hA, Cf_g0_31 hA, Cf_g0_32 hA, Cf_g0_33 hA, Cf_p0_31 hA, Cf_p0_32 hA, Cf_p0_33 hA, z1, eq_false k2, eq_true k4, k5]
    · rw [if_neg k4] at e
      have k6 := y542_10 (h := h) hA hD e
      simp -implicitDefEqProofs (disch := first | assumption | exact Nat.le_of_ble_eq_true rfl | decide) only [b542_0, g542_1, b542_1, g542_3, b542_3, g542_5, b542_5, g542_7, b542_7, g542_9, b542_9, g542_11, b542_11, pe_aload0, pe_iload1, pe_call2, pm_af_ret, pm_af_void, pm_af_thr, pe_dload2, pe_ldc2, pe_dcmp, pe_if_lt, pe_if_gt, pe_sipush, pe_goto, pe_goto_w, pe_call1, pe_if_ge, pe_istore4, pe_dup_i, pe_dup_r, pe_getfield, pe_iload4, pe_if_eq, pe_iadd, pe_putfield, pe_call3, pe_icmp_lt, pe_imul, pe_icmp_le, pm_prog_1, pm_ob_some, Nat.reduceDiv, Nat.reduceMod, Nat.reduceMul, Nat.reduceAdd, Int.reduceToNat, pm_kill_i, pm_kill_r, pm_kill_n, pm_kill_j, pm_kill_l, pm_kill_d, pm_cats_nil, pm_cats_i, pm_cats_r, pm_cats_n, pm_cats_l, pm_cats_d, sz_1, sz_2, sl_1, sl_2, lc_0, lc_lt, lc_le, li_ne, va_rf, wr_m1, we_m1, pm_kill_w, Int32.reduceOfInt, Int64.reduceOfInt, Int32.reduceOfNat, Int32.reduceLT, Int32.reduceLE, Prod.mk.injEq, Nat.reduceEqDiff, reduceCtorEq, and_true, true_and, and_false, false_and, and_self, ite_true, ite_false, ↓reduceIte, not_true_eq_false, not_false_eq_true, pe_ri, pe_rz, pe_rc, p_throw, t542, w_junk hA, Cf_g0_31 hA, Cf_g0_32 hA, Cf_g0_33 hA, Cf_p0_31 hA, Cf_p0_32 hA, Cf_p0_33 hA, z1, eq_false k2, eq_false k4, k6]
theorem y542_6  {A : wK → Nat} {h : pm_H} {D : Nat} {S : wS} {x4 : Int32} {y1 : Int32} {y2 : Int32} {r : (Nat × wS) ⊕ (Int32 × wS)}  (hA : wok A Cf_d h.1) (hD : 2 ≤ D) (e : f542_6 S x4 y1 y2 = some r) : ∀ q1 q2 q3 : Value, pm_go pm_prog (pm_call pm_prog D) 542 6 [.ref (A (0, 0, 0)), q1, q2, q3, .int x4] [.int y2, .int y1, .ref (A (0, 0, 0))] (wput A Cf_d S h) = some (match (generalizing := false) r with | .inl (c, S1) => (Outcome.threw c, (wput A Cf_d S1 (pm_new h 6 (.inr (c, []))))) | .inr (w0, S1) => (Outcome.returned (some (.int w0)), (wput A Cf_d S1 h))) := by
  intro q1 q2 q3
  simp only [f542_6] at e
  rw [g542_6, b542_6]
  by_cases k1 : x4 = 0
  · rw [if_pos k1] at e
    have k2 := y542_8 (h := h) hA hD e
    simp -implicitDefEqProofs (disch := first | assumption | exact Nat.le_of_ble_eq_true rfl | decide) only [b542_0, g542_1, b542_1, g542_3, b542_3, g542_5, b542_5, g542_7, b542_7, g542_9, b542_9, g542_11, b542_11, pe_aload0, pe_iload1, pe_call2, pm_af_ret, pm_af_void, pm_af_thr, pe_dload2, pe_ldc2, pe_dcmp, pe_if_lt, pe_if_gt, pe_sipush, pe_goto, pe_goto_w, pe_call1, pe_if_ge, pe_istore4, pe_dup_i, pe_dup_r, pe_getfield, pe_iload4, pe_if_eq, pe_iadd, pe_putfield, pe_call3, pe_icmp_lt, pe_imul, pe_icmp_le, pm_prog_1, pm_ob_some, Nat.reduceDiv, Nat.reduceMod, Nat.reduceMul, Nat.reduceAdd, Int.reduceToNat, pm_kill_i, pm_kill_r, pm_kill_n, pm_kill_j, pm_kill_l, pm_kill_d, pm_cats_nil, pm_cats_i, pm_cats_r, pm_cats_n, pm_cats_l, pm_cats_d, sz_1, sz_2, sl_1, sl_2, lc_0, lc_lt, lc_le, li_ne, va_rf, wr_m1, we_m1, pm_kill_w, Int32.reduceOfInt, Int64.reduceOfInt, Int32.reduceOfNat, Int32.reduceLT, Int32.reduceLE, Prod.mk.injEq, Nat.reduceEqDiff, reduceCtorEq, and_true, true_and, and_false, false_and, and_self, ite_true, ite_false, ↓reduceIte, not_true_eq_false, not_false_eq_true, pe_ri, pe_rz, pe_rc, p_throw, t542, w_junk hA, Cf_g0_31 hA, Cf_g0_32 hA, Cf_g0_33 hA, Cf_p0_31 hA, Cf_p0_32 hA, Cf_p0_33 hA, eq_true k1, k2]
  · rw [if_neg k1] at e
    have k3 := y542_8 (h := h) hA hD e
    simp -implicitDefEqProofs (disch := first | assumption | exact Nat.le_of_ble_eq_true rfl | decide) only [b542_0, g542_1, b542_1, g542_3, b542_3, g542_5, b542_5, g542_7, b542_7, g542_9, b542_9, g542_11, b542_11, pe_aload0, pe_iload1, pe_call2, pm_af_ret, pm_af_void, pm_af_thr, pe_dload2, pe_ldc2, pe_dcmp, pe_if_lt, pe_if_gt, pe_sipush, pe_goto, pe_goto_w, pe_call1, pe_if_ge, pe_istore4, pe_dup_i, pe_dup_r, pe_getfield, pe_iload4, pe_if_eq, pe_iadd, pe_putfield, pe_call3, pe_icmp_lt, pe_imul, pe_icmp_le, pm_prog_1, pm_ob_some, Nat.reduceDiv, Nat.reduceMod, Nat.reduceMul, Nat.reduceAdd, Int.reduceToNat, pm_kill_i, pm_kill_r, pm_kill_n, pm_kill_j, pm_kill_l, pm_kill_d, pm_cats_nil, pm_cats_i, pm_cats_r, pm_cats_n, pm_cats_l, pm_cats_d, sz_1, sz_2, sl_1, sl_2, lc_0, lc_lt, lc_le, li_ne, va_rf, wr_m1, we_m1, pm_kill_w, Int32.reduceOfInt, Int64.reduceOfInt, Int32.reduceOfNat, Int32.reduceLT, Int32.reduceLE, Prod.mk.injEq, Nat.reduceEqDiff, reduceCtorEq, and_true, true_and, and_false, false_and, and_self, ite_true, ite_false, ↓reduceIte, not_true_eq_false, not_false_eq_true, pe_ri, pe_rz, pe_rc, p_throw, t542, w_junk hA, Cf_g0_31 hA, Cf_g0_32 hA, Cf_g0_33 hA, Cf_p0_31 hA, Cf_p0_32 hA, Cf_p0_33 hA, eq_false k1, k3]
theorem y542_4  {A : wK → Nat} {h : pm_H} {D : Nat} {S : wS} {y0 : Int32} {r : (Nat × wS) ⊕ (Int32 × wS)}  (hA : wok A Cf_d h.1) (hD : 2 ≤ D) (e : f542_4 S y0 = some r) : ∀ q1 q2 q3 q4 : Value, pm_go pm_prog (pm_call pm_prog D) 542 4 [.ref (A (0, 0, 0)), q1, q2, q3, q4] [.int y0] (wput A Cf_d S h) = some (match (generalizing := false) r with | .inl (c, S1) => (Outcome.threw c, (wput A Cf_d S1 (pm_new h 6 (.inr (c, []))))) | .inr (w0, S1) => (Outcome.returned (some (.int w0)), (wput A Cf_d S1 h))) := by
  intro q1 q2 q3 q4
  simp only [f542_4] at e
  rw [g542_4, b542_4]
  by_cases k1 : y0 = 0
  · rw [if_pos k1] at e
    have k2 := y542_6 (h := h) hA hD e
    simp -implicitDefEqProofs (disch := first | assumption | exact Nat.le_of_ble_eq_true rfl | decide) only [b542_0, g542_1, b542_1, g542_3, b542_3, g542_5, b542_5, g542_7, b542_7, g542_9, b542_9, g542_11, b542_11, pe_aload0, pe_iload1, pe_call2, pm_af_ret, pm_af_void, pm_af_thr, pe_dload2, pe_ldc2, pe_dcmp, pe_if_lt, pe_if_gt, pe_sipush, pe_goto, pe_goto_w, pe_call1, pe_if_ge, pe_istore4, pe_dup_i, pe_dup_r, pe_getfield, pe_iload4, pe_if_eq, pe_iadd, pe_putfield, pe_call3, pe_icmp_lt, pe_imul, pe_icmp_le, pm_prog_1, pm_ob_some, Nat.reduceDiv, Nat.reduceMod, Nat.reduceMul, Nat.reduceAdd, Int.reduceToNat, pm_kill_i, pm_kill_r, pm_kill_n, pm_kill_j, pm_kill_l, pm_kill_d, pm_cats_nil, pm_cats_i, pm_cats_r, pm_cats_n, pm_cats_l, pm_cats_d, sz_1, sz_2, sl_1, sl_2, lc_0, lc_lt, lc_le, li_ne, va_rf, wr_m1, we_m1, pm_kill_w, Int32.reduceOfInt, Int64.reduceOfInt, Int32.reduceOfNat, Int32.reduceLT, Int32.reduceLE, Prod.mk.injEq, Nat.reduceEqDiff, reduceCtorEq, and_true, true_and, and_false, false_and, and_self, ite_true, ite_false, ↓reduceIte, not_true_eq_false, not_false_eq_true, pe_ri, pe_rz, pe_rc, p_throw, t542, w_junk hA, Cf_g0_31 hA, Cf_g0_32 hA, Cf_g0_33 hA, Cf_p0_31 hA, Cf_p0_32 hA, Cf_p0_33 hA, eq_true k1, k2]
  · rw [if_neg k1] at e
    have k3 := y542_6 (h := h) hA hD e
    simp -implicitDefEqProofs (disch := first | assumption | exact Nat.le_of_ble_eq_true rfl | decide) only [b542_0, g542_1, b542_1, g542_3, b542_3, g542_5, b542_5, g542_7, b542_7, g542_9, b542_9, g542_11, b542_11, pe_aload0, pe_iload1, pe_call2, pm_af_ret, pm_af_void, pm_af_thr, pe_dload2, pe_ldc2, pe_dcmp, pe_if_lt, pe_if_gt, pe_sipush, pe_goto, pe_goto_w, pe_call1, pe_if_ge, pe_istore4, pe_dup_i, pe_dup_r, pe_getfield, pe_iload4, pe_if_eq, pe_iadd, pe_putfield, pe_call3, pe_icmp_lt, pe_imul, pe_icmp_le, pm_prog_1, pm_ob_some, Nat.reduceDiv, Nat.reduceMod, Nat.reduceMul, Nat.reduceAdd, Int.reduceToNat, pm_kill_i, pm_kill_r, pm_kill_n, pm_kill_j, pm_kill_l, pm_kill_d, pm_cats_nil, pm_cats_i, pm_cats_r, pm_cats_n, pm_cats_l, pm_cats_d, sz_1, sz_2, sl_1, sl_2, lc_0, lc_lt, lc_le, li_ne, va_rf, wr_m1, we_m1, pm_kill_w, Int32.reduceOfInt, Int64.reduceOfInt, Int32.reduceOfNat, Int32.reduceLT, Int32.reduceLE, Prod.mk.injEq, Nat.reduceEqDiff, reduceCtorEq, and_true, true_and, and_false, false_and, and_self, ite_true, ite_false, ↓reduceIte, not_true_eq_false, not_false_eq_true, pe_ri, pe_rz, pe_rc, p_throw, t542, w_junk hA, Cf_g0_31 hA, Cf_g0_32 hA, Cf_g0_33 hA, Cf_p0_31 hA, Cf_p0_32 hA, Cf_p0_33 hA, eq_false k1, k3]
theorem y542_2  {A : wK → Nat} {h : pm_H} {D : Nat} {S : wS} {x2 : UInt64} {y0 : Int32} {r : (Nat × wS) ⊕ (Int32 × wS)}  (hA : wok A Cf_d h.1) (hD : 2 ≤ D) (e : f542_2 S x2 y0 = some r) : ∀ q1 q4 : Value, pm_go pm_prog (pm_call pm_prog D) 542 2 [.ref (A (0, 0, 0)), q1, .double x2, pm_junk, q4] [.int y0] (wput A Cf_d S h) = some (match (generalizing := false) r with | .inl (c, S1) => (Outcome.threw c, (wput A Cf_d S1 (pm_new h 6 (.inr (c, []))))) | .inr (w0, S1) => (Outcome.returned (some (.int w0)), (wput A Cf_d S1 h))) := by
  intro q1 q4
  simp only [f542_2] at e
  rw [g542_2, b542_2]
  obtain ⟨r, k1, e⟩ := Option.bind_eq_some_iff.mp e
  have z1 := fun h => x517 (D := D) (h := h) (by omega) k1
  rcases r with c4 | _
  · dsimp only at e z1
    have e := Option.some.inj e; subst e
    simp -implicitDefEqProofs (disch := first | assumption | exact Nat.le_of_ble_eq_true rfl | decide) only [b542_0, g542_1, b542_1, g542_3, b542_3, g542_5, b542_5, g542_7, b542_7, g542_9, b542_9, g542_11, b542_11, pe_aload0, pe_iload1, pe_call2, pm_af_ret, pm_af_void, pm_af_thr, pe_dload2, pe_ldc2, pe_dcmp, pe_if_lt, pe_if_gt, pe_sipush, pe_goto, pe_goto_w, pe_call1, pe_if_ge, pe_istore4, pe_dup_i, pe_dup_r, pe_getfield, pe_iload4, pe_if_eq, pe_iadd, pe_putfield, pe_call3, pe_icmp_lt, pe_imul, pe_icmp_le, pm_prog_1, pm_ob_some, Nat.reduceDiv, Nat.reduceMod, Nat.reduceMul, Nat.reduceAdd, Int.reduceToNat, pm_kill_i, pm_kill_r, pm_kill_n, pm_kill_j, pm_kill_l, pm_kill_d, pm_cats_nil, pm_cats_i, pm_cats_r, pm_cats_n, pm_cats_l, pm_cats_d, sz_1, sz_2, sl_1, sl_2, lc_0, lc_lt, lc_le, li_ne, va_rf, wr_m1, we_m1, pm_kill_w, Int32.reduceOfInt, Int64.reduceOfInt, Int32.reduceOfNat, Int32.reduceLT, Int32.reduceLE, Prod.mk.injEq, Nat.reduceEqDiff, reduceCtorEq, and_true, true_and, and_false, false_and, and_self, ite_true, ite_false, ↓reduceIte, not_true_eq_false, not_false_eq_true, pe_ri, pe_rz, pe_rc, p_throw, t542, w_junk hA, Cf_g0_31 hA, Cf_g0_32 hA, Cf_g0_33 hA, Cf_p0_31 hA, Cf_p0_32 hA, Cf_p0_33 hA, z1]
  · dsimp only at e z1
    by_cases k2 : (Op.cmpValue (FP.dcmp x2 (UInt64.ofNat 4625196817309499392)) .l) < 0
    · rw [if_pos k2] at e
      have k3 := y542_4 (h := h) hA hD e
      simp -implicitDefEqProofs (disch := first | assumption | exact Nat.le_of_ble_eq_true rfl | decide) only [b542_0, g542_1, b542_1, g542_3, b542_3, g542_5, b542_5, g542_7, b542_7, g542_9, b542_9, g542_11, b542_11, pe_aload0, pe_iload1, pe_call2, pm_af_ret, pm_af_void, pm_af_thr, pe_dload2, pe_ldc2, pe_dcmp, pe_if_lt, pe_if_gt, pe_sipush, pe_goto, pe_goto_w, pe_call1, pe_if_ge, pe_istore4, pe_dup_i, pe_dup_r, pe_getfield, pe_iload4, pe_if_eq, pe_iadd, pe_putfield, pe_call3, pe_icmp_lt, pe_imul, pe_icmp_le, pm_prog_1, pm_ob_some, Nat.reduceDiv, Nat.reduceMod, Nat.reduceMul, Nat.reduceAdd, Int.reduceToNat, pm_kill_i, pm_kill_r, pm_kill_n, pm_kill_j, pm_kill_l, pm_kill_d, pm_cats_nil, pm_cats_i, pm_cats_r, pm_cats_n, pm_cats_l, pm_cats_d, sz_1, sz_2, sl_1, sl_2, lc_0, lc_lt, lc_le, li_ne, va_rf, wr_m1, we_m1, pm_kill_w, Int32.reduceOfInt, Int64.reduceOfInt, Int32.reduceOfNat, Int32.reduceLT, Int32.reduceLE, Prod.mk.injEq, Nat.reduceEqDiff, reduceCtorEq, and_true, true_and, and_false, false_and, and_self, ite_true, ite_false, ↓reduceIte, not_true_eq_false, not_false_eq_true, pe_ri, pe_rz, pe_rc, p_throw, t542, w_junk hA, Cf_g0_31 hA, Cf_g0_32 hA, Cf_g0_33 hA, Cf_p0_31 hA, Cf_p0_32 hA, Cf_p0_33 hA, z1, eq_true k2, k3]
    · rw [if_neg k2] at e
      have k4 := y542_4 (h := h) hA hD e
      simp -implicitDefEqProofs (disch := first | assumption | exact Nat.le_of_ble_eq_true rfl | decide) only [b542_0, g542_1, b542_1, g542_3, b542_3, g542_5, b542_5, g542_7, b542_7, g542_9, b542_9, g542_11, b542_11, pe_aload0, pe_iload1, pe_call2, pm_af_ret, pm_af_void, pm_af_thr, pe_dload2, pe_ldc2, pe_dcmp, pe_if_lt, pe_if_gt, pe_sipush, pe_goto, pe_goto_w, pe_call1, pe_if_ge, pe_istore4, pe_dup_i, pe_dup_r, pe_getfield, pe_iload4, pe_if_eq, pe_iadd, pe_putfield, pe_call3, pe_icmp_lt, pe_imul, pe_icmp_le, pm_prog_1, pm_ob_some, Nat.reduceDiv, Nat.reduceMod, Nat.reduceMul, Nat.reduceAdd, Int.reduceToNat, pm_kill_i, pm_kill_r, pm_kill_n, pm_kill_j, pm_kill_l, pm_kill_d, pm_cats_nil, pm_cats_i, pm_cats_r, pm_cats_n, pm_cats_l, pm_cats_d, sz_1, sz_2, sl_1, sl_2, lc_0, lc_lt, lc_le, li_ne, va_rf, wr_m1, we_m1, pm_kill_w, Int32.reduceOfInt, Int64.reduceOfInt, Int32.reduceOfNat, Int32.reduceLT, Int32.reduceLE, Prod.mk.injEq, Nat.reduceEqDiff, reduceCtorEq, and_true, true_and, and_false, false_and, and_self, ite_true, ite_false, ↓reduceIte, not_true_eq_false, not_false_eq_true, pe_ri, pe_rz, pe_rc, p_throw, t542, w_junk hA, Cf_g0_31 hA, Cf_g0_32 hA, Cf_g0_33 hA, Cf_p0_31 hA, Cf_p0_32 hA, Cf_p0_33 hA, z1, eq_false k2, k4]
theorem x542  {A : wK → Nat} {h : pm_H} {D : Nat} {S : wS} {x1 : Int32} {x2 : UInt64} {r : (Nat × wS) ⊕ (Int32 × wS)}  (hA : wok A Cf_d h.1) (hD : 3 ≤ D) (e : f542 S x1 x2 = some r) : pm_call pm_prog D 542 [.ref (A (0, 0, 0)), .int x1, .double x2] (wput A Cf_d S h) = some (match (generalizing := false) r with | .inl (c, S1) => (Outcome.threw c, (wput A Cf_d S1 (pm_new h 6 (.inr (c, []))))) | .inr (w0, S1) => (Outcome.returned (some (.int w0)), (wput A Cf_d S1 h))) := by
  obtain ⟨D, rfl⟩ : ∃ D', D = D' + 1 := ⟨D - 1, by omega⟩
  have hD : 2 ≤ D := by omega
  simp only [f542] at e
  rw [c542 (Cf_c0 hA), b542_0]
  obtain ⟨r, k1, e⟩ := Option.bind_eq_some_iff.mp e
  have z1 := x538 (D := D) (h := h) hA (by omega) k1
  rcases r with c5 | _
  · dsimp only at e z1
    have e := Option.some.inj e; subst e
    simp -implicitDefEqProofs (disch := first | assumption | exact Nat.le_of_ble_eq_true rfl | decide) only [b542_0, g542_1, b542_1, g542_3, b542_3, g542_5, b542_5, g542_7, b542_7, g542_9, b542_9, g542_11, b542_11, pe_aload0, pe_iload1, pe_call2, pm_af_ret, pm_af_void, pm_af_thr, pe_dload2, pe_ldc2, pe_dcmp, pe_if_lt, pe_if_gt, pe_sipush, pe_goto, pe_goto_w, pe_call1, pe_if_ge, pe_istore4, pe_dup_i, pe_dup_r, pe_getfield, pe_iload4, pe_if_eq, pe_iadd, pe_putfield, pe_call3, pe_icmp_lt, pe_imul, pe_icmp_le, pm_prog_1, pm_ob_some, Nat.reduceDiv, Nat.reduceMod, Nat.reduceMul, Nat.reduceAdd, Int.reduceToNat, pm_kill_i, pm_kill_r, pm_kill_n, pm_kill_j, pm_kill_l, pm_kill_d, pm_cats_nil, pm_cats_i, pm_cats_r, pm_cats_n, pm_cats_l, pm_cats_d, sz_1, sz_2, sl_1, sl_2, lc_0, lc_lt, lc_le, li_ne, va_rf, wr_m1, we_m1, pm_kill_w, Int32.reduceOfInt, Int64.reduceOfInt, Int32.reduceOfNat, Int32.reduceLT, Int32.reduceLE, Prod.mk.injEq, Nat.reduceEqDiff, reduceCtorEq, and_true, true_and, and_false, false_and, and_self, ite_true, ite_false, ↓reduceIte, not_true_eq_false, not_false_eq_true, pe_ri, pe_rz, pe_rc, p_throw, t542, w_junk hA, Cf_g0_31 hA, Cf_g0_32 hA, Cf_g0_33 hA, Cf_p0_31 hA, Cf_p0_32 hA, Cf_p0_33 hA, z1]
  · dsimp only at e z1
    by_cases k2 : (Op.cmpValue (FP.dcmp x2 (UInt64.ofNat 0)) .l) < 0
    · rw [if_pos k2] at e
      have k3 := y542_2 (h := h) hA hD e
      simp -implicitDefEqProofs (disch := first | assumption | exact Nat.le_of_ble_eq_true rfl | decide) only [b542_0, g542_1, b542_1, g542_3, b542_3, g542_5, b542_5, g542_7, b542_7, g542_9, b542_9, g542_11, b542_11, pe_aload0, pe_iload1, pe_call2, pm_af_ret, pm_af_void, pm_af_thr, pe_dload2, pe_ldc2, pe_dcmp, pe_if_lt, pe_if_gt, pe_sipush, pe_goto, pe_goto_w, pe_call1, pe_if_ge, pe_istore4, pe_dup_i, pe_dup_r, pe_getfield, pe_iload4, pe_if_eq, pe_iadd, pe_putfield, pe_call3, pe_icmp_lt, pe_imul, pe_icmp_le, pm_prog_1, pm_ob_some, Nat.reduceDiv, Nat.reduceMod, Nat.reduceMul, Nat.reduceAdd, Int.reduceToNat, pm_kill_i, pm_kill_r, pm_kill_n, pm_kill_j, pm_kill_l, pm_kill_d, pm_cats_nil, pm_cats_i, pm_cats_r, pm_cats_n, pm_cats_l, pm_cats_d, sz_1, sz_2, sl_1, sl_2, lc_0, lc_lt, lc_le, li_ne, va_rf, wr_m1, we_m1, pm_kill_w, Int32.reduceOfInt, Int64.reduceOfInt, Int32.reduceOfNat, Int32.reduceLT, Int32.reduceLE, Prod.mk.injEq, Nat.reduceEqDiff, reduceCtorEq, and_true, true_and, and_false, false_and, and_self, ite_true, ite_false, ↓reduceIte, not_true_eq_false, not_false_eq_true, pe_ri, pe_rz, pe_rc, p_throw, t542, w_junk hA, Cf_g0_31 hA, Cf_g0_32 hA, Cf_g0_33 hA, Cf_p0_31 hA, Cf_p0_32 hA, Cf_p0_33 hA, z1, eq_true k2, k3]
    · rw [if_neg k2] at e
      by_cases k4 : (Op.cmpValue (FP.dcmp x2 (UInt64.ofNat 4652007308841189376)) .g) ≤ 0
      · rw [if_pos k4] at e
        have k5 := y542_2 (h := h) hA hD e
        simp -implicitDefEqProofs (disch := first | assumption | exact Nat.le_of_ble_eq_true rfl | decide) only [b542_0, g542_1, b542_1, g542_3, b542_3, g542_5, b542_5, g542_7, b542_7, g542_9, b542_9, g542_11, b542_11, pe_aload0, pe_iload1, pe_call2, pm_af_ret, pm_af_void, pm_af_thr, pe_dload2, pe_ldc2, pe_dcmp, pe_if_lt, pe_if_gt, pe_sipush, pe_goto, pe_goto_w, pe_call1, pe_if_ge, pe_istore4, pe_dup_i, pe_dup_r, pe_getfield, pe_iload4, pe_if_eq, pe_iadd, pe_putfield, pe_call3, pe_icmp_lt, pe_imul, pe_icmp_le, pm_prog_1, pm_ob_some, Nat.reduceDiv, Nat.reduceMod, Nat.reduceMul, Nat.reduceAdd, Int.reduceToNat, pm_kill_i, pm_kill_r, pm_kill_n, pm_kill_j, pm_kill_l, pm_kill_d, pm_cats_nil, pm_cats_i, pm_cats_r, pm_cats_n, pm_cats_l, pm_cats_d, sz_1, sz_2, sl_1, sl_2, lc_0, lc_lt, lc_le, li_ne, va_rf, wr_m1, we_m1, pm_kill_w, Int32.reduceOfInt, Int64.reduceOfInt, Int32.reduceOfNat, Int32.reduceLT, Int32.reduceLE, Prod.mk.injEq, Nat.reduceEqDiff, reduceCtorEq, and_true, true_and, and_false, false_and, and_self, ite_true, ite_false, ↓reduceIte, not_true_eq_false, not_false_eq_true, pe_ri, pe_rz, pe_rc, p_throw, t542, w_junk hA, Cf_g0_31 hA, Cf_g0_32 hA, Cf_g0_33 hA, Cf_p0_31 hA, Cf_p0_32 hA, Cf_p0_33 hA, z1, eq_false k2, eq_true k4, k5]
      · rw [if_neg k4] at e
        have k6 := y542_2 (h := h) hA hD e
        simp -implicitDefEqProofs (disch := first | assumption | exact Nat.le_of_ble_eq_true rfl | decide) only [b542_0, g542_1, b542_1, g542_3, b542_3, g542_5, b542_5, g542_7, b542_7, g542_9, b542_9, g542_11, b542_11, pe_aload0, pe_iload1, pe_call2, pm_af_ret, pm_af_void, pm_af_thr, pe_dload2, pe_ldc2, pe_dcmp, pe_if_lt, pe_if_gt, pe_sipush, pe_goto, pe_goto_w, pe_call1, pe_if_ge, pe_istore4, pe_dup_i, pe_dup_r, pe_getfield, pe_iload4, pe_if_eq, pe_iadd, pe_putfield, pe_call3, pe_icmp_lt, pe_imul, pe_icmp_le, pm_prog_1, pm_ob_some, Nat.reduceDiv, Nat.reduceMod, Nat.reduceMul, Nat.reduceAdd, Int.reduceToNat, pm_kill_i, pm_kill_r, pm_kill_n, pm_kill_j, pm_kill_l, pm_kill_d, pm_cats_nil, pm_cats_i, pm_cats_r, pm_cats_n, pm_cats_l, pm_cats_d, sz_1, sz_2, sl_1, sl_2, lc_0, lc_lt, lc_le, li_ne, va_rf, wr_m1, we_m1, pm_kill_w, Int32.reduceOfInt, Int64.reduceOfInt, Int32.reduceOfNat, Int32.reduceLT, Int32.reduceLE, Prod.mk.injEq, Nat.reduceEqDiff, reduceCtorEq, and_true, true_and, and_false, false_and, and_self, ite_true, ite_false, ↓reduceIte, not_true_eq_false, not_false_eq_true, pe_ri, pe_rz, pe_rc, p_throw, t542, w_junk hA, Cf_g0_31 hA, Cf_g0_32 hA, Cf_g0_33 hA, Cf_p0_31 hA, Cf_p0_32 hA, Cf_p0_33 hA, z1, eq_false k2, eq_false k4, k6]
/-- TimberHouse$FingerLengths.counted(I)J -/
theorem c544 {d : Nat} {h : pm_H} {a : Nat} {x0 : Int32} (hc : pm_cls h a = some 8) : pm_call pm_prog (d + 1) 544 [.ref a, .int x0] h = pm_ev pm_prog (pm_call pm_prog d) 544 0 b544_0 [.ref a, .int x0] [] h := pm_cal (pm_rc1 hc rfl) rfl rfl rfl
theorem g544_1 {cl : pm_C} {ls st : List Value} {h : pm_H} : pm_go pm_prog cl 544 1 ls st h = pm_ev pm_prog cl 544 1 b544_1 ls st h := pm_go_eq pm_prog cl 544 1 ls st h
theorem g544_2 {cl : pm_C} {ls st : List Value} {h : pm_H} : pm_go pm_prog cl 544 2 ls st h = pm_ev pm_prog cl 544 2 b544_2 ls st h := pm_go_eq pm_prog cl 544 2 ls st h
theorem g544_3 {cl : pm_C} {ls st : List Value} {h : pm_H} : pm_go pm_prog cl 544 3 ls st h = pm_ev pm_prog cl 544 3 b544_3 ls st h := pm_go_eq pm_prog cl 544 3 ls st h
theorem g544_4 {cl : pm_C} {ls st : List Value} {h : pm_H} : pm_go pm_prog cl 544 4 ls st h = pm_ev pm_prog cl 544 4 b544_4 ls st h := pm_go_eq pm_prog cl 544 4 ls st h
theorem g544_5 {cl : pm_C} {ls st : List Value} {h : pm_H} : pm_go pm_prog cl 544 5 ls st h = pm_ev pm_prog cl 544 5 b544_5 ls st h := pm_go_eq pm_prog cl 544 5 ls st h
theorem t544 {cl : pm_C} {j : Nat} {ls : List Value} {c : Nat} {h : pm_H} : pm_thr pm_prog cl 544 j ls c h = some (.threw c, h) := rfl
noncomputable def f544_3 (S : wS) (x1 : Int32) (y0 : Int32) : Option (Nat ⊕ (Int64)) :=
  (f520 y0).bind fun r => match r with
  | .inl c1 =>
    some (.inl c1)
  | .inr _ =>
  if x1 = 0 then
    some (.inr (Int32.toInt64 (S.1 (0, 0, 0) 31)))
  else
    some (.inr (Int32.toInt64 (S.1 (0, 0, 0) 32)))
/-- TimberHouse$FingerLengths.counted(I)J -/
noncomputable def f544 (S : wS) (x1 : Int32) : Option (Nat ⊕ (Int64)) :=
  if x1 = 0 then
    f544_3 S x1 1
  else
    if x1 = 1 then
      f544_3 S x1 1
    else
      f544_3 S x1 0
theorem y544_3  {A : wK → Nat} {h : pm_H} {D : Nat} {S : wS} {x1 : Int32} {y0 : Int32} {r : Nat ⊕ (Int64)}  (hA : wok A Cf_d h.1) (hD : 1 ≤ D) (e : f544_3 S x1 y0 = some r) : pm_go pm_prog (pm_call pm_prog D) 544 3 [.ref (A (0, 0, 0)), .int x1] [.int y0] (wput A Cf_d S h) = some (match (generalizing := false) r with | .inl c => (Outcome.threw c, (wput A Cf_d S (pm_new h 6 (.inr (c, []))))) | .inr w0 => (Outcome.returned (some (.long w0)), (wput A Cf_d S h))) := by
  simp only [f544_3] at e
  rw [g544_3, b544_3]
  obtain ⟨r, k1, e⟩ := Option.bind_eq_some_iff.mp e
  have z1 := fun h => x520 (D := D) (h := h) (by omega) k1
  rcases r with c1 | _
  · dsimp only at e z1
    have e := Option.some.inj e; subst e
    simp -implicitDefEqProofs (disch := first | assumption | exact Nat.le_of_ble_eq_true rfl | decide) only [b544_0, g544_1, b544_1, g544_2, b544_2, g544_4, b544_4, g544_5, b544_5, pe_iload1, pe_if_eq, pe_sipush, pe_icmp_ne, pe_goto_w, pe_goto, pe_call1, pm_af_ret, pm_af_void, pm_af_thr, pe_if_ne, pe_aload0, pe_getfield, pe_i2l, pe_lreturn, pm_prog_1, pm_ob_some, Nat.reduceDiv, Nat.reduceMod, Nat.reduceMul, Nat.reduceAdd, Int.reduceToNat, pm_kill_i, pm_kill_r, pm_kill_n, pm_kill_j, pm_kill_l, pm_kill_d, pm_cats_nil, pm_cats_i, pm_cats_r, pm_cats_n, pm_cats_l, pm_cats_d, sz_1, sz_2, sl_1, sl_2, lc_0, lc_lt, lc_le, li_ne, va_rf, wr_m1, we_m1, pm_kill_w, Int32.reduceOfInt, Int64.reduceOfInt, Int32.reduceOfNat, Int32.reduceLT, Int32.reduceLE, Prod.mk.injEq, Nat.reduceEqDiff, reduceCtorEq, and_true, true_and, and_false, false_and, and_self, ite_true, ite_false, ↓reduceIte, not_true_eq_false, not_false_eq_true, pe_ri, pe_rz, pe_rc, p_throw, t544, w_junk hA, Cf_g0_31 hA, Cf_g0_32 hA, z1]
  · dsimp only at e z1
    by_cases k2 : x1 = 0
    · rw [if_pos k2] at e
      have e := Option.some.inj e; subst e
      simp -implicitDefEqProofs (disch := first | assumption | exact Nat.le_of_ble_eq_true rfl | decide) only [b544_0, g544_1, b544_1, g544_2, b544_2, g544_4, b544_4, g544_5, b544_5, pe_iload1, pe_if_eq, pe_sipush, pe_icmp_ne, pe_goto_w, pe_goto, pe_call1, pm_af_ret, pm_af_void, pm_af_thr, pe_if_ne, pe_aload0, pe_getfield, pe_i2l, pe_lreturn, pm_prog_1, pm_ob_some, Nat.reduceDiv, Nat.reduceMod, Nat.reduceMul, Nat.reduceAdd, Int.reduceToNat, pm_kill_i, pm_kill_r, pm_kill_n, pm_kill_j, pm_kill_l, pm_kill_d, pm_cats_nil, pm_cats_i, pm_cats_r, pm_cats_n, pm_cats_l, pm_cats_d, sz_1, sz_2, sl_1, sl_2, lc_0, lc_lt, lc_le, li_ne, va_rf, wr_m1, we_m1, pm_kill_w, Int32.reduceOfInt, Int64.reduceOfInt, Int32.reduceOfNat, Int32.reduceLT, Int32.reduceLE, Prod.mk.injEq, Nat.reduceEqDiff, reduceCtorEq, and_true, true_and, and_false, false_and, and_self, ite_true, ite_false, ↓reduceIte, not_true_eq_false, not_false_eq_true, pe_ri, pe_rz, pe_rc, p_throw, t544, w_junk hA, Cf_g0_31 hA, Cf_g0_32 hA, z1, eq_true k2]
    · rw [if_neg k2] at e
      have e := Option.some.inj e; subst e
      simp -implicitDefEqProofs (disch := first | assumption | exact Nat.le_of_ble_eq_true rfl | decide) only [b544_0, g544_1, b544_1, g544_2, b544_2, g544_4, b544_4, g544_5, b544_5, pe_iload1, pe_if_eq, pe_sipush, pe_icmp_ne, pe_goto_w, pe_goto, pe_call1, pm_af_ret, pm_af_void, pm_af_thr, pe_if_ne, pe_aload0, pe_getfield, pe_i2l, pe_lreturn, pm_prog_1, pm_ob_some, Nat.reduceDiv, Nat.reduceMod, Nat.reduceMul, Nat.reduceAdd, Int.reduceToNat, pm_kill_i, pm_kill_r, pm_kill_n, pm_kill_j, pm_kill_l, pm_kill_d, pm_cats_nil, pm_cats_i, pm_cats_r, pm_cats_n, pm_cats_l, pm_cats_d, sz_1, sz_2, sl_1, sl_2, lc_0, lc_lt, lc_le, li_ne, va_rf, wr_m1, we_m1, pm_kill_w, Int32.reduceOfInt, Int64.reduceOfInt, Int32.reduceOfNat, Int32.reduceLT, Int32.reduceLE, Prod.mk.injEq, Nat.reduceEqDiff, reduceCtorEq, and_true, true_and, and_false, false_and, and_self, ite_true, ite_false, ↓reduceIte, not_true_eq_false, not_false_eq_true, pe_ri, pe_rz, pe_rc, p_throw, t544, w_junk hA, Cf_g0_31 hA, Cf_g0_32 hA, z1, eq_false k2]
theorem x544  {A : wK → Nat} {h : pm_H} {D : Nat} {S : wS} {x1 : Int32} {r : Nat ⊕ (Int64)}  (hA : wok A Cf_d h.1) (hD : 2 ≤ D) (e : f544 S x1 = some r) : pm_call pm_prog D 544 [.ref (A (0, 0, 0)), .int x1] (wput A Cf_d S h) = some (match (generalizing := false) r with | .inl c => (Outcome.threw c, (wput A Cf_d S (pm_new h 6 (.inr (c, []))))) | .inr w0 => (Outcome.returned (some (.long w0)), (wput A Cf_d S h))) := by
  obtain ⟨D, rfl⟩ : ∃ D', D = D' + 1 := ⟨D - 1, by omega⟩
  have hD : 1 ≤ D := by omega
  simp only [f544] at e
  rw [c544 (Cf_c0 hA), b544_0]
  by_cases k1 : x1 = 0
  · rw [if_pos k1] at e
    have k2 := y544_3 (h := h) hA hD e
    simp -implicitDefEqProofs (disch := first | assumption | exact Nat.le_of_ble_eq_true rfl | decide) only [b544_0, g544_1, b544_1, g544_2, b544_2, g544_4, b544_4, g544_5, b544_5, pe_iload1, pe_if_eq, pe_sipush, pe_icmp_ne, pe_goto_w, pe_goto, pe_call1, pm_af_ret, pm_af_void, pm_af_thr, pe_if_ne, pe_aload0, pe_getfield, pe_i2l, pe_lreturn, pm_prog_1, pm_ob_some, Nat.reduceDiv, Nat.reduceMod, Nat.reduceMul, Nat.reduceAdd, Int.reduceToNat, pm_kill_i, pm_kill_r, pm_kill_n, pm_kill_j, pm_kill_l, pm_kill_d, pm_cats_nil, pm_cats_i, pm_cats_r, pm_cats_n, pm_cats_l, pm_cats_d, sz_1, sz_2, sl_1, sl_2, lc_0, lc_lt, lc_le, li_ne, va_rf, wr_m1, we_m1, pm_kill_w, Int32.reduceOfInt, Int64.reduceOfInt, Int32.reduceOfNat, Int32.reduceLT, Int32.reduceLE, Prod.mk.injEq, Nat.reduceEqDiff, reduceCtorEq, and_true, true_and, and_false, false_and, and_self, ite_true, ite_false, ↓reduceIte, not_true_eq_false, not_false_eq_true, pe_ri, pe_rz, pe_rc, p_throw, t544, w_junk hA, Cf_g0_31 hA, Cf_g0_32 hA, eq_true k1, k2]
  · rw [if_neg k1] at e
    by_cases k3 : x1 = 1
    · rw [if_pos k3] at e
      have k4 := y544_3 (h := h) hA hD e
      simp -implicitDefEqProofs (disch := first | assumption | exact Nat.le_of_ble_eq_true rfl | decide) only [b544_0, g544_1, b544_1, g544_2, b544_2, g544_4, b544_4, g544_5, b544_5, pe_iload1, pe_if_eq, pe_sipush, pe_icmp_ne, pe_goto_w, pe_goto, pe_call1, pm_af_ret, pm_af_void, pm_af_thr, pe_if_ne, pe_aload0, pe_getfield, pe_i2l, pe_lreturn, pm_prog_1, pm_ob_some, Nat.reduceDiv, Nat.reduceMod, Nat.reduceMul, Nat.reduceAdd, Int.reduceToNat, pm_kill_i, pm_kill_r, pm_kill_n, pm_kill_j, pm_kill_l, pm_kill_d, pm_cats_nil, pm_cats_i, pm_cats_r, pm_cats_n, pm_cats_l, pm_cats_d, sz_1, sz_2, sl_1, sl_2, lc_0, lc_lt, lc_le, li_ne, va_rf, wr_m1, we_m1, pm_kill_w, Int32.reduceOfInt, Int64.reduceOfInt, Int32.reduceOfNat, Int32.reduceLT, Int32.reduceLE, Prod.mk.injEq, Nat.reduceEqDiff, reduceCtorEq, and_true, true_and, and_false, false_and, and_self, ite_true, ite_false, ↓reduceIte, not_true_eq_false, not_false_eq_true, pe_ri, pe_rz, pe_rc, p_throw, t544, w_junk hA, Cf_g0_31 hA, Cf_g0_32 hA, eq_false k1, eq_true k3, k4]
    · rw [if_neg k3] at e
      have k5 := y544_3 (h := h) hA hD e
      simp -implicitDefEqProofs (disch := first | assumption | exact Nat.le_of_ble_eq_true rfl | decide) only [b544_0, g544_1, b544_1, g544_2, b544_2, g544_4, b544_4, g544_5, b544_5, pe_iload1, pe_if_eq, pe_sipush, pe_icmp_ne, pe_goto_w, pe_goto, pe_call1, pm_af_ret, pm_af_void, pm_af_thr, pe_if_ne, pe_aload0, pe_getfield, pe_i2l, pe_lreturn, pm_prog_1, pm_ob_some, Nat.reduceDiv, Nat.reduceMod, Nat.reduceMul, Nat.reduceAdd, Int.reduceToNat, pm_kill_i, pm_kill_r, pm_kill_n, pm_kill_j, pm_kill_l, pm_kill_d, pm_cats_nil, pm_cats_i, pm_cats_r, pm_cats_n, pm_cats_l, pm_cats_d, sz_1, sz_2, sl_1, sl_2, lc_0, lc_lt, lc_le, li_ne, va_rf, wr_m1, we_m1, pm_kill_w, Int32.reduceOfInt, Int64.reduceOfInt, Int32.reduceOfNat, Int32.reduceLT, Int32.reduceLE, Prod.mk.injEq, Nat.reduceEqDiff, reduceCtorEq, and_true, true_and, and_false, false_and, and_self, ite_true, ite_false, ↓reduceIte, not_true_eq_false, not_false_eq_true, pe_ri, pe_rz, pe_rc, p_throw, t544, w_junk hA, Cf_g0_31 hA, Cf_g0_32 hA, eq_false k1, eq_false k3, k5]
/-- TimberHouse$FingerLengths.stop(I)I -/
theorem c545 {d : Nat} {h : pm_H} {a : Nat} {x0 : Int32} (hc : pm_cls h a = some 8) : pm_call pm_prog (d + 1) 545 [.ref a, .int x0] h = pm_ev pm_prog (pm_call pm_prog d) 545 0 b545_0 [.ref a, .int x0] [] h := pm_cal (pm_rc1 hc rfl) rfl rfl rfl
theorem t545 {cl : pm_C} {j : Nat} {ls : List Value} {c : Nat} {h : pm_H} : pm_thr pm_prog cl 545 j ls c h = some (.threw c, h) := rfl
/-- TimberHouse$FingerLengths.stop(I)I -/
noncomputable def f545 (S : wS) (x1 : Int32) : Option (Nat ⊕ (Int32)) :=
  (f516 (Int32.toInt64 x1) 0 2).bind fun v1 =>
  (f520 v1).bind fun r => match r with
  | .inl c2 =>
    some (.inl c2)
  | .inr _ =>
  if 0 ≤ x1 ∧ x1 < 3 then
    some (.inr (S.1 (44, 0, 0) x1))
  else none
theorem x545  {A : wK → Nat} {h : pm_H} {D : Nat} {S : wS} {x1 : Int32} {r : Nat ⊕ (Int32)}  (hA : wok A Cf_d h.1) (hD : 2 ≤ D) (e : f545 S x1 = some r) : pm_call pm_prog D 545 [.ref (A (0, 0, 0)), .int x1] (wput A Cf_d S h) = some (match (generalizing := false) r with | .inl c => (Outcome.threw c, (wput A Cf_d S (pm_new h 6 (.inr (c, []))))) | .inr w0 => (Outcome.returned (some (.int w0)), (wput A Cf_d S h))) := by
  obtain ⟨D, rfl⟩ : ∃ D', D = D' + 1 := ⟨D - 1, by omega⟩
  have hD : 1 ≤ D := by omega
  simp only [f545] at e
  rw [c545 (Cf_c0 hA), b545_0]
  obtain ⟨v1, k1, e⟩ := Option.bind_eq_some_iff.mp e
  try dsimp only at e
  have z1 := fun h => x516 (D := D) (h := h) (by omega) k1
  obtain ⟨r, k2, e⟩ := Option.bind_eq_some_iff.mp e
  have z2 := fun h => x520 (D := D) (h := h) (by omega) k2
  rcases r with c2 | _
  · dsimp only at e z2
    have e := Option.some.inj e; subst e
    simp -implicitDefEqProofs (disch := first | assumption | exact Nat.le_of_ble_eq_true rfl | decide) only [b545_0, pe_iload1, pe_i2l, pe_bipush, pe_call3, pm_af_ret, pm_af_void, pm_af_thr, pe_call1, pe_aload0, pe_getfield, pe_iaload, pm_prog_1, pm_ob_some, Nat.reduceDiv, Nat.reduceMod, Nat.reduceMul, Nat.reduceAdd, Int.reduceToNat, pm_kill_i, pm_kill_r, pm_kill_n, pm_kill_j, pm_kill_l, pm_kill_d, pm_cats_nil, pm_cats_i, pm_cats_r, pm_cats_n, pm_cats_l, pm_cats_d, sz_1, sz_2, sl_1, sl_2, lc_0, lc_lt, lc_le, li_ne, va_rf, wr_m1, we_m1, pm_kill_w, Int32.reduceOfInt, Int64.reduceOfInt, Int32.reduceOfNat, Int32.reduceLT, Int32.reduceLE, Prod.mk.injEq, Nat.reduceEqDiff, reduceCtorEq, and_true, true_and, and_false, false_and, and_self, ite_true, ite_false, ↓reduceIte, not_true_eq_false, not_false_eq_true, pe_ri, pe_rz, pe_rc, p_throw, t545, w_junk hA, Cf_g0_34 hA, Cf_r44 hA, z1, z2]
  · dsimp only at e z2
    by_cases k3 : 0 ≤ x1 ∧ x1 < 3
    · rw [if_pos k3] at e
      have e := Option.some.inj e; subst e
      simp -implicitDefEqProofs (disch := first | assumption | exact Nat.le_of_ble_eq_true rfl | decide) only [b545_0, pe_iload1, pe_i2l, pe_bipush, pe_call3, pm_af_ret, pm_af_void, pm_af_thr, pe_call1, pe_aload0, pe_getfield, pe_iaload, pm_prog_1, pm_ob_some, Nat.reduceDiv, Nat.reduceMod, Nat.reduceMul, Nat.reduceAdd, Int.reduceToNat, pm_kill_i, pm_kill_r, pm_kill_n, pm_kill_j, pm_kill_l, pm_kill_d, pm_cats_nil, pm_cats_i, pm_cats_r, pm_cats_n, pm_cats_l, pm_cats_d, sz_1, sz_2, sl_1, sl_2, lc_0, lc_lt, lc_le, li_ne, va_rf, wr_m1, we_m1, pm_kill_w, Int32.reduceOfInt, Int64.reduceOfInt, Int32.reduceOfNat, Int32.reduceLT, Int32.reduceLE, Prod.mk.injEq, Nat.reduceEqDiff, reduceCtorEq, and_true, true_and, and_false, false_and, and_self, ite_true, ite_false, ↓reduceIte, not_true_eq_false, not_false_eq_true, pe_ri, pe_rz, pe_rc, p_throw, t545, w_junk hA, Cf_g0_34 hA, Cf_r44 hA, z1, z2]
    · rw [if_neg k3] at e; cases e
