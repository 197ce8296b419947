set_option maxRecDepth 100000
/-! TimberHouse$FaultRips -/
def Cr_P (fc : Int32) (pc : Int32) : Prop := 0 ≤ fc ∧ fc ≤ 20 ∧ 0 ≤ pc ∧ pc ≤ 8
def Cr_d (fc : Int32) (pc : Int32) : wK → Option wD := fun k => match k.1 with
  | 0 => if k.2.1 = 0 ∧ k.2.2 = 0 then some (.inl (4, [(0, (0, 0, 0)), (0, (0, 0, 0)), (0, (0, 0, 0)), (2, (1, 0, 0)), (0, (0, 0, 0)), (2, (3, 0, 0)), (0, (0, 0, 0)), (2, (5, 0, 0)), (0, (0, 0, 0)), (0, (0, 0, 0)), (2, (6, 0, 0)), (2, (7, 0, 0)), (2, (12, 0, 0)), (2, (12, 1, 0)), (0, (0, 0, 0)), (0, (0, 0, 0)), (0, (0, 0, 0)), (1, (0, 0, 0)), (2, (18, 0, 0)), (2, (19, 0, 0))])) else none
  | 1 => if k.2.1 = 0 ∧ k.2.2 = 0 then some (.inr (.inr ((.object "TimberHouse$FaultRips$Fault"), 20, .inr (fun x => if x < fc then some (2, x, 0) else none)))) else none
  | 2 => if (0 ≤ k.2.1 ∧ k.2.1 < fc) ∧ k.2.2 = 0 then some (.inl (37, [(0, (0, 0, 0)), (0, (0, 0, 0)), (0, (0, 0, 0)), (0, (0, 0, 0)), (0, (0, 0, 0)), (0, (0, 0, 0))])) else none
  | 3 => if k.2.1 = 0 ∧ k.2.2 = 0 then some (.inr (.inr ((.object "TimberHouse$FaultRips$Piece"), 8, .inr (fun x => if x < pc then some (4, x, 0) else none)))) else none
  | 4 => if (0 ≤ k.2.1 ∧ k.2.1 < pc) ∧ k.2.2 = 0 then some (.inl (38, [(0, (0, 0, 0)), (0, (0, 0, 0)), (0, (0, 0, 0)), (1, (0, 0, 0)), (0, (0, 0, 0)), (0, (0, 0, 0)), (1, (0, 0, 0))])) else none
  | 5 => if k.2.1 = 0 ∧ k.2.2 = 0 then some (.inr (.inl (.boolean, 65537))) else none
  | 6 => if k.2.1 = 0 ∧ k.2.2 = 0 then some (.inr (.inl (.byte, 75625))) else none
  | 7 => if k.2.1 = 0 ∧ k.2.2 = 0 then some (.inl (5, [(2, (3, 0, 0)), (2, (5, 0, 0)), (0, (0, 0, 0)), (2, (8, 0, 0)), (2, (9, 0, 0)), (0, (0, 0, 0))])) else none
  | 8 => if k.2.1 = 0 ∧ k.2.2 = 0 then some (.inr (.inl (.byte, 75625))) else none
  | 9 => if k.2.1 = 0 ∧ k.2.2 = 0 then some (.inr (.inr ((.object "TimberHouse$FaultRips$Table"), 4, .inr (fun x => some (10, x, 0))))) else none
  | 10 => if (0 ≤ k.2.1 ∧ k.2.1 < 4) ∧ k.2.2 = 0 then some (.inl (6, [(2, (11, k.2.1, 0)), (2, (20, k.2.1, 0))])) else none
  | 11 => if (0 ≤ k.2.1 ∧ k.2.1 < 4) ∧ k.2.2 = 0 then some (.inr (.inl (.long, 25))) else none
  | 20 => if (0 ≤ k.2.1 ∧ k.2.1 < 4) ∧ k.2.2 = 0 then some (.inr (.inl (.int, 25))) else none
  | 12 => if (0 ≤ k.2.1 ∧ k.2.1 < 2) ∧ k.2.2 = 0 then some (.inl (7, [(2, (13, k.2.1, 0)), (2, (14, k.2.1, 0)), (2, (15, k.2.1, 0)), (2, (16, k.2.1, 0)), (2, (17, k.2.1, 0)), (0, (0, 0, 0)), (1, (0, 0, 0))])) else none
  | 13 => if (0 ≤ k.2.1 ∧ k.2.1 < 2) ∧ k.2.2 = 0 then some (.inr (.inl (.byte, 240))) else none
  | 14 => if (0 ≤ k.2.1 ∧ k.2.1 < 2) ∧ k.2.2 = 0 then some (.inr (.inl (.byte, 240))) else none
  | 15 => if (0 ≤ k.2.1 ∧ k.2.1 < 2) ∧ k.2.2 = 0 then some (.inr (.inl (.byte, 240))) else none
  | 16 => if (0 ≤ k.2.1 ∧ k.2.1 < 2) ∧ k.2.2 = 0 then some (.inr (.inl (.byte, 240))) else none
  | 17 => if (0 ≤ k.2.1 ∧ k.2.1 < 2) ∧ k.2.2 = 0 then some (.inr (.inl (.byte, 240))) else none
  | 18 => if k.2.1 = 0 ∧ k.2.2 = 0 then some (.inr (.inl (.boolean, 240))) else none
  | 19 => if k.2.1 = 0 ∧ k.2.2 = 0 then some (.inr (.inl (.int, 24341))) else none
  | _ => none
section
variable {A : wK → Nat} {S : wS} {h : pm_H} {m : Nat} {i j x v : Int32} {u : Int64} {fc : Int32} {pc : Int32}
theorem Cr_d0 {fc : Int32} {pc : Int32} : (Cr_d fc pc) (0, 0, 0) = some (.inl (4, [(0, (0, 0, 0)), (0, (0, 0, 0)), (0, (0, 0, 0)), (2, (1, 0, 0)), (0, (0, 0, 0)), (2, (3, 0, 0)), (0, (0, 0, 0)), (2, (5, 0, 0)), (0, (0, 0, 0)), (0, (0, 0, 0)), (2, (6, 0, 0)), (2, (7, 0, 0)), (2, (12, 0, 0)), (2, (12, 1, 0)), (0, (0, 0, 0)), (0, (0, 0, 0)), (0, (0, 0, 0)), (1, (0, 0, 0)), (2, (18, 0, 0)), (2, (19, 0, 0))])) := rfl
theorem Cr_d1 {fc : Int32} {pc : Int32} : (Cr_d fc pc) (1, 0, 0) = some (.inr (.inr ((.object "TimberHouse$FaultRips$Fault"), 20, .inr (fun x => if x < fc then some (2, x, 0) else none)))) := rfl
theorem Cr_d2 {fc : Int32} {pc : Int32} (h0 : 0 ≤ i ∧ i < fc) : (Cr_d fc pc) (2, i, 0) = some (.inl (37, [(0, (0, 0, 0)), (0, (0, 0, 0)), (0, (0, 0, 0)), (0, (0, 0, 0)), (0, (0, 0, 0)), (0, (0, 0, 0))])) := if_pos ⟨h0, rfl⟩
theorem Cr_d3 {fc : Int32} {pc : Int32} : (Cr_d fc pc) (3, 0, 0) = some (.inr (.inr ((.object "TimberHouse$FaultRips$Piece"), 8, .inr (fun x => if x < pc then some (4, x, 0) else none)))) := rfl
theorem Cr_d4 {fc : Int32} {pc : Int32} (h0 : 0 ≤ i ∧ i < pc) : (Cr_d fc pc) (4, i, 0) = some (.inl (38, [(0, (0, 0, 0)), (0, (0, 0, 0)), (0, (0, 0, 0)), (1, (0, 0, 0)), (0, (0, 0, 0)), (0, (0, 0, 0)), (1, (0, 0, 0))])) := if_pos ⟨h0, rfl⟩
theorem Cr_d5 {fc : Int32} {pc : Int32} : (Cr_d fc pc) (5, 0, 0) = some (.inr (.inl (.boolean, 65537))) := rfl
theorem Cr_d6 {fc : Int32} {pc : Int32} : (Cr_d fc pc) (6, 0, 0) = some (.inr (.inl (.byte, 75625))) := rfl
theorem Cr_d7 {fc : Int32} {pc : Int32} : (Cr_d fc pc) (7, 0, 0) = some (.inl (5, [(2, (3, 0, 0)), (2, (5, 0, 0)), (0, (0, 0, 0)), (2, (8, 0, 0)), (2, (9, 0, 0)), (0, (0, 0, 0))])) := rfl
theorem Cr_d8 {fc : Int32} {pc : Int32} : (Cr_d fc pc) (8, 0, 0) = some (.inr (.inl (.byte, 75625))) := rfl
theorem Cr_d9 {fc : Int32} {pc : Int32} : (Cr_d fc pc) (9, 0, 0) = some (.inr (.inr ((.object "TimberHouse$FaultRips$Table"), 4, .inr (fun x => some (10, x, 0))))) := rfl
theorem Cr_d10 {fc : Int32} {pc : Int32} (h0 : 0 ≤ i ∧ i < 4) : (Cr_d fc pc) (10, i, 0) = some (.inl (6, [(2, (11, i, 0)), (2, (20, i, 0))])) := if_pos ⟨h0, rfl⟩
theorem Cr_d11 {fc : Int32} {pc : Int32} (h0 : 0 ≤ i ∧ i < 4) : (Cr_d fc pc) (11, i, 0) = some (.inr (.inl (.long, 25))) := if_pos ⟨h0, rfl⟩
theorem Cr_d20 {fc : Int32} {pc : Int32} (h0 : 0 ≤ i ∧ i < 4) : (Cr_d fc pc) (20, i, 0) = some (.inr (.inl (.int, 25))) := if_pos ⟨h0, rfl⟩
theorem Cr_d12 {fc : Int32} {pc : Int32} (h0 : 0 ≤ i ∧ i < 2) : (Cr_d fc pc) (12, i, 0) = some (.inl (7, [(2, (13, i, 0)), (2, (14, i, 0)), (2, (15, i, 0)), (2, (16, i, 0)), (2, (17, i, 0)), (0, (0, 0, 0)), (1, (0, 0, 0))])) := if_pos ⟨h0, rfl⟩
theorem Cr_d13 {fc : Int32} {pc : Int32} (h0 : 0 ≤ i ∧ i < 2) : (Cr_d fc pc) (13, i, 0) = some (.inr (.inl (.byte, 240))) := if_pos ⟨h0, rfl⟩
theorem Cr_d14 {fc : Int32} {pc : Int32} (h0 : 0 ≤ i ∧ i < 2) : (Cr_d fc pc) (14, i, 0) = some (.inr (.inl (.byte, 240))) := if_pos ⟨h0, rfl⟩
theorem Cr_d15 {fc : Int32} {pc : Int32} (h0 : 0 ≤ i ∧ i < 2) : (Cr_d fc pc) (15, i, 0) = some (.inr (.inl (.byte, 240))) := if_pos ⟨h0, rfl⟩
theorem Cr_d16 {fc : Int32} {pc : Int32} (h0 : 0 ≤ i ∧ i < 2) : (Cr_d fc pc) (16, i, 0) = some (.inr (.inl (.byte, 240))) := if_pos ⟨h0, rfl⟩
theorem Cr_d17 {fc : Int32} {pc : Int32} (h0 : 0 ≤ i ∧ i < 2) : (Cr_d fc pc) (17, i, 0) = some (.inr (.inl (.byte, 240))) := if_pos ⟨h0, rfl⟩
theorem Cr_d18 {fc : Int32} {pc : Int32} : (Cr_d fc pc) (18, 0, 0) = some (.inr (.inl (.boolean, 240))) := rfl
theorem Cr_d19 {fc : Int32} {pc : Int32} : (Cr_d fc pc) (19, 0, 0) = some (.inr (.inl (.int, 24341))) := rfl
theorem Cr_c0 (hP : Cr_P fc pc) (hA : wok A (Cr_d fc pc) m) : pm_cls (wput A (Cr_d fc pc) S h) (A (0, 0, 0)) = some 4 := w_cls hA (Cr_d0)
theorem Cr_k0 {cl : pm_C} {k b c : Nat} {r : List Instr} {ls s : List Value} (hP : Cr_P fc pc) (hA : wok A (Cr_d fc pc) m) (h2 : pm_sub 4 c = true) : pm_ev pm_prog cl k b (.checkcast c :: r) ls (.ref (A (0, 0, 0)) :: s) (wput A (Cr_d fc pc) S h) = pm_ev pm_prog cl k b r ls (.ref (A (0, 0, 0)) :: s) (wput A (Cr_d fc pc) S h) := pe_checkcast (w_cls hA (Cr_d0)) h2
theorem Cr_g0_0 (hP : Cr_P fc pc) (hA : wok A (Cr_d fc pc) m) : pm_gf pm_tab (wput A (Cr_d fc pc) S h) (A (0, 0, 0)) 4 0 = some (.int (S.1 (0, 0, 0) 0)) := w_g (f := (0, (0, 0, 0))) hA (Cr_d0) rfl rfl
theorem Cr_p0_0 (hP : Cr_P fc pc) (hA : wok A (Cr_d fc pc) m) : pm_pf pm_tab (wput A (Cr_d fc pc) S h) (A (0, 0, 0)) 4 0 0 (.int v) = some (wput A (Cr_d fc pc) (sz S (0, 0, 0) 0 v) h) := w_p0 (q := (0, 0, 0)) (t := 0) hA (Cr_d0) rfl rfl (Nat.le_of_ble_eq_true rfl)
theorem Cr_g0_1 (hP : Cr_P fc pc) (hA : wok A (Cr_d fc pc) m) : pm_gf pm_tab (wput A (Cr_d fc pc) S h) (A (0, 0, 0)) 4 1 = some (.int (S.1 (0, 0, 0) 1)) := w_g (f := (0, (0, 0, 0))) hA (Cr_d0) rfl rfl
theorem Cr_p0_1 (hP : Cr_P fc pc) (hA : wok A (Cr_d fc pc) m) : pm_pf pm_tab (wput A (Cr_d fc pc) S h) (A (0, 0, 0)) 4 1 0 (.int v) = some (wput A (Cr_d fc pc) (sz S (0, 0, 0) 1 v) h) := w_p0 (q := (0, 0, 0)) (t := 0) hA (Cr_d0) rfl rfl (Nat.le_of_ble_eq_true rfl)
theorem Cr_g0_2 (hP : Cr_P fc pc) (hA : wok A (Cr_d fc pc) m) : pm_gf pm_tab (wput A (Cr_d fc pc) S h) (A (0, 0, 0)) 4 2 = some (.int (S.1 (0, 0, 0) 2)) := w_g (f := (0, (0, 0, 0))) hA (Cr_d0) rfl rfl
theorem Cr_p0_2 (hP : Cr_P fc pc) (hA : wok A (Cr_d fc pc) m) : pm_pf pm_tab (wput A (Cr_d fc pc) S h) (A (0, 0, 0)) 4 2 0 (.int v) = some (wput A (Cr_d fc pc) (sz S (0, 0, 0) 2 v) h) := w_p0 (q := (0, 0, 0)) (t := 0) hA (Cr_d0) rfl rfl (Nat.le_of_ble_eq_true rfl)
theorem Cr_g0_3 (hP : Cr_P fc pc) (hA : wok A (Cr_d fc pc) m) : pm_gf pm_tab (wput A (Cr_d fc pc) S h) (A (0, 0, 0)) 4 3 = some (.ref (A (1, 0, 0))) := w_g (f := (2, (1, 0, 0))) hA (Cr_d0) rfl rfl
theorem Cr_g0_4 (hP : Cr_P fc pc) (hA : wok A (Cr_d fc pc) m) : pm_gf pm_tab (wput A (Cr_d fc pc) S h) (A (0, 0, 0)) 4 4 = some (.int (S.1 (0, 0, 0) 4)) := w_g (f := (0, (0, 0, 0))) hA (Cr_d0) rfl rfl
theorem Cr_p0_4 (hP : Cr_P fc pc) (hA : wok A (Cr_d fc pc) m) : pm_pf pm_tab (wput A (Cr_d fc pc) S h) (A (0, 0, 0)) 4 4 0 (.int v) = some (wput A (Cr_d fc pc) (sz S (0, 0, 0) 4 v) h) := w_p0 (q := (0, 0, 0)) (t := 0) hA (Cr_d0) rfl rfl (Nat.le_of_ble_eq_true rfl)
theorem Cr_g0_5 (hP : Cr_P fc pc) (hA : wok A (Cr_d fc pc) m) : pm_gf pm_tab (wput A (Cr_d fc pc) S h) (A (0, 0, 0)) 4 5 = some (.ref (A (3, 0, 0))) := w_g (f := (2, (3, 0, 0))) hA (Cr_d0) rfl rfl
theorem Cr_g0_6 (hP : Cr_P fc pc) (hA : wok A (Cr_d fc pc) m) : pm_gf pm_tab (wput A (Cr_d fc pc) S h) (A (0, 0, 0)) 4 6 = some (.int (S.1 (0, 0, 0) 6)) := w_g (f := (0, (0, 0, 0))) hA (Cr_d0) rfl rfl
theorem Cr_p0_6 (hP : Cr_P fc pc) (hA : wok A (Cr_d fc pc) m) : pm_pf pm_tab (wput A (Cr_d fc pc) S h) (A (0, 0, 0)) 4 6 0 (.int v) = some (wput A (Cr_d fc pc) (sz S (0, 0, 0) 6 v) h) := w_p0 (q := (0, 0, 0)) (t := 0) hA (Cr_d0) rfl rfl (Nat.le_of_ble_eq_true rfl)
theorem Cr_g0_7 (hP : Cr_P fc pc) (hA : wok A (Cr_d fc pc) m) : pm_gf pm_tab (wput A (Cr_d fc pc) S h) (A (0, 0, 0)) 4 7 = some (.ref (A (5, 0, 0))) := w_g (f := (2, (5, 0, 0))) hA (Cr_d0) rfl rfl
theorem Cr_g0_8 (hP : Cr_P fc pc) (hA : wok A (Cr_d fc pc) m) : pm_gf pm_tab (wput A (Cr_d fc pc) S h) (A (0, 0, 0)) 4 8 = some (.int (S.1 (0, 0, 0) 8)) := w_g (f := (0, (0, 0, 0))) hA (Cr_d0) rfl rfl
theorem Cr_p0_8 (hP : Cr_P fc pc) (hA : wok A (Cr_d fc pc) m) : pm_pf pm_tab (wput A (Cr_d fc pc) S h) (A (0, 0, 0)) 4 8 0 (.int v) = some (wput A (Cr_d fc pc) (sz S (0, 0, 0) 8 v) h) := w_p0 (q := (0, 0, 0)) (t := 0) hA (Cr_d0) rfl rfl (Nat.le_of_ble_eq_true rfl)
theorem Cr_g0_9 (hP : Cr_P fc pc) (hA : wok A (Cr_d fc pc) m) : pm_gf pm_tab (wput A (Cr_d fc pc) S h) (A (0, 0, 0)) 4 9 = some (.int (S.1 (0, 0, 0) 9)) := w_g (f := (0, (0, 0, 0))) hA (Cr_d0) rfl rfl
theorem Cr_p0_9 (hP : Cr_P fc pc) (hA : wok A (Cr_d fc pc) m) : pm_pf pm_tab (wput A (Cr_d fc pc) S h) (A (0, 0, 0)) 4 9 0 (.int v) = some (wput A (Cr_d fc pc) (sz S (0, 0, 0) 9 v) h) := w_p0 (q := (0, 0, 0)) (t := 0) hA (Cr_d0) rfl rfl (Nat.le_of_ble_eq_true rfl)
theorem Cr_g0_10 (hP : Cr_P fc pc) (hA : wok A (Cr_d fc pc) m) : pm_gf pm_tab (wput A (Cr_d fc pc) S h) (A (0, 0, 0)) 4 10 = some (.ref (A (6, 0, 0))) := w_g (f := (2, (6, 0, 0))) hA (Cr_d0) rfl rfl
theorem Cr_g0_11 (hP : Cr_P fc pc) (hA : wok A (Cr_d fc pc) m) : pm_gf pm_tab (wput A (Cr_d fc pc) S h) (A (0, 0, 0)) 4 11 = some (.ref (A (7, 0, 0))) := w_g (f := (2, (7, 0, 0))) hA (Cr_d0) rfl rfl
theorem Cr_g0_12 (hP : Cr_P fc pc) (hA : wok A (Cr_d fc pc) m) : pm_gf pm_tab (wput A (Cr_d fc pc) S h) (A (0, 0, 0)) 4 12 = some (.ref (A (12, 0, 0))) := w_g (f := (2, (12, 0, 0))) hA (Cr_d0) rfl rfl
theorem Cr_g0_13 (hP : Cr_P fc pc) (hA : wok A (Cr_d fc pc) m) : pm_gf pm_tab (wput A (Cr_d fc pc) S h) (A (0, 0, 0)) 4 13 = some (.ref (A (12, 1, 0))) := w_g (f := (2, (12, 1, 0))) hA (Cr_d0) rfl rfl
theorem Cr_g0_14 (hP : Cr_P fc pc) (hA : wok A (Cr_d fc pc) m) : pm_gf pm_tab (wput A (Cr_d fc pc) S h) (A (0, 0, 0)) 4 14 = some (.int (S.1 (0, 0, 0) 14)) := w_g (f := (0, (0, 0, 0))) hA (Cr_d0) rfl rfl
theorem Cr_p0_14 (hP : Cr_P fc pc) (hA : wok A (Cr_d fc pc) m) : pm_pf pm_tab (wput A (Cr_d fc pc) S h) (A (0, 0, 0)) 4 14 0 (.int v) = some (wput A (Cr_d fc pc) (sz S (0, 0, 0) 14 v) h) := w_p0 (q := (0, 0, 0)) (t := 0) hA (Cr_d0) rfl rfl (Nat.le_of_ble_eq_true rfl)
theorem Cr_g0_15 (hP : Cr_P fc pc) (hA : wok A (Cr_d fc pc) m) : pm_gf pm_tab (wput A (Cr_d fc pc) S h) (A (0, 0, 0)) 4 15 = some (.int (S.1 (0, 0, 0) 15)) := w_g (f := (0, (0, 0, 0))) hA (Cr_d0) rfl rfl
theorem Cr_p0_15 (hP : Cr_P fc pc) (hA : wok A (Cr_d fc pc) m) : pm_pf pm_tab (wput A (Cr_d fc pc) S h) (A (0, 0, 0)) 4 15 0 (.int v) = some (wput A (Cr_d fc pc) (sz S (0, 0, 0) 15 v) h) := w_p0 (q := (0, 0, 0)) (t := 0) hA (Cr_d0) rfl rfl (Nat.le_of_ble_eq_true rfl)
theorem Cr_g0_16 (hP : Cr_P fc pc) (hA : wok A (Cr_d fc pc) m) : pm_gf pm_tab (wput A (Cr_d fc pc) S h) (A (0, 0, 0)) 4 16 = some (.int (S.1 (0, 0, 0) 16)) := w_g (f := (0, (0, 0, 0))) hA (Cr_d0) rfl rfl
theorem Cr_p0_16 (hP : Cr_P fc pc) (hA : wok A (Cr_d fc pc) m) (hv : v = 0 ∨ v = 1) : pm_pf pm_tab (wput A (Cr_d fc pc) S h) (A (0, 0, 0)) 4 16 2 (.int v) = some (wput A (Cr_d fc pc) (sz S (0, 0, 0) 16 v) h) := (w_p0 (q := (0, 0, 0)) (t := 2) hA (Cr_d0) rfl rfl (Nat.le_of_ble_eq_true rfl)).trans (if_pos (by rw [pm_ok2]; exact hv))
theorem Cr_g0_17 (hP : Cr_P fc pc) (hA : wok A (Cr_d fc pc) m) : pm_gf pm_tab (wput A (Cr_d fc pc) S h) (A (0, 0, 0)) 4 17 = some (.long (S.2 (0, 0, 0) 17)) := w_g (f := (1, (0, 0, 0))) hA (Cr_d0) rfl rfl
theorem Cr_p0_17 (hP : Cr_P fc pc) (hA : wok A (Cr_d fc pc) m) : pm_pf pm_tab (wput A (Cr_d fc pc) S h) (A (0, 0, 0)) 4 17 1 (.long u) = some (wput A (Cr_d fc pc) (sl S (0, 0, 0) 17 u) h) := w_p1 (q := (0, 0, 0)) hA (Cr_d0) rfl rfl (Nat.le_of_ble_eq_true rfl)
theorem Cr_g0_18 (hP : Cr_P fc pc) (hA : wok A (Cr_d fc pc) m) : pm_gf pm_tab (wput A (Cr_d fc pc) S h) (A (0, 0, 0)) 4 18 = some (.ref (A (18, 0, 0))) := w_g (f := (2, (18, 0, 0))) hA (Cr_d0) rfl rfl
theorem Cr_g0_19 (hP : Cr_P fc pc) (hA : wok A (Cr_d fc pc) m) : pm_gf pm_tab (wput A (Cr_d fc pc) S h) (A (0, 0, 0)) 4 19 = some (.ref (A (19, 0, 0))) := w_g (f := (2, (19, 0, 0))) hA (Cr_d0) rfl rfl
theorem Cr_l1 (hP : Cr_P fc pc) (hA : wok A (Cr_d fc pc) m) : pm_len (wput A (Cr_d fc pc) S h) (A (1, 0, 0)) = some 20 := w_lenR hA (Cr_d1) (by decide)
theorem Cr_r1 (hP : Cr_P fc pc) (hA : wok A (Cr_d fc pc) m) (hx : 0 ≤ x ∧ x < 20) (hn : x < fc) : pm_rdR (wput A (Cr_d fc pc) S h) (A (1, 0, 0)) x = some (some (A (2, x, 0))) := ((w_rdR hA (Cr_d1) rfl (by decide)).trans (if_pos hx)).trans (congrArg some (congrArg (Option.map A) (if_pos hn)))
theorem Cr_c2 (hP : Cr_P fc pc) (hA : wok A (Cr_d fc pc) m) (h0 : 0 ≤ i ∧ i < fc) : pm_cls (wput A (Cr_d fc pc) S h) (A (2, i, 0)) = some 37 := w_cls hA (Cr_d2 h0)
theorem Cr_k2 {cl : pm_C} {k b c : Nat} {r : List Instr} {ls s : List Value} (hP : Cr_P fc pc) (hA : wok A (Cr_d fc pc) m) (h0 : 0 ≤ i ∧ i < fc) (h2 : pm_sub 37 c = true) : pm_ev pm_prog cl k b (.checkcast c :: r) ls (.ref (A (2, i, 0)) :: s) (wput A (Cr_d fc pc) S h) = pm_ev pm_prog cl k b r ls (.ref (A (2, i, 0)) :: s) (wput A (Cr_d fc pc) S h) := pe_checkcast (w_cls hA (Cr_d2 h0)) h2
theorem Cr_g2_0 (hP : Cr_P fc pc) (hA : wok A (Cr_d fc pc) m) (h0 : 0 ≤ i ∧ i < fc) : pm_gf pm_tab (wput A (Cr_d fc pc) S h) (A (2, i, 0)) 37 0 = some (.int (S.1 (2, i, 0) 0)) := w_g (f := (0, (0, 0, 0))) hA (Cr_d2 h0) rfl rfl
theorem Cr_p2_0 (hP : Cr_P fc pc) (hA : wok A (Cr_d fc pc) m) (h0 : 0 ≤ i ∧ i < fc) : pm_pf pm_tab (wput A (Cr_d fc pc) S h) (A (2, i, 0)) 37 0 0 (.int v) = some (wput A (Cr_d fc pc) (sz S (2, i, 0) 0 v) h) := w_p0 (q := (0, 0, 0)) (t := 0) hA (Cr_d2 h0) rfl rfl (Nat.le_of_ble_eq_true rfl)
theorem Cr_g2_1 (hP : Cr_P fc pc) (hA : wok A (Cr_d fc pc) m) (h0 : 0 ≤ i ∧ i < fc) : pm_gf pm_tab (wput A (Cr_d fc pc) S h) (A (2, i, 0)) 37 1 = some (.int (S.1 (2, i, 0) 1)) := w_g (f := (0, (0, 0, 0))) hA (Cr_d2 h0) rfl rfl
theorem Cr_p2_1 (hP : Cr_P fc pc) (hA : wok A (Cr_d fc pc) m) (h0 : 0 ≤ i ∧ i < fc) : pm_pf pm_tab (wput A (Cr_d fc pc) S h) (A (2, i, 0)) 37 1 0 (.int v) = some (wput A (Cr_d fc pc) (sz S (2, i, 0) 1 v) h) := w_p0 (q := (0, 0, 0)) (t := 0) hA (Cr_d2 h0) rfl rfl (Nat.le_of_ble_eq_true rfl)
theorem Cr_g2_2 (hP : Cr_P fc pc) (hA : wok A (Cr_d fc pc) m) (h0 : 0 ≤ i ∧ i < fc) : pm_gf pm_tab (wput A (Cr_d fc pc) S h) (A (2, i, 0)) 37 2 = some (.int (S.1 (2, i, 0) 2)) := w_g (f := (0, (0, 0, 0))) hA (Cr_d2 h0) rfl rfl
theorem Cr_p2_2 (hP : Cr_P fc pc) (hA : wok A (Cr_d fc pc) m) (h0 : 0 ≤ i ∧ i < fc) : pm_pf pm_tab (wput A (Cr_d fc pc) S h) (A (2, i, 0)) 37 2 0 (.int v) = some (wput A (Cr_d fc pc) (sz S (2, i, 0) 2 v) h) := w_p0 (q := (0, 0, 0)) (t := 0) hA (Cr_d2 h0) rfl rfl (Nat.le_of_ble_eq_true rfl)
theorem Cr_g2_3 (hP : Cr_P fc pc) (hA : wok A (Cr_d fc pc) m) (h0 : 0 ≤ i ∧ i < fc) : pm_gf pm_tab (wput A (Cr_d fc pc) S h) (A (2, i, 0)) 37 3 = some (.int (S.1 (2, i, 0) 3)) := w_g (f := (0, (0, 0, 0))) hA (Cr_d2 h0) rfl rfl
theorem Cr_p2_3 (hP : Cr_P fc pc) (hA : wok A (Cr_d fc pc) m) (h0 : 0 ≤ i ∧ i < fc) : pm_pf pm_tab (wput A (Cr_d fc pc) S h) (A (2, i, 0)) 37 3 0 (.int v) = some (wput A (Cr_d fc pc) (sz S (2, i, 0) 3 v) h) := w_p0 (q := (0, 0, 0)) (t := 0) hA (Cr_d2 h0) rfl rfl (Nat.le_of_ble_eq_true rfl)
theorem Cr_g2_4 (hP : Cr_P fc pc) (hA : wok A (Cr_d fc pc) m) (h0 : 0 ≤ i ∧ i < fc) : pm_gf pm_tab (wput A (Cr_d fc pc) S h) (A (2, i, 0)) 37 4 = some (.int (S.1 (2, i, 0) 4)) := w_g (f := (0, (0, 0, 0))) hA (Cr_d2 h0) rfl rfl
theorem Cr_p2_4 (hP : Cr_P fc pc) (hA : wok A (Cr_d fc pc) m) (h0 : 0 ≤ i ∧ i < fc) : pm_pf pm_tab (wput A (Cr_d fc pc) S h) (A (2, i, 0)) 37 4 0 (.int v) = some (wput A (Cr_d fc pc) (sz S (2, i, 0) 4 v) h) := w_p0 (q := (0, 0, 0)) (t := 0) hA (Cr_d2 h0) rfl rfl (Nat.le_of_ble_eq_true rfl)
theorem Cr_g2_5 (hP : Cr_P fc pc) (hA : wok A (Cr_d fc pc) m) (h0 : 0 ≤ i ∧ i < fc) : pm_gf pm_tab (wput A (Cr_d fc pc) S h) (A (2, i, 0)) 37 5 = some (.int (S.1 (2, i, 0) 5)) := w_g (f := (0, (0, 0, 0))) hA (Cr_d2 h0) rfl rfl
theorem Cr_p2_5 (hP : Cr_P fc pc) (hA : wok A (Cr_d fc pc) m) (h0 : 0 ≤ i ∧ i < fc) : pm_pf pm_tab (wput A (Cr_d fc pc) S h) (A (2, i, 0)) 37 5 0 (.int v) = some (wput A (Cr_d fc pc) (sz S (2, i, 0) 5 v) h) := w_p0 (q := (0, 0, 0)) (t := 0) hA (Cr_d2 h0) rfl rfl (Nat.le_of_ble_eq_true rfl)
theorem Cr_l3 (hP : Cr_P fc pc) (hA : wok A (Cr_d fc pc) m) : pm_len (wput A (Cr_d fc pc) S h) (A (3, 0, 0)) = some 8 := w_lenR hA (Cr_d3) (by decide)
theorem Cr_r3 (hP : Cr_P fc pc) (hA : wok A (Cr_d fc pc) m) (hx : 0 ≤ x ∧ x < 8) (hn : x < pc) : pm_rdR (wput A (Cr_d fc pc) S h) (A (3, 0, 0)) x = some (some (A (4, x, 0))) := ((w_rdR hA (Cr_d3) rfl (by decide)).trans (if_pos hx)).trans (congrArg some (congrArg (Option.map A) (if_pos hn)))
theorem Cr_c4 (hP : Cr_P fc pc) (hA : wok A (Cr_d fc pc) m) (h0 : 0 ≤ i ∧ i < pc) : pm_cls (wput A (Cr_d fc pc) S h) (A (4, i, 0)) = some 38 := w_cls hA (Cr_d4 h0)
theorem Cr_k4 {cl : pm_C} {k b c : Nat} {r : List Instr} {ls s : List Value} (hP : Cr_P fc pc) (hA : wok A (Cr_d fc pc) m) (h0 : 0 ≤ i ∧ i < pc) (h2 : pm_sub 38 c = true) : pm_ev pm_prog cl k b (.checkcast c :: r) ls (.ref (A (4, i, 0)) :: s) (wput A (Cr_d fc pc) S h) = pm_ev pm_prog cl k b r ls (.ref (A (4, i, 0)) :: s) (wput A (Cr_d fc pc) S h) := pe_checkcast (w_cls hA (Cr_d4 h0)) h2
theorem Cr_g4_0 (hP : Cr_P fc pc) (hA : wok A (Cr_d fc pc) m) (h0 : 0 ≤ i ∧ i < pc) : pm_gf pm_tab (wput A (Cr_d fc pc) S h) (A (4, i, 0)) 38 0 = some (.int (S.1 (4, i, 0) 0)) := w_g (f := (0, (0, 0, 0))) hA (Cr_d4 h0) rfl rfl
theorem Cr_p4_0 (hP : Cr_P fc pc) (hA : wok A (Cr_d fc pc) m) (h0 : 0 ≤ i ∧ i < pc) : pm_pf pm_tab (wput A (Cr_d fc pc) S h) (A (4, i, 0)) 38 0 0 (.int v) = some (wput A (Cr_d fc pc) (sz S (4, i, 0) 0 v) h) := w_p0 (q := (0, 0, 0)) (t := 0) hA (Cr_d4 h0) rfl rfl (Nat.le_of_ble_eq_true rfl)
theorem Cr_g4_1 (hP : Cr_P fc pc) (hA : wok A (Cr_d fc pc) m) (h0 : 0 ≤ i ∧ i < pc) : pm_gf pm_tab (wput A (Cr_d fc pc) S h) (A (4, i, 0)) 38 1 = some (.int (S.1 (4, i, 0) 1)) := w_g (f := (0, (0, 0, 0))) hA (Cr_d4 h0) rfl rfl
theorem Cr_p4_1 (hP : Cr_P fc pc) (hA : wok A (Cr_d fc pc) m) (h0 : 0 ≤ i ∧ i < pc) : pm_pf pm_tab (wput A (Cr_d fc pc) S h) (A (4, i, 0)) 38 1 0 (.int v) = some (wput A (Cr_d fc pc) (sz S (4, i, 0) 1 v) h) := w_p0 (q := (0, 0, 0)) (t := 0) hA (Cr_d4 h0) rfl rfl (Nat.le_of_ble_eq_true rfl)
theorem Cr_g4_2 (hP : Cr_P fc pc) (hA : wok A (Cr_d fc pc) m) (h0 : 0 ≤ i ∧ i < pc) : pm_gf pm_tab (wput A (Cr_d fc pc) S h) (A (4, i, 0)) 38 2 = some (.int (S.1 (4, i, 0) 2)) := w_g (f := (0, (0, 0, 0))) hA (Cr_d4 h0) rfl rfl
theorem Cr_p4_2 (hP : Cr_P fc pc) (hA : wok A (Cr_d fc pc) m) (h0 : 0 ≤ i ∧ i < pc) : pm_pf pm_tab (wput A (Cr_d fc pc) S h) (A (4, i, 0)) 38 2 0 (.int v) = some (wput A (Cr_d fc pc) (sz S (4, i, 0) 2 v) h) := w_p0 (q := (0, 0, 0)) (t := 0) hA (Cr_d4 h0) rfl rfl (Nat.le_of_ble_eq_true rfl)
theorem Cr_g4_3 (hP : Cr_P fc pc) (hA : wok A (Cr_d fc pc) m) (h0 : 0 ≤ i ∧ i < pc) : pm_gf pm_tab (wput A (Cr_d fc pc) S h) (A (4, i, 0)) 38 3 = some (.long (S.2 (4, i, 0) 3)) := w_g (f := (1, (0, 0, 0))) hA (Cr_d4 h0) rfl rfl
theorem Cr_p4_3 (hP : Cr_P fc pc) (hA : wok A (Cr_d fc pc) m) (h0 : 0 ≤ i ∧ i < pc) : pm_pf pm_tab (wput A (Cr_d fc pc) S h) (A (4, i, 0)) 38 3 1 (.long u) = some (wput A (Cr_d fc pc) (sl S (4, i, 0) 3 u) h) := w_p1 (q := (0, 0, 0)) hA (Cr_d4 h0) rfl rfl (Nat.le_of_ble_eq_true rfl)
theorem Cr_g4_4 (hP : Cr_P fc pc) (hA : wok A (Cr_d fc pc) m) (h0 : 0 ≤ i ∧ i < pc) : pm_gf pm_tab (wput A (Cr_d fc pc) S h) (A (4, i, 0)) 38 4 = some (.int (S.1 (4, i, 0) 4)) := w_g (f := (0, (0, 0, 0))) hA (Cr_d4 h0) rfl rfl
theorem Cr_p4_4 (hP : Cr_P fc pc) (hA : wok A (Cr_d fc pc) m) (h0 : 0 ≤ i ∧ i < pc) : pm_pf pm_tab (wput A (Cr_d fc pc) S h) (A (4, i, 0)) 38 4 0 (.int v) = some (wput A (Cr_d fc pc) (sz S (4, i, 0) 4 v) h) := w_p0 (q := (0, 0, 0)) (t := 0) hA (Cr_d4 h0) rfl rfl (Nat.le_of_ble_eq_true rfl)
theorem Cr_g4_5 (hP : Cr_P fc pc) (hA : wok A (Cr_d fc pc) m) (h0 : 0 ≤ i ∧ i < pc) : pm_gf pm_tab (wput A (Cr_d fc pc) S h) (A (4, i, 0)) 38 5 = some (.int (S.1 (4, i, 0) 5)) := w_g (f := (0, (0, 0, 0))) hA (Cr_d4 h0) rfl rfl
theorem Cr_p4_5 (hP : Cr_P fc pc) (hA : wok A (Cr_d fc pc) m) (h0 : 0 ≤ i ∧ i < pc) : pm_pf pm_tab (wput A (Cr_d fc pc) S h) (A (4, i, 0)) 38 5 0 (.int v) = some (wput A (Cr_d fc pc) (sz S (4, i, 0) 5 v) h) := w_p0 (q := (0, 0, 0)) (t := 0) hA (Cr_d4 h0) rfl rfl (Nat.le_of_ble_eq_true rfl)
theorem Cr_g4_6 (hP : Cr_P fc pc) (hA : wok A (Cr_d fc pc) m) (h0 : 0 ≤ i ∧ i < pc) : pm_gf pm_tab (wput A (Cr_d fc pc) S h) (A (4, i, 0)) 38 6 = some (.long (S.2 (4, i, 0) 6)) := w_g (f := (1, (0, 0, 0))) hA (Cr_d4 h0) rfl rfl
theorem Cr_p4_6 (hP : Cr_P fc pc) (hA : wok A (Cr_d fc pc) m) (h0 : 0 ≤ i ∧ i < pc) : pm_pf pm_tab (wput A (Cr_d fc pc) S h) (A (4, i, 0)) 38 6 1 (.long u) = some (wput A (Cr_d fc pc) (sl S (4, i, 0) 6 u) h) := w_p1 (q := (0, 0, 0)) hA (Cr_d4 h0) rfl rfl (Nat.le_of_ble_eq_true rfl)
theorem Cr_l5 (hP : Cr_P fc pc) (hA : wok A (Cr_d fc pc) m) : pm_len (wput A (Cr_d fc pc) S h) (A (5, 0, 0)) = some 65537 := w_len hA (Cr_d5) (by decide)
theorem Cr_r5 (hP : Cr_P fc pc) (hA : wok A (Cr_d fc pc) m) (hx : 0 ≤ x ∧ x < 65537) : pm_rd pm_isB (wput A (Cr_d fc pc) S h) (A (5, 0, 0)) x = some (S.1 (5, 0, 0) x) := (w_rd (t := .boolean) hA (Cr_d5) rfl (by decide) (by decide)).trans (if_pos hx)
theorem Cr_w5 (hP : Cr_P fc pc) (hA : wok A (Cr_d fc pc) m) (hx : 0 ≤ x ∧ x < 65537) : pm_wr pm_wB (wput A (Cr_d fc pc) S h) (A (5, 0, 0)) x v = some (wput A (Cr_d fc pc) (sz S (5, 0, 0) x (vp_nar .boolean v)) h) := (w_wr (t := .boolean) hA (Cr_d5) rfl (by decide) (by decide)).trans (if_pos hx)
theorem Cr_l6 (hP : Cr_P fc pc) (hA : wok A (Cr_d fc pc) m) : pm_len (wput A (Cr_d fc pc) S h) (A (6, 0, 0)) = some 75625 := w_len hA (Cr_d6) (by decide)
theorem Cr_r6 (hP : Cr_P fc pc) (hA : wok A (Cr_d fc pc) m) (hx : 0 ≤ x ∧ x < 75625) : pm_rd pm_isB (wput A (Cr_d fc pc) S h) (A (6, 0, 0)) x = some (S.1 (6, 0, 0) x) := (w_rd (t := .byte) hA (Cr_d6) rfl (by decide) (by decide)).trans (if_pos hx)
theorem Cr_w6 (hP : Cr_P fc pc) (hA : wok A (Cr_d fc pc) m) (hx : 0 ≤ x ∧ x < 75625) : pm_wr pm_wB (wput A (Cr_d fc pc) S h) (A (6, 0, 0)) x v = some (wput A (Cr_d fc pc) (sz S (6, 0, 0) x (vp_nar .byte v)) h) := (w_wr (t := .byte) hA (Cr_d6) rfl (by decide) (by decide)).trans (if_pos hx)
theorem Cr_c7 (hP : Cr_P fc pc) (hA : wok A (Cr_d fc pc) m) : pm_cls (wput A (Cr_d fc pc) S h) (A (7, 0, 0)) = some 5 := w_cls hA (Cr_d7)
theorem Cr_k7 {cl : pm_C} {k b c : Nat} {r : List Instr} {ls s : List Value} (hP : Cr_P fc pc) (hA : wok A (Cr_d fc pc) m) (h2 : pm_sub 5 c = true) : pm_ev pm_prog cl k b (.checkcast c :: r) ls (.ref (A (7, 0, 0)) :: s) (wput A (Cr_d fc pc) S h) = pm_ev pm_prog cl k b r ls (.ref (A (7, 0, 0)) :: s) (wput A (Cr_d fc pc) S h) := pe_checkcast (w_cls hA (Cr_d7)) h2
theorem Cr_g7_0 (hP : Cr_P fc pc) (hA : wok A (Cr_d fc pc) m) : pm_gf pm_tab (wput A (Cr_d fc pc) S h) (A (7, 0, 0)) 5 0 = some (.ref (A (3, 0, 0))) := w_g (f := (2, (3, 0, 0))) hA (Cr_d7) rfl rfl
theorem Cr_g7_1 (hP : Cr_P fc pc) (hA : wok A (Cr_d fc pc) m) : pm_gf pm_tab (wput A (Cr_d fc pc) S h) (A (7, 0, 0)) 5 1 = some (.ref (A (5, 0, 0))) := w_g (f := (2, (5, 0, 0))) hA (Cr_d7) rfl rfl
theorem Cr_g7_2 (hP : Cr_P fc pc) (hA : wok A (Cr_d fc pc) m) : pm_gf pm_tab (wput A (Cr_d fc pc) S h) (A (7, 0, 0)) 5 2 = some (.int (S.1 (7, 0, 0) 2)) := w_g (f := (0, (0, 0, 0))) hA (Cr_d7) rfl rfl
theorem Cr_p7_2 (hP : Cr_P fc pc) (hA : wok A (Cr_d fc pc) m) (hv : v = 0 ∨ v = 1) : pm_pf pm_tab (wput A (Cr_d fc pc) S h) (A (7, 0, 0)) 5 2 2 (.int v) = some (wput A (Cr_d fc pc) (sz S (7, 0, 0) 2 v) h) := (w_p0 (q := (0, 0, 0)) (t := 2) hA (Cr_d7) rfl rfl (Nat.le_of_ble_eq_true rfl)).trans (if_pos (by rw [pm_ok2]; exact hv))
theorem Cr_g7_3 (hP : Cr_P fc pc) (hA : wok A (Cr_d fc pc) m) : pm_gf pm_tab (wput A (Cr_d fc pc) S h) (A (7, 0, 0)) 5 3 = some (.ref (A (8, 0, 0))) := w_g (f := (2, (8, 0, 0))) hA (Cr_d7) rfl rfl
theorem Cr_g7_4 (hP : Cr_P fc pc) (hA : wok A (Cr_d fc pc) m) : pm_gf pm_tab (wput A (Cr_d fc pc) S h) (A (7, 0, 0)) 5 4 = some (.ref (A (9, 0, 0))) := w_g (f := (2, (9, 0, 0))) hA (Cr_d7) rfl rfl
theorem Cr_g7_5 (hP : Cr_P fc pc) (hA : wok A (Cr_d fc pc) m) : pm_gf pm_tab (wput A (Cr_d fc pc) S h) (A (7, 0, 0)) 5 5 = some (.int (S.1 (7, 0, 0) 5)) := w_g (f := (0, (0, 0, 0))) hA (Cr_d7) rfl rfl
theorem Cr_p7_5 (hP : Cr_P fc pc) (hA : wok A (Cr_d fc pc) m) : pm_pf pm_tab (wput A (Cr_d fc pc) S h) (A (7, 0, 0)) 5 5 0 (.int v) = some (wput A (Cr_d fc pc) (sz S (7, 0, 0) 5 v) h) := w_p0 (q := (0, 0, 0)) (t := 0) hA (Cr_d7) rfl rfl (Nat.le_of_ble_eq_true rfl)
theorem Cr_l8 (hP : Cr_P fc pc) (hA : wok A (Cr_d fc pc) m) : pm_len (wput A (Cr_d fc pc) S h) (A (8, 0, 0)) = some 75625 := w_len hA (Cr_d8) (by decide)
theorem Cr_r8 (hP : Cr_P fc pc) (hA : wok A (Cr_d fc pc) m) (hx : 0 ≤ x ∧ x < 75625) : pm_rd pm_isB (wput A (Cr_d fc pc) S h) (A (8, 0, 0)) x = some (S.1 (8, 0, 0) x) := (w_rd (t := .byte) hA (Cr_d8) rfl (by decide) (by decide)).trans (if_pos hx)
theorem Cr_w8 (hP : Cr_P fc pc) (hA : wok A (Cr_d fc pc) m) (hx : 0 ≤ x ∧ x < 75625) : pm_wr pm_wB (wput A (Cr_d fc pc) S h) (A (8, 0, 0)) x v = some (wput A (Cr_d fc pc) (sz S (8, 0, 0) x (vp_nar .byte v)) h) := (w_wr (t := .byte) hA (Cr_d8) rfl (by decide) (by decide)).trans (if_pos hx)
theorem Cr_l9 (hP : Cr_P fc pc) (hA : wok A (Cr_d fc pc) m) : pm_len (wput A (Cr_d fc pc) S h) (A (9, 0, 0)) = some 4 := w_lenR hA (Cr_d9) (by decide)
theorem Cr_r9 (hP : Cr_P fc pc) (hA : wok A (Cr_d fc pc) m) (hx : 0 ≤ x ∧ x < 4) : pm_rdR (wput A (Cr_d fc pc) S h) (A (9, 0, 0)) x = some (some (A (10, x, 0))) := ((w_rdR hA (Cr_d9) rfl (by decide)).trans (if_pos hx)).trans rfl
theorem Cr_c10 (hP : Cr_P fc pc) (hA : wok A (Cr_d fc pc) m) (h0 : 0 ≤ i ∧ i < 4) : pm_cls (wput A (Cr_d fc pc) S h) (A (10, i, 0)) = some 6 := w_cls hA (Cr_d10 h0)
theorem Cr_k10 {cl : pm_C} {k b c : Nat} {r : List Instr} {ls s : List Value} (hP : Cr_P fc pc) (hA : wok A (Cr_d fc pc) m) (h0 : 0 ≤ i ∧ i < 4) (h2 : pm_sub 6 c = true) : pm_ev pm_prog cl k b (.checkcast c :: r) ls (.ref (A (10, i, 0)) :: s) (wput A (Cr_d fc pc) S h) = pm_ev pm_prog cl k b r ls (.ref (A (10, i, 0)) :: s) (wput A (Cr_d fc pc) S h) := pe_checkcast (w_cls hA (Cr_d10 h0)) h2
theorem Cr_g10_0 (hP : Cr_P fc pc) (hA : wok A (Cr_d fc pc) m) (h0 : 0 ≤ i ∧ i < 4) : pm_gf pm_tab (wput A (Cr_d fc pc) S h) (A (10, i, 0)) 6 0 = some (.ref (A (11, i, 0))) := w_g (f := (2, (11, i, 0))) hA (Cr_d10 h0) rfl rfl
theorem Cr_g10_1 (hP : Cr_P fc pc) (hA : wok A (Cr_d fc pc) m) (h0 : 0 ≤ i ∧ i < 4) : pm_gf pm_tab (wput A (Cr_d fc pc) S h) (A (10, i, 0)) 6 1 = some (.ref (A (20, i, 0))) := w_g (f := (2, (20, i, 0))) hA (Cr_d10 h0) rfl rfl
theorem Cr_l11 (hP : Cr_P fc pc) (hA : wok A (Cr_d fc pc) m) (h0 : 0 ≤ i ∧ i < 4) : pm_len (wput A (Cr_d fc pc) S h) (A (11, i, 0)) = some 25 := w_len hA (Cr_d11 h0) (by decide)
theorem Cr_r11 (hP : Cr_P fc pc) (hA : wok A (Cr_d fc pc) m) (h0 : 0 ≤ i ∧ i < 4) (hx : 0 ≤ x ∧ x < 25) : pm_rdL (wput A (Cr_d fc pc) S h) (A (11, i, 0)) x = some (S.2 (11, i, 0) x) := (w_rdL hA (Cr_d11 h0) (by decide)).trans (if_pos hx)
theorem Cr_w11 (hP : Cr_P fc pc) (hA : wok A (Cr_d fc pc) m) (h0 : 0 ≤ i ∧ i < 4) (hx : 0 ≤ x ∧ x < 25) : pm_wrL (wput A (Cr_d fc pc) S h) (A (11, i, 0)) x u = some (wput A (Cr_d fc pc) (sl S (11, i, 0) x u) h) := (w_wrL hA (Cr_d11 h0) (by decide)).trans (if_pos hx)
theorem Cr_l20 (hP : Cr_P fc pc) (hA : wok A (Cr_d fc pc) m) (h0 : 0 ≤ i ∧ i < 4) : pm_len (wput A (Cr_d fc pc) S h) (A (20, i, 0)) = some 25 := w_len hA (Cr_d20 h0) (by decide)
theorem Cr_r20 (hP : Cr_P fc pc) (hA : wok A (Cr_d fc pc) m) (h0 : 0 ≤ i ∧ i < 4) (hx : 0 ≤ x ∧ x < 25) : pm_rd pm_isI (wput A (Cr_d fc pc) S h) (A (20, i, 0)) x = some (S.1 (20, i, 0) x) := (w_rd (t := .int) hA (Cr_d20 h0) rfl (by decide) (by decide)).trans (if_pos hx)
theorem Cr_w20 (hP : Cr_P fc pc) (hA : wok A (Cr_d fc pc) m) (h0 : 0 ≤ i ∧ i < 4) (hx : 0 ≤ x ∧ x < 25) : pm_wr pm_wI (wput A (Cr_d fc pc) S h) (A (20, i, 0)) x v = some (wput A (Cr_d fc pc) (sz S (20, i, 0) x v) h) := (w_wr (t := .int) hA (Cr_d20 h0) rfl (by decide) (by decide)).trans (if_pos hx)
theorem Cr_c12 (hP : Cr_P fc pc) (hA : wok A (Cr_d fc pc) m) (h0 : 0 ≤ i ∧ i < 2) : pm_cls (wput A (Cr_d fc pc) S h) (A (12, i, 0)) = some 7 := w_cls hA (Cr_d12 h0)
theorem Cr_k12 {cl : pm_C} {k b c : Nat} {r : List Instr} {ls s : List Value} (hP : Cr_P fc pc) (hA : wok A (Cr_d fc pc) m) (h0 : 0 ≤ i ∧ i < 2) (h2 : pm_sub 7 c = true) : pm_ev pm_prog cl k b (.checkcast c :: r) ls (.ref (A (12, i, 0)) :: s) (wput A (Cr_d fc pc) S h) = pm_ev pm_prog cl k b r ls (.ref (A (12, i, 0)) :: s) (wput A (Cr_d fc pc) S h) := pe_checkcast (w_cls hA (Cr_d12 h0)) h2
theorem Cr_g12_0 (hP : Cr_P fc pc) (hA : wok A (Cr_d fc pc) m) (h0 : 0 ≤ i ∧ i < 2) : pm_gf pm_tab (wput A (Cr_d fc pc) S h) (A (12, i, 0)) 7 0 = some (.ref (A (13, i, 0))) := w_g (f := (2, (13, i, 0))) hA (Cr_d12 h0) rfl rfl
theorem Cr_g12_1 (hP : Cr_P fc pc) (hA : wok A (Cr_d fc pc) m) (h0 : 0 ≤ i ∧ i < 2) : pm_gf pm_tab (wput A (Cr_d fc pc) S h) (A (12, i, 0)) 7 1 = some (.ref (A (14, i, 0))) := w_g (f := (2, (14, i, 0))) hA (Cr_d12 h0) rfl rfl
theorem Cr_g12_2 (hP : Cr_P fc pc) (hA : wok A (Cr_d fc pc) m) (h0 : 0 ≤ i ∧ i < 2) : pm_gf pm_tab (wput A (Cr_d fc pc) S h) (A (12, i, 0)) 7 2 = some (.ref (A (15, i, 0))) := w_g (f := (2, (15, i, 0))) hA (Cr_d12 h0) rfl rfl
theorem Cr_g12_3 (hP : Cr_P fc pc) (hA : wok A (Cr_d fc pc) m) (h0 : 0 ≤ i ∧ i < 2) : pm_gf pm_tab (wput A (Cr_d fc pc) S h) (A (12, i, 0)) 7 3 = some (.ref (A (16, i, 0))) := w_g (f := (2, (16, i, 0))) hA (Cr_d12 h0) rfl rfl
theorem Cr_g12_4 (hP : Cr_P fc pc) (hA : wok A (Cr_d fc pc) m) (h0 : 0 ≤ i ∧ i < 2) : pm_gf pm_tab (wput A (Cr_d fc pc) S h) (A (12, i, 0)) 7 4 = some (.ref (A (17, i, 0))) := w_g (f := (2, (17, i, 0))) hA (Cr_d12 h0) rfl rfl
theorem Cr_g12_5 (hP : Cr_P fc pc) (hA : wok A (Cr_d fc pc) m) (h0 : 0 ≤ i ∧ i < 2) : pm_gf pm_tab (wput A (Cr_d fc pc) S h) (A (12, i, 0)) 7 5 = some (.int (S.1 (12, i, 0) 5)) := w_g (f := (0, (0, 0, 0))) hA (Cr_d12 h0) rfl rfl
theorem Cr_p12_5 (hP : Cr_P fc pc) (hA : wok A (Cr_d fc pc) m) (h0 : 0 ≤ i ∧ i < 2) : pm_pf pm_tab (wput A (Cr_d fc pc) S h) (A (12, i, 0)) 7 5 0 (.int v) = some (wput A (Cr_d fc pc) (sz S (12, i, 0) 5 v) h) := w_p0 (q := (0, 0, 0)) (t := 0) hA (Cr_d12 h0) rfl rfl (Nat.le_of_ble_eq_true rfl)
theorem Cr_g12_6 (hP : Cr_P fc pc) (hA : wok A (Cr_d fc pc) m) (h0 : 0 ≤ i ∧ i < 2) : pm_gf pm_tab (wput A (Cr_d fc pc) S h) (A (12, i, 0)) 7 6 = some (.long (S.2 (12, i, 0) 6)) := w_g (f := (1, (0, 0, 0))) hA (Cr_d12 h0) rfl rfl
theorem Cr_p12_6 (hP : Cr_P fc pc) (hA : wok A (Cr_d fc pc) m) (h0 : 0 ≤ i ∧ i < 2) : pm_pf pm_tab (wput A (Cr_d fc pc) S h) (A (12, i, 0)) 7 6 1 (.long u) = some (wput A (Cr_d fc pc) (sl S (12, i, 0) 6 u) h) := w_p1 (q := (0, 0, 0)) hA (Cr_d12 h0) rfl rfl (Nat.le_of_ble_eq_true rfl)
theorem Cr_l13 (hP : Cr_P fc pc) (hA : wok A (Cr_d fc pc) m) (h0 : 0 ≤ i ∧ i < 2) : pm_len (wput A (Cr_d fc pc) S h) (A (13, i, 0)) = some 240 := w_len hA (Cr_d13 h0) (by decide)
theorem Cr_r13 (hP : Cr_P fc pc) (hA : wok A (Cr_d fc pc) m) (h0 : 0 ≤ i ∧ i < 2) (hx : 0 ≤ x ∧ x < 240) : pm_rd pm_isB (wput A (Cr_d fc pc) S h) (A (13, i, 0)) x = some (S.1 (13, i, 0) x) := (w_rd (t := .byte) hA (Cr_d13 h0) rfl (by decide) (by decide)).trans (if_pos hx)
theorem Cr_w13 (hP : Cr_P fc pc) (hA : wok A (Cr_d fc pc) m) (h0 : 0 ≤ i ∧ i < 2) (hx : 0 ≤ x ∧ x < 240) : pm_wr pm_wB (wput A (Cr_d fc pc) S h) (A (13, i, 0)) x v = some (wput A (Cr_d fc pc) (sz S (13, i, 0) x (vp_nar .byte v)) h) := (w_wr (t := .byte) hA (Cr_d13 h0) rfl (by decide) (by decide)).trans (if_pos hx)
theorem Cr_l14 (hP : Cr_P fc pc) (hA : wok A (Cr_d fc pc) m) (h0 : 0 ≤ i ∧ i < 2) : pm_len (wput A (Cr_d fc pc) S h) (A (14, i, 0)) = some 240 := w_len hA (Cr_d14 h0) (by decide)
theorem Cr_r14 (hP : Cr_P fc pc) (hA : wok A (Cr_d fc pc) m) (h0 : 0 ≤ i ∧ i < 2) (hx : 0 ≤ x ∧ x < 240) : pm_rd pm_isB (wput A (Cr_d fc pc) S h) (A (14, i, 0)) x = some (S.1 (14, i, 0) x) := (w_rd (t := .byte) hA (Cr_d14 h0) rfl (by decide) (by decide)).trans (if_pos hx)
theorem Cr_w14 (hP : Cr_P fc pc) (hA : wok A (Cr_d fc pc) m) (h0 : 0 ≤ i ∧ i < 2) (hx : 0 ≤ x ∧ x < 240) : pm_wr pm_wB (wput A (Cr_d fc pc) S h) (A (14, i, 0)) x v = some (wput A (Cr_d fc pc) (sz S (14, i, 0) x (vp_nar .byte v)) h) := (w_wr (t := .byte) hA (Cr_d14 h0) rfl (by decide) (by decide)).trans (if_pos hx)
theorem Cr_l15 (hP : Cr_P fc pc) (hA : wok A (Cr_d fc pc) m) (h0 : 0 ≤ i ∧ i < 2) : pm_len (wput A (Cr_d fc pc) S h) (A (15, i, 0)) = some 240 := w_len hA (Cr_d15 h0) (by decide)
theorem Cr_r15 (hP : Cr_P fc pc) (hA : wok A (Cr_d fc pc) m) (h0 : 0 ≤ i ∧ i < 2) (hx : 0 ≤ x ∧ x < 240) : pm_rd pm_isB (wput A (Cr_d fc pc) S h) (A (15, i, 0)) x = some (S.1 (15, i, 0) x) := (w_rd (t := .byte) hA (Cr_d15 h0) rfl (by decide) (by decide)).trans (if_pos hx)
theorem Cr_w15 (hP : Cr_P fc pc) (hA : wok A (Cr_d fc pc) m) (h0 : 0 ≤ i ∧ i < 2) (hx : 0 ≤ x ∧ x < 240) : pm_wr pm_wB (wput A (Cr_d fc pc) S h) (A (15, i, 0)) x v = some (wput A (Cr_d fc pc) (sz S (15, i, 0) x (vp_nar .byte v)) h) := (w_wr (t := .byte) hA (Cr_d15 h0) rfl (by decide) (by decide)).trans (if_pos hx)
theorem Cr_l16 (hP : Cr_P fc pc) (hA : wok A (Cr_d fc pc) m) (h0 : 0 ≤ i ∧ i < 2) : pm_len (wput A (Cr_d fc pc) S h) (A (16, i, 0)) = some 240 := w_len hA (Cr_d16 h0) (by decide)
theorem Cr_r16 (hP : Cr_P fc pc) (hA : wok A (Cr_d fc pc) m) (h0 : 0 ≤ i ∧ i < 2) (hx : 0 ≤ x ∧ x < 240) : pm_rd pm_isB (wput A (Cr_d fc pc) S h) (A (16, i, 0)) x = some (S.1 (16, i, 0) x) := (w_rd (t := .byte) hA (Cr_d16 h0) rfl (by decide) (by decide)).trans (if_pos hx)
theorem Cr_w16 (hP : Cr_P fc pc) (hA : wok A (Cr_d fc pc) m) (h0 : 0 ≤ i ∧ i < 2) (hx : 0 ≤ x ∧ x < 240) : pm_wr pm_wB (wput A (Cr_d fc pc) S h) (A (16, i, 0)) x v = some (wput A (Cr_d fc pc) (sz S (16, i, 0) x (vp_nar .byte v)) h) := (w_wr (t := .byte) hA (Cr_d16 h0) rfl (by decide) (by decide)).trans (if_pos hx)
theorem Cr_l17 (hP : Cr_P fc pc) (hA : wok A (Cr_d fc pc) m) (h0 : 0 ≤ i ∧ i < 2) : pm_len (wput A (Cr_d fc pc) S h) (A (17, i, 0)) = some 240 := w_len hA (Cr_d17 h0) (by decide)
theorem Cr_r17 (hP : Cr_P fc pc) (hA : wok A (Cr_d fc pc) m) (h0 : 0 ≤ i ∧ i < 2) (hx : 0 ≤ x ∧ x < 240) : pm_rd pm_isB (wput A (Cr_d fc pc) S h) (A (17, i, 0)) x = some (S.1 (17, i, 0) x) := (w_rd (t := .byte) hA (Cr_d17 h0) rfl (by decide) (by decide)).trans (if_pos hx)
theorem Cr_w17 (hP : Cr_P fc pc) (hA : wok A (Cr_d fc pc) m) (h0 : 0 ≤ i ∧ i < 2) (hx : 0 ≤ x ∧ x < 240) : pm_wr pm_wB (wput A (Cr_d fc pc) S h) (A (17, i, 0)) x v = some (wput A (Cr_d fc pc) (sz S (17, i, 0) x (vp_nar .byte v)) h) := (w_wr (t := .byte) hA (Cr_d17 h0) rfl (by decide) (by decide)).trans (if_pos hx)
theorem Cr_l18 (hP : Cr_P fc pc) (hA : wok A (Cr_d fc pc) m) : pm_len (wput A (Cr_d fc pc) S h) (A (18, 0, 0)) = some 240 := w_len hA (Cr_d18) (by decide)
theorem Cr_r18 (hP : Cr_P fc pc) (hA : wok A (Cr_d fc pc) m) (hx : 0 ≤ x ∧ x < 240) : pm_rd pm_isB (wput A (Cr_d fc pc) S h) (A (18, 0, 0)) x = some (S.1 (18, 0, 0) x) := (w_rd (t := .boolean) hA (Cr_d18) rfl (by decide) (by decide)).trans (if_pos hx)
theorem Cr_w18 (hP : Cr_P fc pc) (hA : wok A (Cr_d fc pc) m) (hx : 0 ≤ x ∧ x < 240) : pm_wr pm_wB (wput A (Cr_d fc pc) S h) (A (18, 0, 0)) x v = some (wput A (Cr_d fc pc) (sz S (18, 0, 0) x (vp_nar .boolean v)) h) := (w_wr (t := .boolean) hA (Cr_d18) rfl (by decide) (by decide)).trans (if_pos hx)
theorem Cr_l19 (hP : Cr_P fc pc) (hA : wok A (Cr_d fc pc) m) : pm_len (wput A (Cr_d fc pc) S h) (A (19, 0, 0)) = some 24341 := w_len hA (Cr_d19) (by decide)
theorem Cr_r19 (hP : Cr_P fc pc) (hA : wok A (Cr_d fc pc) m) (hx : 0 ≤ x ∧ x < 24341) : pm_rd pm_isI (wput A (Cr_d fc pc) S h) (A (19, 0, 0)) x = some (S.1 (19, 0, 0) x) := (w_rd (t := .int) hA (Cr_d19) rfl (by decide) (by decide)).trans (if_pos hx)
theorem Cr_w19 (hP : Cr_P fc pc) (hA : wok A (Cr_d fc pc) m) (hx : 0 ≤ x ∧ x < 24341) : pm_wr pm_wI (wput A (Cr_d fc pc) S h) (A (19, 0, 0)) x v = some (wput A (Cr_d fc pc) (sz S (19, 0, 0) x v) h) := (w_wr (t := .int) hA (Cr_d19) rfl (by decide) (by decide)).trans (if_pos hx)
end
/-- TimberHouse$FaultRips.near(I)I -/
theorem c257 {d : Nat} {h : pm_H} {x0 : Int32} : pm_call pm_prog (d + 1) 257 [.int x0] h = pm_ev pm_prog (pm_call pm_prog d) 257 0 b257_0 [.int x0] [] h := pm_cal (pm_rc0 rfl) rfl rfl rfl
/-- TimberHouse$FaultRips.near(I)I -/
noncomputable def f257 (x0 : Int32) : Option (Int32) :=
  (f3840 65536 x0).bind fun v1 =>
  (f3841 1 v1).bind fun v2 =>
  some v2
theorem x257 {h : pm_H} {D : Nat} {x0 : Int32} {r : Int32} (hD : 2 ≤ D) (e : f257 x0 = some r) : pm_call pm_prog D 257 [.int x0] h = some (Outcome.returned (some (.int r)), h) := by
  obtain ⟨D, rfl⟩ : ∃ D', D = D' + 1 := ⟨D - 1, by omega⟩
  have hD : 1 ≤ D := by omega
  simp only [f257] at e
  rw [c257, b257_0]
  obtain ⟨v1, k1, e⟩ := Option.bind_eq_some_iff.mp e
  try dsimp only at e
  have z1 := fun h => x3840 (D := D) (h := h) (by omega) k1
  obtain ⟨v2, k2, e⟩ := Option.bind_eq_some_iff.mp e
  try dsimp only at e
  have z2 := fun h => x3841 (D := D) (h := h) (by omega) k2
  have e := Option.some.inj e; subst e
  simp -implicitDefEqProofs (disch := first | assumption | exact Nat.le_of_ble_eq_true rfl | decide) only [b257_0, pe_sipush, pe_iload0, pe_call2, pm_af_ret, pm_af_void, pm_af_thr, pm_prog_1, pm_ob_some, Nat.reduceDiv, Nat.reduceMod, Nat.reduceMul, Nat.reduceAdd, Int.reduceToNat, pm_kill_i, pm_kill_r, pm_kill_n, pm_kill_j, pm_kill_l, pm_kill_d, pm_cats_nil, pm_cats_i, pm_cats_r, pm_cats_n, pm_cats_l, pm_cats_d, sz_1, sz_2, sl_1, sl_2, lc_0, lc_lt, lc_le, li_ne, va_rf, wr_m1, we_m1, pm_kill_w, Int32.reduceOfInt, Int64.reduceOfInt, Int32.reduceOfNat, Int32.reduceLT, Int32.reduceLE, Prod.mk.injEq, Nat.reduceEqDiff, reduceCtorEq, and_true, true_and, and_false, false_and, and_self, ite_true, ite_false, ↓reduceIte, not_true_eq_false, not_false_eq_true, pe_ri, pe_rz, pe_rc, z1, z2]
/-- TimberHouse$FaultRips.can(Z)V -/
theorem c259 {d : Nat} {h : pm_H} {x0 : Int32} : pm_call pm_prog (d + 1) 259 [.int x0] h = pm_ev pm_prog (pm_call pm_prog d) 259 0 b259_0 [.int x0] [] h := pm_cal (pm_rc0 rfl) rfl rfl rfl
theorem g259_1 {cl : pm_C} {ls st : List Value} {h : pm_H} : pm_go pm_prog cl 259 1 ls st h = pm_ev pm_prog cl 259 1 b259_1 ls st h := pm_go_eq pm_prog cl 259 1 ls st h
theorem t259 {cl : pm_C} {j : Nat} {ls : List Value} {c : Nat} {h : pm_H} : pm_thr pm_prog cl 259 j ls c h = some (.threw c, h) := rfl
/-- TimberHouse$FaultRips.can(Z)V -/
noncomputable def f259 (x0 : Int32) : Option (Nat ⊕ (Unit)) :=
  if x0 = 0 then
    some (.inl 71)
  else
    some (.inr ())
theorem x259 {h : pm_H} {D : Nat} {x0 : Int32} {r : Nat ⊕ (Unit)} (hD : 1 ≤ D) (e : f259 x0 = some r) : pm_call pm_prog D 259 [.int x0] h = some (match (generalizing := false) r with | .inl c => (Outcome.threw c, (pm_new h 6 (.inr (c, [])))) | .inr _ => (Outcome.returned none, h)) := by
  obtain ⟨D, rfl⟩ : ∃ D', D = D' + 1 := ⟨D - 1, by omega⟩
  have hD : 0 ≤ D := by omega
  simp only [f259] at e
  rw [c259, b259_0]
  by_cases k1 : x0 = 0
  · rw [if_pos k1] at e
    have e := Option.some.inj e; subst e
    simp -implicitDefEqProofs (disch := first | assumption | exact Nat.le_of_ble_eq_true rfl | decide) only [b259_0, g259_1, b259_1, pe_iload0, pe_if_ne, pe_return, pm_prog_1, pm_ob_some, Nat.reduceDiv, Nat.reduceMod, Nat.reduceMul, Nat.reduceAdd, Int.reduceToNat, pm_kill_i, pm_kill_r, pm_kill_n, pm_kill_j, pm_kill_l, pm_kill_d, pm_cats_nil, pm_cats_i, pm_cats_r, pm_cats_n, pm_cats_l, pm_cats_d, sz_1, sz_2, sl_1, sl_2, lc_0, lc_lt, lc_le, li_ne, va_rf, wr_m1, we_m1, pm_kill_w, Int32.reduceOfInt, Int64.reduceOfInt, Int32.reduceOfNat, Int32.reduceLT, Int32.reduceLE, Prod.mk.injEq, Nat.reduceEqDiff, reduceCtorEq, and_true, true_and, and_false, false_and, and_self, ite_true, ite_false, ↓reduceIte, not_true_eq_false, not_false_eq_true, pe_ri, pe_rz, pe_rc, p_throw, t259, eq_true k1]
  · rw [if_neg k1] at e
    have e := Option.some.inj e; subst e
    simp -implicitDefEqProofs (disch := first | assumption | exact Nat.le_of_ble_eq_true rfl | decide) only [b259_0, g259_1, b259_1, pe_iload0, pe_if_ne, pe_return, pm_prog_1, pm_ob_some, Nat.reduceDiv, Nat.reduceMod, Nat.reduceMul, Nat.reduceAdd, Int.reduceToNat, pm_kill_i, pm_kill_r, pm_kill_n, pm_kill_j, pm_kill_l, pm_kill_d, pm_cats_nil, pm_cats_i, pm_cats_r, pm_cats_n, pm_cats_l, pm_cats_d, sz_1, sz_2, sl_1, sl_2, lc_0, lc_lt, lc_le, li_ne, va_rf, wr_m1, we_m1, pm_kill_w, Int32.reduceOfInt, Int64.reduceOfInt, Int32.reduceOfNat, Int32.reduceLT, Int32.reduceLE, Prod.mk.injEq, Nat.reduceEqDiff, reduceCtorEq, and_true, true_and, and_false, false_and, and_self, ite_true, ite_false, ↓reduceIte, not_true_eq_false, not_false_eq_true, pe_ri, pe_rz, pe_rc, p_throw, t259, eq_false k1]
/-- TimberHouse$FaultRips.isIn(JJJ)Z -/
theorem c260 {d : Nat} {h : pm_H} {x0 : Int64} {x1 : Int64} {x2 : Int64} : pm_call pm_prog (d + 1) 260 [.long x0, .long x1, .long x2] h = pm_ev pm_prog (pm_call pm_prog d) 260 0 b260_0 [.long x0, pm_junk, .long x1, pm_junk, .long x2, pm_junk] [] h := pm_cal (pm_rc0 rfl) rfl rfl rfl
theorem g260_1 {cl : pm_C} {ls st : List Value} {h : pm_H} : pm_go pm_prog cl 260 1 ls st h = pm_ev pm_prog cl 260 1 b260_1 ls st h := pm_go_eq pm_prog cl 260 1 ls st h
theorem g260_2 {cl : pm_C} {ls st : List Value} {h : pm_H} : pm_go pm_prog cl 260 2 ls st h = pm_ev pm_prog cl 260 2 b260_2 ls st h := pm_go_eq pm_prog cl 260 2 ls st h
/-- TimberHouse$FaultRips.isIn(JJJ)Z -/
noncomputable def f260 (x0 : Int64) (x2 : Int64) (x4 : Int64) : Option (Int32) :=
  if x0 < x2 then
    some 0
  else
    if x0 ≤ x4 then
      some 1
    else
      some 0
theorem x260 {h : pm_H} {D : Nat} {x0 : Int64} {x2 : Int64} {x4 : Int64} {r : Int32} (hD : 1 ≤ D) (e : f260 x0 x2 x4 = some r) : pm_call pm_prog D 260 [.long x0, .long x2, .long x4] h = some (Outcome.returned (some (.int r)), h) := by
  obtain ⟨D, rfl⟩ : ∃ D', D = D' + 1 := ⟨D - 1, by omega⟩
  have hD : 0 ≤ D := by omega
  simp only [f260] at e
  rw [c260, b260_0]
  by_cases k1 : x0 < x2
  · rw [if_pos k1] at e
    have e := Option.some.inj e; subst e
    simp -implicitDefEqProofs (disch := first | assumption | exact Nat.le_of_ble_eq_true rfl | decide) only [b260_0, g260_1, b260_1, g260_2, b260_2, pe_lload0, pe_lload2, pe_lcmp, pe_if_lt, pe_lload4, pe_if_gt, pe_sipush, pe_goto, pe_goto_w, pm_prog_1, pm_ob_some, Nat.reduceDiv, Nat.reduceMod, Nat.reduceMul, Nat.reduceAdd, Int.reduceToNat, pm_kill_i, pm_kill_r, pm_kill_n, pm_kill_j, pm_kill_l, pm_kill_d, pm_cats_nil, pm_cats_i, pm_cats_r, pm_cats_n, pm_cats_l, pm_cats_d, sz_1, sz_2, sl_1, sl_2, lc_0, lc_lt, lc_le, li_ne, va_rf, wr_m1, we_m1, pm_kill_w, Int32.reduceOfInt, Int64.reduceOfInt, Int32.reduceOfNat, Int32.reduceLT, Int32.reduceLE, Prod.mk.injEq, Nat.reduceEqDiff, reduceCtorEq, and_true, true_and, and_false, false_and, and_self, ite_true, ite_false, ↓reduceIte, not_true_eq_false, not_false_eq_true, pe_ri, pe_rz, pe_rc, eq_true k1]
  · rw [if_neg k1] at e
    by_cases k2 : x0 ≤ x4
    · rw [if_pos k2] at e
      have e := Option.some.inj e; subst e
      simp -implicitDefEqProofs (disch := first | assumption | exact Nat.le_of_ble_eq_true rfl | decide) only [b260_0, g260_1, b260_1, g260_2, b260_2, pe_lload0, pe_lload2, pe_lcmp, pe_if_lt, pe_lload4, pe_if_gt, pe_sipush, pe_goto, pe_goto_w, pm_prog_1, pm_ob_some, Nat.reduceDiv, Nat.reduceMod, Nat.reduceMul, Nat.reduceAdd, Int.reduceToNat, pm_kill_i, pm_kill_r, pm_kill_n, pm_kill_j, pm_kill_l, pm_kill_d, pm_cats_nil, pm_cats_i, pm_cats_r, pm_cats_n, pm_cats_l, pm_cats_d, sz_1, sz_2, sl_1, sl_2, lc_0, lc_lt, lc_le, li_ne, va_rf, wr_m1, we_m1, pm_kill_w, Int32.reduceOfInt, Int64.reduceOfInt, Int32.reduceOfNat, Int32.reduceLT, Int32.reduceLE, Prod.mk.injEq, Nat.reduceEqDiff, reduceCtorEq, and_true, true_and, and_false, false_and, and_self, ite_true, ite_false, ↓reduceIte, not_true_eq_false, not_false_eq_true, pe_ri, pe_rz, pe_rc, eq_false k1, eq_true k2]
    · rw [if_neg k2] at e
      have e := Option.some.inj e; subst e
      simp -implicitDefEqProofs (disch := first | assumption | exact Nat.le_of_ble_eq_true rfl | decide) only [b260_0, g260_1, b260_1, g260_2, b260_2, pe_lload0, pe_lload2, pe_lcmp, pe_if_lt, pe_lload4, pe_if_gt, pe_sipush, pe_goto, pe_goto_w, pm_prog_1, pm_ob_some, Nat.reduceDiv, Nat.reduceMod, Nat.reduceMul, Nat.reduceAdd, Int.reduceToNat, pm_kill_i, pm_kill_r, pm_kill_n, pm_kill_j, pm_kill_l, pm_kill_d, pm_cats_nil, pm_cats_i, pm_cats_r, pm_cats_n, pm_cats_l, pm_cats_d, sz_1, sz_2, sl_1, sl_2, lc_0, lc_lt, lc_le, li_ne, va_rf, wr_m1, we_m1, pm_kill_w, Int32.reduceOfInt, Int64.reduceOfInt, Int32.reduceOfNat, Int32.reduceLT, Int32.reduceLE, Prod.mk.injEq, Nat.reduceEqDiff, reduceCtorEq, and_true, true_and, and_false, false_and, and_self, ite_true, ite_false, ↓reduceIte, not_true_eq_false, not_false_eq_true, pe_ri, pe_rz, pe_rc, eq_false k1, eq_false k2]
/-- TimberHouse$FaultRips.there(Z)V -/
theorem c261 {d : Nat} {h : pm_H} {x0 : Int32} : pm_call pm_prog (d + 1) 261 [.int x0] h = pm_ev pm_prog (pm_call pm_prog d) 261 0 b261_0 [.int x0] [] h := pm_cal (pm_rc0 rfl) rfl rfl rfl
theorem g261_1 {cl : pm_C} {ls st : List Value} {h : pm_H} : pm_go pm_prog cl 261 1 ls st h = pm_ev pm_prog cl 261 1 b261_1 ls st h := pm_go_eq pm_prog cl 261 1 ls st h
theorem t261 {cl : pm_C} {j : Nat} {ls : List Value} {c : Nat} {h : pm_H} : pm_thr pm_prog cl 261 j ls c h = some (.threw c, h) := rfl
/-- TimberHouse$FaultRips.there(Z)V -/
noncomputable def f261 (x0 : Int32) : Option (Nat ⊕ (Unit)) :=
  if x0 = 0 then
    some (.inl 67)
  else
    some (.inr ())
theorem x261 {h : pm_H} {D : Nat} {x0 : Int32} {r : Nat ⊕ (Unit)} (hD : 1 ≤ D) (e : f261 x0 = some r) : pm_call pm_prog D 261 [.int x0] h = some (match (generalizing := false) r with | .inl c => (Outcome.threw c, (pm_new h 6 (.inr (c, [])))) | .inr _ => (Outcome.returned none, h)) := by
  obtain ⟨D, rfl⟩ : ∃ D', D = D' + 1 := ⟨D - 1, by omega⟩
  have hD : 0 ≤ D := by omega
  simp only [f261] at e
  rw [c261, b261_0]
  by_cases k1 : x0 = 0
  · rw [if_pos k1] at e
    have e := Option.some.inj e; subst e
    simp -implicitDefEqProofs (disch := first | assumption | exact Nat.le_of_ble_eq_true rfl | decide) only [b261_0, g261_1, b261_1, pe_iload0, pe_if_ne, pe_return, pm_prog_1, pm_ob_some, Nat.reduceDiv, Nat.reduceMod, Nat.reduceMul, Nat.reduceAdd, Int.reduceToNat, pm_kill_i, pm_kill_r, pm_kill_n, pm_kill_j, pm_kill_l, pm_kill_d, pm_cats_nil, pm_cats_i, pm_cats_r, pm_cats_n, pm_cats_l, pm_cats_d, sz_1, sz_2, sl_1, sl_2, lc_0, lc_lt, lc_le, li_ne, va_rf, wr_m1, we_m1, pm_kill_w, Int32.reduceOfInt, Int64.reduceOfInt, Int32.reduceOfNat, Int32.reduceLT, Int32.reduceLE, Prod.mk.injEq, Nat.reduceEqDiff, reduceCtorEq, and_true, true_and, and_false, false_and, and_self, ite_true, ite_false, ↓reduceIte, not_true_eq_false, not_false_eq_true, pe_ri, pe_rz, pe_rc, p_throw, t261, eq_true k1]
  · rw [if_neg k1] at e
    have e := Option.some.inj e; subst e
    simp -implicitDefEqProofs (disch := first | assumption | exact Nat.le_of_ble_eq_true rfl | decide) only [b261_0, g261_1, b261_1, pe_iload0, pe_if_ne, pe_return, pm_prog_1, pm_ob_some, Nat.reduceDiv, Nat.reduceMod, Nat.reduceMul, Nat.reduceAdd, Int.reduceToNat, pm_kill_i, pm_kill_r, pm_kill_n, pm_kill_j, pm_kill_l, pm_kill_d, pm_cats_nil, pm_cats_i, pm_cats_r, pm_cats_n, pm_cats_l, pm_cats_d, sz_1, sz_2, sl_1, sl_2, lc_0, lc_lt, lc_le, li_ne, va_rf, wr_m1, we_m1, pm_kill_w, Int32.reduceOfInt, Int64.reduceOfInt, Int32.reduceOfNat, Int32.reduceLT, Int32.reduceLE, Prod.mk.injEq, Nat.reduceEqDiff, reduceCtorEq, and_true, true_and, and_false, false_and, and_self, ite_true, ite_false, ↓reduceIte, not_true_eq_false, not_false_eq_true, pe_ri, pe_rz, pe_rc, p_throw, t261, eq_false k1]
/-- TimberHouse$FaultRips.proper(Z)V -/
theorem c262 {d : Nat} {h : pm_H} {x0 : Int32} : pm_call pm_prog (d + 1) 262 [.int x0] h = pm_ev pm_prog (pm_call pm_prog d) 262 0 b262_0 [.int x0] [] h := pm_cal (pm_rc0 rfl) rfl rfl rfl
theorem g262_1 {cl : pm_C} {ls st : List Value} {h : pm_H} : pm_go pm_prog cl 262 1 ls st h = pm_ev pm_prog cl 262 1 b262_1 ls st h := pm_go_eq pm_prog cl 262 1 ls st h
theorem t262 {cl : pm_C} {j : Nat} {ls : List Value} {c : Nat} {h : pm_H} : pm_thr pm_prog cl 262 j ls c h = some (.threw c, h) := rfl
/-- TimberHouse$FaultRips.proper(Z)V -/
noncomputable def f262 (x0 : Int32) : Option (Nat ⊕ (Unit)) :=
  if x0 = 0 then
    some (.inl 70)
  else
    some (.inr ())
theorem x262 {h : pm_H} {D : Nat} {x0 : Int32} {r : Nat ⊕ (Unit)} (hD : 1 ≤ D) (e : f262 x0 = some r) : pm_call pm_prog D 262 [.int x0] h = some (match (generalizing := false) r with | .inl c => (Outcome.threw c, (pm_new h 6 (.inr (c, [])))) | .inr _ => (Outcome.returned none, h)) := by
  obtain ⟨D, rfl⟩ : ∃ D', D = D' + 1 := ⟨D - 1, by omega⟩
  have hD : 0 ≤ D := by omega
  simp only [f262] at e
  rw [c262, b262_0]
  by_cases k1 : x0 = 0
  · rw [if_pos k1] at e
    have e := Option.some.inj e; subst e
    simp -implicitDefEqProofs (disch := first | assumption | exact Nat.le_of_ble_eq_true rfl | decide) only [b262_0, g262_1, b262_1, pe_iload0, pe_if_ne, pe_return, pm_prog_1, pm_ob_some, Nat.reduceDiv, Nat.reduceMod, Nat.reduceMul, Nat.reduceAdd, Int.reduceToNat, pm_kill_i, pm_kill_r, pm_kill_n, pm_kill_j, pm_kill_l, pm_kill_d, pm_cats_nil, pm_cats_i, pm_cats_r, pm_cats_n, pm_cats_l, pm_cats_d, sz_1, sz_2, sl_1, sl_2, lc_0, lc_lt, lc_le, li_ne, va_rf, wr_m1, we_m1, pm_kill_w, Int32.reduceOfInt, Int64.reduceOfInt, Int32.reduceOfNat, Int32.reduceLT, Int32.reduceLE, Prod.mk.injEq, Nat.reduceEqDiff, reduceCtorEq, and_true, true_and, and_false, false_and, and_self, ite_true, ite_false, ↓reduceIte, not_true_eq_false, not_false_eq_true, pe_ri, pe_rz, pe_rc, p_throw, t262, eq_true k1]
  · rw [if_neg k1] at e
    have e := Option.some.inj e; subst e
    simp -implicitDefEqProofs (disch := first | assumption | exact Nat.le_of_ble_eq_true rfl | decide) only [b262_0, g262_1, b262_1, pe_iload0, pe_if_ne, pe_return, pm_prog_1, pm_ob_some, Nat.reduceDiv, Nat.reduceMod, Nat.reduceMul, Nat.reduceAdd, Int.reduceToNat, pm_kill_i, pm_kill_r, pm_kill_n, pm_kill_j, pm_kill_l, pm_kill_d, pm_cats_nil, pm_cats_i, pm_cats_r, pm_cats_n, pm_cats_l, pm_cats_d, sz_1, sz_2, sl_1, sl_2, lc_0, lc_lt, lc_le, li_ne, va_rf, wr_m1, we_m1, pm_kill_w, Int32.reduceOfInt, Int64.reduceOfInt, Int32.reduceOfNat, Int32.reduceLT, Int32.reduceLE, Prod.mk.injEq, Nat.reduceEqDiff, reduceCtorEq, and_true, true_and, and_false, false_and, and_self, ite_true, ite_false, ↓reduceIte, not_true_eq_false, not_false_eq_true, pe_ri, pe_rz, pe_rc, p_throw, t262, eq_false k1]
/-- TimberHouse$FaultRips.at(II)I -/
theorem c258 {d : Nat} {h : pm_H} {a : Nat} {x0 : Int32} {x1 : Int32} (hc : pm_cls h a = some 4) : pm_call pm_prog (d + 1) 258 [.ref a, .int x0, .int x1] h = pm_ev pm_prog (pm_call pm_prog d) 258 0 b258_0 [.ref a, .int x0, .int x1] [] h := pm_cal (pm_rc1 hc rfl) rfl rfl rfl
theorem g258_1 {cl : pm_C} {ls st : List Value} {h : pm_H} : pm_go pm_prog cl 258 1 ls st h = pm_ev pm_prog cl 258 1 b258_1 ls st h := pm_go_eq pm_prog cl 258 1 ls st h
theorem g258_2 {cl : pm_C} {ls st : List Value} {h : pm_H} : pm_go pm_prog cl 258 2 ls st h = pm_ev pm_prog cl 258 2 b258_2 ls st h := pm_go_eq pm_prog cl 258 2 ls st h
theorem g258_3 {cl : pm_C} {ls st : List Value} {h : pm_H} : pm_go pm_prog cl 258 3 ls st h = pm_ev pm_prog cl 258 3 b258_3 ls st h := pm_go_eq pm_prog cl 258 3 ls st h
theorem g258_4 {cl : pm_C} {ls st : List Value} {h : pm_H} : pm_go pm_prog cl 258 4 ls st h = pm_ev pm_prog cl 258 4 b258_4 ls st h := pm_go_eq pm_prog cl 258 4 ls st h
theorem g258_5 {cl : pm_C} {ls st : List Value} {h : pm_H} : pm_go pm_prog cl 258 5 ls st h = pm_ev pm_prog cl 258 5 b258_5 ls st h := pm_go_eq pm_prog cl 258 5 ls st h
theorem g258_6 {cl : pm_C} {ls st : List Value} {h : pm_H} : pm_go pm_prog cl 258 6 ls st h = pm_ev pm_prog cl 258 6 b258_6 ls st h := pm_go_eq pm_prog cl 258 6 ls st h
theorem g258_7 {cl : pm_C} {ls st : List Value} {h : pm_H} : pm_go pm_prog cl 258 7 ls st h = pm_ev pm_prog cl 258 7 b258_7 ls st h := pm_go_eq pm_prog cl 258 7 ls st h
theorem g258_8 {cl : pm_C} {ls st : List Value} {h : pm_H} : pm_go pm_prog cl 258 8 ls st h = pm_ev pm_prog cl 258 8 b258_8 ls st h := pm_go_eq pm_prog cl 258 8 ls st h
theorem t258 {cl : pm_C} {j : Nat} {ls : List Value} {c : Nat} {h : pm_H} : pm_thr pm_prog cl 258 j ls c h = some (.threw c, h) := rfl
/-- TimberHouse$FaultRips.at(II)I -/
noncomputable def f258 (fc : Int32) (pc : Int32) (S : wS) (x1 : Int32) (x2 : Int32) : Option (Nat ⊕ (Int32)) :=
  (f259 (S.1 (0, 0, 0) 16)).bind fun r => match r with
  | .inl c5 =>
    some (.inl c5)
  | .inr _ =>
  (f260 (Int32.toInt64 x1) (-1) (Int32.toInt64 ((S.1 (12, 0, 0) 5) - 1))).bind fun v1 =>
  (f261 v1).bind fun r => match r with
  | .inl c4 =>
    some (.inl c4)
  | .inr _ =>
  (f260 (Int32.toInt64 x2) 0 5).bind fun v2 =>
  (f262 v2).bind fun r => match r with
  | .inl c3 =>
    some (.inl c3)
  | .inr _ =>
  if x1 = (-1) then
    some (.inr (S.1 (12, 0, 0) 5))
  else
    if x2 = 0 then
      if 0 ≤ x1 ∧ x1 < 240 then
        some (.inr (S.1 (13, 0, 0) x1))
      else none
    else
      if x2 = 1 then
        if 0 ≤ x1 ∧ x1 < 240 then
          some (.inr (S.1 (14, 0, 0) x1))
        else none
      else
        if x2 = 2 then
          if 0 ≤ x1 ∧ x1 < 240 then
            some (.inr (S.1 (15, 0, 0) x1))
          else none
        else
          if x2 = 3 then
            if 0 ≤ x1 ∧ x1 < 240 then
              some (.inr (S.1 (16, 0, 0) x1))
            else none
          else
            if x2 = 4 then
              if 0 ≤ x1 ∧ x1 < 240 then
                some (.inr (S.1 (17, 0, 0) x1))
              else none
            else
              if 0 ≤ x1 ∧ x1 < 240 then
                if 0 ≤ (S.1 (17, 0, 0) x1) ∧ (S.1 (17, 0, 0) x1) < 8 then
                  if (S.1 (17, 0, 0) x1) < pc then
                    if 0 ≤ (S.1 (17, 0, 0) x1) ∧ (S.1 (17, 0, 0) x1) < pc then
                      some (.inr (Int64.toInt32 ((S.2 (4, (S.1 (17, 0, 0) x1), 0) 3) * (Int32.toInt64 (S.1 (15, 0, 0) x1)))))
                    else none
                  else none
                else none
              else none
theorem sw258_1 {x : Int32} : pm_sw 7 0 4 [2, 3, 4, 5, 6] x = if x = 0 then 2 else if x = 1 then 3 else if x = 2 then 4 else if x = 3 then 5 else if x = 4 then 6 else 7 := by
  by_cases k0 : x = 0
  · subst k0; rfl
  rw [if_neg k0]
  by_cases k1 : x = 1
  · subst k1; rfl
  rw [if_neg k1]
  by_cases k2 : x = 2
  · subst k2; rfl
  rw [if_neg k2]
  by_cases k3 : x = 3
  · subst k3; rfl
  rw [if_neg k3]
  by_cases k4 : x = 4
  · subst k4; rfl
  rw [if_neg k4]
  by_cases q : x.toInt < 0 ∨ 4 < x.toInt
  · exact if_pos q
  have q : x.toInt = 0 ∨ x.toInt = 1 ∨ x.toInt = 2 ∨ x.toInt = 3 ∨ x.toInt = 4 := by omega
  rcases q with q | q | q | q | q
  · exact absurd (Int32.toInt_inj.mp (q.trans (by decide : (0 : Int) = (0 : Int32).toInt))) k0
  · exact absurd (Int32.toInt_inj.mp (q.trans (by decide : (1 : Int) = (1 : Int32).toInt))) k1
  · exact absurd (Int32.toInt_inj.mp (q.trans (by decide : (2 : Int) = (2 : Int32).toInt))) k2
  · exact absurd (Int32.toInt_inj.mp (q.trans (by decide : (3 : Int) = (3 : Int32).toInt))) k3
  · exact absurd (Int32.toInt_inj.mp (q.trans (by decide : (4 : Int) = (4 : Int32).toInt))) k4
theorem x258 {fc : Int32} {pc : Int32} {A : wK → Nat} {h : pm_H} {D : Nat} {S : wS} {x1 : Int32} {x2 : Int32} {r : Nat ⊕ (Int32)} (hP : Cr_P fc pc) (hA : wok A (Cr_d fc pc) h.1) (hD : 2 ≤ D) (e : f258 fc pc S x1 x2 = some r) : pm_call pm_prog D 258 [.ref (A (0, 0, 0)), .int x1, .int x2] (wput A (Cr_d fc pc) S h) = some (match (generalizing := false) r with | .inl c => (Outcome.threw c, (wput A (Cr_d fc pc) S (pm_new h 6 (.inr (c, []))))) | .inr w0 => (Outcome.returned (some (.int w0)), (wput A (Cr_d fc pc) S h))) := by
  obtain ⟨D, rfl⟩ : ∃ D', D = D' + 1 := ⟨D - 1, by omega⟩
  have hD : 1 ≤ D := by omega
  simp only [f258] at e
  rw [c258 (Cr_c0 hP hA), b258_0]
  obtain ⟨r, k1, e⟩ := Option.bind_eq_some_iff.mp e
  have z1 := fun h => x259 (D := D) (h := h) (by omega) k1
  rcases r with c5 | _
  · dsimp only at e z1
    have e := Option.some.inj e; subst e
    simp -implicitDefEqProofs (disch := first | assumption | exact Nat.le_of_ble_eq_true rfl | decide) only [b258_0, g258_1, b258_1, g258_2, b258_2, g258_3, b258_3, g258_4, b258_4, g258_5, b258_5, g258_6, b258_6, g258_7, b258_7, g258_8, b258_8, pe_aload0, pe_getfield, pe_call1, pm_af_ret, pm_af_void, pm_af_thr, pe_iload1, pe_i2l, pe_bipush, pe_sipush, pe_isub, pe_call3, pe_iload2, pe_icmp_ne, pe_tableswitch, pe_baload, pe_goto, pe_aaload, pe_lmul, pe_l2i, pe_goto_w, pm_prog_1, pm_ob_some, Nat.reduceDiv, Nat.reduceMod, Nat.reduceMul, Nat.reduceAdd, Int.reduceToNat, pm_kill_i, pm_kill_r, pm_kill_n, pm_kill_j, pm_kill_l, pm_kill_d, pm_cats_nil, pm_cats_i, pm_cats_r, pm_cats_n, pm_cats_l, pm_cats_d, sz_1, sz_2, sl_1, sl_2, lc_0, lc_lt, lc_le, li_ne, va_rf, wr_m1, we_m1, pm_kill_w, Int32.reduceOfInt, Int64.reduceOfInt, Int32.reduceOfNat, Int32.reduceLT, Int32.reduceLE, Prod.mk.injEq, Nat.reduceEqDiff, reduceCtorEq, and_true, true_and, and_false, false_and, and_self, ite_true, ite_false, ↓reduceIte, not_true_eq_false, not_false_eq_true, pe_ri, pe_rz, pe_rc, p_throw, t258, w_junk hA, sw258_1, Cr_g0_12 hP hA, Cr_g0_16 hP hA, Cr_g0_5 hP hA, Cr_g12_0 hP hA, Cr_g12_1 hP hA, Cr_g12_2 hP hA, Cr_g12_3 hP hA, Cr_g12_4 hP hA, Cr_g12_5 hP hA, Cr_g4_3 hP hA, Cr_r13 hP hA, Cr_r14 hP hA, Cr_r15 hP hA, Cr_r16 hP hA, Cr_r17 hP hA, Cr_r3 hP hA, z1]
  · dsimp only at e z1
    obtain ⟨v1, k2, e⟩ := Option.bind_eq_some_iff.mp e
    try dsimp only at e
    have z2 := fun h => x260 (D := D) (h := h) (by omega) k2
    obtain ⟨r, k3, e⟩ := Option.bind_eq_some_iff.mp e
    have z3 := fun h => x261 (D := D) (h := h) (by omega) k3
    rcases r with c4 | _
    · dsimp only at e z3
      have e := Option.some.inj e; subst e
      simp -implicitDefEqProofs (disch := first | assumption | exact Nat.le_of_ble_eq_true rfl | decide) only [b258_0, g258_1, b258_1, g258_2, b258_2, g258_3, b258_3, g258_4, b258_4, g258_5, b258_5, g258_6, b258_6, g258_7, b258_7, g258_8, b258_8, pe_aload0, pe_getfield, pe_call1, pm_af_ret, pm_af_void, pm_af_thr, pe_iload1, pe_i2l, pe_bipush, pe_sipush, pe_isub, pe_call3, pe_iload2, pe_icmp_ne, pe_tableswitch, pe_baload, pe_goto, pe_aaload, pe_lmul, pe_l2i, pe_goto_w, pm_prog_1, pm_ob_some, Nat.reduceDiv, Nat.reduceMod, Nat.reduceMul, Nat.reduceAdd, Int.reduceToNat, pm_kill_i, pm_kill_r, pm_kill_n, pm_kill_j, pm_kill_l, pm_kill_d, pm_cats_nil, pm_cats_i, pm_cats_r, pm_cats_n, pm_cats_l, pm_cats_d, sz_1, sz_2, sl_1, sl_2, lc_0, lc_lt, lc_le, li_ne, va_rf, wr_m1, we_m1, pm_kill_w, Int32.reduceOfInt, Int64.reduceOfInt, Int32.reduceOfNat, Int32.reduceLT, Int32.reduceLE, Prod.mk.injEq, Nat.reduceEqDiff, reduceCtorEq, and_true, true_and, and_false, false_and, and_self, ite_true, ite_false, ↓reduceIte, not_true_eq_false, not_false_eq_true, pe_ri, pe_rz, pe_rc, p_throw, t258, w_junk hA, sw258_1, Cr_g0_12 hP hA, Cr_g0_16 hP hA, Cr_g0_5 hP hA, Cr_g12_0 hP hA, Cr_g12_1 hP hA, Cr_g12_2 hP hA, Cr_g12_3 hP hA, Cr_g12_4 hP hA, Cr_g12_5 hP hA, Cr_g4_3 hP hA, Cr_r13 hP hA, Cr_r14 hP hA, Cr_r15 hP hA, Cr_r16 hP hA, Cr_r17 hP hA, Cr_r3 hP hA, z1, z2, z3]
    · dsimp only at e z3
      obtain ⟨v2, k4, e⟩ := Option.bind_eq_some_iff.mp e
      try dsimp only at e
      have z4 := fun h => x260 (D := D) (h := h) (by omega) k4
      obtain ⟨r, k5, e⟩ := Option.bind_eq_some_iff.mp e
      have z5 := fun h => x262 (D := D) (h := h) (by omega) k5
      rcases r with c3 | _
      · dsimp only at e z5
        have e := Option.some.inj e; subst e
        simp -implicitDefEqProofs (disch := first | assumption | exact Nat.le_of_ble_eq_true rfl | decide) only [b258_0, g258_1, b258_1, g258_2, b258_2, g258_3, b258_3, g258_4, b258_4, g258_5, b258_5, g258_6, b258_6, g258_7, b258_7, g258_8, b258_8, pe_aload0, pe_getfield, pe_call1, pm_af_ret, pm_af_void, pm_af_thr, pe_iload1, pe_i2l, pe_bipush, pe_sipush, pe_isub, pe_call3, pe_iload2, pe_icmp_ne, pe_tableswitch, pe_baload, pe_goto, pe_aaload, pe_lmul, pe_l2i, pe_goto_w, pm_prog_1, pm_ob_some, Nat.reduceDiv, Nat.reduceMod, Nat.reduceMul, Nat.reduceAdd, Int.reduceToNat, pm_kill_i, pm_kill_r, pm_kill_n, pm_kill_j, pm_kill_l, pm_kill_d, pm_cats_nil, pm_cats_i, pm_cats_r, pm_cats_n, pm_cats_l, pm_cats_d, sz_1, sz_2, sl_1, sl_2, lc_0, lc_lt, lc_le, li_ne, va_rf, wr_m1, we_m1, pm_kill_w, Int32.reduceOfInt, Int64.reduceOfInt, Int32.reduceOfNat, Int32.reduceLT, Int32.reduceLE, Prod.mk.injEq, Nat.reduceEqDiff, reduceCtorEq, and_true, true_and, and_false, false_and, and_self, ite_true, ite_false, ↓reduceIte, not_true_eq_false, not_false_eq_true, pe_ri, pe_rz, pe_rc, p_throw, t258, w_junk hA, sw258_1, Cr_g0_12 hP hA, Cr_g0_16 hP hA, Cr_g0_5 hP hA, Cr_g12_0 hP hA, Cr_g12_1 hP hA, Cr_g12_2 hP hA, Cr_g12_3 hP hA, Cr_g12_4 hP hA, Cr_g12_5 hP hA, Cr_g4_3 hP hA, Cr_r13 hP hA, Cr_r14 hP hA, Cr_r15 hP hA, Cr_r16 hP hA, Cr_r17 hP hA, Cr_r3 hP hA, z1, z2, z3, z4, z5]
      · dsimp only at e z5
        by_cases k6 : x1 = (-1)
        · rw [if_pos k6] at e
          have e := Option.some.inj e; subst e
          simp -implicitDefEqProofs (disch := first | assumption | exact Nat.le_of_ble_eq_true rfl | decide) only [b258_0, g258_1, b258_1, g258_2, b258_2, g258_3, b258_3, g258_4, b258_4, g258_5, b258_5, g258_6, b258_6, g258_7, b258_7, g258_8, b258_8, pe_aload0, pe_getfield, pe_call1, pm_af_ret, pm_af_void, pm_af_thr, pe_iload1, pe_i2l, pe_bipush, pe_sipush, pe_isub, pe_call3, pe_iload2, pe_icmp_ne, pe_tableswitch, pe_baload, pe_goto, pe_aaload, pe_lmul, pe_l2i, pe_goto_w, pm_prog_1, pm_ob_some, Nat.reduceDiv, Nat.reduceMod, Nat.reduceMul, Nat.reduceAdd, Int.reduceToNat, pm_kill_i, pm_kill_r, pm_kill_n, pm_kill_j, pm_kill_l, pm_kill_d, pm_cats_nil, pm_cats_i, pm_cats_r, pm_cats_n, pm_cats_l, pm_cats_d, sz_1, sz_2, sl_1, sl_2, lc_0, lc_lt, lc_le, li_ne, va_rf, wr_m1, we_m1, pm_kill_w, Int32.reduceOfInt, Int64.reduceOfInt, Int32.reduceOfNat, Int32.reduceLT, Int32.reduceLE, Prod.mk.injEq, Nat.reduceEqDiff, reduceCtorEq, and_true, true_and, and_false, false_and, and_self, ite_true, ite_false, ↓reduceIte, not_true_eq_false, not_false_eq_true, pe_ri, pe_rz, pe_rc, p_throw, t258, w_junk hA, sw258_1, Cr_g0_12 hP hA, Cr_g0_16 hP hA, Cr_g0_5 hP hA, Cr_g12_0 hP hA, Cr_g12_1 hP hA, Cr_g12_2 hP hA, Cr_g12_3 hP hA, Cr_g12_4 hP hA, Cr_g12_5 hP hA, Cr_g4_3 hP hA, Cr_r13 hP hA, Cr_r14 hP hA, Cr_r15 hP hA, Cr_r16 hP hA, Cr_r17 hP hA, Cr_r3 hP hA, z1, z2, z3, z4, z5, eq_true k6]
        · rw [if_neg k6] at e
          by_cases k7 : x2 = 0
          · rw [if_pos k7] at e
            by_cases k8 : 0 ≤ x1 ∧ x1 < 240
            · rw [if_pos k8] at e
              have e := Option.some.inj e; subst e
              simp -implicitDefEqProofs (disch := first | assumption | exact Nat.le_of_ble_eq_true rfl | decide) only [b258_0, g258_1, b258_1, g258_2, b258_2, g258_3, b258_3, g258_4, b258_4, g258_5, b258_5, g258_6, b258_6, g258_7, b258_7, g258_8, b258_8, pe_aload0, pe_getfield, pe_call1, pm_af_ret, pm_af_void, pm_af_thr, pe_iload1, pe_i2l, pe_bipush, pe_sipush, pe_isub, pe_call3, pe_iload2, pe_icmp_ne, pe_tableswitch, pe_baload, pe_goto, pe_aaload, pe_lmul, pe_l2i, pe_goto_w, pm_prog_1, pm_ob_some, Nat.reduceDiv, Nat.reduceMod, Nat.reduceMul, Nat.reduceAdd, Int.reduceToNat, pm_kill_i, pm_kill_r, pm_kill_n, pm_kill_j, pm_kill_l, pm_kill_d, pm_cats_nil, pm_cats_i, pm_cats_r, pm_cats_n, pm_cats_l, pm_cats_d, sz_1, sz_2, sl_1, sl_2, lc_0, lc_lt, lc_le, li_ne, va_rf, wr_m1, we_m1, pm_kill_w, Int32.reduceOfInt, Int64.reduceOfInt, Int32.reduceOfNat, Int32.reduceLT, Int32.reduceLE, Prod.mk.injEq, Nat.reduceEqDiff, reduceCtorEq, and_true, true_and, and_false, false_and, and_self, ite_true, ite_false, ↓reduceIte, not_true_eq_false, not_false_eq_true, pe_ri, pe_rz, pe_rc, p_throw, t258, w_junk hA, sw258_1, Cr_g0_12 hP hA, Cr_g0_16 hP hA, Cr_g0_5 hP hA, Cr_g12_0 hP hA, Cr_g12_1 hP hA, Cr_g12_2 hP hA, Cr_g12_3 hP hA, Cr_g12_4 hP hA, Cr_g12_5 hP hA, Cr_g4_3 hP hA, Cr_r13 hP hA, Cr_r14 hP hA, Cr_r15 hP hA, Cr_r16 hP hA, Cr_r17 hP hA, Cr_r3 hP hA, z1, z2, z3, z4, z5, eq_false k6, eq_true k7]
            · rw [if_neg k8] at e; cases e
          · rw [if_neg k7] at e
            by_cases k9 : x2 = 1
            · rw [if_pos k9] at e
              by_cases k10 : 0 ≤ x1 ∧ x1 < 240
              · rw [if_pos k10] at e
                have e := Option.some.inj e; subst e
                simp -implicitDefEqProofs (disch := first | assumption | exact Nat.le_of_ble_eq_true rfl | decide) only [b258_0, g258_1, b258_1, g258_2, b258_2, g258_3, b258_3, g258_4, b258_4, g258_5, b258_5, g258_6, b258_6, g258_7, b258_7, g258_8, b258_8, pe_aload0, pe_getfield, pe_call1, pm_af_ret, pm_af_void, pm_af_thr, pe_iload1, pe_i2l, pe_bipush, pe_sipush, pe_isub, pe_call3, pe_iload2, pe_icmp_ne, pe_tableswitch, pe_baload, pe_goto, pe_aaload, pe_lmul, pe_l2i, pe_goto_w, pm_prog_1, pm_ob_some, Nat.reduceDiv, Nat.reduceMod, Nat.reduceMul, Nat.reduceAdd, Int.reduceToNat, pm_kill_i, pm_kill_r, pm_kill_n, pm_kill_j, pm_kill_l, pm_kill_d, pm_cats_nil, pm_cats_i, pm_cats_r, pm_cats_n, pm_cats_l, pm_cats_d, sz_1, sz_2, sl_1, sl_2, lc_0, lc_lt, lc_le, li_ne, va_rf, wr_m1, we_m1, pm_kill_w, Int32.reduceOfInt, Int64.reduceOfInt, Int32.reduceOfNat, Int32.reduceLT, Int32.reduceLE, Prod.mk.injEq, Nat.reduceEqDiff, reduceCtorEq, and_true, true_and, and_false, false_and, and_self, ite_true, ite_false, ↓reduceIte, not_true_eq_false, not_false_eq_true, pe_ri, pe_rz, pe_rc, p_throw, t258, w_junk hA, sw258_1, Cr_g0_12 hP hA, Cr_g0_16 hP hA, Cr_g0_5 hP hA, Cr_g12_0 hP hA, Cr_g12_1 hP hA, Cr_g12_2 hP hA, Cr_g12_3 hP hA, Cr_g12_4 hP hA, Cr_g12_5 hP hA, Cr_g4_3 hP hA, Cr_r13 hP hA, Cr_r14 hP hA, Cr_r15 hP hA, Cr_r16 hP hA, Cr_r17 hP hA, Cr_r3 hP hA, z1, z2, z3, z4, z5, eq_false k6, eq_false k7, eq_true k9]
              · rw [if_neg k10] at e; cases e
            · rw [if_neg k9] at e
              by_cases k11 : x2 = 2
              · rw [if_pos k11] at e
                by_cases k12 : 0 ≤ x1 ∧ x1 < 240
                · rw [if_pos k12] at e
                  have e := Option.some.inj e; subst e
                  simp -implicitDefEqProofs (disch := first | assumption | exact Nat.le_of_ble_eq_true rfl | decide) only [b258_0, g258_1, b258_1, g258_2, b258_2, g258_3, b258_3, g258_4, b258_4, g258_5, b258_5, g258_6, b258_6, g258_7, b258_7, g258_8, b258_8, pe_aload0, pe_getfield, pe_call1, pm_af_ret, pm_af_void, pm_af_thr, pe_iload1, pe_i2l, pe_bipush, pe_sipush, pe_isub, pe_call3, pe_iload2, pe_icmp_ne, pe_tableswitch, pe_baload, pe_goto, pe_aaload, pe_lmul, pe_l2i, pe_goto_w, pm_prog_1, pm_ob_some, Nat.reduceDiv, Nat.reduceMod, Nat.reduceMul, Nat.reduceAdd, Int.reduceToNat, pm_kill_i, pm_kill_r, pm_kill_n, pm_kill_j, pm_kill_l, pm_kill_d, pm_cats_nil, pm_cats_i, pm_cats_r, pm_cats_n, pm_cats_l, pm_cats_d, sz_1, sz_2, sl_1, sl_2, lc_0, lc_lt, lc_le, li_ne, va_rf, wr_m1, we_m1, pm_kill_w, Int32.reduceOfInt, Int64.reduceOfInt, Int32.reduceOfNat, Int32.reduceLT, Int32.reduceLE, Prod.mk.injEq, Nat.reduceEqDiff, reduceCtorEq, and_true, true_and, and_false, false_and, and_self, ite_true, ite_false, ↓reduceIte, not_true_eq_false, not_false_eq_true, pe_ri, pe_rz, pe_rc, p_throw, t258, w_junk hA, sw258_1, Cr_g0_12 hP hA, Cr_g0_16 hP hA, Cr_g0_5 hP hA, Cr_g12_0 hP hA, Cr_g12_1 hP hA, Cr_g12_2 hP hA, Cr_g12_3 hP hA, Cr_g12_4 hP hA, Cr_g12_5 hP hA, Cr_g4_3 hP hA, Cr_r13 hP hA, Cr_r14 hP hA, Cr_r15 hP hA, Cr_r16 hP hA, Cr_r17 hP hA, Cr_r3 hP hA, z1, z2, z3, z4, z5, eq_false k6, eq_false k7, eq_false k9, eq_true k11]
                · rw [if_neg k12] at e; cases e
              · rw [if_neg k11] at e
                by_cases k13 : x2 = 3
                · rw [if_pos k13] at e
                  by_cases k14 : 0 ≤ x1 ∧ x1 < 240
                  · rw [if_pos k14] at e
                    have e := Option.some.inj e; subst e
                    simp -implicitDefEqProofs (disch := first | assumption | exact Nat.le_of_ble_eq_true rfl | decide) only [b258_0, g258_1, b258_1, g258_2, b258_2, g258_3, b258_3, g258_4, b258_4, g258_5, b258_5, g258_6, b258_6, g258_7, b258_7, g258_8, b258_8, pe_aload0, pe_getfield, pe_call1, pm_af_ret, pm_af_void, pm_af_thr, pe_iload1, pe_i2l, pe_bipush, pe_sipush, pe_isub, pe_call3, pe_iload2, pe_icmp_ne, pe_tableswitch, pe_baload, pe_goto, pe_aaload, pe_lmul, pe_l2i, pe_goto_w, pm_prog_1, pm_ob_some, Nat.reduceDiv, Nat.reduceMod, Nat.reduceMul, Nat.reduceAdd, Int.reduceToNat, pm_kill_i, pm_kill_r, pm_kill_n, pm_kill_j, pm_kill_l, pm_kill_d, pm_cats_nil, pm_cats_i, pm_cats_r, pm_cats_n, pm_cats_l, pm_cats_d, sz_1, sz_2, sl_1, sl_2, lc_0, lc_lt, lc_le, li_ne, va_rf, wr_m1, we_m1, pm_kill_w, Int32.reduceOfInt, Int64.reduceOfInt, Int32.reduceOfNat, Int32.reduceLT, Int32.reduceLE, Prod.mk.injEq, Nat.reduceEqDiff, reduceCtorEq, and_true, true_and, and_false, false_and, and_self, ite_true, ite_false, ↓reduceIte, not_true_eq_false, not_false_eq_true, pe_ri, pe_rz, pe_rc, p_throw, t258, w_junk hA, sw258_1, Cr_g0_12 hP hA, Cr_g0_16 hP hA, Cr_g0_5 hP hA, Cr_g12_0 hP hA, Cr_g12_1 hP hA, Cr_g12_2 hP hA, Cr_g12_3 hP hA, Cr_g12_4 hP hA, Cr_g12_5 hP hA, Cr_g4_3 hP hA, Cr_r13 hP hA, Cr_r14 hP hA, Cr_r15 hP hA, Cr_r16 hP hA, Cr_r17 hP hA, Cr_r3 hP hA, z1, z2, z3, z4, z5, eq_false k6, eq_false k7, eq_false k9, eq_false k11, eq_true k13]
                  · rw [if_neg k14] at e; cases e
                · rw [if_neg k13] at e
                  by_cases k15 : x2 = 4
                  · rw [if_pos k15] at e
                    by_cases k16 : 0 ≤ x1 ∧ x1 < 240
                    · rw [if_pos k16] at e
                      have e := Option.some.inj e; subst e
                      simp -implicitDefEqProofs (disch := first | assumption | exact Nat.le_of_ble_eq_true rfl | decide) only [b258_0, g258_1, b258_1, g258_2, b258_2, g258_3, b258_3, g258_4, b258_4, g258_5, b258_5, g258_6, b258_6, g258_7, b258_7, g258_8, b258_8, pe_aload0, pe_getfield, pe_call1, pm_af_ret, pm_af_void, pm_af_thr, pe_iload1, pe_i2l, pe_bipush, pe_sipush, pe_isub, pe_call3, pe_iload2, pe_icmp_ne, pe_tableswitch, pe_baload, pe_goto, pe_aaload, pe_lmul, pe_l2i, pe_goto_w, pm_prog_1, pm_ob_some, Nat.reduceDiv, Nat.reduceMod, Nat.reduceMul, Nat.reduceAdd, Int.reduceToNat, pm_kill_i, pm_kill_r, pm_kill_n, pm_kill_j, pm_kill_l, pm_kill_d, pm_cats_nil, pm_cats_i, pm_cats_r, pm_cats_n, pm_cats_l, pm_cats_d, sz_1, sz_2, sl_1, sl_2, lc_0, lc_lt, lc_le, li_ne, va_rf, wr_m1, we_m1, pm_kill_w, Int32.reduceOfInt, Int64.reduceOfInt, Int32.reduceOfNat, Int32.reduceLT, Int32.reduceLE, Prod.mk.injEq, Nat.reduceEqDiff, reduceCtorEq, and_true, true_and, and_false, false_and, and_self, ite_true, ite_false, ↓reduceIte, not_true_eq_false, not_false_eq_true, pe_ri, pe_rz, pe_rc, p_throw, t258, w_junk hA, sw258_1, Cr_g0_12 hP hA, Cr_g0_16 hP hA, Cr_g0_5 hP hA, Cr_g12_0 hP hA, Cr_g12_1 hP hA, Cr_g12_2 hP hA, Cr_g12_3 hP hA, Cr_g12_4 hP hA, Cr_g12_5 hP hA, Cr_g4_3 hP hA, Cr_r13 hP hA, Cr_r14 hP hA, Cr_r15 hP hA, Cr_r16 hP hA, Cr_r17 hP hA, Cr_r3 hP hA, z1, z2, z3, z4, z5, eq_false k6, eq_false k7, eq_false k9, eq_false k11, eq_false k13, eq_true k15]
                    · rw [if_neg k16] at e; cases e
                  · rw [if_neg k15] at e
                    by_cases k17 : 0 ≤ x1 ∧ x1 < 240
                    · rw [if_pos k17] at e
                      by_cases k18 : 0 ≤ (S.1 (17, 0, 0) x1) ∧ (S.1 (17, 0, 0) x1) < 8
                      · rw [if_pos k18] at e
                        by_cases k19 : (S.1 (17, 0, 0) x1) < pc
                        · rw [if_pos k19] at e
                          by_cases k20 : 0 ≤ (S.1 (17, 0, 0) x1) ∧ (S.1 (17, 0, 0) x1) < pc
                          · rw [if_pos k20] at e
                            have e := Option.some.inj e; subst e
                            simp -implicitDefEqProofs (disch := first | assumption | exact Nat.le_of_ble_eq_true rfl | decide) only [b258_0, g258_1, b258_1, g258_2, b258_2, g258_3, b258_3, g258_4, b258_4, g258_5, b258_5, g258_6, b258_6, g258_7, b258_7, g258_8, b258_8, pe_aload0, pe_getfield, pe_call1, pm_af_ret, pm_af_void, pm_af_thr, pe_iload1, pe_i2l, pe_bipush, pe_sipush, pe_isub, pe_call3, pe_iload2, pe_icmp_ne, pe_tableswitch, pe_baload, pe_goto, pe_aaload, pe_lmul, pe_l2i, pe_goto_w, pm_prog_1, pm_ob_some, Nat.reduceDiv, Nat.reduceMod, Nat.reduceMul, Nat.reduceAdd, Int.reduceToNat, pm_kill_i, pm_kill_r, pm_kill_n, pm_kill_j, pm_kill_l, pm_kill_d, pm_cats_nil, pm_cats_i, pm_cats_r, pm_cats_n, pm_cats_l, pm_cats_d, sz_1, sz_2, sl_1, sl_2, lc_0, lc_lt, lc_le, li_ne, va_rf, wr_m1, we_m1, pm_kill_w, Int32.reduceOfInt, Int64.reduceOfInt, Int32.reduceOfNat, Int32.reduceLT, Int32.reduceLE, Prod.mk.injEq, Nat.reduceEqDiff, reduceCtorEq, and_true, true_and, and_false, false_and, and_self, ite_true, ite_false, ↓reduceIte, not_true_eq_false, not_false_eq_true, pe_ri, pe_rz, pe_rc, p_throw, t258, w_junk hA, sw258_1, Cr_g0_12 hP hA, Cr_g0_16 hP hA, Cr_g0_5 hP hA, Cr_g12_0 hP hA, Cr_g12_1 hP hA, Cr_g12_2 hP hA, Cr_g12_3 hP hA, Cr_g12_4 hP hA, Cr_g12_5 hP hA, Cr_g4_3 hP hA, Cr_r13 hP hA, Cr_r14 hP hA, Cr_r15 hP hA, Cr_r16 hP hA, Cr_r17 hP hA, Cr_r3 hP hA, z1, z2, z3, z4, z5, eq_false k6, eq_false k7, eq_false k9, eq_false k11, eq_false k13, eq_false k15]
                          · rw [if_neg k20] at e; cases e
                        · rw [if_neg k19] at e; cases e
                      · rw [if_neg k18] at e; cases e
                    · rw [if_neg k17] at e; cases e
/-- TimberHouse$FaultRips.worth()J -/
theorem c263 {d : Nat} {h : pm_H} {a : Nat} (hc : pm_cls h a = some 4) : pm_call pm_prog (d + 1) 263 [.ref a] h = pm_ev pm_prog (pm_call pm_prog d) 263 0 b263_0 [.ref a] [] h := pm_cal (pm_rc1 hc rfl) rfl rfl rfl
theorem t263 {cl : pm_C} {j : Nat} {ls : List Value} {c : Nat} {h : pm_H} : pm_thr pm_prog cl 263 j ls c h = some (.threw c, h) := rfl
/-- TimberHouse$FaultRips.worth()J -/
noncomputable def f263 (fc : Int32) (pc : Int32) (S : wS) : Option (Nat ⊕ (Int64)) :=
  (f259 (S.1 (0, 0, 0) 16)).bind fun r => match r with
  | .inl c1 =>
    some (.inl c1)
  | .inr _ =>
  some (.inr (S.2 (12, 0, 0) 6))
theorem x263 {fc : Int32} {pc : Int32} {A : wK → Nat} {h : pm_H} {D : Nat} {S : wS} {r : Nat ⊕ (Int64)} (hP : Cr_P fc pc) (hA : wok A (Cr_d fc pc) h.1) (hD : 2 ≤ D) (e : f263 fc pc S = some r) : pm_call pm_prog D 263 [.ref (A (0, 0, 0))] (wput A (Cr_d fc pc) S h) = some (match (generalizing := false) r with | .inl c => (Outcome.threw c, (wput A (Cr_d fc pc) S (pm_new h 6 (.inr (c, []))))) | .inr w0 => (Outcome.returned (some (.long w0)), (wput A (Cr_d fc pc) S h))) := by
  obtain ⟨D, rfl⟩ : ∃ D', D = D' + 1 := ⟨D - 1, by omega⟩
  have hD : 1 ≤ D := by omega
  simp only [f263] at e
  rw [c263 (Cr_c0 hP hA), b263_0]
  obtain ⟨r, k1, e⟩ := Option.bind_eq_some_iff.mp e
  have z1 := fun h => x259 (D := D) (h := h) (by omega) k1
  rcases r with c1 | _
  · dsimp only at e z1
    have e := Option.some.inj e; subst e
    simp -implicitDefEqProofs (disch := first | assumption | exact Nat.le_of_ble_eq_true rfl | decide) only [b263_0, pe_aload0, pe_getfield, pe_call1, pm_af_ret, pm_af_void, pm_af_thr, pe_lreturn, pm_prog_1, pm_ob_some, Nat.reduceDiv, Nat.reduceMod, Nat.reduceMul, Nat.reduceAdd, Int.reduceToNat, pm_kill_i, pm_kill_r, pm_kill_n, pm_kill_j, pm_kill_l, pm_kill_d, pm_cats_nil, pm_cats_i, pm_cats_r, pm_cats_n, pm_cats_l, pm_cats_d, sz_1, sz_2, sl_1, sl_2, lc_0, lc_lt, lc_le, li_ne, va_rf, wr_m1, we_m1, pm_kill_w, Int32.reduceOfInt, Int64.reduceOfInt, Int32.reduceOfNat, Int32.reduceLT, Int32.reduceLE, Prod.mk.injEq, Nat.reduceEqDiff, reduceCtorEq, and_true, true_and, and_false, false_and, and_self, ite_true, ite_false, ↓reduceIte, not_true_eq_false, not_false_eq_true, pe_ri, pe_rz, pe_rc, p_throw, t263, w_junk hA, Cr_g0_12 hP hA, Cr_g0_16 hP hA, Cr_g12_6 hP hA, z1]
  · dsimp only at e z1
    have e := Option.some.inj e; subst e
    simp -implicitDefEqProofs (disch := first | assumption | exact Nat.le_of_ble_eq_true rfl | decide) only [b263_0, pe_aload0, pe_getfield, pe_call1, pm_af_ret, pm_af_void, pm_af_thr, pe_lreturn, pm_prog_1, pm_ob_some, Nat.reduceDiv, Nat.reduceMod, Nat.reduceMul, Nat.reduceAdd, Int.reduceToNat, pm_kill_i, pm_kill_r, pm_kill_n, pm_kill_j, pm_kill_l, pm_kill_d, pm_cats_nil, pm_cats_i, pm_cats_r, pm_cats_n, pm_cats_l, pm_cats_d, sz_1, sz_2, sl_1, sl_2, lc_0, lc_lt, lc_le, li_ne, va_rf, wr_m1, we_m1, pm_kill_w, Int32.reduceOfInt, Int64.reduceOfInt, Int32.reduceOfNat, Int32.reduceLT, Int32.reduceLE, Prod.mk.injEq, Nat.reduceEqDiff, reduceCtorEq, and_true, true_and, and_false, false_and, and_self, ite_true, ite_false, ↓reduceIte, not_true_eq_false, not_false_eq_true, pe_ri, pe_rz, pe_rc, p_throw, t263, w_junk hA, Cr_g0_12 hP hA, Cr_g0_16 hP hA, Cr_g12_6 hP hA, z1]
/-- TimberHouse$FaultRips.told(Z)Z -/
theorem c265 {d : Nat} {h : pm_H} {a : Nat} {x0 : Int32} (hc : pm_cls h a = some 4) : pm_call pm_prog (d + 1) 265 [.ref a, .int x0] h = pm_ev pm_prog (pm_call pm_prog d) 265 0 b265_0 [.ref a, .int x0] [] h := pm_cal (pm_rc1 hc rfl) rfl rfl rfl
theorem g265_1 {cl : pm_C} {ls st : List Value} {h : pm_H} : pm_go pm_prog cl 265 1 ls st h = pm_ev pm_prog cl 265 1 b265_1 ls st h := pm_go_eq pm_prog cl 265 1 ls st h
theorem g265_2 {cl : pm_C} {ls st : List Value} {h : pm_H} : pm_go pm_prog cl 265 2 ls st h = pm_ev pm_prog cl 265 2 b265_2 ls st h := pm_go_eq pm_prog cl 265 2 ls st h
/-- TimberHouse$FaultRips.told(Z)Z -/
noncomputable def f265 (fc : Int32) (pc : Int32) (S : wS) (x1 : Int32) : Option (Int32 × wS) :=
  if x1 = 0 then
    if ((S.1 (0, 0, 0) 16) &&& 1) = 0 ∨ ((S.1 (0, 0, 0) 16) &&& 1) = 1 then
      if x1 = 0 ∨ x1 = 1 then
        some (x1, (sz S (0, 0, 0) 16 ((S.1 (0, 0, 0) 16) &&& 1)))
      else none
    else none
  else
    if ((S.1 (0, 0, 0) 16) &&& 0) = 0 ∨ ((S.1 (0, 0, 0) 16) &&& 0) = 1 then
      if x1 = 0 ∨ x1 = 1 then
        some (x1, (sz S (0, 0, 0) 16 ((S.1 (0, 0, 0) 16) &&& 0)))
      else none
    else none
theorem x265 {fc : Int32} {pc : Int32} {A : wK → Nat} {h : pm_H} {D : Nat} {S : wS} {x1 : Int32} {r : Int32 × wS} (hP : Cr_P fc pc) (hA : wok A (Cr_d fc pc) h.1) (hD : 1 ≤ D) (e : f265 fc pc S x1 = some r) : pm_call pm_prog D 265 [.ref (A (0, 0, 0)), .int x1] (wput A (Cr_d fc pc) S h) = some (match (generalizing := false) r with | (w0, S1) => (Outcome.returned (some (.int w0)), (wput A (Cr_d fc pc) S1 h))) := by
  obtain ⟨D, rfl⟩ : ∃ D', D = D' + 1 := ⟨D - 1, by omega⟩
  have hD : 0 ≤ D := by omega
  simp only [f265] at e
  rw [c265 (Cr_c0 hP hA), b265_0]
  by_cases k1 : x1 = 0
  · rw [if_pos k1] at e
    by_cases k2 : ((S.1 (0, 0, 0) 16) &&& 1) = 0 ∨ ((S.1 (0, 0, 0) 16) &&& 1) = 1
    · rw [if_pos k2] at e
      by_cases k3 : x1 = 0 ∨ x1 = 1
      · rw [if_pos k3] at e
        have e := Option.some.inj e; subst e
        simp -implicitDefEqProofs (disch := first | assumption | exact Nat.le_of_ble_eq_true rfl | decide) only [b265_0, g265_1, b265_1, g265_2, b265_2, pe_aload0, pe_dup_i, pe_dup_r, pe_getfield, pe_iload1, pe_if_ne, pe_sipush, pe_goto, pe_goto_w, pe_iand, pe_putfield, pm_prog_1, pm_ob_some, Nat.reduceDiv, Nat.reduceMod, Nat.reduceMul, Nat.reduceAdd, Int.reduceToNat, pm_kill_i, pm_kill_r, pm_kill_n, pm_kill_j, pm_kill_l, pm_kill_d, pm_cats_nil, pm_cats_i, pm_cats_r, pm_cats_n, pm_cats_l, pm_cats_d, sz_1, sz_2, sl_1, sl_2, lc_0, lc_lt, lc_le, li_ne, va_rf, wr_m1, we_m1, pm_kill_w, Int32.reduceOfInt, Int64.reduceOfInt, Int32.reduceOfNat, Int32.reduceLT, Int32.reduceLE, Prod.mk.injEq, Nat.reduceEqDiff, reduceCtorEq, and_true, true_and, and_false, false_and, and_self, ite_true, ite_false, ↓reduceIte, not_true_eq_false, not_false_eq_true, pe_ri, pe_rz, pe_rc, Cr_g0_16 hP hA, Cr_p0_16 hP hA, eq_true k1]
      · rw [if_neg k3] at e; cases e
    · rw [if_neg k2] at e; cases e
  · rw [if_neg k1] at e
    by_cases k4 : ((S.1 (0, 0, 0) 16) &&& 0) = 0 ∨ ((S.1 (0, 0, 0) 16) &&& 0) = 1
    · rw [if_pos k4] at e
      by_cases k5 : x1 = 0 ∨ x1 = 1
      · rw [if_pos k5] at e
        have e := Option.some.inj e; subst e
        simp -implicitDefEqProofs (disch := first | assumption | exact Nat.le_of_ble_eq_true rfl | decide) only [b265_0, g265_1, b265_1, g265_2, b265_2, pe_aload0, pe_dup_i, pe_dup_r, pe_getfield, pe_iload1, pe_if_ne, pe_sipush, pe_goto, pe_goto_w, pe_iand, pe_putfield, pm_prog_1, pm_ob_some, Nat.reduceDiv, Nat.reduceMod, Nat.reduceMul, Nat.reduceAdd, Int.reduceToNat, pm_kill_i, pm_kill_r, pm_kill_n, pm_kill_j, pm_kill_l, pm_kill_d, pm_cats_nil, pm_cats_i, pm_cats_r, pm_cats_n, pm_cats_l, pm_cats_d, sz_1, sz_2, sl_1, sl_2, lc_0, lc_lt, lc_le, li_ne, va_rf, wr_m1, we_m1, pm_kill_w, Int32.reduceOfInt, Int64.reduceOfInt, Int32.reduceOfNat, Int32.reduceLT, Int32.reduceLE, Prod.mk.injEq, Nat.reduceEqDiff, reduceCtorEq, and_true, true_and, and_false, false_and, and_self, ite_true, ite_false, ↓reduceIte, not_true_eq_false, not_false_eq_true, pe_ri, pe_rz, pe_rc, Cr_g0_16 hP hA, Cr_p0_16 hP hA, eq_false k1]
      · rw [if_neg k5] at e; cases e
    · rw [if_neg k4] at e; cases e
/-- TimberHouse$FaultRips.stepsOf(I)I -/
theorem c267 {d : Nat} {h : pm_H} {a : Nat} {x0 : Int32} (hc : pm_cls h a = some 4) : pm_call pm_prog (d + 1) 267 [.ref a, .int x0] h = pm_ev pm_prog (pm_call pm_prog d) 267 0 b267_0 [.ref a, .int x0] [] h := pm_cal (pm_rc1 hc rfl) rfl rfl rfl
/-- TimberHouse$FaultRips.stepsOf(I)I -/
noncomputable def f267 (fc : Int32) (pc : Int32) (S : wS) (x1 : Int32) : Option (Int32) :=
  if ¬ (S.1 (0, 0, 0) 0) = 0 then
    some (((x1 + (S.1 (0, 0, 0) 0)) - 1) / (S.1 (0, 0, 0) 0))
  else none
theorem x267 {fc : Int32} {pc : Int32} {A : wK → Nat} {h : pm_H} {D : Nat} {S : wS} {x1 : Int32} {r : Int32} (hP : Cr_P fc pc) (hA : wok A (Cr_d fc pc) h.1) (hD : 1 ≤ D) (e : f267 fc pc S x1 = some r) : pm_call pm_prog D 267 [.ref (A (0, 0, 0)), .int x1] (wput A (Cr_d fc pc) S h) = some (Outcome.returned (some (.int r)), (wput A (Cr_d fc pc) S h)) := by
  obtain ⟨D, rfl⟩ : ∃ D', D = D' + 1 := ⟨D - 1, by omega⟩
  have hD : 0 ≤ D := by omega
  simp only [f267] at e
  rw [c267 (Cr_c0 hP hA), b267_0]
  by_cases k1 : ¬ (S.1 (0, 0, 0) 0) = 0
  · rw [if_pos k1] at e
    have e := Option.some.inj e; subst e
    simp -implicitDefEqProofs (disch := first | assumption | exact Nat.le_of_ble_eq_true rfl | decide) only [b267_0, pe_iload1, pe_aload0, pe_getfield, pe_iadd, pe_sipush, pe_isub, pe_idiv, pm_prog_1, pm_ob_some, Nat.reduceDiv, Nat.reduceMod, Nat.reduceMul, Nat.reduceAdd, Int.reduceToNat, pm_kill_i, pm_kill_r, pm_kill_n, pm_kill_j, pm_kill_l, pm_kill_d, pm_cats_nil, pm_cats_i, pm_cats_r, pm_cats_n, pm_cats_l, pm_cats_d, sz_1, sz_2, sl_1, sl_2, lc_0, lc_lt, lc_le, li_ne, va_rf, wr_m1, we_m1, pm_kill_w, Int32.reduceOfInt, Int64.reduceOfInt, Int32.reduceOfNat, Int32.reduceLT, Int32.reduceLE, Prod.mk.injEq, Nat.reduceEqDiff, reduceCtorEq, and_true, true_and, and_false, false_and, and_self, ite_true, ite_false, ↓reduceIte, not_true_eq_false, not_false_eq_true, pe_ri, pe_rz, pe_rc, Cr_g0_0 hP hA]
  · rw [if_neg k1] at e; cases e
/-- TimberHouse$FaultRips.at(I)LTimberHouse$FaultRips$Piece; -/
theorem c269 {d : Nat} {h : pm_H} {a : Nat} {x0 : Int32} (hc : pm_cls h a = some 4) : pm_call pm_prog (d + 1) 269 [.ref a, .int x0] h = pm_ev pm_prog (pm_call pm_prog d) 269 0 b269_0 [.ref a, .int x0] [] h := pm_cal (pm_rc1 hc rfl) rfl rfl rfl
theorem g269_1 {cl : pm_C} {ls st : List Value} {h : pm_H} : pm_go pm_prog cl 269 1 ls st h = pm_ev pm_prog cl 269 1 b269_1 ls st h := pm_go_eq pm_prog cl 269 1 ls st h
theorem g269_2 {cl : pm_C} {ls st : List Value} {h : pm_H} : pm_go pm_prog cl 269 2 ls st h = pm_ev pm_prog cl 269 2 b269_2 ls st h := pm_go_eq pm_prog cl 269 2 ls st h
theorem t269 {cl : pm_C} {j : Nat} {ls : List Value} {c : Nat} {h : pm_H} : pm_thr pm_prog cl 269 j ls c h = some (.threw c, h) := rfl
noncomputable def f269_2 (fc : Int32) (pc : Int32) (S : wS) (x1 : Int32) (y0 : Int32) : Option (Nat ⊕ (Int32)) :=
  (f261 y0).bind fun r => match r with
  | .inl c1 =>
    some (.inl c1)
  | .inr _ =>
  if 0 ≤ x1 ∧ x1 < 8 then
    if x1 < pc then
      if 0 ≤ x1 ∧ x1 < pc then
        some (.inr x1)
      else none
    else none
  else none
/-- TimberHouse$FaultRips.at(I)LTimberHouse$FaultRips$Piece; -/
noncomputable def f269 (fc : Int32) (pc : Int32) (S : wS) (x1 : Int32) : Option (Nat ⊕ (Int32)) :=
  if x1 < 0 then
    f269_2 fc pc S x1 0
  else
    if x1 < (S.1 (0, 0, 0) 6) then
      f269_2 fc pc S x1 1
    else
      f269_2 fc pc S x1 0
theorem y269_2 {fc : Int32} {pc : Int32} {A : wK → Nat} {h : pm_H} {D : Nat} {S : wS} {x1 : Int32} {y0 : Int32} {r : Nat ⊕ (Int32)} (hP : Cr_P fc pc) (hA : wok A (Cr_d fc pc) h.1) (hD : 1 ≤ D) (e : f269_2 fc pc S x1 y0 = some r) : pm_go pm_prog (pm_call pm_prog D) 269 2 [.ref (A (0, 0, 0)), .int x1] [.int y0] (wput A (Cr_d fc pc) S h) = some (match (generalizing := false) r with | .inl c => (Outcome.threw c, (wput A (Cr_d fc pc) S (pm_new h 6 (.inr (c, []))))) | .inr w0 => (Outcome.returned (some (.ref (A (4, w0, 0)))), (wput A (Cr_d fc pc) S h))) := by
  simp only [f269_2] at e
  rw [g269_2, b269_2]
  obtain ⟨r, k1, e⟩ := Option.bind_eq_some_iff.mp e
  have z1 := fun h => x261 (D := D) (h := h) (by omega) k1
  rcases r with c1 | _
  · dsimp only at e z1
    have e := Option.some.inj e; subst e
    simp -implicitDefEqProofs (disch := first | assumption | exact Nat.le_of_ble_eq_true rfl | decide) only [b269_0, g269_1, b269_1, pe_iload1, pe_if_lt, pe_aload0, pe_getfield, pe_icmp_ge, pe_sipush, pe_goto, pe_goto_w, pe_call1, pm_af_ret, pm_af_void, pm_af_thr, pe_aaload, pe_areturn, pm_prog_1, pm_ob_some, Nat.reduceDiv, Nat.reduceMod, Nat.reduceMul, Nat.reduceAdd, Int.reduceToNat, pm_kill_i, pm_kill_r, pm_kill_n, pm_kill_j, pm_kill_l, pm_kill_d, pm_cats_nil, pm_cats_i, pm_cats_r, pm_cats_n, pm_cats_l, pm_cats_d, sz_1, sz_2, sl_1, sl_2, lc_0, lc_lt, lc_le, li_ne, va_rf, wr_m1, we_m1, pm_kill_w, Int32.reduceOfInt, Int64.reduceOfInt, Int32.reduceOfNat, Int32.reduceLT, Int32.reduceLE, Prod.mk.injEq, Nat.reduceEqDiff, reduceCtorEq, and_true, true_and, and_false, false_and, and_self, ite_true, ite_false, ↓reduceIte, not_true_eq_false, not_false_eq_true, pe_ri, pe_rz, pe_rc, p_throw, t269, w_junk hA, Cr_g0_5 hP hA, Cr_g0_6 hP hA, Cr_r3 hP hA, z1]
  · dsimp only at e z1
    by_cases k2 : 0 ≤ x1 ∧ x1 < 8
    · rw [if_pos k2] at e
      by_cases k3 : x1 < pc
      · rw [if_pos k3] at e
        by_cases k4 : 0 ≤ x1 ∧ x1 < pc
        · rw [if_pos k4] at e
          have e := Option.some.inj e; subst e
          simp -implicitDefEqProofs (disch := first | assumption | exact Nat.le_of_ble_eq_true rfl | decide) only [b269_0, g269_1, b269_1, pe_iload1, pe_if_lt, pe_aload0, pe_getfield, pe_icmp_ge, pe_sipush, pe_goto, pe_goto_w, pe_call1, pm_af_ret, pm_af_void, pm_af_thr, pe_aaload, pe_areturn, pm_prog_1, pm_ob_some, Nat.reduceDiv, Nat.reduceMod, Nat.reduceMul, Nat.reduceAdd, Int.reduceToNat, pm_kill_i, pm_kill_r, pm_kill_n, pm_kill_j, pm_kill_l, pm_kill_d, pm_cats_nil, pm_cats_i, pm_cats_r, pm_cats_n, pm_cats_l, pm_cats_d, sz_1, sz_2, sl_1, sl_2, lc_0, lc_lt, lc_le, li_ne, va_rf, wr_m1, we_m1, pm_kill_w, Int32.reduceOfInt, Int64.reduceOfInt, Int32.reduceOfNat, Int32.reduceLT, Int32.reduceLE, Prod.mk.injEq, Nat.reduceEqDiff, reduceCtorEq, and_true, true_and, and_false, false_and, and_self, ite_true, ite_false, ↓reduceIte, not_true_eq_false, not_false_eq_true, pe_ri, pe_rz, pe_rc, p_throw, t269, w_junk hA, Cr_g0_5 hP hA, Cr_g0_6 hP hA, Cr_r3 hP hA, z1]
        · rw [if_neg k4] at e; cases e
      · rw [if_neg k3] at e; cases e
    · rw [if_neg k2] at e; cases e
theorem x269 {fc : Int32} {pc : Int32} {A : wK → Nat} {h : pm_H} {D : Nat} {S : wS} {x1 : Int32} {r : Nat ⊕ (Int32)} (hP : Cr_P fc pc) (hA : wok A (Cr_d fc pc) h.1) (hD : 2 ≤ D) (e : f269 fc pc S x1 = some r) : pm_call pm_prog D 269 [.ref (A (0, 0, 0)), .int x1] (wput A (Cr_d fc pc) S h) = some (match (generalizing := false) r with | .inl c => (Outcome.threw c, (wput A (Cr_d fc pc) S (pm_new h 6 (.inr (c, []))))) | .inr w0 => (Outcome.returned (some (.ref (A (4, w0, 0)))), (wput A (Cr_d fc pc) S h))) := by
  obtain ⟨D, rfl⟩ : ∃ D', D = D' + 1 := ⟨D - 1, by omega⟩
  have hD : 1 ≤ D := by omega
  simp only [f269] at e
  rw [c269 (Cr_c0 hP hA), b269_0]
  by_cases k1 : x1 < 0
  · rw [if_pos k1] at e
    have k2 := y269_2 (h := h) hP hA hD e
    simp -implicitDefEqProofs (disch := first | assumption | exact Nat.le_of_ble_eq_true rfl | decide) only [b269_0, g269_1, b269_1, pe_iload1, pe_if_lt, pe_aload0, pe_getfield, pe_icmp_ge, pe_sipush, pe_goto, pe_goto_w, pe_call1, pm_af_ret, pm_af_void, pm_af_thr, pe_aaload, pe_areturn, pm_prog_1, pm_ob_some, Nat.reduceDiv, Nat.reduceMod, Nat.reduceMul, Nat.reduceAdd, Int.reduceToNat, pm_kill_i, pm_kill_r, pm_kill_n, pm_kill_j, pm_kill_l, pm_kill_d, pm_cats_nil, pm_cats_i, pm_cats_r, pm_cats_n, pm_cats_l, pm_cats_d, sz_1, sz_2, sl_1, sl_2, lc_0, lc_lt, lc_le, li_ne, va_rf, wr_m1, we_m1, pm_kill_w, Int32.reduceOfInt, Int64.reduceOfInt, Int32.reduceOfNat, Int32.reduceLT, Int32.reduceLE, Prod.mk.injEq, Nat.reduceEqDiff, reduceCtorEq, and_true, true_and, and_false, false_and, and_self, ite_true, ite_false, ↓reduceIte, not_true_eq_false, not_false_eq_true, pe_ri, pe_rz, pe_rc, p_throw, t269, w_junk hA, Cr_g0_5 hP hA, Cr_g0_6 hP hA, Cr_r3 hP hA, eq_true k1, k2]
  · rw [if_neg k1] at e
    by_cases k3 : x1 < (S.1 (0, 0, 0) 6)
    · rw [if_pos k3] at e
      have k4 := y269_2 (h := h) hP hA hD e
      simp -implicitDefEqProofs (disch := first | assumption | exact Nat.le_of_ble_eq_true rfl | decide) only [b269_0, g269_1, b269_1, pe_iload1, pe_if_lt, pe_aload0, pe_getfield, pe_icmp_ge, pe_sipush, pe_goto, pe_goto_w, pe_call1, pm_af_ret, pm_af_void, pm_af_thr, pe_aaload, pe_areturn, pm_prog_1, pm_ob_some, Nat.reduceDiv, Nat.reduceMod, Nat.reduceMul, Nat.reduceAdd, Int.reduceToNat, pm_kill_i, pm_kill_r, pm_kill_n, pm_kill_j, pm_kill_l, pm_kill_d, pm_cats_nil, pm_cats_i, pm_cats_r, pm_cats_n, pm_cats_l, pm_cats_d, sz_1, sz_2, sl_1, sl_2, lc_0, lc_lt, lc_le, li_ne, va_rf, wr_m1, we_m1, pm_kill_w, Int32.reduceOfInt, Int64.reduceOfInt, Int32.reduceOfNat, Int32.reduceLT, Int32.reduceLE, Prod.mk.injEq, Nat.reduceEqDiff, reduceCtorEq, and_true, true_and, and_false, false_and, and_self, ite_true, ite_false, ↓reduceIte, not_true_eq_false, not_false_eq_true, pe_ri, pe_rz, pe_rc, p_throw, t269, w_junk hA, Cr_g0_5 hP hA, Cr_g0_6 hP hA, Cr_r3 hP hA, eq_false k1, eq_true k3, k4]
    · rw [if_neg k3] at e
      have k5 := y269_2 (h := h) hP hA hD e
      simp -implicitDefEqProofs (disch := first | assumption | exact Nat.le_of_ble_eq_true rfl | decide) only [b269_0, g269_1, b269_1, pe_iload1, pe_if_lt, pe_aload0, pe_getfield, pe_icmp_ge, pe_sipush, pe_goto, pe_goto_w, pe_call1, pm_af_ret, pm_af_void, pm_af_thr, pe_aaload, pe_areturn, pm_prog_1, pm_ob_some, Nat.reduceDiv, Nat.reduceMod, Nat.reduceMul, Nat.reduceAdd, Int.reduceToNat, pm_kill_i, pm_kill_r, pm_kill_n, pm_kill_j, pm_kill_l, pm_kill_d, pm_cats_nil, pm_cats_i, pm_cats_r, pm_cats_n, pm_cats_l, pm_cats_d, sz_1, sz_2, sl_1, sl_2, lc_0, lc_lt, lc_le, li_ne, va_rf, wr_m1, we_m1, pm_kill_w, Int32.reduceOfInt, Int64.reduceOfInt, Int32.reduceOfNat, Int32.reduceLT, Int32.reduceLE, Prod.mk.injEq, Nat.reduceEqDiff, reduceCtorEq, and_true, true_and, and_false, false_and, and_self, ite_true, ite_false, ↓reduceIte, not_true_eq_false, not_false_eq_true, pe_ri, pe_rz, pe_rc, p_throw, t269, w_junk hA, Cr_g0_5 hP hA, Cr_g0_6 hP hA, Cr_r3 hP hA, eq_false k1, eq_false k3, k5]
/-- TimberHouse$FaultRips.allows(III)Z -/
theorem c268 {d : Nat} {h : pm_H} {a : Nat} {x0 : Int32} {x1 : Int32} {x2 : Int32} (hc : pm_cls h a = some 4) : pm_call pm_prog (d + 1) 268 [.ref a, .int x0, .int x1, .int x2] h = pm_ev pm_prog (pm_call pm_prog d) 268 0 b268_0 [.ref a, .int x0, .int x1, .int x2, pm_junk, pm_junk] [] h := pm_cal (pm_rc1 hc rfl) rfl rfl rfl
theorem g268_1 {cl : pm_C} {ls st : List Value} {h : pm_H} : pm_go pm_prog cl 268 1 ls st h = pm_ev pm_prog cl 268 1 b268_1 ls st h := pm_go_eq pm_prog cl 268 1 ls st h
theorem g268_2 {cl : pm_C} {ls st : List Value} {h : pm_H} : pm_go pm_prog cl 268 2 ls st h = pm_ev pm_prog cl 268 2 b268_2 ls st h := pm_go_eq pm_prog cl 268 2 ls st h
theorem g268_3 {cl : pm_C} {ls st : List Value} {h : pm_H} : pm_go pm_prog cl 268 3 ls st h = pm_ev pm_prog cl 268 3 b268_3 ls st h := pm_go_eq pm_prog cl 268 3 ls st h
theorem g268_4 {cl : pm_C} {ls st : List Value} {h : pm_H} : pm_go pm_prog cl 268 4 ls st h = pm_ev pm_prog cl 268 4 b268_4 ls st h := pm_go_eq pm_prog cl 268 4 ls st h
theorem g268_5 {cl : pm_C} {ls st : List Value} {h : pm_H} : pm_go pm_prog cl 268 5 ls st h = pm_ev pm_prog cl 268 5 b268_5 ls st h := pm_go_eq pm_prog cl 268 5 ls st h
theorem t268 {cl : pm_C} {j : Nat} {ls : List Value} {c : Nat} {h : pm_H} : pm_thr pm_prog cl 268 j ls c h = some (.threw c, h) := rfl
noncomputable def f268_5 (fc : Int32) (pc : Int32) (S : wS) (y1 : Int32) : Option ((Nat × wS) ⊕ (Int32 × wS)) :=
  (f265 fc pc S y1).bind fun (v3, S4) =>
  if v3 = 0 ∨ v3 = 1 then
    some (.inr (v3, S4))
  else none
noncomputable def f268_3 (fc : Int32) (pc : Int32) (S : wS) (x2 : Int32) (x3 : Int32) (x4i : Int32) (y0 : Int32) : Option ((Nat × wS) ⊕ (Int32 × wS)) :=
  if 0 ≤ x4i ∧ x4i < pc then
    (f261 y0).bind fun r => match r with
    | .inl c6 =>
      some (.inl (c6, S))
    | .inr _ =>
    (f260 (Int32.toInt64 x3) 0 7).bind fun v2 =>
    (f262 v2).bind fun r => match r with
    | .inl c5 =>
      some (.inl (c5, S))
    | .inr _ =>
    if ((S.1 (4, x4i, 0) 4) ||| (1 <<< ((((8 * x2) + x3) : Int32) &&& 31))) = (S.1 (4, x4i, 0) 4) then
      f268_5 fc pc (sz S (4, x4i, 0) 4 ((S.1 (4, x4i, 0) 4) ||| (1 <<< ((((8 * x2) + x3) : Int32) &&& 31)))) 0
    else
      f268_5 fc pc (sz S (4, x4i, 0) 4 ((S.1 (4, x4i, 0) 4) ||| (1 <<< ((((8 * x2) + x3) : Int32) &&& 31)))) 1
  else none
/-- TimberHouse$FaultRips.allows(III)Z -/
noncomputable def f268 (fc : Int32) (pc : Int32) (S : wS) (x1 : Int32) (x2 : Int32) (x3 : Int32) : Option ((Nat × wS) ⊕ (Int32 × wS)) :=
  (f269 fc pc S x1).bind fun r => match r with
  | .inl c7 =>
    some (.inl (c7, S))
  | .inr v1i =>
  if 0 ≤ v1i ∧ v1i < pc then
    if x2 = 0 then
      f268_3 fc pc S x2 x3 v1i 1
    else
      if x2 = 1 then
        f268_3 fc pc S x2 x3 v1i 1
      else
        f268_3 fc pc S x2 x3 v1i 0
  else none
theorem y268_5 {fc : Int32} {pc : Int32} {A : wK → Nat} {h : pm_H} {D : Nat} {S : wS} {y1 : Int32} {r : (Nat × wS) ⊕ (Int32 × wS)} (hP : Cr_P fc pc) (hA : wok A (Cr_d fc pc) h.1) (hD : 2 ≤ D) (e : f268_5 fc pc S y1 = some r) : ∀ q0 q1 q2 q3 q4 q5 : Value, pm_go pm_prog (pm_call pm_prog D) 268 5 [q0, q1, q2, q3, q4, q5] [.int y1, .ref (A (0, 0, 0))] (wput A (Cr_d fc pc) S h) = some (match (generalizing := false) r with | .inl (c, S1) => (Outcome.threw c, (wput A (Cr_d fc pc) S1 (pm_new h 6 (.inr (c, []))))) | .inr (w0, S1) => (Outcome.returned (some (.int w0)), (wput A (Cr_d fc pc) S1 h))) := by
  intro q0 q1 q2 q3 q4 q5
  simp only [f268_5] at e
  rw [g268_5, b268_5]
  obtain ⟨⟨v3, S4⟩, k1, e⟩ := Option.bind_eq_some_iff.mp e
  try dsimp only at e
  have z1 := x265 (D := D) (h := h) hP hA (by omega) k1
  dsimp only at z1
  by_cases k2 : v3 = 0 ∨ v3 = 1
  · rw [if_pos k2] at e
    have e := Option.some.inj e; subst e
    simp -implicitDefEqProofs (disch := first | assumption | exact Nat.le_of_ble_eq_true rfl | decide) only [b268_0, g268_1, b268_1, g268_2, b268_2, g268_4, b268_4, pe_aload0, pe_iload1, pe_call2, pm_af_ret, pm_af_void, pm_af_thr, pe_astore4, pe_iload2, pe_if_eq, pe_sipush, pe_icmp_ne, pe_goto_w, pe_goto, pe_call1, pe_iload3, pe_i2l, pe_bipush, pe_call3, pe_aload4, pe_getfield, pe_istore5, pe_dup_i, pe_dup_r, pe_imul, pe_iadd, pe_ishl, pe_ior, pe_putfield, pe_iload5, pe_icmp_eq, pm_prog_1, pm_ob_some, Nat.reduceDiv, Nat.reduceMod, Nat.reduceMul, Nat.reduceAdd, Int.reduceToNat, pm_kill_i, pm_kill_r, pm_kill_n, pm_kill_j, pm_kill_l, pm_kill_d, pm_cats_nil, pm_cats_i, pm_cats_r, pm_cats_n, pm_cats_l, pm_cats_d, sz_1, sz_2, sl_1, sl_2, lc_0, lc_lt, lc_le, li_ne, va_rf, wr_m1, we_m1, pm_kill_w, Int32.reduceOfInt, Int64.reduceOfInt, Int32.reduceOfNat, Int32.reduceLT, Int32.reduceLE, Prod.mk.injEq, Nat.reduceEqDiff, reduceCtorEq, and_true, true_and, and_false, false_and, and_self, ite_true, ite_false, ↓reduceIte, not_true_eq_false, not_false_eq_true, pe_ri, pe_rz, pe_rc, p_throw, t268, w_junk hA, Cr_g4_4 hP hA, Cr_p4_4 hP hA, z1]
  · rw [if_neg k2] at e; cases e
theorem y268_3 {fc : Int32} {pc : Int32} {A : wK → Nat} {h : pm_H} {D : Nat} {S : wS} {x2 : Int32} {x3 : Int32} {x4i : Int32} {y0 : Int32} {r : (Nat × wS) ⊕ (Int32 × wS)} (hP : Cr_P fc pc) (hA : wok A (Cr_d fc pc) h.1) (hD : 2 ≤ D) (e : f268_3 fc pc S x2 x3 x4i y0 = some r) : ∀ q1 q5 : Value, pm_go pm_prog (pm_call pm_prog D) 268 3 [.ref (A (0, 0, 0)), q1, .int x2, .int x3, .ref (A (4, x4i, 0)), q5] [.int y0] (wput A (Cr_d fc pc) S h) = some (match (generalizing := false) r with | .inl (c, S1) => (Outcome.threw c, (wput A (Cr_d fc pc) S1 (pm_new h 6 (.inr (c, []))))) | .inr (w0, S1) => (Outcome.returned (some (.int w0)), (wput A (Cr_d fc pc) S1 h))) := by
  intro q1 q5
  simp only [f268_3] at e
  rw [g268_3, b268_3]
  by_cases k1 : 0 ≤ x4i ∧ x4i < pc
  · rw [if_pos k1] at e
    obtain ⟨r, k2, e⟩ := Option.bind_eq_some_iff.mp e
    have z2 := fun h => x261 (D := D) (h := h) (by omega) k2
    rcases r with c6 | _
    · dsimp only at e z2
      have e := Option.some.inj e; subst e
      simp -implicitDefEqProofs (disch := first | assumption | exact Nat.le_of_ble_eq_true rfl | decide) only [b268_0, g268_1, b268_1, g268_2, b268_2, g268_4, b268_4, pe_aload0, pe_iload1, pe_call2, pm_af_ret, pm_af_void, pm_af_thr, pe_astore4, pe_iload2, pe_if_eq, pe_sipush, pe_icmp_ne, pe_goto_w, pe_goto, pe_call1, pe_iload3, pe_i2l, pe_bipush, pe_call3, pe_aload4, pe_getfield, pe_istore5, pe_dup_i, pe_dup_r, pe_imul, pe_iadd, pe_ishl, pe_ior, pe_putfield, pe_iload5, pe_icmp_eq, pm_prog_1, pm_ob_some, Nat.reduceDiv, Nat.reduceMod, Nat.reduceMul, Nat.reduceAdd, Int.reduceToNat, pm_kill_i, pm_kill_r, pm_kill_n, pm_kill_j, pm_kill_l, pm_kill_d, pm_cats_nil, pm_cats_i, pm_cats_r, pm_cats_n, pm_cats_l, pm_cats_d, sz_1, sz_2, sl_1, sl_2, lc_0, lc_lt, lc_le, li_ne, va_rf, wr_m1, we_m1, pm_kill_w, Int32.reduceOfInt, Int64.reduceOfInt, Int32.reduceOfNat, Int32.reduceLT, Int32.reduceLE, Prod.mk.injEq, Nat.reduceEqDiff, reduceCtorEq, and_true, true_and, and_false, false_and, and_self, ite_true, ite_false, ↓reduceIte, not_true_eq_false, not_false_eq_true, pe_ri, pe_rz, pe_rc, p_throw, t268, w_junk hA, Cr_g4_4 hP hA, Cr_p4_4 hP hA, z2]
    · dsimp only at e z2
      obtain ⟨v2, k3, e⟩ := Option.bind_eq_some_iff.mp e
      try dsimp only at e
      have z3 := fun h => x260 (D := D) (h := h) (by omega) k3
      obtain ⟨r, k4, e⟩ := Option.bind_eq_some_iff.mp e
      have z4 := fun h => x262 (D := D) (h := h) (by omega) k4
      rcases r with c5 | _
      · dsimp only at e z4
        have e := Option.some.inj e; subst e
        simp -implicitDefEqProofs (disch := first | assumption | exact Nat.le_of_ble_eq_true rfl | decide) only [b268_0, g268_1, b268_1, g268_2, b268_2, g268_4, b268_4, pe_aload0, pe_iload1, pe_call2, pm_af_ret, pm_af_void, pm_af_thr, pe_astore4, pe_iload2, pe_if_eq, pe_sipush, pe_icmp_ne, pe_goto_w, pe_goto, pe_call1, pe_iload3, pe_i2l, pe_bipush, pe_call3, pe_aload4, pe_getfield, pe_istore5, pe_dup_i, pe_dup_r, pe_imul, pe_iadd, pe_ishl, pe_ior, pe_putfield, pe_iload5, pe_icmp_eq, pm_prog_1, pm_ob_some, Nat.reduceDiv, Nat.reduceMod, Nat.reduceMul, Nat.reduceAdd, Int.reduceToNat, pm_kill_i, pm_kill_r, pm_kill_n, pm_kill_j, pm_kill_l, pm_kill_d, pm_cats_nil, pm_cats_i, pm_cats_r, pm_cats_n, pm_cats_l, pm_cats_d, sz_1, sz_2, sl_1, sl_2, lc_0, lc_lt, lc_le, li_ne, va_rf, wr_m1, we_m1, pm_kill_w, Int32.reduceOfInt, Int64.reduceOfInt, Int32.reduceOfNat, Int32.reduceLT, Int32.reduceLE, Prod.mk.injEq, Nat.reduceEqDiff, reduceCtorEq, and_true, true_and, and_false, false_and, and_self, ite_true, ite_false, ↓reduceIte, not_true_eq_false, not_false_eq_true, pe_ri, pe_rz, pe_rc, p_throw, t268, w_junk hA, Cr_g4_4 hP hA, Cr_p4_4 hP hA, z2, z3, z4]
      · dsimp only at e z4
        by_cases k5 : ((S.1 (4, x4i, 0) 4) ||| (1 <<< ((((8 * x2) + x3) : Int32) &&& 31))) = (S.1 (4, x4i, 0) 4)
        · rw [if_pos k5] at e
          have k6 := y268_5 (h := h) hP hA hD e
          simp -implicitDefEqProofs (disch := first | assumption | exact Nat.le_of_ble_eq_true rfl | decide) only [b268_0, g268_1, b268_1, g268_2, b268_2, g268_4, b268_4, pe_aload0, pe_iload1, pe_call2, pm_af_ret, pm_af_void, pm_af_thr, pe_astore4, pe_iload2, pe_if_eq, pe_sipush, pe_icmp_ne, pe_goto_w, pe_goto, pe_call1, pe_iload3, pe_i2l, pe_bipush, pe_call3, pe_aload4, pe_getfield, pe_istore5, pe_dup_i, pe_dup_r, pe_imul, pe_iadd, pe_ishl, pe_ior, pe_putfield, pe_iload5, pe_icmp_eq, pm_prog_1, pm_ob_some, Nat.reduceDiv, Nat.reduceMod, Nat.reduceMul, Nat.reduceAdd, Int.reduceToNat, pm_kill_i, pm_kill_r, pm_kill_n, pm_kill_j, pm_kill_l, pm_kill_d, pm_cats_nil, pm_cats_i, pm_cats_r, pm_cats_n, pm_cats_l, pm_cats_d, sz_1, sz_2, sl_1, sl_2, lc_0, lc_lt, lc_le, li_ne, va_rf, wr_m1, we_m1, pm_kill_w, Int32.reduceOfInt, Int64.reduceOfInt, Int32.reduceOfNat, Int32.reduceLT, Int32.reduceLE, Prod.mk.injEq, Nat.reduceEqDiff, reduceCtorEq, and_true, true_and, and_false, false_and, and_self, ite_true, ite_false, ↓reduceIte, not_true_eq_false, not_false_eq_true, pe_ri, pe_rz, pe_rc, p_throw, t268, w_junk hA, Cr_g4_4 hP hA, Cr_p4_4 hP hA, z2, z3, z4, eq_true k5, k6]
        · rw [if_neg k5] at e
          have k7 := y268_5 (h := h) hP hA hD e
          simp -implicitDefEqProofs (disch := first | assumption | exact Nat.le_of_ble_eq_true rfl | decide) only [b268_0, g268_1, b268_1, g268_2, b268_2, g268_4, b268_4, pe_aload0, pe_iload1, pe_call2, pm_af_ret, pm_af_void, pm_af_thr, pe_astore4, pe_iload2, pe_if_eq, pe_sipush, pe_icmp_ne, pe_goto_w, pe_goto, pe_call1, pe_iload3, pe_i2l, pe_bipush, pe_call3, pe_aload4, pe_getfield, pe_istore5, pe_dup_i, pe_dup_r, pe_imul, pe_iadd, pe_ishl, pe_ior, pe_putfield, pe_iload5, pe_icmp_eq, pm_prog_1, pm_ob_some, Nat.reduceDiv, Nat.reduceMod, Nat.reduceMul, Nat.reduceAdd, Int.reduceToNat, pm_kill_i, pm_kill_r, pm_kill_n, pm_kill_j, pm_kill_l, pm_kill_d, pm_cats_nil, pm_cats_i, pm_cats_r, pm_cats_n, pm_cats_l, pm_cats_d, sz_1, sz_2, sl_1, sl_2, lc_0, lc_lt, lc_le, li_ne, va_rf, wr_m1, we_m1, pm_kill_w, Int32.reduceOfInt, Int64.reduceOfInt, Int32.reduceOfNat, Int32.reduceLT, Int32.reduceLE, Prod.mk.injEq, Nat.reduceEqDiff, reduceCtorEq, and_true, true_and, and_false, false_and, and_self, ite_true, ite_false, ↓reduceIte, not_true_eq_false, not_false_eq_true, pe_ri, pe_rz, pe_rc, p_throw, t268, w_junk hA, Cr_g4_4 hP hA, Cr_p4_4 hP hA, z2, z3, z4, eq_false k5, k7]
  · rw [if_neg k1] at e; cases e
theorem x268 {fc : Int32} {pc : Int32} {A : wK → Nat} {h : pm_H} {D : Nat} {S : wS} {x1 : Int32} {x2 : Int32} {x3 : Int32} {r : (Nat × wS) ⊕ (Int32 × wS)} (hP : Cr_P fc pc) (hA : wok A (Cr_d fc pc) h.1) (hD : 3 ≤ D) (e : f268 fc pc S x1 x2 x3 = some r) : pm_call pm_prog D 268 [.ref (A (0, 0, 0)), .int x1, .int x2, .int x3] (wput A (Cr_d fc pc) S h) = some (match (generalizing := false) r with | .inl (c, S1) => (Outcome.threw c, (wput A (Cr_d fc pc) S1 (pm_new h 6 (.inr (c, []))))) | .inr (w0, S1) => (Outcome.returned (some (.int w0)), (wput A (Cr_d fc pc) S1 h))) := by
  obtain ⟨D, rfl⟩ : ∃ D', D = D' + 1 := ⟨D - 1, by omega⟩
  have hD : 2 ≤ D := by omega
  simp only [f268] at e
  rw [c268 (Cr_c0 hP hA), b268_0]
  obtain ⟨r, k1, e⟩ := Option.bind_eq_some_iff.mp e
  have z1 := x269 (D := D) (h := h) hP hA (by omega) k1
  rcases r with c7 | v1i
  · dsimp only at e z1
    have e := Option.some.inj e; subst e
    simp -implicitDefEqProofs (disch := first | assumption | exact Nat.le_of_ble_eq_true rfl | decide) only [b268_0, g268_1, b268_1, g268_2, b268_2, g268_4, b268_4, pe_aload0, pe_iload1, pe_call2, pm_af_ret, pm_af_void, pm_af_thr, pe_astore4, pe_iload2, pe_if_eq, pe_sipush, pe_icmp_ne, pe_goto_w, pe_goto, pe_call1, pe_iload3, pe_i2l, pe_bipush, pe_call3, pe_aload4, pe_getfield, pe_istore5, pe_dup_i, pe_dup_r, pe_imul, pe_iadd, pe_ishl, pe_ior, pe_putfield, pe_iload5, pe_icmp_eq, pm_prog_1, pm_ob_some, Nat.reduceDiv, Nat.reduceMod, Nat.reduceMul, Nat.reduceAdd, Int.reduceToNat, pm_kill_i, pm_kill_r, pm_kill_n, pm_kill_j, pm_kill_l, pm_kill_d, pm_cats_nil, pm_cats_i, pm_cats_r, pm_cats_n, pm_cats_l, pm_cats_d, sz_1, sz_2, sl_1, sl_2, lc_0, lc_lt, lc_le, li_ne, va_rf, wr_m1, we_m1, pm_kill_w, Int32.reduceOfInt, Int64.reduceOfInt, Int32.reduceOfNat, Int32.reduceLT, Int32.reduceLE, Prod.mk.injEq, Nat.reduceEqDiff, reduceCtorEq, and_true, true_and, and_false, false_and, and_self, ite_true, ite_false, ↓reduceIte, not_true_eq_false, not_false_eq_true, pe_ri, pe_rz, pe_rc, p_throw, t268, w_junk hA, Cr_g4_4 hP hA, Cr_p4_4 hP hA, z1]
  · dsimp only at e z1
    by_cases k2 : 0 ≤ v1i ∧ v1i < pc
    · rw [if_pos k2] at e
      by_cases k3 : x2 = 0
      · rw [if_pos k3] at e
        have k4 := y268_3 (h := h) hP hA hD e
        simp -implicitDefEqProofs (disch := first | assumption | exact Nat.le_of_ble_eq_true rfl | decide) only [b268_0, g268_1, b268_1, g268_2, b268_2, g268_4, b268_4, pe_aload0, pe_iload1, pe_call2, pm_af_ret, pm_af_void, pm_af_thr, pe_astore4, pe_iload2, pe_if_eq, pe_sipush, pe_icmp_ne, pe_goto_w, pe_goto, pe_call1, pe_iload3, pe_i2l, pe_bipush, pe_call3, pe_aload4, pe_getfield, pe_istore5, pe_dup_i, pe_dup_r, pe_imul, pe_iadd, pe_ishl, pe_ior, pe_putfield, pe_iload5, pe_icmp_eq, pm_prog_1, pm_ob_some, Nat.reduceDiv, Nat.reduceMod, Nat.reduceMul, Nat.reduceAdd, Int.reduceToNat, pm_kill_i, pm_kill_r, pm_kill_n, pm_kill_j, pm_kill_l, pm_kill_d, pm_cats_nil, pm_cats_i, pm_cats_r, pm_cats_n, pm_cats_l, pm_cats_d, sz_1, sz_2, sl_1, sl_2, lc_0, lc_lt, lc_le, li_ne, va_rf, wr_m1, we_m1, pm_kill_w, Int32.reduceOfInt, Int64.reduceOfInt, Int32.reduceOfNat, Int32.reduceLT, Int32.reduceLE, Prod.mk.injEq, Nat.reduceEqDiff, reduceCtorEq, and_true, true_and, and_false, false_and, and_self, ite_true, ite_false, ↓reduceIte, not_true_eq_false, not_false_eq_true, pe_ri, pe_rz, pe_rc, p_throw, t268, w_junk hA, Cr_g4_4 hP hA, Cr_p4_4 hP hA, z1, eq_true k3, k4]
      · rw [if_neg k3] at e
        by_cases k5 : x2 = 1
        · rw [if_pos k5] at e
          have k6 := y268_3 (h := h) hP hA hD e
          simp -implicitDefEqProofs (disch := first | assumption | exact Nat.le_of_ble_eq_true rfl | decide) only [b268_0, g268_1, b268_1, g268_2, b268_2, g268_4, b268_4, pe_aload0, pe_iload1, pe_call2, pm_af_ret, pm_af_void, pm_af_thr, pe_astore4, pe_iload2, pe_if_eq, pe_sipush, pe_icmp_ne, pe_goto_w, pe_goto, pe_call1, pe_iload3, pe_i2l, pe_bipush, pe_call3, pe_aload4, pe_getfield, pe_istore5, pe_dup_i, pe_dup_r, pe_imul, pe_iadd, pe_ishl, pe_ior, pe_putfield, pe_iload5, pe_icmp_eq, pm_prog_1, pm_ob_some, Nat.reduceDiv, Nat.reduceMod, Nat.reduceMul, Nat.reduceAdd, Int.reduceToNat, pm_kill_i, pm_kill_r, pm_kill_n, pm_kill_j, pm_kill_l, pm_kill_d, pm_cats_nil, pm_cats_i, pm_cats_r, pm_cats_n, pm_cats_l, pm_cats_d, sz_1, sz_2, sl_1, sl_2, lc_0, lc_lt, lc_le, li_ne, va_rf, wr_m1, we_m1, pm_kill_w, Int32.reduceOfInt, Int64.reduceOfInt, Int32.reduceOfNat, Int32.reduceLT, Int32.reduceLE, Prod.mk.injEq, Nat.reduceEqDiff, reduceCtorEq, and_true, true_and, and_false, false_and, and_self, ite_true, ite_false, ↓reduceIte, not_true_eq_false, not_false_eq_true, pe_ri, pe_rz, pe_rc, p_throw, t268, w_junk hA, Cr_g4_4 hP hA, Cr_p4_4 hP hA, z1, eq_false k3, eq_true k5, k6]
        · rw [if_neg k5] at e
          have k7 := y268_3 (h := h) hP hA hD e
          simp -implicitDefEqProofs (disch := first | assumption | exact Nat.le_of_ble_eq_true rfl | decide) only [b268_0, g268_1, b268_1, g268_2, b268_2, g268_4, b268_4, pe_aload0, pe_iload1, pe_call2, pm_af_ret, pm_af_void, pm_af_thr, pe_astore4, pe_iload2, pe_if_eq, pe_sipush, pe_icmp_ne, pe_goto_w, pe_goto, pe_call1, pe_iload3, pe_i2l, pe_bipush, pe_call3, pe_aload4, pe_getfield, pe_istore5, pe_dup_i, pe_dup_r, pe_imul, pe_iadd, pe_ishl, pe_ior, pe_putfield, pe_iload5, pe_icmp_eq, pm_prog_1, pm_ob_some, Nat.reduceDiv, Nat.reduceMod, Nat.reduceMul, Nat.reduceAdd, Int.reduceToNat, pm_kill_i, pm_kill_r, pm_kill_n, pm_kill_j, pm_kill_l, pm_kill_d, pm_cats_nil, pm_cats_i, pm_cats_r, pm_cats_n, pm_cats_l, pm_cats_d, sz_1, sz_2, sl_1, sl_2, lc_0, lc_lt, lc_le, li_ne, va_rf, wr_m1, we_m1, pm_kill_w, Int32.reduceOfInt, Int64.reduceOfInt, Int32.reduceOfNat, Int32.reduceLT, Int32.reduceLE, Prod.mk.injEq, Nat.reduceEqDiff, reduceCtorEq, and_true, true_and, and_false, false_and, and_self, ite_true, ite_false, ↓reduceIte, not_true_eq_false, not_false_eq_true, pe_ri, pe_rz, pe_rc, p_throw, t268, w_junk hA, Cr_g4_4 hP hA, Cr_p4_4 hP hA, z1, eq_false k3, eq_false k5, k7]
    · rw [if_neg k2] at e; cases e
/-- TimberHouse$FaultRips.gang(I)Z -/
theorem c270 {d : Nat} {h : pm_H} {a : Nat} {x0 : Int32} (hc : pm_cls h a = some 4) : pm_call pm_prog (d + 1) 270 [.ref a, .int x0] h = pm_ev pm_prog (pm_call pm_prog d) 270 0 b270_0 [.ref a, .int x0, pm_junk, pm_junk] [] h := pm_cal (pm_rc1 hc rfl) rfl rfl rfl
theorem g270_1 {cl : pm_C} {ls st : List Value} {h : pm_H} : pm_go pm_prog cl 270 1 ls st h = pm_ev pm_prog cl 270 1 b270_1 ls st h := pm_go_eq pm_prog cl 270 1 ls st h
theorem g270_2 {cl : pm_C} {ls st : List Value} {h : pm_H} : pm_go pm_prog cl 270 2 ls st h = pm_ev pm_prog cl 270 2 b270_2 ls st h := pm_go_eq pm_prog cl 270 2 ls st h
theorem t270 {cl : pm_C} {j : Nat} {ls : List Value} {c : Nat} {h : pm_H} : pm_thr pm_prog cl 270 j ls c h = some (.threw c, h) := rfl
noncomputable def f270_2 (fc : Int32) (pc : Int32) (S : wS) (x2 : Int32) (y1 : Int32) : Option ((Nat × wS) ⊕ (Int32 × wS)) :=
  (f265 fc pc S y1).bind fun (v3, S4) =>
  if 0 ≤ x2 ∧ x2 < 65537 then
    if v3 = 0 ∨ v3 = 1 then
      some (.inr (v3, (sz (sz S4 (7, 0, 0) 2 1) (5, 0, 0) x2 (vp_nar .boolean 1))))
    else none
  else none
/-- TimberHouse$FaultRips.gang(I)Z -/
noncomputable def f270 (fc : Int32) (pc : Int32) (S : wS) (x1 : Int32) : Option ((Nat × wS) ⊕ (Int32 × wS)) :=
  (f260 (Int32.toInt64 x1) 1 65536).bind fun v1 =>
  (f262 v1).bind fun r => match r with
  | .inl c5 =>
    some (.inl (c5, S))
  | .inr _ =>
  (f267 fc pc S x1).bind fun v2 =>
  if 0 ≤ v2 ∧ v2 < 65537 then
    if (S.1 (5, 0, 0) v2) = 0 then
      f270_2 fc pc S v2 1
    else
      f270_2 fc pc S v2 0
  else none
theorem y270_2 {fc : Int32} {pc : Int32} {A : wK → Nat} {h : pm_H} {D : Nat} {S : wS} {x2 : Int32} {y1 : Int32} {r : (Nat × wS) ⊕ (Int32 × wS)} (hP : Cr_P fc pc) (hA : wok A (Cr_d fc pc) h.1) (hD : 1 ≤ D) (e : f270_2 fc pc S x2 y1 = some r) : ∀ q1 q3 : Value, pm_go pm_prog (pm_call pm_prog D) 270 2 [.ref (A (0, 0, 0)), q1, .int x2, q3] [.int y1, .ref (A (0, 0, 0))] (wput A (Cr_d fc pc) S h) = some (match (generalizing := false) r with | .inl (c, S1) => (Outcome.threw c, (wput A (Cr_d fc pc) S1 (pm_new h 6 (.inr (c, []))))) | .inr (w0, S1) => (Outcome.returned (some (.int w0)), (wput A (Cr_d fc pc) S1 h))) := by
  intro q1 q3
  simp only [f270_2] at e
  rw [g270_2, b270_2]
  obtain ⟨⟨v3, S4⟩, k1, e⟩ := Option.bind_eq_some_iff.mp e
  try dsimp only at e
  have z1 := x265 (D := D) (h := h) hP hA (by omega) k1
  dsimp only at z1
  by_cases k2 : 0 ≤ x2 ∧ x2 < 65537
  · rw [if_pos k2] at e
    by_cases k3 : v3 = 0 ∨ v3 = 1
    · rw [if_pos k3] at e
      have e := Option.some.inj e; subst e
      simp -implicitDefEqProofs (disch := first | assumption | exact Nat.le_of_ble_eq_true rfl | decide) only [b270_0, g270_1, b270_1, pe_iload1, pe_i2l, pe_bipush, pe_call3, pm_af_ret, pm_af_void, pm_af_thr, pe_call1, pe_aload0, pe_call2, pe_istore2, pe_getfield, pe_iload2, pe_baload, pe_if_ne, pe_sipush, pe_goto, pe_goto_w, pe_istore3, pe_dup_x1_ii, pe_dup_x1_ir, pe_dup_x1_ri, pe_dup_x1_rr, pe_putfield, pe_bastore, pe_iload3, pm_prog_1, pm_ob_some, Nat.reduceDiv, Nat.reduceMod, Nat.reduceMul, Nat.reduceAdd, Int.reduceToNat, pm_kill_i, pm_kill_r, pm_kill_n, pm_kill_j, pm_kill_l, pm_kill_d, pm_cats_nil, pm_cats_i, pm_cats_r, pm_cats_n, pm_cats_l, pm_cats_d, sz_1, sz_2, sl_1, sl_2, lc_0, lc_lt, lc_le, li_ne, va_rf, wr_m1, we_m1, pm_kill_w, Int32.reduceOfInt, Int64.reduceOfInt, Int32.reduceOfNat, Int32.reduceLT, Int32.reduceLE, Prod.mk.injEq, Nat.reduceEqDiff, reduceCtorEq, and_true, true_and, and_false, false_and, and_self, ite_true, ite_false, ↓reduceIte, not_true_eq_false, not_false_eq_true, pe_ri, pe_rz, pe_rc, p_throw, t270, w_junk hA, Cr_g0_11 hP hA, Cr_g0_7 hP hA, Cr_p7_2 hP hA, Cr_r5 hP hA, Cr_w5 hP hA, z1]
    · rw [if_neg k3] at e; cases e
  · rw [if_neg k2] at e; cases e
theorem x270 {fc : Int32} {pc : Int32} {A : wK → Nat} {h : pm_H} {D : Nat} {S : wS} {x1 : Int32} {r : (Nat × wS) ⊕ (Int32 × wS)} (hP : Cr_P fc pc) (hA : wok A (Cr_d fc pc) h.1) (hD : 2 ≤ D) (e : f270 fc pc S x1 = some r) : pm_call pm_prog D 270 [.ref (A (0, 0, 0)), .int x1] (wput A (Cr_d fc pc) S h) = some (match (generalizing := false) r with | .inl (c, S1) => (Outcome.threw c, (wput A (Cr_d fc pc) S1 (pm_new h 6 (.inr (c, []))))) | .inr (w0, S1) => (Outcome.returned (some (.int w0)), (wput A (Cr_d fc pc) S1 h))) := by
  obtain ⟨D, rfl⟩ : ∃ D', D = D' + 1 := ⟨D - 1, by omega⟩
  have hD : 1 ≤ D := by omega
  simp only [f270] at e
  rw [c270 (Cr_c0 hP hA), b270_0]
  obtain ⟨v1, k1, e⟩ := Option.bind_eq_some_iff.mp e
  try dsimp only at e
  have z1 := fun h => x260 (D := D) (h := h) (by omega) k1
  obtain ⟨r, k2, e⟩ := Option.bind_eq_some_iff.mp e
  have z2 := fun h => x262 (D := D) (h := h) (by omega) k2
  rcases r with c5 | _
  · dsimp only at e z2
    have e := Option.some.inj e; subst e
    simp -implicitDefEqProofs (disch := first | assumption | exact Nat.le_of_ble_eq_true rfl | decide) only [b270_0, g270_1, b270_1, pe_iload1, pe_i2l, pe_bipush, pe_call3, pm_af_ret, pm_af_void, pm_af_thr, pe_call1, pe_aload0, pe_call2, pe_istore2, pe_getfield, pe_iload2, pe_baload, pe_if_ne, pe_sipush, pe_goto, pe_goto_w, pe_istore3, pe_dup_x1_ii, pe_dup_x1_ir, pe_dup_x1_ri, pe_dup_x1_rr, pe_putfield, pe_bastore, pe_iload3, pm_prog_1, pm_ob_some, Nat.reduceDiv, Nat.reduceMod, Nat.reduceMul, Nat.reduceAdd, Int.reduceToNat, pm_kill_i, pm_kill_r, pm_kill_n, pm_kill_j, pm_kill_l, pm_kill_d, pm_cats_nil, pm_cats_i, pm_cats_r, pm_cats_n, pm_cats_l, pm_cats_d, sz_1, sz_2, sl_1, sl_2, lc_0, lc_lt, lc_le, li_ne, va_rf, wr_m1, we_m1, pm_kill_w, Int32.reduceOfInt, Int64.reduceOfInt, Int32.reduceOfNat, Int32.reduceLT, Int32.reduceLE, Prod.mk.injEq, Nat.reduceEqDiff, reduceCtorEq, and_true, true_and, and_false, false_and, and_self, ite_true, ite_false, ↓reduceIte, not_true_eq_false, not_false_eq_true, pe_ri, pe_rz, pe_rc, p_throw, t270, w_junk hA, Cr_g0_11 hP hA, Cr_g0_7 hP hA, Cr_p7_2 hP hA, Cr_r5 hP hA, Cr_w5 hP hA, z1, z2]
  · dsimp only at e z2
    obtain ⟨v2, k3, e⟩ := Option.bind_eq_some_iff.mp e
    try dsimp only at e
    have z3 := x267 (D := D) (h := h) hP hA (by omega) k3
    by_cases k4 : 0 ≤ v2 ∧ v2 < 65537
    · rw [if_pos k4] at e
      by_cases k5 : (S.1 (5, 0, 0) v2) = 0
      · rw [if_pos k5] at e
        have k6 := y270_2 (h := h) hP hA hD e
        simp -implicitDefEqProofs (disch := first | assumption | exact Nat.le_of_ble_eq_true rfl | decide) only [b270_0, g270_1, b270_1, pe_iload1, pe_i2l, pe_bipush, pe_call3, pm_af_ret, pm_af_void, pm_af_thr, pe_call1, pe_aload0, pe_call2, pe_istore2, pe_getfield, pe_iload2, pe_baload, pe_if_ne, pe_sipush, pe_goto, pe_goto_w, pe_istore3, pe_dup_x1_ii, pe_dup_x1_ir, pe_dup_x1_ri, pe_dup_x1_rr, pe_putfield, pe_bastore, pe_iload3, pm_prog_1, pm_ob_some, Nat.reduceDiv, Nat.reduceMod, Nat.reduceMul, Nat.reduceAdd, Int.reduceToNat, pm_kill_i, pm_kill_r, pm_kill_n, pm_kill_j, pm_kill_l, pm_kill_d, pm_cats_nil, pm_cats_i, pm_cats_r, pm_cats_n, pm_cats_l, pm_cats_d, sz_1, sz_2, sl_1, sl_2, lc_0, lc_lt, lc_le, li_ne, va_rf, wr_m1, we_m1, pm_kill_w, Int32.reduceOfInt, Int64.reduceOfInt, Int32.reduceOfNat, Int32.reduceLT, Int32.reduceLE, Prod.mk.injEq, Nat.reduceEqDiff, reduceCtorEq, and_true, true_and, and_false, false_and, and_self, ite_true, ite_false, ↓reduceIte, not_true_eq_false, not_false_eq_true, pe_ri, pe_rz, pe_rc, p_throw, t270, w_junk hA, Cr_g0_11 hP hA, Cr_g0_7 hP hA, Cr_p7_2 hP hA, Cr_r5 hP hA, Cr_w5 hP hA, z1, z2, z3, eq_true k5, k6]
      · rw [if_neg k5] at e
        have k7 := y270_2 (h := h) hP hA hD e
        simp -implicitDefEqProofs (disch := first | assumption | exact Nat.le_of_ble_eq_true rfl | decide) only [b270_0, g270_1, b270_1, pe_iload1, pe_i2l, pe_bipush, pe_call3, pm_af_ret, pm_af_void, pm_af_thr, pe_call1, pe_aload0, pe_call2, pe_istore2, pe_getfield, pe_iload2, pe_baload, pe_if_ne, pe_sipush, pe_goto, pe_goto_w, pe_istore3, pe_dup_x1_ii, pe_dup_x1_ir, pe_dup_x1_ri, pe_dup_x1_rr, pe_putfield, pe_bastore, pe_iload3, pm_prog_1, pm_ob_some, Nat.reduceDiv, Nat.reduceMod, Nat.reduceMul, Nat.reduceAdd, Int.reduceToNat, pm_kill_i, pm_kill_r, pm_kill_n, pm_kill_j, pm_kill_l, pm_kill_d, pm_cats_nil, pm_cats_i, pm_cats_r, pm_cats_n, pm_cats_l, pm_cats_d, sz_1, sz_2, sl_1, sl_2, lc_0, lc_lt, lc_le, li_ne, va_rf, wr_m1, we_m1, pm_kill_w, Int32.reduceOfInt, Int64.reduceOfInt, Int32.reduceOfNat, Int32.reduceLT, Int32.reduceLE, Prod.mk.injEq, Nat.reduceEqDiff, reduceCtorEq, and_true, true_and, and_false, false_and, and_self, ite_true, ite_false, ↓reduceIte, not_true_eq_false, not_false_eq_true, pe_ri, pe_rz, pe_rc, p_throw, t270, w_junk hA, Cr_g0_11 hP hA, Cr_g0_7 hP hA, Cr_p7_2 hP hA, Cr_r5 hP hA, Cr_w5 hP hA, z1, z2, z3, eq_false k5, k7]
    · rw [if_neg k4] at e; cases e
/-- TimberHouse$FaultRips.need(II)Z -/
theorem c271 {d : Nat} {h : pm_H} {a : Nat} {x0 : Int32} {x1 : Int32} (hc : pm_cls h a = some 4) : pm_call pm_prog (d + 1) 271 [.ref a, .int x0, .int x1] h = pm_ev pm_prog (pm_call pm_prog d) 271 0 b271_0 [.ref a, .int x0, .int x1, pm_junk, pm_junk] [] h := pm_cal (pm_rc1 hc rfl) rfl rfl rfl
theorem g271_1 {cl : pm_C} {ls st : List Value} {h : pm_H} : pm_go pm_prog cl 271 1 ls st h = pm_ev pm_prog cl 271 1 b271_1 ls st h := pm_go_eq pm_prog cl 271 1 ls st h
theorem g271_2 {cl : pm_C} {ls st : List Value} {h : pm_H} : pm_go pm_prog cl 271 2 ls st h = pm_ev pm_prog cl 271 2 b271_2 ls st h := pm_go_eq pm_prog cl 271 2 ls st h
theorem t271 {cl : pm_C} {j : Nat} {ls : List Value} {c : Nat} {h : pm_H} : pm_thr pm_prog cl 271 j ls c h = some (.threw c, h) := rfl
noncomputable def f271_2 (fc : Int32) (pc : Int32) (S : wS) (x2 : Int32) (x3i : Int32) (y1 : Int32) : Option ((Nat × wS) ⊕ (Int32 × wS)) :=
  if 0 ≤ x3i ∧ x3i < pc then
    (f265 fc pc S y1).bind fun (v3, S4) =>
    if v3 = 0 ∨ v3 = 1 then
      some (.inr (v3, (sz S4 (4, x3i, 0) 5 x2)))
    else none
  else none
/-- TimberHouse$FaultRips.need(II)Z -/
noncomputable def f271 (fc : Int32) (pc : Int32) (S : wS) (x1 : Int32) (x2 : Int32) : Option ((Nat × wS) ⊕ (Int32 × wS)) :=
  (f269 fc pc S x1).bind fun r => match r with
  | .inl c6 =>
    some (.inl (c6, S))
  | .inr v1i =>
  if 0 ≤ v1i ∧ v1i < pc then
    (f260 (Int32.toInt64 x2) 0 1000).bind fun v2 =>
    (f262 v2).bind fun r => match r with
    | .inl c5 =>
      some (.inl (c5, S))
    | .inr _ =>
    if (S.1 (4, v1i, 0) 5) = x2 then
      f271_2 fc pc S x2 v1i 0
    else
      f271_2 fc pc S x2 v1i 1
  else none
theorem y271_2 {fc : Int32} {pc : Int32} {A : wK → Nat} {h : pm_H} {D : Nat} {S : wS} {x2 : Int32} {x3i : Int32} {y1 : Int32} {r : (Nat × wS) ⊕ (Int32 × wS)} (hP : Cr_P fc pc) (hA : wok A (Cr_d fc pc) h.1) (hD : 2 ≤ D) (e : f271_2 fc pc S x2 x3i y1 = some r) : ∀ q0 q1 q4 : Value, pm_go pm_prog (pm_call pm_prog D) 271 2 [q0, q1, .int x2, .ref (A (4, x3i, 0)), q4] [.int y1, .ref (A (0, 0, 0))] (wput A (Cr_d fc pc) S h) = some (match (generalizing := false) r with | .inl (c, S1) => (Outcome.threw c, (wput A (Cr_d fc pc) S1 (pm_new h 6 (.inr (c, []))))) | .inr (w0, S1) => (Outcome.returned (some (.int w0)), (wput A (Cr_d fc pc) S1 h))) := by
  intro q0 q1 q4
  simp only [f271_2] at e
  rw [g271_2, b271_2]
  by_cases k1 : 0 ≤ x3i ∧ x3i < pc
  · rw [if_pos k1] at e
    obtain ⟨⟨v3, S4⟩, k2, e⟩ := Option.bind_eq_some_iff.mp e
    try dsimp only at e
    have z2 := x265 (D := D) (h := h) hP hA (by omega) k2
    dsimp only at z2
    by_cases k3 : v3 = 0 ∨ v3 = 1
    · rw [if_pos k3] at e
      have e := Option.some.inj e; subst e
      simp -implicitDefEqProofs (disch := first | assumption | exact Nat.le_of_ble_eq_true rfl | decide) only [b271_0, g271_1, b271_1, pe_aload0, pe_iload1, pe_call2, pm_af_ret, pm_af_void, pm_af_thr, pe_astore3, pe_iload2, pe_i2l, pe_bipush, pe_call3, pe_call1, pe_aload3, pe_getfield, pe_icmp_eq, pe_sipush, pe_goto, pe_goto_w, pe_istore4, pe_putfield, pe_iload4, pm_prog_1, pm_ob_some, Nat.reduceDiv, Nat.reduceMod, Nat.reduceMul, Nat.reduceAdd, Int.reduceToNat, pm_kill_i, pm_kill_r, pm_kill_n, pm_kill_j, pm_kill_l, pm_kill_d, pm_cats_nil, pm_cats_i, pm_cats_r, pm_cats_n, pm_cats_l, pm_cats_d, sz_1, sz_2, sl_1, sl_2, lc_0, lc_lt, lc_le, li_ne, va_rf, wr_m1, we_m1, pm_kill_w, Int32.reduceOfInt, Int64.reduceOfInt, Int32.reduceOfNat, Int32.reduceLT, Int32.reduceLE, Prod.mk.injEq, Nat.reduceEqDiff, reduceCtorEq, and_true, true_and, and_false, false_and, and_self, ite_true, ite_false, ↓reduceIte, not_true_eq_false, not_false_eq_true, pe_ri, pe_rz, pe_rc, p_throw, t271, w_junk hA, Cr_g4_5 hP hA, Cr_p4_5 hP hA, z2]
    · rw [if_neg k3] at e; cases e
  · rw [if_neg k1] at e; cases e
theorem x271 {fc : Int32} {pc : Int32} {A : wK → Nat} {h : pm_H} {D : Nat} {S : wS} {x1 : Int32} {x2 : Int32} {r : (Nat × wS) ⊕ (Int32 × wS)} (hP : Cr_P fc pc) (hA : wok A (Cr_d fc pc) h.1) (hD : 3 ≤ D) (e : f271 fc pc S x1 x2 = some r) : pm_call pm_prog D 271 [.ref (A (0, 0, 0)), .int x1, .int x2] (wput A (Cr_d fc pc) S h) = some (match (generalizing := false) r with | .inl (c, S1) => (Outcome.threw c, (wput A (Cr_d fc pc) S1 (pm_new h 6 (.inr (c, []))))) | .inr (w0, S1) => (Outcome.returned (some (.int w0)), (wput A (Cr_d fc pc) S1 h))) := by
  obtain ⟨D, rfl⟩ : ∃ D', D = D' + 1 := ⟨D - 1, by omega⟩
  have hD : 2 ≤ D := by omega
  simp only [f271] at e
  rw [c271 (Cr_c0 hP hA), b271_0]
  obtain ⟨r, k1, e⟩ := Option.bind_eq_some_iff.mp e
  have z1 := x269 (D := D) (h := h) hP hA (by omega) k1
  rcases r with c6 | v1i
  · dsimp only at e z1
    have e := Option.some.inj e; subst e
    simp -implicitDefEqProofs (disch := first | assumption | exact Nat.le_of_ble_eq_true rfl | decide) only [b271_0, g271_1, b271_1, pe_aload0, pe_iload1, pe_call2, pm_af_ret, pm_af_void, pm_af_thr, pe_astore3, pe_iload2, pe_i2l, pe_bipush, pe_call3, pe_call1, pe_aload3, pe_getfield, pe_icmp_eq, pe_sipush, pe_goto, pe_goto_w, pe_istore4, pe_putfield, pe_iload4, pm_prog_1, pm_ob_some, Nat.reduceDiv, Nat.reduceMod, Nat.reduceMul, Nat.reduceAdd, Int.reduceToNat, pm_kill_i, pm_kill_r, pm_kill_n, pm_kill_j, pm_kill_l, pm_kill_d, pm_cats_nil, pm_cats_i, pm_cats_r, pm_cats_n, pm_cats_l, pm_cats_d, sz_1, sz_2, sl_1, sl_2, lc_0, lc_lt, lc_le, li_ne, va_rf, wr_m1, we_m1, pm_kill_w, Int32.reduceOfInt, Int64.reduceOfInt, Int32.reduceOfNat, Int32.reduceLT, Int32.reduceLE, Prod.mk.injEq, Nat.reduceEqDiff, reduceCtorEq, and_true, true_and, and_false, false_and, and_self, ite_true, ite_false, ↓reduceIte, not_true_eq_false, not_false_eq_true, pe_ri, pe_rz, pe_rc, p_throw, t271, w_junk hA, Cr_g4_5 hP hA, Cr_p4_5 hP hA, z1]
  · dsimp only at e z1
    by_cases k2 : 0 ≤ v1i ∧ v1i < pc
    · rw [if_pos k2] at e
      obtain ⟨v2, k3, e⟩ := Option.bind_eq_some_iff.mp e
      try dsimp only at e
      have z3 := fun h => x260 (D := D) (h := h) (by omega) k3
      obtain ⟨r, k4, e⟩ := Option.bind_eq_some_iff.mp e
      have z4 := fun h => x262 (D := D) (h := h) (by omega) k4
      rcases r with c5 | _
      · dsimp only at e z4
        have e := Option.some.inj e; subst e
        simp -implicitDefEqProofs (disch := first | assumption | exact Nat.le_of_ble_eq_true rfl | decide) only [b271_0, g271_1, b271_1, pe_aload0, pe_iload1, pe_call2, pm_af_ret, pm_af_void, pm_af_thr, pe_astore3, pe_iload2, pe_i2l, pe_bipush, pe_call3, pe_call1, pe_aload3, pe_getfield, pe_icmp_eq, pe_sipush, pe_goto, pe_goto_w, pe_istore4, pe_putfield, pe_iload4, pm_prog_1, pm_ob_some, Nat.reduceDiv, Nat.reduceMod, Nat.reduceMul, Nat.reduceAdd, Int.reduceToNat, pm_kill_i, pm_kill_r, pm_kill_n, pm_kill_j, pm_kill_l, pm_kill_d, pm_cats_nil, pm_cats_i, pm_cats_r, pm_cats_n, pm_cats_l, pm_cats_d, sz_1, sz_2, sl_1, sl_2, lc_0, lc_lt, lc_le, li_ne, va_rf, wr_m1, we_m1, pm_kill_w, Int32.reduceOfInt, Int64.reduceOfInt, Int32.reduceOfNat, Int32.reduceLT, Int32.reduceLE, Prod.mk.injEq, Nat.reduceEqDiff, reduceCtorEq, and_true, true_and, and_false, false_and, and_self, ite_true, ite_false, ↓reduceIte, not_true_eq_false, not_false_eq_true, pe_ri, pe_rz, pe_rc, p_throw, t271, w_junk hA, Cr_g4_5 hP hA, Cr_p4_5 hP hA, z1, z3, z4]
      · dsimp only at e z4
        by_cases k5 : (S.1 (4, v1i, 0) 5) = x2
        · rw [if_pos k5] at e
          have k6 := y271_2 (h := h) hP hA hD e
          simp -implicitDefEqProofs (disch := first | assumption | exact Nat.le_of_ble_eq_true rfl | decide) only [b271_0, g271_1, b271_1, pe_aload0, pe_iload1, pe_call2, pm_af_ret, pm_af_void, pm_af_thr, pe_astore3, pe_iload2, pe_i2l, pe_bipush, pe_call3, pe_call1, pe_aload3, pe_getfield, pe_icmp_eq, pe_sipush, pe_goto, pe_goto_w, pe_istore4, pe_putfield, pe_iload4, pm_prog_1, pm_ob_some, Nat.reduceDiv, Nat.reduceMod, Nat.reduceMul, Nat.reduceAdd, Int.reduceToNat, pm_kill_i, pm_kill_r, pm_kill_n, pm_kill_j, pm_kill_l, pm_kill_d, pm_cats_nil, pm_cats_i, pm_cats_r, pm_cats_n, pm_cats_l, pm_cats_d, sz_1, sz_2, sl_1, sl_2, lc_0, lc_lt, lc_le, li_ne, va_rf, wr_m1, we_m1, pm_kill_w, Int32.reduceOfInt, Int64.reduceOfInt, Int32.reduceOfNat, Int32.reduceLT, Int32.reduceLE, Prod.mk.injEq, Nat.reduceEqDiff, reduceCtorEq, and_true, true_and, and_false, false_and, and_self, ite_true, ite_false, ↓reduceIte, not_true_eq_false, not_false_eq_true, pe_ri, pe_rz, pe_rc, p_throw, t271, w_junk hA, Cr_g4_5 hP hA, Cr_p4_5 hP hA, z1, z3, z4, eq_true k5, k6]
        · rw [if_neg k5] at e
          have k7 := y271_2 (h := h) hP hA hD e
          simp -implicitDefEqProofs (disch := first | assumption | exact Nat.le_of_ble_eq_true rfl | decide) only [b271_0, g271_1, b271_1, pe_aload0, pe_iload1, pe_call2, pm_af_ret, pm_af_void, pm_af_thr, pe_astore3, pe_iload2, pe_i2l, pe_bipush, pe_call3, pe_call1, pe_aload3, pe_getfield, pe_icmp_eq, pe_sipush, pe_goto, pe_goto_w, pe_istore4, pe_putfield, pe_iload4, pm_prog_1, pm_ob_some, Nat.reduceDiv, Nat.reduceMod, Nat.reduceMul, Nat.reduceAdd, Int.reduceToNat, pm_kill_i, pm_kill_r, pm_kill_n, pm_kill_j, pm_kill_l, pm_kill_d, pm_cats_nil, pm_cats_i, pm_cats_r, pm_cats_n, pm_cats_l, pm_cats_d, sz_1, sz_2, sl_1, sl_2, lc_0, lc_lt, lc_le, li_ne, va_rf, wr_m1, we_m1, pm_kill_w, Int32.reduceOfInt, Int64.reduceOfInt, Int32.reduceOfNat, Int32.reduceLT, Int32.reduceLE, Prod.mk.injEq, Nat.reduceEqDiff, reduceCtorEq, and_true, true_and, and_false, false_and, and_self, ite_true, ite_false, ↓reduceIte, not_true_eq_false, not_false_eq_true, pe_ri, pe_rz, pe_rc, p_throw, t271, w_junk hA, Cr_g4_5 hP hA, Cr_p4_5 hP hA, z1, z3, z4, eq_false k5, k7]
    · rw [if_neg k2] at e; cases e
/-- TimberHouse$FaultRips.margin(I)Z -/
theorem c272 {d : Nat} {h : pm_H} {a : Nat} {x0 : Int32} (hc : pm_cls h a = some 4) : pm_call pm_prog (d + 1) 272 [.ref a, .int x0] h = pm_ev pm_prog (pm_call pm_prog d) 272 0 b272_0 [.ref a, .int x0, pm_junk] [] h := pm_cal (pm_rc1 hc rfl) rfl rfl rfl
theorem g272_1 {cl : pm_C} {ls st : List Value} {h : pm_H} : pm_go pm_prog cl 272 1 ls st h = pm_ev pm_prog cl 272 1 b272_1 ls st h := pm_go_eq pm_prog cl 272 1 ls st h
theorem g272_2 {cl : pm_C} {ls st : List Value} {h : pm_H} : pm_go pm_prog cl 272 2 ls st h = pm_ev pm_prog cl 272 2 b272_2 ls st h := pm_go_eq pm_prog cl 272 2 ls st h
theorem t272 {cl : pm_C} {j : Nat} {ls : List Value} {c : Nat} {h : pm_H} : pm_thr pm_prog cl 272 j ls c h = some (.threw c, h) := rfl
noncomputable def f272_2 (fc : Int32) (pc : Int32) (S : wS) (x1 : Int32) (y1 : Int32) : Option ((Nat × wS) ⊕ (Int32 × wS)) :=
  (f265 fc pc S y1).bind fun (v2, S3) =>
  if v2 = 0 ∨ v2 = 1 then
    some (.inr (v2, (sz S3 (0, 0, 0) 8 x1)))
  else none
/-- TimberHouse$FaultRips.margin(I)Z -/
noncomputable def f272 (fc : Int32) (pc : Int32) (S : wS) (x1 : Int32) : Option ((Nat × wS) ⊕ (Int32 × wS)) :=
  (f260 (Int32.toInt64 x1) 0 65536).bind fun v1 =>
  (f262 v1).bind fun r => match r with
  | .inl c4 =>
    some (.inl (c4, S))
  | .inr _ =>
  if (S.1 (0, 0, 0) 8) = x1 then
    f272_2 fc pc S x1 0
  else
    f272_2 fc pc S x1 1
theorem y272_2 {fc : Int32} {pc : Int32} {A : wK → Nat} {h : pm_H} {D : Nat} {S : wS} {x1 : Int32} {y1 : Int32} {r : (Nat × wS) ⊕ (Int32 × wS)} (hP : Cr_P fc pc) (hA : wok A (Cr_d fc pc) h.1) (hD : 1 ≤ D) (e : f272_2 fc pc S x1 y1 = some r) : ∀ q2 : Value, pm_go pm_prog (pm_call pm_prog D) 272 2 [.ref (A (0, 0, 0)), .int x1, q2] [.int y1, .ref (A (0, 0, 0))] (wput A (Cr_d fc pc) S h) = some (match (generalizing := false) r with | .inl (c, S1) => (Outcome.threw c, (wput A (Cr_d fc pc) S1 (pm_new h 6 (.inr (c, []))))) | .inr (w0, S1) => (Outcome.returned (some (.int w0)), (wput A (Cr_d fc pc) S1 h))) := by
  intro q2
  simp only [f272_2] at e
  rw [g272_2, b272_2]
  obtain ⟨⟨v2, S3⟩, k1, e⟩ := Option.bind_eq_some_iff.mp e
  try dsimp only at e
  have z1 := x265 (D := D) (h := h) hP hA (by omega) k1
  dsimp only at z1
  by_cases k2 : v2 = 0 ∨ v2 = 1
  · rw [if_pos k2] at e
    have e := Option.some.inj e; subst e
    simp -implicitDefEqProofs (disch := first | assumption | exact Nat.le_of_ble_eq_true rfl | decide) only [b272_0, g272_1, b272_1, pe_iload1, pe_i2l, pe_bipush, pe_call3, pm_af_ret, pm_af_void, pm_af_thr, pe_call1, pe_aload0, pe_getfield, pe_icmp_eq, pe_sipush, pe_goto, pe_goto_w, pe_call2, pe_istore2, pe_putfield, pe_iload2, pm_prog_1, pm_ob_some, Nat.reduceDiv, Nat.reduceMod, Nat.reduceMul, Nat.reduceAdd, Int.reduceToNat, pm_kill_i, pm_kill_r, pm_kill_n, pm_kill_j, pm_kill_l, pm_kill_d, pm_cats_nil, pm_cats_i, pm_cats_r, pm_cats_n, pm_cats_l, pm_cats_d, sz_1, sz_2, sl_1, sl_2, lc_0, lc_lt, lc_le, li_ne, va_rf, wr_m1, we_m1, pm_kill_w, Int32.reduceOfInt, Int64.reduceOfInt, Int32.reduceOfNat, Int32.reduceLT, Int32.reduceLE, Prod.mk.injEq, Nat.reduceEqDiff, reduceCtorEq, and_true, true_and, and_false, false_and, and_self, ite_true, ite_false, ↓reduceIte, not_true_eq_false, not_false_eq_true, pe_ri, pe_rz, pe_rc, p_throw, t272, w_junk hA, Cr_g0_8 hP hA, Cr_p0_8 hP hA, z1]
  · rw [if_neg k2] at e; cases e
theorem x272 {fc : Int32} {pc : Int32} {A : wK → Nat} {h : pm_H} {D : Nat} {S : wS} {x1 : Int32} {r : (Nat × wS) ⊕ (Int32 × wS)} (hP : Cr_P fc pc) (hA : wok A (Cr_d fc pc) h.1) (hD : 2 ≤ D) (e : f272 fc pc S x1 = some r) : pm_call pm_prog D 272 [.ref (A (0, 0, 0)), .int x1] (wput A (Cr_d fc pc) S h) = some (match (generalizing := false) r with | .inl (c, S1) => (Outcome.threw c, (wput A (Cr_d fc pc) S1 (pm_new h 6 (.inr (c, []))))) | .inr (w0, S1) => (Outcome.returned (some (.int w0)), (wput A (Cr_d fc pc) S1 h))) := by
  obtain ⟨D, rfl⟩ : ∃ D', D = D' + 1 := ⟨D - 1, by omega⟩
  have hD : 1 ≤ D := by omega
  simp only [f272] at e
  rw [c272 (Cr_c0 hP hA), b272_0]
  obtain ⟨v1, k1, e⟩ := Option.bind_eq_some_iff.mp e
  try dsimp only at e
  have z1 := fun h => x260 (D := D) (h := h) (by omega) k1
  obtain ⟨r, k2, e⟩ := Option.bind_eq_some_iff.mp e
  have z2 := fun h => x262 (D := D) (h := h) (by omega) k2
  rcases r with c4 | _
  · dsimp only at e z2
    have e := Option.some.inj e; subst e
    simp -implicitDefEqProofs (disch := first | assumption | exact Nat.le_of_ble_eq_true rfl | decide) only [b272_0, g272_1, b272_1, pe_iload1, pe_i2l, pe_bipush, pe_call3, pm_af_ret, pm_af_void, pm_af_thr, pe_call1, pe_aload0, pe_getfield, pe_icmp_eq, pe_sipush, pe_goto, pe_goto_w, pe_call2, pe_istore2, pe_putfield, pe_iload2, pm_prog_1, pm_ob_some, Nat.reduceDiv, Nat.reduceMod, Nat.reduceMul, Nat.reduceAdd, Int.reduceToNat, pm_kill_i, pm_kill_r, pm_kill_n, pm_kill_j, pm_kill_l, pm_kill_d, pm_cats_nil, pm_cats_i, pm_cats_r, pm_cats_n, pm_cats_l, pm_cats_d, sz_1, sz_2, sl_1, sl_2, lc_0, lc_lt, lc_le, li_ne, va_rf, wr_m1, we_m1, pm_kill_w, Int32.reduceOfInt, Int64.reduceOfInt, Int32.reduceOfNat, Int32.reduceLT, Int32.reduceLE, Prod.mk.injEq, Nat.reduceEqDiff, reduceCtorEq, and_true, true_and, and_false, false_and, and_self, ite_true, ite_false, ↓reduceIte, not_true_eq_false, not_false_eq_true, pe_ri, pe_rz, pe_rc, p_throw, t272, w_junk hA, Cr_g0_8 hP hA, Cr_p0_8 hP hA, z1, z2]
  · dsimp only at e z2
    by_cases k3 : (S.1 (0, 0, 0) 8) = x1
    · rw [if_pos k3] at e
      have k4 := y272_2 (h := h) hP hA hD e
      simp -implicitDefEqProofs (disch := first | assumption | exact Nat.le_of_ble_eq_true rfl | decide) only [b272_0, g272_1, b272_1, pe_iload1, pe_i2l, pe_bipush, pe_call3, pm_af_ret, pm_af_void, pm_af_thr, pe_call1, pe_aload0, pe_getfield, pe_icmp_eq, pe_sipush, pe_goto, pe_goto_w, pe_call2, pe_istore2, pe_putfield, pe_iload2, pm_prog_1, pm_ob_some, Nat.reduceDiv, Nat.reduceMod, Nat.reduceMul, Nat.reduceAdd, Int.reduceToNat, pm_kill_i, pm_kill_r, pm_kill_n, pm_kill_j, pm_kill_l, pm_kill_d, pm_cats_nil, pm_cats_i, pm_cats_r, pm_cats_n, pm_cats_l, pm_cats_d, sz_1, sz_2, sl_1, sl_2, lc_0, lc_lt, lc_le, li_ne, va_rf, wr_m1, we_m1, pm_kill_w, Int32.reduceOfInt, Int64.reduceOfInt, Int32.reduceOfNat, Int32.reduceLT, Int32.reduceLE, Prod.mk.injEq, Nat.reduceEqDiff, reduceCtorEq, and_true, true_and, and_false, false_and, and_self, ite_true, ite_false, ↓reduceIte, not_true_eq_false, not_false_eq_true, pe_ri, pe_rz, pe_rc, p_throw, t272, w_junk hA, Cr_g0_8 hP hA, Cr_p0_8 hP hA, z1, z2, eq_true k3, k4]
    · rw [if_neg k3] at e
      have k5 := y272_2 (h := h) hP hA hD e
      simp -implicitDefEqProofs (disch := first | assumption | exact Nat.le_of_ble_eq_true rfl | decide) only [b272_0, g272_1, b272_1, pe_iload1, pe_i2l, pe_bipush, pe_call3, pm_af_ret, pm_af_void, pm_af_thr, pe_call1, pe_aload0, pe_getfield, pe_icmp_eq, pe_sipush, pe_goto, pe_goto_w, pe_call2, pe_istore2, pe_putfield, pe_iload2, pm_prog_1, pm_ob_some, Nat.reduceDiv, Nat.reduceMod, Nat.reduceMul, Nat.reduceAdd, Int.reduceToNat, pm_kill_i, pm_kill_r, pm_kill_n, pm_kill_j, pm_kill_l, pm_kill_d, pm_cats_nil, pm_cats_i, pm_cats_r, pm_cats_n, pm_cats_l, pm_cats_d, sz_1, sz_2, sl_1, sl_2, lc_0, lc_lt, lc_le, li_ne, va_rf, wr_m1, we_m1, pm_kill_w, Int32.reduceOfInt, Int64.reduceOfInt, Int32.reduceOfNat, Int32.reduceLT, Int32.reduceLE, Prod.mk.injEq, Nat.reduceEqDiff, reduceCtorEq, and_true, true_and, and_false, false_and, and_self, ite_true, ite_false, ↓reduceIte, not_true_eq_false, not_false_eq_true, pe_ri, pe_rz, pe_rc, p_throw, t272, w_junk hA, Cr_g0_8 hP hA, Cr_p0_8 hP hA, z1, z2, eq_false k3, k5]
/-- TimberHouse$FaultRips.bow(I)Z -/
theorem c273 {d : Nat} {h : pm_H} {a : Nat} {x0 : Int32} (hc : pm_cls h a = some 4) : pm_call pm_prog (d + 1) 273 [.ref a, .int x0] h = pm_ev pm_prog (pm_call pm_prog d) 273 0 b273_0 [.ref a, .int x0, pm_junk] [] h := pm_cal (pm_rc1 hc rfl) rfl rfl rfl
theorem g273_1 {cl : pm_C} {ls st : List Value} {h : pm_H} : pm_go pm_prog cl 273 1 ls st h = pm_ev pm_prog cl 273 1 b273_1 ls st h := pm_go_eq pm_prog cl 273 1 ls st h
theorem g273_2 {cl : pm_C} {ls st : List Value} {h : pm_H} : pm_go pm_prog cl 273 2 ls st h = pm_ev pm_prog cl 273 2 b273_2 ls st h := pm_go_eq pm_prog cl 273 2 ls st h
theorem t273 {cl : pm_C} {j : Nat} {ls : List Value} {c : Nat} {h : pm_H} : pm_thr pm_prog cl 273 j ls c h = some (.threw c, h) := rfl
noncomputable def f273_2 (fc : Int32) (pc : Int32) (S : wS) (x1 : Int32) (y1 : Int32) : Option ((Nat × wS) ⊕ (Int32 × wS)) :=
  (f265 fc pc S y1).bind fun (v2, S3) =>
  if v2 = 0 ∨ v2 = 1 then
    some (.inr (v2, (sz S3 (0, 0, 0) 9 x1)))
  else none
/-- TimberHouse$FaultRips.bow(I)Z -/
noncomputable def f273 (fc : Int32) (pc : Int32) (S : wS) (x1 : Int32) : Option ((Nat × wS) ⊕ (Int32 × wS)) :=
  (f260 (Int32.toInt64 x1) 1 16777216).bind fun v1 =>
  (f262 v1).bind fun r => match r with
  | .inl c4 =>
    some (.inl (c4, S))
  | .inr _ =>
  if (S.1 (0, 0, 0) 9) = x1 then
    f273_2 fc pc S x1 0
  else
    f273_2 fc pc S x1 1
theorem y273_2 {fc : Int32} {pc : Int32} {A : wK → Nat} {h : pm_H} {D : Nat} {S : wS} {x1 : Int32} {y1 : Int32} {r : (Nat × wS) ⊕ (Int32 × wS)} (hP : Cr_P fc pc) (hA : wok A (Cr_d fc pc) h.1) (hD : 1 ≤ D) (e : f273_2 fc pc S x1 y1 = some r) : ∀ q2 : Value, pm_go pm_prog (pm_call pm_prog D) 273 2 [.ref (A (0, 0, 0)), .int x1, q2] [.int y1, .ref (A (0, 0, 0))] (wput A (Cr_d fc pc) S h) = some (match (generalizing := false) r with | .inl (c, S1) => (Outcome.threw c, (wput A (Cr_d fc pc) S1 (pm_new h 6 (.inr (c, []))))) | .inr (w0, S1) => (Outcome.returned (some (.int w0)), (wput A (Cr_d fc pc) S1 h))) := by
  intro q2
  simp only [f273_2] at e
  rw [g273_2, b273_2]
  obtain ⟨⟨v2, S3⟩, k1, e⟩ := Option.bind_eq_some_iff.mp e
  try dsimp only at e
  have z1 := x265 (D := D) (h := h) hP hA (by omega) k1
  dsimp only at z1
  by_cases k2 : v2 = 0 ∨ v2 = 1
  · rw [if_pos k2] at e
    have e := Option.some.inj e; subst e
    simp -implicitDefEqProofs (disch := first | assumption | exact Nat.le_of_ble_eq_true rfl | decide) only [b273_0, g273_1, b273_1, pe_iload1, pe_i2l, pe_bipush, pe_call3, pm_af_ret, pm_af_void, pm_af_thr, pe_call1, pe_aload0, pe_getfield, pe_icmp_eq, pe_sipush, pe_goto, pe_goto_w, pe_call2, pe_istore2, pe_putfield, pe_iload2, pm_prog_1, pm_ob_some, Nat.reduceDiv, Nat.reduceMod, Nat.reduceMul, Nat.reduceAdd, Int.reduceToNat, pm_kill_i, pm_kill_r, pm_kill_n, pm_kill_j, pm_kill_l, pm_kill_d, pm_cats_nil, pm_cats_i, pm_cats_r, pm_cats_n, pm_cats_l, pm_cats_d, sz_1, sz_2, sl_1, sl_2, lc_0, lc_lt, lc_le, li_ne, va_rf, wr_m1, we_m1, pm_kill_w, Int32.reduceOfInt, Int64.reduceOfInt, Int32.reduceOfNat, Int32.reduceLT, Int32.reduceLE, Prod.mk.injEq, Nat.reduceEqDiff, reduceCtorEq, and_true, true_and, and_false, false_and, and_self, ite_true, ite_false, ↓reduceIte, not_true_eq_false, not_false_eq_true, pe_ri, pe_rz, pe_rc, p_throw, t273, w_junk hA, Cr_g0_9 hP hA, Cr_p0_9 hP hA, z1]
  · rw [if_neg k2] at e; cases e
theorem x273 {fc : Int32} {pc : Int32} {A : wK → Nat} {h : pm_H} {D : Nat} {S : wS} {x1 : Int32} {r : (Nat × wS) ⊕ (Int32 × wS)} (hP : Cr_P fc pc) (hA : wok A (Cr_d fc pc) h.1) (hD : 2 ≤ D) (e : f273 fc pc S x1 = some r) : pm_call pm_prog D 273 [.ref (A (0, 0, 0)), .int x1] (wput A (Cr_d fc pc) S h) = some (match (generalizing := false) r with | .inl (c, S1) => (Outcome.threw c, (wput A (Cr_d fc pc) S1 (pm_new h 6 (.inr (c, []))))) | .inr (w0, S1) => (Outcome.returned (some (.int w0)), (wput A (Cr_d fc pc) S1 h))) := by
  obtain ⟨D, rfl⟩ : ∃ D', D = D' + 1 := ⟨D - 1, by omega⟩
  have hD : 1 ≤ D := by omega
  simp only [f273] at e
  rw [c273 (Cr_c0 hP hA), b273_0]
  obtain ⟨v1, k1, e⟩ := Option.bind_eq_some_iff.mp e
  try dsimp only at e
  have z1 := fun h => x260 (D := D) (h := h) (by omega) k1
  obtain ⟨r, k2, e⟩ := Option.bind_eq_some_iff.mp e
  have z2 := fun h => x262 (D := D) (h := h) (by omega) k2
  rcases r with c4 | _
  · dsimp only at e z2
    have e := Option.some.inj e; subst e
    simp -implicitDefEqProofs (disch := first | assumption | exact Nat.le_of_ble_eq_true rfl | decide) only [b273_0, g273_1, b273_1, pe_iload1, pe_i2l, pe_bipush, pe_call3, pm_af_ret, pm_af_void, pm_af_thr, pe_call1, pe_aload0, pe_getfield, pe_icmp_eq, pe_sipush, pe_goto, pe_goto_w, pe_call2, pe_istore2, pe_putfield, pe_iload2, pm_prog_1, pm_ob_some, Nat.reduceDiv, Nat.reduceMod, Nat.reduceMul, Nat.reduceAdd, Int.reduceToNat, pm_kill_i, pm_kill_r, pm_kill_n, pm_kill_j, pm_kill_l, pm_kill_d, pm_cats_nil, pm_cats_i, pm_cats_r, pm_cats_n, pm_cats_l, pm_cats_d, sz_1, sz_2, sl_1, sl_2, lc_0, lc_lt, lc_le, li_ne, va_rf, wr_m1, we_m1, pm_kill_w, Int32.reduceOfInt, Int64.reduceOfInt, Int32.reduceOfNat, Int32.reduceLT, Int32.reduceLE, Prod.mk.injEq, Nat.reduceEqDiff, reduceCtorEq, and_true, true_and, and_false, false_and, and_self, ite_true, ite_false, ↓reduceIte, not_true_eq_false, not_false_eq_true, pe_ri, pe_rz, pe_rc, p_throw, t273, w_junk hA, Cr_g0_9 hP hA, Cr_p0_9 hP hA, z1, z2]
  · dsimp only at e z2
    by_cases k3 : (S.1 (0, 0, 0) 9) = x1
    · rw [if_pos k3] at e
      have k4 := y273_2 (h := h) hP hA hD e
      simp -implicitDefEqProofs (disch := first | assumption | exact Nat.le_of_ble_eq_true rfl | decide) only [b273_0, g273_1, b273_1, pe_iload1, pe_i2l, pe_bipush, pe_call3, pm_af_ret, pm_af_void, pm_af_thr, pe_call1, pe_aload0, pe_getfield, pe_icmp_eq, pe_sipush, pe_goto, pe_goto_w, pe_call2, pe_istore2, pe_putfield, pe_iload2, pm_prog_1, pm_ob_some, Nat.reduceDiv, Nat.reduceMod, Nat.reduceMul, Nat.reduceAdd, Int.reduceToNat, pm_kill_i, pm_kill_r, pm_kill_n, pm_kill_j, pm_kill_l, pm_kill_d, pm_cats_nil, pm_cats_i, pm_cats_r, pm_cats_n, pm_cats_l, pm_cats_d, sz_1, sz_2, sl_1, sl_2, lc_0, lc_lt, lc_le, li_ne, va_rf, wr_m1, we_m1, pm_kill_w, Int32.reduceOfInt, Int64.reduceOfInt, Int32.reduceOfNat, Int32.reduceLT, Int32.reduceLE, Prod.mk.injEq, Nat.reduceEqDiff, reduceCtorEq, and_true, true_and, and_false, false_and, and_self, ite_true, ite_false, ↓reduceIte, not_true_eq_false, not_false_eq_true, pe_ri, pe_rz, pe_rc, p_throw, t273, w_junk hA, Cr_g0_9 hP hA, Cr_p0_9 hP hA, z1, z2, eq_true k3, k4]
    · rw [if_neg k3] at e
      have k5 := y273_2 (h := h) hP hA hD e
      simp -implicitDefEqProofs (disch := first | assumption | exact Nat.le_of_ble_eq_true rfl | decide) only [b273_0, g273_1, b273_1, pe_iload1, pe_i2l, pe_bipush, pe_call3, pm_af_ret, pm_af_void, pm_af_thr, pe_call1, pe_aload0, pe_getfield, pe_icmp_eq, pe_sipush, pe_goto, pe_goto_w, pe_call2, pe_istore2, pe_putfield, pe_iload2, pm_prog_1, pm_ob_some, Nat.reduceDiv, Nat.reduceMod, Nat.reduceMul, Nat.reduceAdd, Int.reduceToNat, pm_kill_i, pm_kill_r, pm_kill_n, pm_kill_j, pm_kill_l, pm_kill_d, pm_cats_nil, pm_cats_i, pm_cats_r, pm_cats_n, pm_cats_l, pm_cats_d, sz_1, sz_2, sl_1, sl_2, lc_0, lc_lt, lc_le, li_ne, va_rf, wr_m1, we_m1, pm_kill_w, Int32.reduceOfInt, Int64.reduceOfInt, Int32.reduceOfNat, Int32.reduceLT, Int32.reduceLE, Prod.mk.injEq, Nat.reduceEqDiff, reduceCtorEq, and_true, true_and, and_false, false_and, and_self, ite_true, ite_false, ↓reduceIte, not_true_eq_false, not_false_eq_true, pe_ri, pe_rz, pe_rc, p_throw, t273, w_junk hA, Cr_g0_9 hP hA, Cr_p0_9 hP hA, z1, z2, eq_false k3, k5]
/-- TimberHouse$FaultRips$Fault.overlaps(IIIII)Z -/
theorem c2369 {d : Nat} {h : pm_H} {a : Nat} {x0 : Int32} {x1 : Int32} {x2 : Int32} {x3 : Int32} {x4 : Int32} (hc : pm_cls h a = some 37) : pm_call pm_prog (d + 1) 2369 [.ref a, .int x0, .int x1, .int x2, .int x3, .int x4] h = pm_ev pm_prog (pm_call pm_prog d) 2369 0 b2369_0 [.ref a, .int x0, .int x1, .int x2, .int x3, .int x4] [] h := pm_cal (pm_rc1 hc rfl) rfl rfl rfl
theorem g2369_1 {cl : pm_C} {ls st : List Value} {h : pm_H} : pm_go pm_prog cl 2369 1 ls st h = pm_ev pm_prog cl 2369 1 b2369_1 ls st h := pm_go_eq pm_prog cl 2369 1 ls st h
theorem g2369_2 {cl : pm_C} {ls st : List Value} {h : pm_H} : pm_go pm_prog cl 2369 2 ls st h = pm_ev pm_prog cl 2369 2 b2369_2 ls st h := pm_go_eq pm_prog cl 2369 2 ls st h
/-- TimberHouse$FaultRips$Fault.overlaps(IIIII)Z -/
noncomputable def f2369 (fc : Int32) (pc : Int32) (S : wS) (x0i : Int32) (x1 : Int32) (x2 : Int32) (x3 : Int32) (x4 : Int32) (x5 : Int32) : Option (Int32) :=
  if 0 ≤ x0i ∧ x0i < fc then
    if ((S.1 (2, x0i, 0) 2) - x5) < x2 then
      if (((S.1 (2, x0i, 0) 2) + (S.1 (2, x0i, 0) 4)) + x5) ≤ x1 then
        some 0
      else
        if ((S.1 (2, x0i, 0) 3) - x5) < x4 then
          if (((S.1 (2, x0i, 0) 3) + (S.1 (2, x0i, 0) 5)) + x5) ≤ x3 then
            some 0
          else
            some 1
        else
          some 0
    else
      some 0
  else none
theorem x2369 {fc : Int32} {pc : Int32} {A : wK → Nat} {h : pm_H} {D : Nat} {S : wS} {x0i : Int32} {x1 : Int32} {x2 : Int32} {x3 : Int32} {x4 : Int32} {x5 : Int32} {r : Int32} (hP : Cr_P fc pc) (hA : wok A (Cr_d fc pc) h.1) (hD : 1 ≤ D) (e : f2369 fc pc S x0i x1 x2 x3 x4 x5 = some r) : pm_call pm_prog D 2369 [.ref (A (2, x0i, 0)), .int x1, .int x2, .int x3, .int x4, .int x5] (wput A (Cr_d fc pc) S h) = some (Outcome.returned (some (.int r)), (wput A (Cr_d fc pc) S h)) := by
  obtain ⟨D, rfl⟩ : ∃ D', D = D' + 1 := ⟨D - 1, by omega⟩
  have hD : 0 ≤ D := by omega
  simp only [f2369] at e
  have k1 : 0 ≤ x0i ∧ x0i < fc := by
    by_cases q : 0 ≤ x0i ∧ x0i < fc
    · exact q
    · rw [if_neg q] at e; cases e
  rw [if_pos k1] at e
  rw [c2369 (Cr_c2 hP hA k1), b2369_0]
  by_cases k2 : ((S.1 (2, x0i, 0) 2) - x5) < x2
  · rw [if_pos k2] at e
    by_cases k3 : (((S.1 (2, x0i, 0) 2) + (S.1 (2, x0i, 0) 4)) + x5) ≤ x1
    · rw [if_pos k3] at e
      have e := Option.some.inj e; subst e
      simp -implicitDefEqProofs (disch := first | assumption | exact Nat.le_of_ble_eq_true rfl | decide) only [b2369_0, g2369_1, b2369_1, g2369_2, b2369_2, pe_aload0, pe_getfield, pe_iload5, pe_isub, pe_iload2, pe_icmp_ge, pe_iadd, pe_iload1, pe_icmp_le, pe_iload4, pe_iload3, pe_sipush, pe_goto, pe_goto_w, pm_prog_1, pm_ob_some, Nat.reduceDiv, Nat.reduceMod, Nat.reduceMul, Nat.reduceAdd, Int.reduceToNat, pm_kill_i, pm_kill_r, pm_kill_n, pm_kill_j, pm_kill_l, pm_kill_d, pm_cats_nil, pm_cats_i, pm_cats_r, pm_cats_n, pm_cats_l, pm_cats_d, sz_1, sz_2, sl_1, sl_2, lc_0, lc_lt, lc_le, li_ne, va_rf, wr_m1, we_m1, pm_kill_w, Int32.reduceOfInt, Int64.reduceOfInt, Int32.reduceOfNat, Int32.reduceLT, Int32.reduceLE, Prod.mk.injEq, Nat.reduceEqDiff, reduceCtorEq, and_true, true_and, and_false, false_and, and_self, ite_true, ite_false, ↓reduceIte, not_true_eq_false, not_false_eq_true, pe_ri, pe_rz, pe_rc, Cr_g2_2 hP hA, Cr_g2_3 hP hA, Cr_g2_4 hP hA, Cr_g2_5 hP hA, eq_true k2, eq_true k3]
    · rw [if_neg k3] at e
      by_cases k4 : ((S.1 (2, x0i, 0) 3) - x5) < x4
      · rw [if_pos k4] at e
        by_cases k5 : (((S.1 (2, x0i, 0) 3) + (S.1 (2, x0i, 0) 5)) + x5) ≤ x3
        · rw [if_pos k5] at e
          have e := Option.some.inj e; subst e
          simp -implicitDefEqProofs (disch := first | assumption | exact Nat.le_of_ble_eq_true rfl | decide) only [b2369_0, g2369_1, b2369_1, g2369_2, b2369_2, pe_aload0, pe_getfield, pe_iload5, pe_isub, pe_iload2, pe_icmp_ge, pe_iadd, pe_iload1, pe_icmp_le, pe_iload4, pe_iload3, pe_sipush, pe_goto, pe_goto_w, pm_prog_1, pm_ob_some, Nat.reduceDiv, Nat.reduceMod, Nat.reduceMul, Nat.reduceAdd, Int.reduceToNat, pm_kill_i, pm_kill_r, pm_kill_n, pm_kill_j, pm_kill_l, pm_kill_d, pm_cats_nil, pm_cats_i, pm_cats_r, pm_cats_n, pm_cats_l, pm_cats_d, sz_1, sz_2, sl_1, sl_2, lc_0, lc_lt, lc_le, li_ne, va_rf, wr_m1, we_m1, pm_kill_w, Int32.reduceOfInt, Int64.reduceOfInt, Int32.reduceOfNat, Int32.reduceLT, Int32.reduceLE, Prod.mk.injEq, Nat.reduceEqDiff, reduceCtorEq, and_true, true_and, and_false, false_and, and_self, ite_true, ite_false, ↓reduceIte, not_true_eq_false, not_false_eq_true, pe_ri, pe_rz, pe_rc, Cr_g2_2 hP hA, Cr_g2_3 hP hA, Cr_g2_4 hP hA, Cr_g2_5 hP hA, eq_true k2, eq_false k3, eq_true k4, eq_true k5]
        · rw [if_neg k5] at e
          have e := Option.some.inj e; subst e
          simp -implicitDefEqProofs (disch := first | assumption | exact Nat.le_of_ble_eq_true rfl | decide) only [b2369_0, g2369_1, b2369_1, g2369_2, b2369_2, pe_aload0, pe_getfield, pe_iload5, pe_isub, pe_iload2, pe_icmp_ge, pe_iadd, pe_iload1, pe_icmp_le, pe_iload4, pe_iload3, pe_sipush, pe_goto, pe_goto_w, pm_prog_1, pm_ob_some, Nat.reduceDiv, Nat.reduceMod, Nat.reduceMul, Nat.reduceAdd, Int.reduceToNat, pm_kill_i, pm_kill_r, pm_kill_n, pm_kill_j, pm_kill_l, pm_kill_d, pm_cats_nil, pm_cats_i, pm_cats_r, pm_cats_n, pm_cats_l, pm_cats_d, sz_1, sz_2, sl_1, sl_2, lc_0, lc_lt, lc_le, li_ne, va_rf, wr_m1, we_m1, pm_kill_w, Int32.reduceOfInt, Int64.reduceOfInt, Int32.reduceOfNat, Int32.reduceLT, Int32.reduceLE, Prod.mk.injEq, Nat.reduceEqDiff, reduceCtorEq, and_true, true_and, and_false, false_and, and_self, ite_true, ite_false, ↓reduceIte, not_true_eq_false, not_false_eq_true, pe_ri, pe_rz, pe_rc, Cr_g2_2 hP hA, Cr_g2_3 hP hA, Cr_g2_4 hP hA, Cr_g2_5 hP hA, eq_true k2, eq_false k3, eq_true k4, eq_false k5]
      · rw [if_neg k4] at e
        have e := Option.some.inj e; subst e
        simp -implicitDefEqProofs (disch := first | assumption | exact Nat.le_of_ble_eq_true rfl | decide) only [b2369_0, g2369_1, b2369_1, g2369_2, b2369_2, pe_aload0, pe_getfield, pe_iload5, pe_isub, pe_iload2, pe_icmp_ge, pe_iadd, pe_iload1, pe_icmp_le, pe_iload4, pe_iload3, pe_sipush, pe_goto, pe_goto_w, pm_prog_1, pm_ob_some, Nat.reduceDiv, Nat.reduceMod, Nat.reduceMul, Nat.reduceAdd, Int.reduceToNat, pm_kill_i, pm_kill_r, pm_kill_n, pm_kill_j, pm_kill_l, pm_kill_d, pm_cats_nil, pm_cats_i, pm_cats_r, pm_cats_n, pm_cats_l, pm_cats_d, sz_1, sz_2, sl_1, sl_2, lc_0, lc_lt, lc_le, li_ne, va_rf, wr_m1, we_m1, pm_kill_w, Int32.reduceOfInt, Int64.reduceOfInt, Int32.reduceOfNat, Int32.reduceLT, Int32.reduceLE, Prod.mk.injEq, Nat.reduceEqDiff, reduceCtorEq, and_true, true_and, and_false, false_and, and_self, ite_true, ite_false, ↓reduceIte, not_true_eq_false, not_false_eq_true, pe_ri, pe_rz, pe_rc, Cr_g2_2 hP hA, Cr_g2_3 hP hA, Cr_g2_4 hP hA, Cr_g2_5 hP hA, eq_true k2, eq_false k3, eq_false k4]
  · rw [if_neg k2] at e
    have e := Option.some.inj e; subst e
    simp -implicitDefEqProofs (disch := first | assumption | exact Nat.le_of_ble_eq_true rfl | decide) only [b2369_0, g2369_1, b2369_1, g2369_2, b2369_2, pe_aload0, pe_getfield, pe_iload5, pe_isub, pe_iload2, pe_icmp_ge, pe_iadd, pe_iload1, pe_icmp_le, pe_iload4, pe_iload3, pe_sipush, pe_goto, pe_goto_w, pm_prog_1, pm_ob_some, Nat.reduceDiv, Nat.reduceMod, Nat.reduceMul, Nat.reduceAdd, Int.reduceToNat, pm_kill_i, pm_kill_r, pm_kill_n, pm_kill_j, pm_kill_l, pm_kill_d, pm_cats_nil, pm_cats_i, pm_cats_r, pm_cats_n, pm_cats_l, pm_cats_d, sz_1, sz_2, sl_1, sl_2, lc_0, lc_lt, lc_le, li_ne, va_rf, wr_m1, we_m1, pm_kill_w, Int32.reduceOfInt, Int64.reduceOfInt, Int32.reduceOfNat, Int32.reduceLT, Int32.reduceLE, Prod.mk.injEq, Nat.reduceEqDiff, reduceCtorEq, and_true, true_and, and_false, false_and, and_self, ite_true, ite_false, ↓reduceIte, not_true_eq_false, not_false_eq_true, pe_ri, pe_rz, pe_rc, Cr_g2_2 hP hA, Cr_g2_3 hP hA, Cr_g2_4 hP hA, Cr_g2_5 hP hA, eq_false k2]
/-- TimberHouse$FaultRips$Fault.bit()I -/
theorem c2370 {d : Nat} {h : pm_H} {a : Nat} (hc : pm_cls h a = some 37) : pm_call pm_prog (d + 1) 2370 [.ref a] h = pm_ev pm_prog (pm_call pm_prog d) 2370 0 b2370_0 [.ref a] [] h := pm_cal (pm_rc1 hc rfl) rfl rfl rfl
/-- TimberHouse$FaultRips$Fault.bit()I -/
noncomputable def f2370 (fc : Int32) (pc : Int32) (S : wS) (x0i : Int32) : Option (Int32) :=
  if 0 ≤ x0i ∧ x0i < fc then
    some (1 <<< ((((8 * (S.1 (2, x0i, 0) 0)) + (S.1 (2, x0i, 0) 1)) : Int32) &&& 31))
  else none
theorem x2370 {fc : Int32} {pc : Int32} {A : wK → Nat} {h : pm_H} {D : Nat} {S : wS} {x0i : Int32} {r : Int32} (hP : Cr_P fc pc) (hA : wok A (Cr_d fc pc) h.1) (hD : 1 ≤ D) (e : f2370 fc pc S x0i = some r) : pm_call pm_prog D 2370 [.ref (A (2, x0i, 0))] (wput A (Cr_d fc pc) S h) = some (Outcome.returned (some (.int r)), (wput A (Cr_d fc pc) S h)) := by
  obtain ⟨D, rfl⟩ : ∃ D', D = D' + 1 := ⟨D - 1, by omega⟩
  have hD : 0 ≤ D := by omega
  simp only [f2370] at e
  have k1 : 0 ≤ x0i ∧ x0i < fc := by
    by_cases q : 0 ≤ x0i ∧ x0i < fc
    · exact q
    · rw [if_neg q] at e; cases e
  rw [if_pos k1] at e
  rw [c2370 (Cr_c2 hP hA k1), b2370_0]
  have e := Option.some.inj e; subst e
  simp -implicitDefEqProofs (disch := first | assumption | exact Nat.le_of_ble_eq_true rfl | decide) only [b2370_0, pe_sipush, pe_aload0, pe_getfield, pe_imul, pe_iadd, pe_ishl, pm_prog_1, pm_ob_some, Nat.reduceDiv, Nat.reduceMod, Nat.reduceMul, Nat.reduceAdd, Int.reduceToNat, pm_kill_i, pm_kill_r, pm_kill_n, pm_kill_j, pm_kill_l, pm_kill_d, pm_cats_nil, pm_cats_i, pm_cats_r, pm_cats_n, pm_cats_l, pm_cats_d, sz_1, sz_2, sl_1, sl_2, lc_0, lc_lt, lc_le, li_ne, va_rf, wr_m1, we_m1, pm_kill_w, Int32.reduceOfInt, Int64.reduceOfInt, Int32.reduceOfNat, Int32.reduceLT, Int32.reduceLE, Prod.mk.injEq, Nat.reduceEqDiff, reduceCtorEq, and_true, true_and, and_false, false_and, and_self, ite_true, ite_false, ↓reduceIte, not_true_eq_false, not_false_eq_true, pe_ri, pe_rz, pe_rc, Cr_g2_0 hP hA, Cr_g2_1 hP hA]
/-- TimberHouse$FaultRips.faultsIn(IIII)I -/
theorem c276 {d : Nat} {h : pm_H} {a : Nat} {x0 : Int32} {x1 : Int32} {x2 : Int32} {x3 : Int32} (hc : pm_cls h a = some 4) : pm_call pm_prog (d + 1) 276 [.ref a, .int x0, .int x1, .int x2, .int x3] h = pm_ev pm_prog (pm_call pm_prog d) 276 0 b276_0 [.ref a, .int x0, .int x1, .int x2, .int x3, pm_junk, pm_junk] [] h := pm_cal (pm_rc1 hc rfl) rfl rfl rfl
theorem g276_1 {cl : pm_C} {ls st : List Value} {h : pm_H} : pm_go pm_prog cl 276 1 ls st h = pm_ev pm_prog cl 276 1 b276_1 ls st h := pm_go_eq pm_prog cl 276 1 ls st h
theorem g276_2 {cl : pm_C} {ls st : List Value} {h : pm_H} : pm_go pm_prog cl 276 2 ls st h = pm_ev pm_prog cl 276 2 b276_2 ls st h := pm_go_eq pm_prog cl 276 2 ls st h
theorem g276_3 {cl : pm_C} {ls st : List Value} {h : pm_H} : pm_go pm_prog cl 276 3 ls st h = pm_ev pm_prog cl 276 3 b276_3 ls st h := pm_go_eq pm_prog cl 276 3 ls st h
theorem g276_4 {cl : pm_C} {ls st : List Value} {h : pm_H} : pm_go pm_prog cl 276 4 ls st h = pm_ev pm_prog cl 276 4 b276_4 ls st h := pm_go_eq pm_prog cl 276 4 ls st h
noncomputable def f276_b1 (fc : Int32) (pc : Int32) (S : wS) : Int32 × Int32 × Int32 × Int32 × Int32 × Int32 → Option ((Int32 × Int32 × Int32 × Int32 × Int32 × Int32) ⊕ ((Int32))) := fun (x1, x2, x3, x4, x5, x6) =>
  if x6 < (S.1 (0, 0, 0) 4) then
    if 0 ≤ x6 ∧ x6 < 20 then
      if x6 < fc then
        if 0 ≤ x6 ∧ x6 < fc then
          (f2369 fc pc S x6 (x1 * (S.1 (0, 0, 0) 0)) ((x1 + x2) * (S.1 (0, 0, 0) 0)) (x3 * (S.1 (0, 0, 0) 0)) ((x3 + x4) * (S.1 (0, 0, 0) 0)) (S.1 (0, 0, 0) 8)).bind fun v1 =>
          if v1 = 0 then
            some (.inl (x1, x2, x3, x4, (x5 ||| 0), (x6 + 1)))
          else
            (f2370 fc pc S x6).bind fun v2 =>
            some (.inl (x1, x2, x3, x4, (x5 ||| v2), (x6 + 1)))
        else none
      else none
    else none
  else
    some (.inr x5)
/-- TimberHouse$FaultRips.faultsIn(IIII)I -/
noncomputable def f276 (fc : Int32) (pc : Int32) (S : wS) (x1 : Int32) (x2 : Int32) (x3 : Int32) (x4 : Int32) : Option (Int32) :=
  (lp (f276_b1 fc pc S) FU (x1, x2, x3, x4, 0, 0)).bind fun v3 =>
  some v3
def go276_1 (fc : Int32) (pc : Int32) (A : wK → Nat) (h : pm_H) (D : Nat) (R : Outcome × pm_H) (S : wS) : Int32 × Int32 × Int32 × Int32 × Int32 × Int32 → Prop := fun (x1, x2, x3, x4, x5, x6) => pm_go pm_prog (pm_call pm_prog D) 276 1 [.ref (A (0, 0, 0)), .int x1, .int x2, .int x3, .int x4, .int x5, .int x6] [] (wput A (Cr_d fc pc) S h) = some R
def ex276_1 (fc : Int32) (pc : Int32) (A : wK → Nat) (h : pm_H) (D : Nat) (R : Outcome × pm_H) (S : wS) : (Int32) → Prop := fun x5 => ∀ q0 q1 q2 q3 q4 q6 : Value, pm_go pm_prog (pm_call pm_prog D) 276 4 [q0, q1, q2, q3, q4, .int x5, q6] [] (wput A (Cr_d fc pc) S h) = some R
theorem y276_b1 {fc : Int32} {pc : Int32} {A : wK → Nat} {h : pm_H} {D : Nat} {R : Outcome × pm_H} {S : wS} (hP : Cr_P fc pc) (hA : wok A (Cr_d fc pc) h.1) (hD : 1 ≤ D) (a : Int32 × Int32 × Int32 × Int32 × Int32 × Int32) (r : (Int32 × Int32 × Int32 × Int32 × Int32 × Int32) ⊕ ((Int32))) (e : f276_b1 fc pc S a = some r) (hc : Sum.elim (go276_1 fc pc A h D R S) (ex276_1 fc pc A h D R S) r) : go276_1 fc pc A h D R S a := by
  obtain ⟨x1, x2, x3, x4, x5, x6⟩ := a
  dsimp only [go276_1]
  simp only [f276_b1] at e
  rw [g276_1, b276_1]
  by_cases k1 : x6 < (S.1 (0, 0, 0) 4)
  · rw [if_pos k1] at e
    by_cases k2 : 0 ≤ x6 ∧ x6 < 20
    · rw [if_pos k2] at e
      by_cases k3 : x6 < fc
      · rw [if_pos k3] at e
        by_cases k4 : 0 ≤ x6 ∧ x6 < fc
        · rw [if_pos k4] at e
          obtain ⟨v1, k5, e⟩ := Option.bind_eq_some_iff.mp e
          try dsimp only at e
          have z5 := x2369 (D := D) (h := h) hP hA (by omega) k5
          by_cases k6 : v1 = 0
          · rw [if_pos k6] at e
            have e := Option.some.inj e; subst e
            dsimp only [Sum.elim_inl, go276_1] at hc
            simp -implicitDefEqProofs (disch := first | assumption | exact Nat.le_of_ble_eq_true rfl | decide) only [b276_0, g276_2, b276_2, g276_3, b276_3, g276_4, b276_4, pe_sipush, pe_istore5, pe_istore6, pe_goto_w, pe_iload6, pe_aload0, pe_getfield, pe_icmp_ge, pe_iload5, pe_aaload, pe_iload1, pe_imul, pe_iload2, pe_iadd, pe_iload3, pe_iload4, pe_call6, pm_af_ret, pm_af_void, pm_af_thr, pe_if_eq, pe_call1, pe_goto, pe_ior, pe_iinc6, pm_prog_1, pm_ob_some, Nat.reduceDiv, Nat.reduceMod, Nat.reduceMul, Nat.reduceAdd, Int.reduceToNat, pm_kill_i, pm_kill_r, pm_kill_n, pm_kill_j, pm_kill_l, pm_kill_d, pm_cats_nil, pm_cats_i, pm_cats_r, pm_cats_n, pm_cats_l, pm_cats_d, sz_1, sz_2, sl_1, sl_2, lc_0, lc_lt, lc_le, li_ne, va_rf, wr_m1, we_m1, pm_kill_w, Int32.reduceOfInt, Int64.reduceOfInt, Int32.reduceOfNat, Int32.reduceLT, Int32.reduceLE, Prod.mk.injEq, Nat.reduceEqDiff, reduceCtorEq, and_true, true_and, and_false, false_and, and_self, ite_true, ite_false, ↓reduceIte, not_true_eq_false, not_false_eq_true, pe_ri, pe_rz, pe_rc, Cr_g0_0 hP hA, Cr_g0_3 hP hA, Cr_g0_4 hP hA, Cr_g0_8 hP hA, Cr_r1 hP hA, eq_true k1, z5, eq_true k6, hc]
          · rw [if_neg k6] at e
            obtain ⟨v2, k7, e⟩ := Option.bind_eq_some_iff.mp e
            try dsimp only at e
            have z7 := x2370 (D := D) (h := h) hP hA (by omega) k7
            have e := Option.some.inj e; subst e
            dsimp only [Sum.elim_inl, go276_1] at hc
            simp -implicitDefEqProofs (disch := first | assumption | exact Nat.le_of_ble_eq_true rfl | decide) only [b276_0, g276_2, b276_2, g276_3, b276_3, g276_4, b276_4, pe_sipush, pe_istore5, pe_istore6, pe_goto_w, pe_iload6, pe_aload0, pe_getfield, pe_icmp_ge, pe_iload5, pe_aaload, pe_iload1, pe_imul, pe_iload2, pe_iadd, pe_iload3, pe_iload4, pe_call6, pm_af_ret, pm_af_void, pm_af_thr, pe_if_eq, pe_call1, pe_goto, pe_ior, pe_iinc6, pm_prog_1, pm_ob_some, Nat.reduceDiv, Nat.reduceMod, Nat.reduceMul, Nat.reduceAdd, Int.reduceToNat, pm_kill_i, pm_kill_r, pm_kill_n, pm_kill_j, pm_kill_l, pm_kill_d, pm_cats_nil, pm_cats_i, pm_cats_r, pm_cats_n, pm_cats_l, pm_cats_d, sz_1, sz_2, sl_1, sl_2, lc_0, lc_lt, lc_le, li_ne, va_rf, wr_m1, we_m1, pm_kill_w, Int32.reduceOfInt, Int64.reduceOfInt, Int32.reduceOfNat, Int32.reduceLT, Int32.reduceLE, Prod.mk.injEq, Nat.reduceEqDiff, reduceCtorEq, and_true, true_and, and_false, false_and, and_self, ite_true, ite_false, ↓reduceIte, not_true_eq_false, not_false_eq_true, pe_ri, pe_rz, pe_rc, Cr_g0_0 hP hA, Cr_g0_3 hP hA, Cr_g0_4 hP hA, Cr_g0_8 hP hA, Cr_r1 hP hA, eq_true k1, z5, eq_false k6, z7, hc]
        · rw [if_neg k4] at e; cases e
      · rw [if_neg k3] at e; cases e
    · rw [if_neg k2] at e; cases e
  · rw [if_neg k1] at e
    have e := Option.some.inj e; subst e
    dsimp only [Sum.elim_inr, ex276_1] at hc
    simp -implicitDefEqProofs (disch := first | assumption | exact Nat.le_of_ble_eq_true rfl | decide) only [b276_0, g276_2, b276_2, g276_3, b276_3, g276_4, b276_4, pe_sipush, pe_istore5, pe_istore6, pe_goto_w, pe_iload6, pe_aload0, pe_getfield, pe_icmp_ge, pe_iload5, pe_aaload, pe_iload1, pe_imul, pe_iload2, pe_iadd, pe_iload3, pe_iload4, pe_call6, pm_af_ret, pm_af_void, pm_af_thr, pe_if_eq, pe_call1, pe_goto, pe_ior, pe_iinc6, pm_prog_1, pm_ob_some, Nat.reduceDiv, Nat.reduceMod, Nat.reduceMul, Nat.reduceAdd, Int.reduceToNat, pm_kill_i, pm_kill_r, pm_kill_n, pm_kill_j, pm_kill_l, pm_kill_d, pm_cats_nil, pm_cats_i, pm_cats_r, pm_cats_n, pm_cats_l, pm_cats_d, sz_1, sz_2, sl_1, sl_2, lc_0, lc_lt, lc_le, li_ne, va_rf, wr_m1, we_m1, pm_kill_w, Int32.reduceOfInt, Int64.reduceOfInt, Int32.reduceOfNat, Int32.reduceLT, Int32.reduceLE, Prod.mk.injEq, Nat.reduceEqDiff, reduceCtorEq, and_true, true_and, and_false, false_and, and_self, ite_true, ite_false, ↓reduceIte, not_true_eq_false, not_false_eq_true, pe_ri, pe_rz, pe_rc, Cr_g0_0 hP hA, Cr_g0_3 hP hA, Cr_g0_4 hP hA, Cr_g0_8 hP hA, Cr_r1 hP hA, eq_false k1, hc]
theorem z276_1 {fc : Int32} {pc : Int32} {A : wK → Nat} {h : pm_H} {D : Nat} {R : Outcome × pm_H} {S : wS} (hP : Cr_P fc pc) (hA : wok A (Cr_d fc pc) h.1) (hD : 1 ≤ D) {n : Nat} {a : Int32 × Int32 × Int32 × Int32 × Int32 × Int32} {b : (Int32)} (e : lp (f276_b1 fc pc S) n a = some b) (hx : ex276_1 fc pc A h D R S b) : go276_1 fc pc A h D R S a := lp_run (fun a r => y276_b1 hP hA hD a r) n a b e hx
theorem x276 {fc : Int32} {pc : Int32} {A : wK → Nat} {h : pm_H} {D : Nat} {S : wS} {x1 : Int32} {x2 : Int32} {x3 : Int32} {x4 : Int32} {r : Int32} (hP : Cr_P fc pc) (hA : wok A (Cr_d fc pc) h.1) (hD : 2 ≤ D) (e : f276 fc pc S x1 x2 x3 x4 = some r) : pm_call pm_prog D 276 [.ref (A (0, 0, 0)), .int x1, .int x2, .int x3, .int x4] (wput A (Cr_d fc pc) S h) = some (Outcome.returned (some (.int r)), (wput A (Cr_d fc pc) S h)) := by
  obtain ⟨D, rfl⟩ : ∃ D', D = D' + 1 := ⟨D - 1, by omega⟩
  have hD : 1 ≤ D := by omega
  simp only [f276] at e
  rw [c276 (Cr_c0 hP hA), b276_0]
  obtain ⟨v3, k1, e⟩ := Option.bind_eq_some_iff.mp e
  try dsimp only at e
  try simp -implicitDefEqProofs (disch := first | assumption | exact Nat.le_of_ble_eq_true rfl | decide) only [b276_0, g276_2, b276_2, g276_3, b276_3, g276_4, b276_4, pe_sipush, pe_istore5, pe_istore6, pe_goto_w, pe_iload6, pe_aload0, pe_getfield, pe_icmp_ge, pe_iload5, pe_aaload, pe_iload1, pe_imul, pe_iload2, pe_iadd, pe_iload3, pe_iload4, pe_call6, pm_af_ret, pm_af_void, pm_af_thr, pe_if_eq, pe_call1, pe_goto, pe_ior, pe_iinc6, pm_prog_1, pm_ob_some, Nat.reduceDiv, Nat.reduceMod, Nat.reduceMul, Nat.reduceAdd, Int.reduceToNat, pm_kill_i, pm_kill_r, pm_kill_n, pm_kill_j, pm_kill_l, pm_kill_d, pm_cats_nil, pm_cats_i, pm_cats_r, pm_cats_n, pm_cats_l, pm_cats_d, sz_1, sz_2, sl_1, sl_2, lc_0, lc_lt, lc_le, li_ne, va_rf, wr_m1, we_m1, pm_kill_w, Int32.reduceOfInt, Int64.reduceOfInt, Int32.reduceOfNat, Int32.reduceLT, Int32.reduceLE, Prod.mk.injEq, Nat.reduceEqDiff, reduceCtorEq, and_true, true_and, and_false, false_and, and_self, ite_true, ite_false, ↓reduceIte, not_true_eq_false, not_false_eq_true, pe_ri, pe_rz, pe_rc, Cr_g0_0 hP hA, Cr_g0_3 hP hA, Cr_g0_4 hP hA, Cr_g0_8 hP hA, Cr_r1 hP hA]
  refine z276_1 hP hA hD k1 ?_
  dsimp only [ex276_1]
  intro q0 q1 q2 q3 q4 q6
  have e := Option.some.inj e; subst e
  simp -implicitDefEqProofs (disch := first | assumption | exact Nat.le_of_ble_eq_true rfl | decide) only [b276_0, g276_2, b276_2, g276_3, b276_3, g276_4, b276_4, pe_sipush, pe_istore5, pe_istore6, pe_goto_w, pe_iload6, pe_aload0, pe_getfield, pe_icmp_ge, pe_iload5, pe_aaload, pe_iload1, pe_imul, pe_iload2, pe_iadd, pe_iload3, pe_iload4, pe_call6, pm_af_ret, pm_af_void, pm_af_thr, pe_if_eq, pe_call1, pe_goto, pe_ior, pe_iinc6, pm_prog_1, pm_ob_some, Nat.reduceDiv, Nat.reduceMod, Nat.reduceMul, Nat.reduceAdd, Int.reduceToNat, pm_kill_i, pm_kill_r, pm_kill_n, pm_kill_j, pm_kill_l, pm_kill_d, pm_cats_nil, pm_cats_i, pm_cats_r, pm_cats_n, pm_cats_l, pm_cats_d, sz_1, sz_2, sl_1, sl_2, lc_0, lc_lt, lc_le, li_ne, va_rf, wr_m1, we_m1, pm_kill_w, Int32.reduceOfInt, Int64.reduceOfInt, Int32.reduceOfNat, Int32.reduceLT, Int32.reduceLE, Prod.mk.injEq, Nat.reduceEqDiff, reduceCtorEq, and_true, true_and, and_false, false_and, and_self, ite_true, ite_false, ↓reduceIte, not_true_eq_false, not_false_eq_true, pe_ri, pe_rz, pe_rc, Cr_g0_0 hP hA, Cr_g0_3 hP hA, Cr_g0_4 hP hA, Cr_g0_8 hP hA, Cr_r1 hP hA]
/-- TimberHouse$FaultRips$Piece.may(IIII)Z -/
theorem c2433 {d : Nat} {h : pm_H} {a : Nat} {x0 : Int32} {x1 : Int32} {x2 : Int32} {x3 : Int32} (hc : pm_cls h a = some 38) : pm_call pm_prog (d + 1) 2433 [.ref a, .int x0, .int x1, .int x2, .int x3] h = pm_ev pm_prog (pm_call pm_prog d) 2433 0 b2433_0 [.ref a, .int x0, .int x1, .int x2, .int x3] [] h := pm_cal (pm_rc1 hc rfl) rfl rfl rfl
theorem g2433_1 {cl : pm_C} {ls st : List Value} {h : pm_H} : pm_go pm_prog cl 2433 1 ls st h = pm_ev pm_prog cl 2433 1 b2433_1 ls st h := pm_go_eq pm_prog cl 2433 1 ls st h
theorem g2433_2 {cl : pm_C} {ls st : List Value} {h : pm_H} : pm_go pm_prog cl 2433 2 ls st h = pm_ev pm_prog cl 2433 2 b2433_2 ls st h := pm_go_eq pm_prog cl 2433 2 ls st h
/-- TimberHouse$FaultRips$Piece.may(IIII)Z -/
noncomputable def f2433 (fc : Int32) (pc : Int32) (S : wS) (x0i : Int32) (x1 : Int32) (x2 : Int32) (x3 : Int32) (x4 : Int32) : Option (Int32) :=
  if 0 ≤ x0i ∧ x0i < pc then
    if x2 = (S.1 (4, x0i, 0) 0) then
      if x1 < (S.1 (4, x0i, 0) 1) then
        some 0
      else
        (f3840 (S.1 (4, x0i, 0) 2) x3).bind fun v1 =>
        if x1 ≤ v1 then
          if (x4 &&& ((S.1 (4, x0i, 0) 4) ^^^ (-1))) = 0 then
            some 1
          else
            some 0
        else
          some 0
    else
      some 0
  else none
theorem x2433 {fc : Int32} {pc : Int32} {A : wK → Nat} {h : pm_H} {D : Nat} {S : wS} {x0i : Int32} {x1 : Int32} {x2 : Int32} {x3 : Int32} {x4 : Int32} {r : Int32} (hP : Cr_P fc pc) (hA : wok A (Cr_d fc pc) h.1) (hD : 2 ≤ D) (e : f2433 fc pc S x0i x1 x2 x3 x4 = some r) : pm_call pm_prog D 2433 [.ref (A (4, x0i, 0)), .int x1, .int x2, .int x3, .int x4] (wput A (Cr_d fc pc) S h) = some (Outcome.returned (some (.int r)), (wput A (Cr_d fc pc) S h)) := by
  obtain ⟨D, rfl⟩ : ∃ D', D = D' + 1 := ⟨D - 1, by omega⟩
  have hD : 1 ≤ D := by omega
  simp only [f2433] at e
  have k1 : 0 ≤ x0i ∧ x0i < pc := by
    by_cases q : 0 ≤ x0i ∧ x0i < pc
    · exact q
    · rw [if_neg q] at e; cases e
  rw [if_pos k1] at e
  rw [c2433 (Cr_c4 hP hA k1), b2433_0]
  by_cases k2 : x2 = (S.1 (4, x0i, 0) 0)
  · rw [if_pos k2] at e
    by_cases k3 : x1 < (S.1 (4, x0i, 0) 1)
    · rw [if_pos k3] at e
      have e := Option.some.inj e; subst e
      simp -implicitDefEqProofs (disch := first | assumption | exact Nat.le_of_ble_eq_true rfl | decide) only [b2433_0, g2433_1, b2433_1, g2433_2, b2433_2, pe_iload2, pe_aload0, pe_getfield, pe_icmp_ne, pe_iload1, pe_icmp_lt, pe_iload3, pe_call2, pm_af_ret, pm_af_void, pm_af_thr, pe_icmp_gt, pe_iload4, pe_sipush, pe_ixor, pe_iand, pe_if_ne, pe_goto, pe_goto_w, pm_prog_1, pm_ob_some, Nat.reduceDiv, Nat.reduceMod, Nat.reduceMul, Nat.reduceAdd, Int.reduceToNat, pm_kill_i, pm_kill_r, pm_kill_n, pm_kill_j, pm_kill_l, pm_kill_d, pm_cats_nil, pm_cats_i, pm_cats_r, pm_cats_n, pm_cats_l, pm_cats_d, sz_1, sz_2, sl_1, sl_2, lc_0, lc_lt, lc_le, li_ne, va_rf, wr_m1, we_m1, pm_kill_w, Int32.reduceOfInt, Int64.reduceOfInt, Int32.reduceOfNat, Int32.reduceLT, Int32.reduceLE, Prod.mk.injEq, Nat.reduceEqDiff, reduceCtorEq, and_true, true_and, and_false, false_and, and_self, ite_true, ite_false, ↓reduceIte, not_true_eq_false, not_false_eq_true, pe_ri, pe_rz, pe_rc, Cr_g4_0 hP hA, Cr_g4_1 hP hA, Cr_g4_2 hP hA, Cr_g4_4 hP hA, eq_true k2, eq_true k3]
    · rw [if_neg k3] at e
      obtain ⟨v1, k4, e⟩ := Option.bind_eq_some_iff.mp e
      try dsimp only at e
      have z4 := fun h => x3840 (D := D) (h := h) (by omega) k4
      by_cases k5 : x1 ≤ v1
      · rw [if_pos k5] at e
        by_cases k6 : (x4 &&& ((S.1 (4, x0i, 0) 4) ^^^ (-1))) = 0
        · rw [if_pos k6] at e
          have e := Option.some.inj e; subst e
          simp -implicitDefEqProofs (disch := first | assumption | exact Nat.le_of_ble_eq_true rfl | decide) only [b2433_0, g2433_1, b2433_1, g2433_2, b2433_2, pe_iload2, pe_aload0, pe_getfield, pe_icmp_ne, pe_iload1, pe_icmp_lt, pe_iload3, pe_call2, pm_af_ret, pm_af_void, pm_af_thr, pe_icmp_gt, pe_iload4, pe_sipush, pe_ixor, pe_iand, pe_if_ne, pe_goto, pe_goto_w, pm_prog_1, pm_ob_some, Nat.reduceDiv, Nat.reduceMod, Nat.reduceMul, Nat.reduceAdd, Int.reduceToNat, pm_kill_i, pm_kill_r, pm_kill_n, pm_kill_j, pm_kill_l, pm_kill_d, pm_cats_nil, pm_cats_i, pm_cats_r, pm_cats_n, pm_cats_l, pm_cats_d, sz_1, sz_2, sl_1, sl_2, lc_0, lc_lt, lc_le, li_ne, va_rf, wr_m1, we_m1, pm_kill_w, Int32.reduceOfInt, Int64.reduceOfInt, Int32.reduceOfNat, Int32.reduceLT, Int32.reduceLE, Prod.mk.injEq, Nat.reduceEqDiff, reduceCtorEq, and_true, true_and, and_false, false_and, and_self, ite_true, ite_false, ↓reduceIte, not_true_eq_false, not_false_eq_true, pe_ri, pe_rz, pe_rc, Cr_g4_0 hP hA, Cr_g4_1 hP hA, Cr_g4_2 hP hA, Cr_g4_4 hP hA, eq_true k2, eq_false k3, z4, eq_true k5, eq_true k6]
        · rw [if_neg k6] at e
          have e := Option.some.inj e; subst e
          simp -implicitDefEqProofs (disch := first | assumption | exact Nat.le_of_ble_eq_true rfl | decide) only [b2433_0, g2433_1, b2433_1, g2433_2, b2433_2, pe_iload2, pe_aload0, pe_getfield, pe_icmp_ne, pe_iload1, pe_icmp_lt, pe_iload3, pe_call2, pm_af_ret, pm_af_void, pm_af_thr, pe_icmp_gt, pe_iload4, pe_sipush, pe_ixor, pe_iand, pe_if_ne, pe_goto, pe_goto_w, pm_prog_1, pm_ob_some, Nat.reduceDiv, Nat.reduceMod, Nat.reduceMul, Nat.reduceAdd, Int.reduceToNat, pm_kill_i, pm_kill_r, pm_kill_n, pm_kill_j, pm_kill_l, pm_kill_d, pm_cats_nil, pm_cats_i, pm_cats_r, pm_cats_n, pm_cats_l, pm_cats_d, sz_1, sz_2, sl_1, sl_2, lc_0, lc_lt, lc_le, li_ne, va_rf, wr_m1, we_m1, pm_kill_w, Int32.reduceOfInt, Int64.reduceOfInt, Int32.reduceOfNat, Int32.reduceLT, Int32.reduceLE, Prod.mk.injEq, Nat.reduceEqDiff, reduceCtorEq, and_true, true_and, and_false, false_and, and_self, ite_true, ite_false, ↓reduceIte, not_true_eq_false, not_false_eq_true, pe_ri, pe_rz, pe_rc, Cr_g4_0 hP hA, Cr_g4_1 hP hA, Cr_g4_2 hP hA, Cr_g4_4 hP hA, eq_true k2, eq_false k3, z4, eq_true k5, eq_false k6]
      · rw [if_neg k5] at e
        have e := Option.some.inj e; subst e
        simp -implicitDefEqProofs (disch := first | assumption | exact Nat.le_of_ble_eq_true rfl | decide) only [b2433_0, g2433_1, b2433_1, g2433_2, b2433_2, pe_iload2, pe_aload0, pe_getfield, pe_icmp_ne, pe_iload1, pe_icmp_lt, pe_iload3, pe_call2, pm_af_ret, pm_af_void, pm_af_thr, pe_icmp_gt, pe_iload4, pe_sipush, pe_ixor, pe_iand, pe_if_ne, pe_goto, pe_goto_w, pm_prog_1, pm_ob_some, Nat.reduceDiv, Nat.reduceMod, Nat.reduceMul, Nat.reduceAdd, Int.reduceToNat, pm_kill_i, pm_kill_r, pm_kill_n, pm_kill_j, pm_kill_l, pm_kill_d, pm_cats_nil, pm_cats_i, pm_cats_r, pm_cats_n, pm_cats_l, pm_cats_d, sz_1, sz_2, sl_1, sl_2, lc_0, lc_lt, lc_le, li_ne, va_rf, wr_m1, we_m1, pm_kill_w, Int32.reduceOfInt, Int64.reduceOfInt, Int32.reduceOfNat, Int32.reduceLT, Int32.reduceLE, Prod.mk.injEq, Nat.reduceEqDiff, reduceCtorEq, and_true, true_and, and_false, false_and, and_self, ite_true, ite_false, ↓reduceIte, not_true_eq_false, not_false_eq_true, pe_ri, pe_rz, pe_rc, Cr_g4_0 hP hA, Cr_g4_1 hP hA, Cr_g4_2 hP hA, Cr_g4_4 hP hA, eq_true k2, eq_false k3, z4, eq_false k5]
  · rw [if_neg k2] at e
    have e := Option.some.inj e; subst e
    simp -implicitDefEqProofs (disch := first | assumption | exact Nat.le_of_ble_eq_true rfl | decide) only [b2433_0, g2433_1, b2433_1, g2433_2, b2433_2, pe_iload2, pe_aload0, pe_getfield, pe_icmp_ne, pe_iload1, pe_icmp_lt, pe_iload3, pe_call2, pm_af_ret, pm_af_void, pm_af_thr, pe_icmp_gt, pe_iload4, pe_sipush, pe_ixor, pe_iand, pe_if_ne, pe_goto, pe_goto_w, pm_prog_1, pm_ob_some, Nat.reduceDiv, Nat.reduceMod, Nat.reduceMul, Nat.reduceAdd, Int.reduceToNat, pm_kill_i, pm_kill_r, pm_kill_n, pm_kill_j, pm_kill_l, pm_kill_d, pm_cats_nil, pm_cats_i, pm_cats_r, pm_cats_n, pm_cats_l, pm_cats_d, sz_1, sz_2, sl_1, sl_2, lc_0, lc_lt, lc_le, li_ne, va_rf, wr_m1, we_m1, pm_kill_w, Int32.reduceOfInt, Int64.reduceOfInt, Int32.reduceOfNat, Int32.reduceLT, Int32.reduceLE, Prod.mk.injEq, Nat.reduceEqDiff, reduceCtorEq, and_true, true_and, and_false, false_and, and_self, ite_true, ite_false, ↓reduceIte, not_true_eq_false, not_false_eq_true, pe_ri, pe_rz, pe_rc, Cr_g4_0 hP hA, Cr_g4_1 hP hA, Cr_g4_2 hP hA, Cr_g4_4 hP hA, eq_false k2]
/-- TimberHouse$FaultRips$Planner.cell(IIII)I -/
theorem c321 {d : Nat} {h : pm_H} {x0 : Int32} {x1 : Int32} {x2 : Int32} {x3 : Int32} : pm_call pm_prog (d + 1) 321 [.int x0, .int x1, .int x2, .int x3] h = pm_ev pm_prog (pm_call pm_prog d) 321 0 b321_0 [.int x0, .int x1, .int x2, .int x3] [] h := pm_cal (pm_rc0 rfl) rfl rfl rfl
/-- TimberHouse$FaultRips$Planner.cell(IIII)I -/
noncomputable def f321 (x0 : Int32) (x1 : Int32) (x2 : Int32) (x3 : Int32) : Option (Int32) :=
  some ((((((x0 * 25) + x1) * 11) + x2) * 11) + x3)
theorem x321 {h : pm_H} {D : Nat} {x0 : Int32} {x1 : Int32} {x2 : Int32} {x3 : Int32} {r : Int32} (hD : 1 ≤ D) (e : f321 x0 x1 x2 x3 = some r) : pm_call pm_prog D 321 [.int x0, .int x1, .int x2, .int x3] h = some (Outcome.returned (some (.int r)), h) := by
  obtain ⟨D, rfl⟩ : ∃ D', D = D' + 1 := ⟨D - 1, by omega⟩
  have hD : 0 ≤ D := by omega
  simp only [f321] at e
  rw [c321, b321_0]
  have e := Option.some.inj e; subst e
  simp -implicitDefEqProofs (disch := first | assumption | exact Nat.le_of_ble_eq_true rfl | decide) only [b321_0, pe_iload0, pe_sipush, pe_imul, pe_iload1, pe_iadd, pe_iload2, pe_iload3, pm_prog_1, pm_ob_some, Nat.reduceDiv, Nat.reduceMod, Nat.reduceMul, Nat.reduceAdd, Int.reduceToNat, pm_kill_i, pm_kill_r, pm_kill_n, pm_kill_j, pm_kill_l, pm_kill_d, pm_cats_nil, pm_cats_i, pm_cats_r, pm_cats_n, pm_cats_l, pm_cats_d, sz_1, sz_2, sl_1, sl_2, lc_0, lc_lt, lc_le, li_ne, va_rf, wr_m1, we_m1, pm_kill_w, Int32.reduceOfInt, Int64.reduceOfInt, Int32.reduceOfNat, Int32.reduceLT, Int32.reduceLE, Prod.mk.injEq, Nat.reduceEqDiff, reduceCtorEq, and_true, true_and, and_false, false_and, and_self, ite_true, ite_false, ↓reduceIte, not_true_eq_false, not_false_eq_true, pe_ri, pe_rz, pe_rc]
/-- TimberHouse$FaultRips.prepare()V -/
theorem c275 {d : Nat} {h : pm_H} {a : Nat} (hc : pm_cls h a = some 4) : pm_call pm_prog (d + 1) 275 [.ref a] h = pm_ev pm_prog (pm_call pm_prog d) 275 0 b275_0 [.ref a, pm_junk, pm_junk, pm_junk, pm_junk, pm_junk, pm_junk, pm_junk] [] h := pm_cal (pm_rc1 hc rfl) rfl rfl rfl
theorem g275_1 {cl : pm_C} {ls st : List Value} {h : pm_H} : pm_go pm_prog cl 275 1 ls st h = pm_ev pm_prog cl 275 1 b275_1 ls st h := pm_go_eq pm_prog cl 275 1 ls st h
theorem g275_2 {cl : pm_C} {ls st : List Value} {h : pm_H} : pm_go pm_prog cl 275 2 ls st h = pm_ev pm_prog cl 275 2 b275_2 ls st h := pm_go_eq pm_prog cl 275 2 ls st h
theorem g275_3 {cl : pm_C} {ls st : List Value} {h : pm_H} : pm_go pm_prog cl 275 3 ls st h = pm_ev pm_prog cl 275 3 b275_3 ls st h := pm_go_eq pm_prog cl 275 3 ls st h
theorem g275_4 {cl : pm_C} {ls st : List Value} {h : pm_H} : pm_go pm_prog cl 275 4 ls st h = pm_ev pm_prog cl 275 4 b275_4 ls st h := pm_go_eq pm_prog cl 275 4 ls st h
theorem g275_5 {cl : pm_C} {ls st : List Value} {h : pm_H} : pm_go pm_prog cl 275 5 ls st h = pm_ev pm_prog cl 275 5 b275_5 ls st h := pm_go_eq pm_prog cl 275 5 ls st h
theorem g275_6 {cl : pm_C} {ls st : List Value} {h : pm_H} : pm_go pm_prog cl 275 6 ls st h = pm_ev pm_prog cl 275 6 b275_6 ls st h := pm_go_eq pm_prog cl 275 6 ls st h
theorem g275_7 {cl : pm_C} {ls st : List Value} {h : pm_H} : pm_go pm_prog cl 275 7 ls st h = pm_ev pm_prog cl 275 7 b275_7 ls st h := pm_go_eq pm_prog cl 275 7 ls st h
theorem g275_8 {cl : pm_C} {ls st : List Value} {h : pm_H} : pm_go pm_prog cl 275 8 ls st h = pm_ev pm_prog cl 275 8 b275_8 ls st h := pm_go_eq pm_prog cl 275 8 ls st h
theorem g275_9 {cl : pm_C} {ls st : List Value} {h : pm_H} : pm_go pm_prog cl 275 9 ls st h = pm_ev pm_prog cl 275 9 b275_9 ls st h := pm_go_eq pm_prog cl 275 9 ls st h
theorem g275_10 {cl : pm_C} {ls st : List Value} {h : pm_H} : pm_go pm_prog cl 275 10 ls st h = pm_ev pm_prog cl 275 10 b275_10 ls st h := pm_go_eq pm_prog cl 275 10 ls st h
theorem g275_11 {cl : pm_C} {ls st : List Value} {h : pm_H} : pm_go pm_prog cl 275 11 ls st h = pm_ev pm_prog cl 275 11 b275_11 ls st h := pm_go_eq pm_prog cl 275 11 ls st h
theorem g275_12 {cl : pm_C} {ls st : List Value} {h : pm_H} : pm_go pm_prog cl 275 12 ls st h = pm_ev pm_prog cl 275 12 b275_12 ls st h := pm_go_eq pm_prog cl 275 12 ls st h
theorem g275_13 {cl : pm_C} {ls st : List Value} {h : pm_H} : pm_go pm_prog cl 275 13 ls st h = pm_ev pm_prog cl 275 13 b275_13 ls st h := pm_go_eq pm_prog cl 275 13 ls st h
theorem g275_14 {cl : pm_C} {ls st : List Value} {h : pm_H} : pm_go pm_prog cl 275 14 ls st h = pm_ev pm_prog cl 275 14 b275_14 ls st h := pm_go_eq pm_prog cl 275 14 ls st h
noncomputable def f275_b5 (fc : Int32) (pc : Int32) (S : wS) : Int32 × Int32 × Int32 × Int32 × Int32 × Int32 × Int32 → Option ((Int32 × Int32 × Int32 × Int32 × Int32 × Int32 × Int32) ⊕ ((Int32 × Int32 × Int32 × Int32 × Int32))) := fun (x1, x2, x3, x4, x5, x6, x7) =>
  if x7 < (S.1 (0, 0, 0) 6) then
    if 0 ≤ x7 ∧ x7 < 8 then
      if x7 < pc then
        if 0 ≤ x7 ∧ x7 < pc then
          (f2433 fc pc S x7 (x2 * (S.1 (0, 0, 0) 0)) x4 (S.1 (0, 0, 0) 9) x5).bind fun v2 =>
          if v2 = 0 then
            some (.inl (x1, x2, x3, x4, x5, (x6 ||| 0), (x7 + 1)))
          else
            some (.inl (x1, x2, x3, x4, x5, (x6 ||| (1 <<< ((x7 : Int32) &&& 31))), (x7 + 1)))
        else none
      else none
    else none
  else
    some (.inr (x1, x2, x3, x4, x6))
noncomputable def f275_b4 (fc : Int32) (pc : Int32) : Int32 × Int32 × Int32 × Int32 × wS → Option ((Int32 × Int32 × Int32 × Int32 × wS) ⊕ ((Int32 × Int32 × Int32 × wS))) := fun (x1, x2, x3, x4, S) =>
  if (x3 + x4) ≤ (S.1 (0, 0, 0) 2) then
    (f276 fc pc S x1 x2 x3 x4).bind fun v1 =>
    (lp (f275_b5 fc pc S) FU (x1, x2, x3, x4, v1, 0, 0)).bind fun (v4, v5, v6, v7, v8) =>
    (f321 v4 v5 v6 v7).bind fun v9 =>
    if 0 ≤ v9 ∧ v9 < 75625 then
      some (.inl (v4, v5, v6, (v7 + 1), (sz S (6, 0, 0) v9 (vp_nar .byte (Int8.toInt32 (Int32.toInt8 v8))))))
    else none
  else
    some (.inr (x1, x2, x3, S))
noncomputable def f275_b3 (fc : Int32) (pc : Int32) : Int32 × Int32 × Int32 × wS → Option ((Int32 × Int32 × Int32 × wS) ⊕ ((Int32 × Int32 × wS))) := fun (x1, x2, x3, S) =>
  if x3 < (S.1 (0, 0, 0) 2) then
    (lp (f275_b4 fc pc) FU (x1, x2, x3, 1, S)).bind fun (v12, v13, v14, S10) =>
    some (.inl (v12, v13, (v14 + 1), S10))
  else
    some (.inr (x1, x2, S))
noncomputable def f275_b2 (fc : Int32) (pc : Int32) : Int32 × Int32 × wS → Option ((Int32 × Int32 × wS) ⊕ ((Int32 × wS))) := fun (x1, x2, S) =>
  if (x1 + x2) ≤ (S.1 (0, 0, 0) 1) then
    (lp (f275_b3 fc pc) FU (x1, x2, 0, S)).bind fun (v17, v18, S15) =>
    some (.inl (v17, (v18 + 1), S15))
  else
    some (.inr (x1, S))
noncomputable def f275_b1 (fc : Int32) (pc : Int32) : Int32 × wS → Option ((Int32 × wS) ⊕ ((wS))) := fun (x1, S) =>
  if x1 < (S.1 (0, 0, 0) 1) then
    (lp (f275_b2 fc pc) FU (x1, 1, S)).bind fun (v21, S19) =>
    some (.inl ((v21 + 1), S19))
  else
    some (.inr S)
noncomputable def f275_b13 (fc : Int32) (pc : Int32) : Int32 × wS → Option ((Int32 × wS) ⊕ ((wS))) := fun (x1, S) =>
  if x1 < (S.1 (0, 0, 0) 6) then
    if 0 ≤ x1 ∧ x1 < 8 then
      if x1 < pc then
        if 0 ≤ x1 ∧ x1 < pc then
          some (.inl ((x1 + 1), (sl S (4, x1, 0) 6 0)))
        else none
      else none
    else none
  else
    some (.inr S)
/-- TimberHouse$FaultRips.prepare()V -/
noncomputable def f275 (fc : Int32) (pc : Int32) (S : wS) : Option (wS) :=
  (lp (f275_b1 fc pc) FU (0, S)).bind fun S22 =>
  (lp (f275_b13 fc pc) FU (0, S22)).bind fun S24 =>
  some S24
def go275_5 (fc : Int32) (pc : Int32) (A : wK → Nat) (h : pm_H) (D : Nat) (R : Outcome × pm_H) (S : wS) : Int32 × Int32 × Int32 × Int32 × Int32 × Int32 × Int32 → Prop := fun (x1, x2, x3, x4, x5, x6, x7) => pm_go pm_prog (pm_call pm_prog D) 275 5 [.ref (A (0, 0, 0)), .int x1, .int x2, .int x3, .int x4, .int x5, .int x6, .int x7] [] (wput A (Cr_d fc pc) S h) = some R
def ex275_5 (fc : Int32) (pc : Int32) (A : wK → Nat) (h : pm_H) (D : Nat) (R : Outcome × pm_H) (S : wS) : (Int32 × Int32 × Int32 × Int32 × Int32) → Prop := fun (x1, x2, x3, x4, x6) => ∀ q5 q7 : Value, pm_go pm_prog (pm_call pm_prog D) 275 8 [.ref (A (0, 0, 0)), .int x1, .int x2, .int x3, .int x4, q5, .int x6, q7] [] (wput A (Cr_d fc pc) S h) = some R
theorem y275_b5 {fc : Int32} {pc : Int32} {A : wK → Nat} {h : pm_H} {D : Nat} {R : Outcome × pm_H} {S : wS} (hP : Cr_P fc pc) (hA : wok A (Cr_d fc pc) h.1) (hD : 2 ≤ D) (a : Int32 × Int32 × Int32 × Int32 × Int32 × Int32 × Int32) (r : (Int32 × Int32 × Int32 × Int32 × Int32 × Int32 × Int32) ⊕ ((Int32 × Int32 × Int32 × Int32 × Int32))) (e : f275_b5 fc pc S a = some r) (hc : Sum.elim (go275_5 fc pc A h D R S) (ex275_5 fc pc A h D R S) r) : go275_5 fc pc A h D R S a := by
  obtain ⟨x1, x2, x3, x4, x5, x6, x7⟩ := a
  dsimp only [go275_5]
  simp only [f275_b5] at e
  rw [g275_5, b275_5]
  by_cases k1 : x7 < (S.1 (0, 0, 0) 6)
  · rw [if_pos k1] at e
    by_cases k2 : 0 ≤ x7 ∧ x7 < 8
    · rw [if_pos k2] at e
      by_cases k3 : x7 < pc
      · rw [if_pos k3] at e
        by_cases k4 : 0 ≤ x7 ∧ x7 < pc
        · rw [if_pos k4] at e
          obtain ⟨v2, k5, e⟩ := Option.bind_eq_some_iff.mp e
          try dsimp only at e
          have z5 := x2433 (D := D) (h := h) hP hA (by omega) k5
          by_cases k6 : v2 = 0
          · rw [if_pos k6] at e
            have e := Option.some.inj e; subst e
            dsimp only [Sum.elim_inl, go275_5] at hc
            simp -implicitDefEqProofs (disch := first | assumption | exact Nat.le_of_ble_eq_true rfl | decide) only [b275_0, g275_6, b275_6, g275_7, b275_7, g275_8, b275_8, g275_9, b275_9, g275_10, b275_10, g275_11, b275_11, g275_12, b275_12, g275_14, b275_14, pe_sipush, pe_istore1, pe_goto_w, pe_iload1, pe_aload0, pe_getfield, pe_icmp_ge, pe_istore2, pe_iload2, pe_iadd, pe_icmp_gt, pe_istore3, pe_iload3, pe_istore4, pe_iload4, pe_call5, pm_af_ret, pm_af_void, pm_af_thr, pe_istore5, pe_istore6, pe_istore7, pe_iload7, pe_iload6, pe_aaload, pe_imul, pe_iload5, pe_if_eq, pe_ishl, pe_goto, pe_ior, pe_iinc7, pe_call4, pe_i2b, pe_bastore, pe_iinc4, pe_iinc3, pe_iinc2, pe_iinc1, pe_bipush, pe_putfield, pe_return, pm_prog_1, pm_ob_some, Nat.reduceDiv, Nat.reduceMod, Nat.reduceMul, Nat.reduceAdd, Int.reduceToNat, pm_kill_i, pm_kill_r, pm_kill_n, pm_kill_j, pm_kill_l, pm_kill_d, pm_cats_nil, pm_cats_i, pm_cats_r, pm_cats_n, pm_cats_l, pm_cats_d, sz_1, sz_2, sl_1, sl_2, lc_0, lc_lt, lc_le, li_ne, va_rf, wr_m1, we_m1, pm_kill_w, Int32.reduceOfInt, Int64.reduceOfInt, Int32.reduceOfNat, Int32.reduceLT, Int32.reduceLE, Prod.mk.injEq, Nat.reduceEqDiff, reduceCtorEq, and_true, true_and, and_false, false_and, and_self, ite_true, ite_false, ↓reduceIte, not_true_eq_false, not_false_eq_true, pe_ri, pe_rz, pe_rc, Cr_g0_0 hP hA, Cr_g0_1 hP hA, Cr_g0_10 hP hA, Cr_g0_2 hP hA, Cr_g0_5 hP hA, Cr_g0_6 hP hA, Cr_g0_9 hP hA, Cr_p4_6 hP hA, Cr_r3 hP hA, Cr_w6 hP hA, eq_true k1, z5, eq_true k6, hc]
          · rw [if_neg k6] at e
            have e := Option.some.inj e; subst e
            dsimp only [Sum.elim_inl, go275_5] at hc
            simp -implicitDefEqProofs (disch := first | assumption | exact Nat.le_of_ble_eq_true rfl | decide) only [b275_0, g275_6, b275_6, g275_7, b275_7, g275_8, b275_8, g275_9, b275_9, g275_10, b275_10, g275_11, b275_11, g275_12, b275_12, g275_14, b275_14, pe_sipush, pe_istore1, pe_goto_w, pe_iload1, pe_aload0, pe_getfield, pe_icmp_ge, pe_istore2, pe_iload2, pe_iadd, pe_icmp_gt, pe_istore3, pe_iload3, pe_istore4, pe_iload4, pe_call5, pm_af_ret, pm_af_void, pm_af_thr, pe_istore5, pe_istore6, pe_istore7, pe_iload7, pe_iload6, pe_aaload, pe_imul, pe_iload5, pe_if_eq, pe_ishl, pe_goto, pe_ior, pe_iinc7, pe_call4, pe_i2b, pe_bastore, pe_iinc4, pe_iinc3, pe_iinc2, pe_iinc1, pe_bipush, pe_putfield, pe_return, pm_prog_1, pm_ob_some, Nat.reduceDiv, Nat.reduceMod, Nat.reduceMul, Nat.reduceAdd, Int.reduceToNat, pm_kill_i, pm_kill_r, pm_kill_n, pm_kill_j, pm_kill_l, pm_kill_d, pm_cats_nil, pm_cats_i, pm_cats_r, pm_cats_n, pm_cats_l, pm_cats_d, sz_1, sz_2, sl_1, sl_2, lc_0, lc_lt, lc_le, li_ne, va_rf, wr_m1, we_m1, pm_kill_w, Int32.reduceOfInt, Int64.reduceOfInt, Int32.reduceOfNat, Int32.reduceLT, Int32.reduceLE, Prod.mk.injEq, Nat.reduceEqDiff, reduceCtorEq, and_true, true_and, and_false, false_and, and_self, ite_true, ite_false, ↓reduceIte, not_true_eq_false, not_false_eq_true, pe_ri, pe_rz, pe_rc, Cr_g0_0 hP hA, Cr_g0_1 hP hA, Cr_g0_10 hP hA, Cr_g0_2 hP hA, Cr_g0_5 hP hA, Cr_g0_6 hP hA, Cr_g0_9 hP hA, Cr_p4_6 hP hA, Cr_r3 hP hA, Cr_w6 hP hA, eq_true k1, z5, eq_false k6, hc]
        · rw [if_neg k4] at e; cases e
      · rw [if_neg k3] at e; cases e
    · rw [if_neg k2] at e; cases e
  · rw [if_neg k1] at e
    have e := Option.some.inj e; subst e
    dsimp only [Sum.elim_inr, ex275_5] at hc
    simp -implicitDefEqProofs (disch := first | assumption | exact Nat.le_of_ble_eq_true rfl | decide) only [b275_0, g275_6, b275_6, g275_7, b275_7, g275_8, b275_8, g275_9, b275_9, g275_10, b275_10, g275_11, b275_11, g275_12, b275_12, g275_14, b275_14, pe_sipush, pe_istore1, pe_goto_w, pe_iload1, pe_aload0, pe_getfield, pe_icmp_ge, pe_istore2, pe_iload2, pe_iadd, pe_icmp_gt, pe_istore3, pe_iload3, pe_istore4, pe_iload4, pe_call5, pm_af_ret, pm_af_void, pm_af_thr, pe_istore5, pe_istore6, pe_istore7, pe_iload7, pe_iload6, pe_aaload, pe_imul, pe_iload5, pe_if_eq, pe_ishl, pe_goto, pe_ior, pe_iinc7, pe_call4, pe_i2b, pe_bastore, pe_iinc4, pe_iinc3, pe_iinc2, pe_iinc1, pe_bipush, pe_putfield, pe_return, pm_prog_1, pm_ob_some, Nat.reduceDiv, Nat.reduceMod, Nat.reduceMul, Nat.reduceAdd, Int.reduceToNat, pm_kill_i, pm_kill_r, pm_kill_n, pm_kill_j, pm_kill_l, pm_kill_d, pm_cats_nil, pm_cats_i, pm_cats_r, pm_cats_n, pm_cats_l, pm_cats_d, sz_1, sz_2, sl_1, sl_2, lc_0, lc_lt, lc_le, li_ne, va_rf, wr_m1, we_m1, pm_kill_w, Int32.reduceOfInt, Int64.reduceOfInt, Int32.reduceOfNat, Int32.reduceLT, Int32.reduceLE, Prod.mk.injEq, Nat.reduceEqDiff, reduceCtorEq, and_true, true_and, and_false, false_and, and_self, ite_true, ite_false, ↓reduceIte, not_true_eq_false, not_false_eq_true, pe_ri, pe_rz, pe_rc, Cr_g0_0 hP hA, Cr_g0_1 hP hA, Cr_g0_10 hP hA, Cr_g0_2 hP hA, Cr_g0_5 hP hA, Cr_g0_6 hP hA, Cr_g0_9 hP hA, Cr_p4_6 hP hA, Cr_r3 hP hA, Cr_w6 hP hA, eq_false k1, hc]
theorem z275_5 {fc : Int32} {pc : Int32} {A : wK → Nat} {h : pm_H} {D : Nat} {R : Outcome × pm_H} {S : wS} (hP : Cr_P fc pc) (hA : wok A (Cr_d fc pc) h.1) (hD : 2 ≤ D) {n : Nat} {a : Int32 × Int32 × Int32 × Int32 × Int32 × Int32 × Int32} {b : (Int32 × Int32 × Int32 × Int32 × Int32)} (e : lp (f275_b5 fc pc S) n a = some b) (hx : ex275_5 fc pc A h D R S b) : go275_5 fc pc A h D R S a := lp_run (fun a r => y275_b5 hP hA hD a r) n a b e hx
def go275_4 (fc : Int32) (pc : Int32) (A : wK → Nat) (h : pm_H) (D : Nat) (R : Outcome × pm_H) : Int32 × Int32 × Int32 × Int32 × wS → Prop := fun (x1, x2, x3, x4, S) => ∀ q5 q6 q7 : Value, pm_go pm_prog (pm_call pm_prog D) 275 4 [.ref (A (0, 0, 0)), .int x1, .int x2, .int x3, .int x4, q5, q6, q7] [] (wput A (Cr_d fc pc) S h) = some R
def ex275_4 (fc : Int32) (pc : Int32) (A : wK → Nat) (h : pm_H) (D : Nat) (R : Outcome × pm_H) : (Int32 × Int32 × Int32 × wS) → Prop := fun (x1, x2, x3, S) => ∀ q4 q5 q6 q7 : Value, pm_go pm_prog (pm_call pm_prog D) 275 9 [.ref (A (0, 0, 0)), .int x1, .int x2, .int x3, q4, q5, q6, q7] [] (wput A (Cr_d fc pc) S h) = some R
theorem y275_b4 {fc : Int32} {pc : Int32} {A : wK → Nat} {h : pm_H} {D : Nat} {R : Outcome × pm_H} (hP : Cr_P fc pc) (hA : wok A (Cr_d fc pc) h.1) (hD : 2 ≤ D) (a : Int32 × Int32 × Int32 × Int32 × wS) (r : (Int32 × Int32 × Int32 × Int32 × wS) ⊕ ((Int32 × Int32 × Int32 × wS))) (e : f275_b4 fc pc a = some r) (hc : Sum.elim (go275_4 fc pc A h D R) (ex275_4 fc pc A h D R) r) : go275_4 fc pc A h D R a := by
  obtain ⟨x1, x2, x3, x4, S⟩ := a
  dsimp only [go275_4]
  intro q5 q6 q7
  simp only [f275_b4] at e
  rw [g275_4, b275_4]
  by_cases k1 : (x3 + x4) ≤ (S.1 (0, 0, 0) 2)
  · rw [if_pos k1] at e
    obtain ⟨v1, k2, e⟩ := Option.bind_eq_some_iff.mp e
    try dsimp only at e
    have z2 := x276 (D := D) (h := h) hP hA (by omega) k2
    obtain ⟨⟨v4, v5, v6, v7, v8⟩, k3, e⟩ := Option.bind_eq_some_iff.mp e
    try dsimp only at e
    try simp -implicitDefEqProofs (disch := first | assumption | exact Nat.le_of_ble_eq_true rfl | decide) only [b275_0, g275_6, b275_6, g275_7, b275_7, g275_8, b275_8, g275_9, b275_9, g275_10, b275_10, g275_11, b275_11, g275_12, b275_12, g275_14, b275_14, pe_sipush, pe_istore1, pe_goto_w, pe_iload1, pe_aload0, pe_getfield, pe_icmp_ge, pe_istore2, pe_iload2, pe_iadd, pe_icmp_gt, pe_istore3, pe_iload3, pe_istore4, pe_iload4, pe_call5, pm_af_ret, pm_af_void, pm_af_thr, pe_istore5, pe_istore6, pe_istore7, pe_iload7, pe_iload6, pe_aaload, pe_imul, pe_iload5, pe_if_eq, pe_ishl, pe_goto, pe_ior, pe_iinc7, pe_call4, pe_i2b, pe_bastore, pe_iinc4, pe_iinc3, pe_iinc2, pe_iinc1, pe_bipush, pe_putfield, pe_return, pm_prog_1, pm_ob_some, Nat.reduceDiv, Nat.reduceMod, Nat.reduceMul, Nat.reduceAdd, Int.reduceToNat, pm_kill_i, pm_kill_r, pm_kill_n, pm_kill_j, pm_kill_l, pm_kill_d, pm_cats_nil, pm_cats_i, pm_cats_r, pm_cats_n, pm_cats_l, pm_cats_d, sz_1, sz_2, sl_1, sl_2, lc_0, lc_lt, lc_le, li_ne, va_rf, wr_m1, we_m1, pm_kill_w, Int32.reduceOfInt, Int64.reduceOfInt, Int32.reduceOfNat, Int32.reduceLT, Int32.reduceLE, Prod.mk.injEq, Nat.reduceEqDiff, reduceCtorEq, and_true, true_and, and_false, false_and, and_self, ite_true, ite_false, ↓reduceIte, not_true_eq_false, not_false_eq_true, pe_ri, pe_rz, pe_rc, Cr_g0_0 hP hA, Cr_g0_1 hP hA, Cr_g0_10 hP hA, Cr_g0_2 hP hA, Cr_g0_5 hP hA, Cr_g0_6 hP hA, Cr_g0_9 hP hA, Cr_p4_6 hP hA, Cr_r3 hP hA, Cr_w6 hP hA, eq_true k1, z2]
    refine z275_5 hP hA hD k3 ?_
    dsimp only [ex275_5]
    intro q5 q7
    obtain ⟨v9, k4, e⟩ := Option.bind_eq_some_iff.mp e
    try dsimp only at e
    have z4 := fun h => x321 (D := D) (h := h) (by omega) k4
    by_cases k5 : 0 ≤ v9 ∧ v9 < 75625
    · rw [if_pos k5] at e
      have e := Option.some.inj e; subst e
      dsimp only [Sum.elim_inl, go275_4] at hc
      simp -implicitDefEqProofs (disch := first | assumption | exact Nat.le_of_ble_eq_true rfl | decide) only [b275_0, g275_6, b275_6, g275_7, b275_7, g275_8, b275_8, g275_9, b275_9, g275_10, b275_10, g275_11, b275_11, g275_12, b275_12, g275_14, b275_14, pe_sipush, pe_istore1, pe_goto_w, pe_iload1, pe_aload0, pe_getfield, pe_icmp_ge, pe_istore2, pe_iload2, pe_iadd, pe_icmp_gt, pe_istore3, pe_iload3, pe_istore4, pe_iload4, pe_call5, pm_af_ret, pm_af_void, pm_af_thr, pe_istore5, pe_istore6, pe_istore7, pe_iload7, pe_iload6, pe_aaload, pe_imul, pe_iload5, pe_if_eq, pe_ishl, pe_goto, pe_ior, pe_iinc7, pe_call4, pe_i2b, pe_bastore, pe_iinc4, pe_iinc3, pe_iinc2, pe_iinc1, pe_bipush, pe_putfield, pe_return, pm_prog_1, pm_ob_some, Nat.reduceDiv, Nat.reduceMod, Nat.reduceMul, Nat.reduceAdd, Int.reduceToNat, pm_kill_i, pm_kill_r, pm_kill_n, pm_kill_j, pm_kill_l, pm_kill_d, pm_cats_nil, pm_cats_i, pm_cats_r, pm_cats_n, pm_cats_l, pm_cats_d, sz_1, sz_2, sl_1, sl_2, lc_0, lc_lt, lc_le, li_ne, va_rf, wr_m1, we_m1, pm_kill_w, Int32.reduceOfInt, Int64.reduceOfInt, Int32.reduceOfNat, Int32.reduceLT, Int32.reduceLE, Prod.mk.injEq, Nat.reduceEqDiff, reduceCtorEq, and_true, true_and, and_false, false_and, and_self, ite_true, ite_false, ↓reduceIte, not_true_eq_false, not_false_eq_true, pe_ri, pe_rz, pe_rc, Cr_g0_0 hP hA, Cr_g0_1 hP hA, Cr_g0_10 hP hA, Cr_g0_2 hP hA, Cr_g0_5 hP hA, Cr_g0_6 hP hA, Cr_g0_9 hP hA, Cr_p4_6 hP hA, Cr_r3 hP hA, Cr_w6 hP hA, eq_true k1, z2, z4, hc]
    · rw [if_neg k5] at e; cases e
  · rw [if_neg k1] at e
    have e := Option.some.inj e; subst e
    dsimp only [Sum.elim_inr, ex275_4] at hc
    simp -implicitDefEqProofs (disch := first | assumption | exact Nat.le_of_ble_eq_true rfl | decide) only [b275_0, g275_6, b275_6, g275_7, b275_7, g275_8, b275_8, g275_9, b275_9, g275_10, b275_10, g275_11, b275_11, g275_12, b275_12, g275_14, b275_14, pe_sipush, pe_istore1, pe_goto_w, pe_iload1, pe_aload0, pe_getfield, pe_icmp_ge, pe_istore2, pe_iload2, pe_iadd, pe_icmp_gt, pe_istore3, pe_iload3, pe_istore4, pe_iload4, pe_call5, pm_af_ret, pm_af_void, pm_af_thr, pe_istore5, pe_istore6, pe_istore7, pe_iload7, pe_iload6, pe_aaload, pe_imul, pe_iload5, pe_if_eq, pe_ishl, pe_goto, pe_ior, pe_iinc7, pe_call4, pe_i2b, pe_bastore, pe_iinc4, pe_iinc3, pe_iinc2, pe_iinc1, pe_bipush, pe_putfield, pe_return, pm_prog_1, pm_ob_some, Nat.reduceDiv, Nat.reduceMod, Nat.reduceMul, Nat.reduceAdd, Int.reduceToNat, pm_kill_i, pm_kill_r, pm_kill_n, pm_kill_j, pm_kill_l, pm_kill_d, pm_cats_nil, pm_cats_i, pm_cats_r, pm_cats_n, pm_cats_l, pm_cats_d, sz_1, sz_2, sl_1, sl_2, lc_0, lc_lt, lc_le, li_ne, va_rf, wr_m1, we_m1, pm_kill_w, Int32.reduceOfInt, Int64.reduceOfInt, Int32.reduceOfNat, Int32.reduceLT, Int32.reduceLE, Prod.mk.injEq, Nat.reduceEqDiff, reduceCtorEq, and_true, true_and, and_false, false_and, and_self, ite_true, ite_false, ↓reduceIte, not_true_eq_false, not_false_eq_true, pe_ri, pe_rz, pe_rc, Cr_g0_0 hP hA, Cr_g0_1 hP hA, Cr_g0_10 hP hA, Cr_g0_2 hP hA, Cr_g0_5 hP hA, Cr_g0_6 hP hA, Cr_g0_9 hP hA, Cr_p4_6 hP hA, Cr_r3 hP hA, Cr_w6 hP hA, eq_false k1, hc]
theorem z275_4 {fc : Int32} {pc : Int32} {A : wK → Nat} {h : pm_H} {D : Nat} {R : Outcome × pm_H} (hP : Cr_P fc pc) (hA : wok A (Cr_d fc pc) h.1) (hD : 2 ≤ D) {n : Nat} {a : Int32 × Int32 × Int32 × Int32 × wS} {b : (Int32 × Int32 × Int32 × wS)} (e : lp (f275_b4 fc pc) n a = some b) (hx : ex275_4 fc pc A h D R b) : go275_4 fc pc A h D R a := lp_run (fun a r => y275_b4 hP hA hD a r) n a b e hx
def go275_3 (fc : Int32) (pc : Int32) (A : wK → Nat) (h : pm_H) (D : Nat) (R : Outcome × pm_H) : Int32 × Int32 × Int32 × wS → Prop := fun (x1, x2, x3, S) => ∀ q4 q5 q6 q7 : Value, pm_go pm_prog (pm_call pm_prog D) 275 3 [.ref (A (0, 0, 0)), .int x1, .int x2, .int x3, q4, q5, q6, q7] [] (wput A (Cr_d fc pc) S h) = some R
def ex275_3 (fc : Int32) (pc : Int32) (A : wK → Nat) (h : pm_H) (D : Nat) (R : Outcome × pm_H) : (Int32 × Int32 × wS) → Prop := fun (x1, x2, S) => ∀ q3 q4 q5 q6 q7 : Value, pm_go pm_prog (pm_call pm_prog D) 275 10 [.ref (A (0, 0, 0)), .int x1, .int x2, q3, q4, q5, q6, q7] [] (wput A (Cr_d fc pc) S h) = some R
theorem y275_b3 {fc : Int32} {pc : Int32} {A : wK → Nat} {h : pm_H} {D : Nat} {R : Outcome × pm_H} (hP : Cr_P fc pc) (hA : wok A (Cr_d fc pc) h.1) (hD : 2 ≤ D) (a : Int32 × Int32 × Int32 × wS) (r : (Int32 × Int32 × Int32 × wS) ⊕ ((Int32 × Int32 × wS))) (e : f275_b3 fc pc a = some r) (hc : Sum.elim (go275_3 fc pc A h D R) (ex275_3 fc pc A h D R) r) : go275_3 fc pc A h D R a := by
  obtain ⟨x1, x2, x3, S⟩ := a
  dsimp only [go275_3]
  intro q4 q5 q6 q7
  simp only [f275_b3] at e
  rw [g275_3, b275_3]
  by_cases k1 : x3 < (S.1 (0, 0, 0) 2)
  · rw [if_pos k1] at e
    obtain ⟨⟨v12, v13, v14, S10⟩, k2, e⟩ := Option.bind_eq_some_iff.mp e
    try dsimp only at e
    try simp -implicitDefEqProofs (disch := first | assumption | exact Nat.le_of_ble_eq_true rfl | decide) only [b275_0, g275_6, b275_6, g275_7, b275_7, g275_8, b275_8, g275_9, b275_9, g275_10, b275_10, g275_11, b275_11, g275_12, b275_12, g275_14, b275_14, pe_sipush, pe_istore1, pe_goto_w, pe_iload1, pe_aload0, pe_getfield, pe_icmp_ge, pe_istore2, pe_iload2, pe_iadd, pe_icmp_gt, pe_istore3, pe_iload3, pe_istore4, pe_iload4, pe_call5, pm_af_ret, pm_af_void, pm_af_thr, pe_istore5, pe_istore6, pe_istore7, pe_iload7, pe_iload6, pe_aaload, pe_imul, pe_iload5, pe_if_eq, pe_ishl, pe_goto, pe_ior, pe_iinc7, pe_call4, pe_i2b, pe_bastore, pe_iinc4, pe_iinc3, pe_iinc2, pe_iinc1, pe_bipush, pe_putfield, pe_return, pm_prog_1, pm_ob_some, Nat.reduceDiv, Nat.reduceMod, Nat.reduceMul, Nat.reduceAdd, Int.reduceToNat, pm_kill_i, pm_kill_r, pm_kill_n, pm_kill_j, pm_kill_l, pm_kill_d, pm_cats_nil, pm_cats_i, pm_cats_r, pm_cats_n, pm_cats_l, pm_cats_d, sz_1, sz_2, sl_1, sl_2, lc_0, lc_lt, lc_le, li_ne, va_rf, wr_m1, we_m1, pm_kill_w, Int32.reduceOfInt, Int64.reduceOfInt, Int32.reduceOfNat, Int32.reduceLT, Int32.reduceLE, Prod.mk.injEq, Nat.reduceEqDiff, reduceCtorEq, and_true, true_and, and_false, false_and, and_self, ite_true, ite_false, ↓reduceIte, not_true_eq_false, not_false_eq_true, pe_ri, pe_rz, pe_rc, Cr_g0_0 hP hA, Cr_g0_1 hP hA, Cr_g0_10 hP hA, Cr_g0_2 hP hA, Cr_g0_5 hP hA, Cr_g0_6 hP hA, Cr_g0_9 hP hA, Cr_p4_6 hP hA, Cr_r3 hP hA, Cr_w6 hP hA, eq_true k1]
    refine z275_4 hP hA hD k2 ?_ _ _ _
    dsimp only [ex275_4]
    intro q4 q5 q6 q7
    have e := Option.some.inj e; subst e
    dsimp only [Sum.elim_inl, go275_3] at hc
    simp -implicitDefEqProofs (disch := first | assumption | exact Nat.le_of_ble_eq_true rfl | decide) only [b275_0, g275_6, b275_6, g275_7, b275_7, g275_8, b275_8, g275_9, b275_9, g275_10, b275_10, g275_11, b275_11, g275_12, b275_12, g275_14, b275_14, pe_sipush, pe_istore1, pe_goto_w, pe_iload1, pe_aload0, pe_getfield, pe_icmp_ge, pe_istore2, pe_iload2, pe_iadd, pe_icmp_gt, pe_istore3, pe_iload3, pe_istore4, pe_iload4, pe_call5, pm_af_ret, pm_af_void, pm_af_thr, pe_istore5, pe_istore6, pe_istore7, pe_iload7, pe_iload6, pe_aaload, pe_imul, pe_iload5, pe_if_eq, pe_ishl, pe_goto, pe_ior, pe_iinc7, pe_call4, pe_i2b, pe_bastore, pe_iinc4, pe_iinc3, pe_iinc2, pe_iinc1, pe_bipush, pe_putfield, pe_return, pm_prog_1, pm_ob_some, Nat.reduceDiv, Nat.reduceMod, Nat.reduceMul, Nat.reduceAdd, Int.reduceToNat, pm_kill_i, pm_kill_r, pm_kill_n, pm_kill_j, pm_kill_l, pm_kill_d, pm_cats_nil, pm_cats_i, pm_cats_r, pm_cats_n, pm_cats_l, pm_cats_d, sz_1, sz_2, sl_1, sl_2, lc_0, lc_lt, lc_le, li_ne, va_rf, wr_m1, we_m1, pm_kill_w, Int32.reduceOfInt, Int64.reduceOfInt, Int32.reduceOfNat, Int32.reduceLT, Int32.reduceLE, Prod.mk.injEq, Nat.reduceEqDiff, reduceCtorEq, and_true, true_and, and_false, false_and, and_self, ite_true, ite_false, ↓reduceIte, not_true_eq_false, not_false_eq_true, pe_ri, pe_rz, pe_rc, Cr_g0_0 hP hA, Cr_g0_1 hP hA, Cr_g0_10 hP hA, Cr_g0_2 hP hA, Cr_g0_5 hP hA, Cr_g0_6 hP hA, Cr_g0_9 hP hA, Cr_p4_6 hP hA, Cr_r3 hP hA, Cr_w6 hP hA, eq_true k1, hc]
  · rw [if_neg k1] at e
    have e := Option.some.inj e; subst e
    dsimp only [Sum.elim_inr, ex275_3] at hc
    simp -implicitDefEqProofs (disch := first | assumption | exact Nat.le_of_ble_eq_true rfl | decide) only [b275_0, g275_6, b275_6, g275_7, b275_7, g275_8, b275_8, g275_9, b275_9, g275_10, b275_10, g275_11, b275_11, g275_12, b275_12, g275_14, b275_14, pe_sipush, pe_istore1, pe_goto_w, pe_iload1, pe_aload0, pe_getfield, pe_icmp_ge, pe_istore2, pe_iload2, pe_iadd, pe_icmp_gt, pe_istore3, pe_iload3, pe_istore4, pe_iload4, pe_call5, pm_af_ret, pm_af_void, pm_af_thr, pe_istore5, pe_istore6, pe_istore7, pe_iload7, pe_iload6, pe_aaload, pe_imul, pe_iload5, pe_if_eq, pe_ishl, pe_goto, pe_ior, pe_iinc7, pe_call4, pe_i2b, pe_bastore, pe_iinc4, pe_iinc3, pe_iinc2, pe_iinc1, pe_bipush, pe_putfield, pe_return, pm_prog_1, pm_ob_some, Nat.reduceDiv, Nat.reduceMod, Nat.reduceMul, Nat.reduceAdd, Int.reduceToNat, pm_kill_i, pm_kill_r, pm_kill_n, pm_kill_j, pm_kill_l, pm_kill_d, pm_cats_nil, pm_cats_i, pm_cats_r, pm_cats_n, pm_cats_l, pm_cats_d, sz_1, sz_2, sl_1, sl_2, lc_0, lc_lt, lc_le, li_ne, va_rf, wr_m1, we_m1, pm_kill_w, Int32.reduceOfInt, Int64.reduceOfInt, Int32.reduceOfNat, Int32.reduceLT, Int32.reduceLE, Prod.mk.injEq, Nat.reduceEqDiff, reduceCtorEq, and_true, true_and, and_false, false_and, and_self, ite_true, ite_false, ↓reduceIte, not_true_eq_false, not_false_eq_true, pe_ri, pe_rz, pe_rc, Cr_g0_0 hP hA, Cr_g0_1 hP hA, Cr_g0_10 hP hA, Cr_g0_2 hP hA, Cr_g0_5 hP hA, Cr_g0_6 hP hA, Cr_g0_9 hP hA, Cr_p4_6 hP hA, Cr_r3 hP hA, Cr_w6 hP hA, eq_false k1, hc]
theorem z275_3 {fc : Int32} {pc : Int32} {A : wK → Nat} {h : pm_H} {D : Nat} {R : Outcome × pm_H} (hP : Cr_P fc pc) (hA : wok A (Cr_d fc pc) h.1) (hD : 2 ≤ D) {n : Nat} {a : Int32 × Int32 × Int32 × wS} {b : (Int32 × Int32 × wS)} (e : lp (f275_b3 fc pc) n a = some b) (hx : ex275_3 fc pc A h D R b) : go275_3 fc pc A h D R a := lp_run (fun a r => y275_b3 hP hA hD a r) n a b e hx
def go275_2 (fc : Int32) (pc : Int32) (A : wK → Nat) (h : pm_H) (D : Nat) (R : Outcome × pm_H) : Int32 × Int32 × wS → Prop := fun (x1, x2, S) => ∀ q3 q4 q5 q6 q7 : Value, pm_go pm_prog (pm_call pm_prog D) 275 2 [.ref (A (0, 0, 0)), .int x1, .int x2, q3, q4, q5, q6, q7] [] (wput A (Cr_d fc pc) S h) = some R
def ex275_2 (fc : Int32) (pc : Int32) (A : wK → Nat) (h : pm_H) (D : Nat) (R : Outcome × pm_H) : (Int32 × wS) → Prop := fun (x1, S) => ∀ q2 q3 q4 q5 q6 q7 : Value, pm_go pm_prog (pm_call pm_prog D) 275 11 [.ref (A (0, 0, 0)), .int x1, q2, q3, q4, q5, q6, q7] [] (wput A (Cr_d fc pc) S h) = some R
theorem y275_b2 {fc : Int32} {pc : Int32} {A : wK → Nat} {h : pm_H} {D : Nat} {R : Outcome × pm_H} (hP : Cr_P fc pc) (hA : wok A (Cr_d fc pc) h.1) (hD : 2 ≤ D) (a : Int32 × Int32 × wS) (r : (Int32 × Int32 × wS) ⊕ ((Int32 × wS))) (e : f275_b2 fc pc a = some r) (hc : Sum.elim (go275_2 fc pc A h D R) (ex275_2 fc pc A h D R) r) : go275_2 fc pc A h D R a := by
  obtain ⟨x1, x2, S⟩ := a
  dsimp only [go275_2]
  intro q3 q4 q5 q6 q7
  simp only [f275_b2] at e
  rw [g275_2, b275_2]
  by_cases k1 : (x1 + x2) ≤ (S.1 (0, 0, 0) 1)
  · rw [if_pos k1] at e
    obtain ⟨⟨v17, v18, S15⟩, k2, e⟩ := Option.bind_eq_some_iff.mp e
    try dsimp only at e
    try simp -implicitDefEqProofs (disch := first | assumption | exact Nat.le_of_ble_eq_true rfl | decide) only [b275_0, g275_6, b275_6, g275_7, b275_7, g275_8, b275_8, g275_9, b275_9, g275_10, b275_10, g275_11, b275_11, g275_12, b275_12, g275_14, b275_14, pe_sipush, pe_istore1, pe_goto_w, pe_iload1, pe_aload0, pe_getfield, pe_icmp_ge, pe_istore2, pe_iload2, pe_iadd, pe_icmp_gt, pe_istore3, pe_iload3, pe_istore4, pe_iload4, pe_call5, pm_af_ret, pm_af_void, pm_af_thr, pe_istore5, pe_istore6, pe_istore7, pe_iload7, pe_iload6, pe_aaload, pe_imul, pe_iload5, pe_if_eq, pe_ishl, pe_goto, pe_ior, pe_iinc7, pe_call4, pe_i2b, pe_bastore, pe_iinc4, pe_iinc3, pe_iinc2, pe_iinc1, pe_bipush, pe_putfield, pe_return, pm_prog_1, pm_ob_some, Nat.reduceDiv, Nat.reduceMod, Nat.reduceMul, Nat.reduceAdd, Int.reduceToNat, pm_kill_i, pm_kill_r, pm_kill_n, pm_kill_j, pm_kill_l, pm_kill_d, pm_cats_nil, pm_cats_i, pm_cats_r, pm_cats_n, pm_cats_l, pm_cats_d, sz_1, sz_2, sl_1, sl_2, lc_0, lc_lt, lc_le, li_ne, va_rf, wr_m1, we_m1, pm_kill_w, Int32.reduceOfInt, Int64.reduceOfInt, Int32.reduceOfNat, Int32.reduceLT, Int32.reduceLE, Prod.mk.injEq, Nat.reduceEqDiff, reduceCtorEq, and_true, true_and, and_false, false_and, and_self, ite_true, ite_false, ↓reduceIte, not_true_eq_false, not_false_eq_true, pe_ri, pe_rz, pe_rc, Cr_g0_0 hP hA, Cr_g0_1 hP hA, Cr_g0_10 hP hA, Cr_g0_2 hP hA, Cr_g0_5 hP hA, Cr_g0_6 hP hA, Cr_g0_9 hP hA, Cr_p4_6 hP hA, Cr_r3 hP hA, Cr_w6 hP hA, eq_true k1]
    refine z275_3 hP hA hD k2 ?_ _ _ _ _
    dsimp only [ex275_3]
    intro q3 q4 q5 q6 q7
    have e := Option.some.inj e; subst e
    dsimp only [Sum.elim_inl, go275_2] at hc
    simp -implicitDefEqProofs (disch := first | assumption | exact Nat.le_of_ble_eq_true rfl | decide) only [b275_0, g275_6, b275_6, g275_7, b275_7, g275_8, b275_8, g275_9, b275_9, g275_10, b275_10, g275_11, b275_11, g275_12, b275_12, g275_14, b275_14, pe_sipush, pe_istore1, pe_goto_w, pe_iload1, pe_aload0, pe_getfield, pe_icmp_ge, pe_istore2, pe_iload2, pe_iadd, pe_icmp_gt, pe_istore3, pe_iload3, pe_istore4, pe_iload4, pe_call5, pm_af_ret, pm_af_void, pm_af_thr, pe_istore5, pe_istore6, pe_istore7, pe_iload7, pe_iload6, pe_aaload, pe_imul, pe_iload5, pe_if_eq, pe_ishl, pe_goto, pe_ior, pe_iinc7, pe_call4, pe_i2b, pe_bastore, pe_iinc4, pe_iinc3, pe_iinc2, pe_iinc1, pe_bipush, pe_putfield, pe_return, pm_prog_1, pm_ob_some, Nat.reduceDiv, Nat.reduceMod, Nat.reduceMul, Nat.reduceAdd, Int.reduceToNat, pm_kill_i, pm_kill_r, pm_kill_n, pm_kill_j, pm_kill_l, pm_kill_d, pm_cats_nil, pm_cats_i, pm_cats_r, pm_cats_n, pm_cats_l, pm_cats_d, sz_1, sz_2, sl_1, sl_2, lc_0, lc_lt, lc_le, li_ne, va_rf, wr_m1, we_m1, pm_kill_w, Int32.reduceOfInt, Int64.reduceOfInt, Int32.reduceOfNat, Int32.reduceLT, Int32.reduceLE, Prod.mk.injEq, Nat.reduceEqDiff, reduceCtorEq, and_true, true_and, and_false, false_and, and_self, ite_true, ite_false, ↓reduceIte, not_true_eq_false, not_false_eq_true, pe_ri, pe_rz, pe_rc, Cr_g0_0 hP hA, Cr_g0_1 hP hA, Cr_g0_10 hP hA, Cr_g0_2 hP hA, Cr_g0_5 hP hA, Cr_g0_6 hP hA, Cr_g0_9 hP hA, Cr_p4_6 hP hA, Cr_r3 hP hA, Cr_w6 hP hA, eq_true k1, hc]
  · rw [if_neg k1] at e
    have e := Option.some.inj e; subst e
    dsimp only [Sum.elim_inr, ex275_2] at hc
    simp -implicitDefEqProofs (disch := first | assumption | exact Nat.le_of_ble_eq_true rfl | decide) only [b275_0, g275_6, b275_6, g275_7, b275_7, g275_8, b275_8, g275_9, b275_9, g275_10, b275_10, g275_11, b275_11, g275_12, b275_12, g275_14, b275_14, pe_sipush, pe_istore1, pe_goto_w, pe_iload1, pe_aload0, pe_getfield, pe_icmp_ge, pe_istore2, pe_iload2, pe_iadd, pe_icmp_gt, pe_istore3, pe_iload3, pe_istore4, pe_iload4, pe_call5, pm_af_ret, pm_af_void, pm_af_thr, pe_istore5, pe_istore6, pe_istore7, pe_iload7, pe_iload6, pe_aaload, pe_imul, pe_iload5, pe_if_eq, pe_ishl, pe_goto, pe_ior, pe_iinc7, pe_call4, pe_i2b, pe_bastore, pe_iinc4, pe_iinc3, pe_iinc2, pe_iinc1, pe_bipush, pe_putfield, pe_return, pm_prog_1, pm_ob_some, Nat.reduceDiv, Nat.reduceMod, Nat.reduceMul, Nat.reduceAdd, Int.reduceToNat, pm_kill_i, pm_kill_r, pm_kill_n, pm_kill_j, pm_kill_l, pm_kill_d, pm_cats_nil, pm_cats_i, pm_cats_r, pm_cats_n, pm_cats_l, pm_cats_d, sz_1, sz_2, sl_1, sl_2, lc_0, lc_lt, lc_le, li_ne, va_rf, wr_m1, we_m1, pm_kill_w, Int32.reduceOfInt, Int64.reduceOfInt, Int32.reduceOfNat, Int32.reduceLT, Int32.reduceLE, Prod.mk.injEq, Nat.reduceEqDiff, reduceCtorEq, and_true, true_and, and_false, false_and, and_self, ite_true, ite_false, ↓reduceIte, not_true_eq_false, not_false_eq_true, pe_ri, pe_rz, pe_rc, Cr_g0_0 hP hA, Cr_g0_1 hP hA, Cr_g0_10 hP hA, Cr_g0_2 hP hA, Cr_g0_5 hP hA, Cr_g0_6 hP hA, Cr_g0_9 hP hA, Cr_p4_6 hP hA, Cr_r3 hP hA, Cr_w6 hP hA, eq_false k1, hc]
theorem z275_2 {fc : Int32} {pc : Int32} {A : wK → Nat} {h : pm_H} {D : Nat} {R : Outcome × pm_H} (hP : Cr_P fc pc) (hA : wok A (Cr_d fc pc) h.1) (hD : 2 ≤ D) {n : Nat} {a : Int32 × Int32 × wS} {b : (Int32 × wS)} (e : lp (f275_b2 fc pc) n a = some b) (hx : ex275_2 fc pc A h D R b) : go275_2 fc pc A h D R a := lp_run (fun a r => y275_b2 hP hA hD a r) n a b e hx
def go275_1 (fc : Int32) (pc : Int32) (A : wK → Nat) (h : pm_H) (D : Nat) (R : Outcome × pm_H) : Int32 × wS → Prop := fun (x1, S) => ∀ q2 q3 q4 q5 q6 q7 : Value, pm_go pm_prog (pm_call pm_prog D) 275 1 [.ref (A (0, 0, 0)), .int x1, q2, q3, q4, q5, q6, q7] [] (wput A (Cr_d fc pc) S h) = some R
def ex275_1 (fc : Int32) (pc : Int32) (A : wK → Nat) (h : pm_H) (D : Nat) (R : Outcome × pm_H) : (wS) → Prop := fun S => ∀ q1 q2 q3 q4 q5 q6 q7 : Value, pm_go pm_prog (pm_call pm_prog D) 275 12 [.ref (A (0, 0, 0)), q1, q2, q3, q4, q5, q6, q7] [] (wput A (Cr_d fc pc) S h) = some R
theorem y275_b1 {fc : Int32} {pc : Int32} {A : wK → Nat} {h : pm_H} {D : Nat} {R : Outcome × pm_H} (hP : Cr_P fc pc) (hA : wok A (Cr_d fc pc) h.1) (hD : 2 ≤ D) (a : Int32 × wS) (r : (Int32 × wS) ⊕ ((wS))) (e : f275_b1 fc pc a = some r) (hc : Sum.elim (go275_1 fc pc A h D R) (ex275_1 fc pc A h D R) r) : go275_1 fc pc A h D R a := by
  obtain ⟨x1, S⟩ := a
  dsimp only [go275_1]
  intro q2 q3 q4 q5 q6 q7
  simp only [f275_b1] at e
  rw [g275_1, b275_1]
  by_cases k1 : x1 < (S.1 (0, 0, 0) 1)
  · rw [if_pos k1] at e
    obtain ⟨⟨v21, S19⟩, k2, e⟩ := Option.bind_eq_some_iff.mp e
    try dsimp only at e
    try simp -implicitDefEqProofs (disch := first | assumption | exact Nat.le_of_ble_eq_true rfl | decide) only [b275_0, g275_6, b275_6, g275_7, b275_7, g275_8, b275_8, g275_9, b275_9, g275_10, b275_10, g275_11, b275_11, g275_12, b275_12, g275_14, b275_14, pe_sipush, pe_istore1, pe_goto_w, pe_iload1, pe_aload0, pe_getfield, pe_icmp_ge, pe_istore2, pe_iload2, pe_iadd, pe_icmp_gt, pe_istore3, pe_iload3, pe_istore4, pe_iload4, pe_call5, pm_af_ret, pm_af_void, pm_af_thr, pe_istore5, pe_istore6, pe_istore7, pe_iload7, pe_iload6, pe_aaload, pe_imul, pe_iload5, pe_if_eq, pe_ishl, pe_goto, pe_ior, pe_iinc7, pe_call4, pe_i2b, pe_bastore, pe_iinc4, pe_iinc3, pe_iinc2, pe_iinc1, pe_bipush, pe_putfield, pe_return, pm_prog_1, pm_ob_some, Nat.reduceDiv, Nat.reduceMod, Nat.reduceMul, Nat.reduceAdd, Int.reduceToNat, pm_kill_i, pm_kill_r, pm_kill_n, pm_kill_j, pm_kill_l, pm_kill_d, pm_cats_nil, pm_cats_i, pm_cats_r, pm_cats_n, pm_cats_l, pm_cats_d, sz_1, sz_2, sl_1, sl_2, lc_0, lc_lt, lc_le, li_ne, va_rf, wr_m1, we_m1, pm_kill_w, Int32.reduceOfInt, Int64.reduceOfInt, Int32.reduceOfNat, Int32.reduceLT, Int32.reduceLE, Prod.mk.injEq, Nat.reduceEqDiff, reduceCtorEq, and_true, true_and, and_false, false_and, and_self, ite_true, ite_false, ↓reduceIte, not_true_eq_false, not_false_eq_true, pe_ri, pe_rz, pe_rc, Cr_g0_0 hP hA, Cr_g0_1 hP hA, Cr_g0_10 hP hA, Cr_g0_2 hP hA, Cr_g0_5 hP hA, Cr_g0_6 hP hA, Cr_g0_9 hP hA, Cr_p4_6 hP hA, Cr_r3 hP hA, Cr_w6 hP hA, eq_true k1]
    refine z275_2 hP hA hD k2 ?_ _ _ _ _ _
    dsimp only [ex275_2]
    intro q2 q3 q4 q5 q6 q7
    have e := Option.some.inj e; subst e
    dsimp only [Sum.elim_inl, go275_1] at hc
    simp -implicitDefEqProofs (disch := first | assumption | exact Nat.le_of_ble_eq_true rfl | decide) only [b275_0, g275_6, b275_6, g275_7, b275_7, g275_8, b275_8, g275_9, b275_9, g275_10, b275_10, g275_11, b275_11, g275_12, b275_12, g275_14, b275_14, pe_sipush, pe_istore1, pe_goto_w, pe_iload1, pe_aload0, pe_getfield, pe_icmp_ge, pe_istore2, pe_iload2, pe_iadd, pe_icmp_gt, pe_istore3, pe_iload3, pe_istore4, pe_iload4, pe_call5, pm_af_ret, pm_af_void, pm_af_thr, pe_istore5, pe_istore6, pe_istore7, pe_iload7, pe_iload6, pe_aaload, pe_imul, pe_iload5, pe_if_eq, pe_ishl, pe_goto, pe_ior, pe_iinc7, pe_call4, pe_i2b, pe_bastore, pe_iinc4, pe_iinc3, pe_iinc2, pe_iinc1, pe_bipush, pe_putfield, pe_return, pm_prog_1, pm_ob_some, Nat.reduceDiv, Nat.reduceMod, Nat.reduceMul, Nat.reduceAdd, Int.reduceToNat, pm_kill_i, pm_kill_r, pm_kill_n, pm_kill_j, pm_kill_l, pm_kill_d, pm_cats_nil, pm_cats_i, pm_cats_r, pm_cats_n, pm_cats_l, pm_cats_d, sz_1, sz_2, sl_1, sl_2, lc_0, lc_lt, lc_le, li_ne, va_rf, wr_m1, we_m1, pm_kill_w, Int32.reduceOfInt, Int64.reduceOfInt, Int32.reduceOfNat, Int32.reduceLT, Int32.reduceLE, Prod.mk.injEq, Nat.reduceEqDiff, reduceCtorEq, and_true, true_and, and_false, false_and, and_self, ite_true, ite_false, ↓reduceIte, not_true_eq_false, not_false_eq_true, pe_ri, pe_rz, pe_rc, Cr_g0_0 hP hA, Cr_g0_1 hP hA, Cr_g0_10 hP hA, Cr_g0_2 hP hA, Cr_g0_5 hP hA, Cr_g0_6 hP hA, Cr_g0_9 hP hA, Cr_p4_6 hP hA, Cr_r3 hP hA, Cr_w6 hP hA, eq_true k1, hc]
  · rw [if_neg k1] at e
    have e := Option.some.inj e; subst e
    dsimp only [Sum.elim_inr, ex275_1] at hc
    simp -implicitDefEqProofs (disch := first | assumption | exact Nat.le_of_ble_eq_true rfl | decide) only [b275_0, g275_6, b275_6, g275_7, b275_7, g275_8, b275_8, g275_9, b275_9, g275_10, b275_10, g275_11, b275_11, g275_12, b275_12, g275_14, b275_14, pe_sipush, pe_istore1, pe_goto_w, pe_iload1, pe_aload0, pe_getfield, pe_icmp_ge, pe_istore2, pe_iload2, pe_iadd, pe_icmp_gt, pe_istore3, pe_iload3, pe_istore4, pe_iload4, pe_call5, pm_af_ret, pm_af_void, pm_af_thr, pe_istore5, pe_istore6, pe_istore7, pe_iload7, pe_iload6, pe_aaload, pe_imul, pe_iload5, pe_if_eq, pe_ishl, pe_goto, pe_ior, pe_iinc7, pe_call4, pe_i2b, pe_bastore, pe_iinc4, pe_iinc3, pe_iinc2, pe_iinc1, pe_bipush, pe_putfield, pe_return, pm_prog_1, pm_ob_some, Nat.reduceDiv, Nat.reduceMod, Nat.reduceMul, Nat.reduceAdd, Int.reduceToNat, pm_kill_i, pm_kill_r, pm_kill_n, pm_kill_j, pm_kill_l, pm_kill_d, pm_cats_nil, pm_cats_i, pm_cats_r, pm_cats_n, pm_cats_l, pm_cats_d, sz_1, sz_2, sl_1, sl_2, lc_0, lc_lt, lc_le, li_ne, va_rf, wr_m1, we_m1, pm_kill_w, Int32.reduceOfInt, Int64.reduceOfInt, Int32.reduceOfNat, Int32.reduceLT, Int32.reduceLE, Prod.mk.injEq, Nat.reduceEqDiff, reduceCtorEq, and_true, true_and, and_false, false_and, and_self, ite_true, ite_false, ↓reduceIte, not_true_eq_false, not_false_eq_true, pe_ri, pe_rz, pe_rc, Cr_g0_0 hP hA, Cr_g0_1 hP hA, Cr_g0_10 hP hA, Cr_g0_2 hP hA, Cr_g0_5 hP hA, Cr_g0_6 hP hA, Cr_g0_9 hP hA, Cr_p4_6 hP hA, Cr_r3 hP hA, Cr_w6 hP hA, eq_false k1, hc]
theorem z275_1 {fc : Int32} {pc : Int32} {A : wK → Nat} {h : pm_H} {D : Nat} {R : Outcome × pm_H} (hP : Cr_P fc pc) (hA : wok A (Cr_d fc pc) h.1) (hD : 2 ≤ D) {n : Nat} {a : Int32 × wS} {b : (wS)} (e : lp (f275_b1 fc pc) n a = some b) (hx : ex275_1 fc pc A h D R b) : go275_1 fc pc A h D R a := lp_run (fun a r => y275_b1 hP hA hD a r) n a b e hx
def go275_13 (fc : Int32) (pc : Int32) (A : wK → Nat) (h : pm_H) (D : Nat) (R : Outcome × pm_H) : Int32 × wS → Prop := fun (x1, S) => ∀ q2 q3 q4 q5 q6 q7 : Value, pm_go pm_prog (pm_call pm_prog D) 275 13 [.ref (A (0, 0, 0)), .int x1, q2, q3, q4, q5, q6, q7] [] (wput A (Cr_d fc pc) S h) = some R
def ex275_13 (fc : Int32) (pc : Int32) (A : wK → Nat) (h : pm_H) (D : Nat) (R : Outcome × pm_H) : (wS) → Prop := fun S => ∀ q0 q1 q2 q3 q4 q5 q6 q7 : Value, pm_go pm_prog (pm_call pm_prog D) 275 14 [q0, q1, q2, q3, q4, q5, q6, q7] [] (wput A (Cr_d fc pc) S h) = some R
theorem y275_b13 {fc : Int32} {pc : Int32} {A : wK → Nat} {h : pm_H} {D : Nat} {R : Outcome × pm_H} (hP : Cr_P fc pc) (hA : wok A (Cr_d fc pc) h.1) (hD : 2 ≤ D) (a : Int32 × wS) (r : (Int32 × wS) ⊕ ((wS))) (e : f275_b13 fc pc a = some r) (hc : Sum.elim (go275_13 fc pc A h D R) (ex275_13 fc pc A h D R) r) : go275_13 fc pc A h D R a := by
  obtain ⟨x1, S⟩ := a
  dsimp only [go275_13]
  intro q2 q3 q4 q5 q6 q7
  simp only [f275_b13] at e
  rw [g275_13, b275_13]
  by_cases k1 : x1 < (S.1 (0, 0, 0) 6)
  · rw [if_pos k1] at e
    by_cases k2 : 0 ≤ x1 ∧ x1 < 8
    · rw [if_pos k2] at e
      by_cases k3 : x1 < pc
      · rw [if_pos k3] at e
        by_cases k4 : 0 ≤ x1 ∧ x1 < pc
        · rw [if_pos k4] at e
          have e := Option.some.inj e; subst e
          dsimp only [Sum.elim_inl, go275_13] at hc
          simp -implicitDefEqProofs (disch := first | assumption | exact Nat.le_of_ble_eq_true rfl | decide) only [b275_0, g275_6, b275_6, g275_7, b275_7, g275_8, b275_8, g275_9, b275_9, g275_10, b275_10, g275_11, b275_11, g275_12, b275_12, g275_14, b275_14, pe_sipush, pe_istore1, pe_goto_w, pe_iload1, pe_aload0, pe_getfield, pe_icmp_ge, pe_istore2, pe_iload2, pe_iadd, pe_icmp_gt, pe_istore3, pe_iload3, pe_istore4, pe_iload4, pe_call5, pm_af_ret, pm_af_void, pm_af_thr, pe_istore5, pe_istore6, pe_istore7, pe_iload7, pe_iload6, pe_aaload, pe_imul, pe_iload5, pe_if_eq, pe_ishl, pe_goto, pe_ior, pe_iinc7, pe_call4, pe_i2b, pe_bastore, pe_iinc4, pe_iinc3, pe_iinc2, pe_iinc1, pe_bipush, pe_putfield, pe_return, pm_prog_1, pm_ob_some, Nat.reduceDiv, Nat.reduceMod, Nat.reduceMul, Nat.reduceAdd, Int.reduceToNat, pm_kill_i, pm_kill_r, pm_kill_n, pm_kill_j, pm_kill_l, pm_kill_d, pm_cats_nil, pm_cats_i, pm_cats_r, pm_cats_n, pm_cats_l, pm_cats_d, sz_1, sz_2, sl_1, sl_2, lc_0, lc_lt, lc_le, li_ne, va_rf, wr_m1, we_m1, pm_kill_w, Int32.reduceOfInt, Int64.reduceOfInt, Int32.reduceOfNat, Int32.reduceLT, Int32.reduceLE, Prod.mk.injEq, Nat.reduceEqDiff, reduceCtorEq, and_true, true_and, and_false, false_and, and_self, ite_true, ite_false, ↓reduceIte, not_true_eq_false, not_false_eq_true, pe_ri, pe_rz, pe_rc, Cr_g0_0 hP hA, Cr_g0_1 hP hA, Cr_g0_10 hP hA, Cr_g0_2 hP hA, Cr_g0_5 hP hA, Cr_g0_6 hP hA, Cr_g0_9 hP hA, Cr_p4_6 hP hA, Cr_r3 hP hA, Cr_w6 hP hA, eq_true k1, hc]
        · rw [if_neg k4] at e; cases e
      · rw [if_neg k3] at e; cases e
    · rw [if_neg k2] at e; cases e
  · rw [if_neg k1] at e
    have e := Option.some.inj e; subst e
    dsimp only [Sum.elim_inr, ex275_13] at hc
    simp -implicitDefEqProofs (disch := first | assumption | exact Nat.le_of_ble_eq_true rfl | decide) only [b275_0, g275_6, b275_6, g275_7, b275_7, g275_8, b275_8, g275_9, b275_9, g275_10, b275_10, g275_11, b275_11, g275_12, b275_12, g275_14, b275_14, pe_sipush, pe_istore1, pe_goto_w, pe_iload1, pe_aload0, pe_getfield, pe_icmp_ge, pe_istore2, pe_iload2, pe_iadd, pe_icmp_gt, pe_istore3, pe_iload3, pe_istore4, pe_iload4, pe_call5, pm_af_ret, pm_af_void, pm_af_thr, pe_istore5, pe_istore6, pe_istore7, pe_iload7, pe_iload6, pe_aaload, pe_imul, pe_iload5, pe_if_eq, pe_ishl, pe_goto, pe_ior, pe_iinc7, pe_call4, pe_i2b, pe_bastore, pe_iinc4, pe_iinc3, pe_iinc2, pe_iinc1, pe_bipush, pe_putfield, pe_return, pm_prog_1, pm_ob_some, Nat.reduceDiv, Nat.reduceMod, Nat.reduceMul, Nat.reduceAdd, Int.reduceToNat, pm_kill_i, pm_kill_r, pm_kill_n, pm_kill_j, pm_kill_l, pm_kill_d, pm_cats_nil, pm_cats_i, pm_cats_r, pm_cats_n, pm_cats_l, pm_cats_d, sz_1, sz_2, sl_1, sl_2, lc_0, lc_lt, lc_le, li_ne, va_rf, wr_m1, we_m1, pm_kill_w, Int32.reduceOfInt, Int64.reduceOfInt, Int32.reduceOfNat, Int32.reduceLT, Int32.reduceLE, Prod.mk.injEq, Nat.reduceEqDiff, reduceCtorEq, and_true, true_and, and_false, false_and, and_self, ite_true, ite_false, ↓reduceIte, not_true_eq_false, not_false_eq_true, pe_ri, pe_rz, pe_rc, Cr_g0_0 hP hA, Cr_g0_1 hP hA, Cr_g0_10 hP hA, Cr_g0_2 hP hA, Cr_g0_5 hP hA, Cr_g0_6 hP hA, Cr_g0_9 hP hA, Cr_p4_6 hP hA, Cr_r3 hP hA, Cr_w6 hP hA, eq_false k1, hc]
theorem z275_13 {fc : Int32} {pc : Int32} {A : wK → Nat} {h : pm_H} {D : Nat} {R : Outcome × pm_H} (hP : Cr_P fc pc) (hA : wok A (Cr_d fc pc) h.1) (hD : 2 ≤ D) {n : Nat} {a : Int32 × wS} {b : (wS)} (e : lp (f275_b13 fc pc) n a = some b) (hx : ex275_13 fc pc A h D R b) : go275_13 fc pc A h D R a := lp_run (fun a r => y275_b13 hP hA hD a r) n a b e hx
theorem x275 {fc : Int32} {pc : Int32} {A : wK → Nat} {h : pm_H} {D : Nat} {S : wS} {r : wS} (hP : Cr_P fc pc) (hA : wok A (Cr_d fc pc) h.1) (hD : 3 ≤ D) (e : f275 fc pc S = some r) : pm_call pm_prog D 275 [.ref (A (0, 0, 0))] (wput A (Cr_d fc pc) S h) = some (Outcome.returned none, (wput A (Cr_d fc pc) r h)) := by
  obtain ⟨D, rfl⟩ : ∃ D', D = D' + 1 := ⟨D - 1, by omega⟩
  have hD : 2 ≤ D := by omega
  simp only [f275] at e
  rw [c275 (Cr_c0 hP hA), b275_0]
  obtain ⟨S22, k1, e⟩ := Option.bind_eq_some_iff.mp e
  try dsimp only at e
  try simp -implicitDefEqProofs (disch := first | assumption | exact Nat.le_of_ble_eq_true rfl | decide) only [b275_0, g275_6, b275_6, g275_7, b275_7, g275_8, b275_8, g275_9, b275_9, g275_10, b275_10, g275_11, b275_11, g275_12, b275_12, g275_14, b275_14, pe_sipush, pe_istore1, pe_goto_w, pe_iload1, pe_aload0, pe_getfield, pe_icmp_ge, pe_istore2, pe_iload2, pe_iadd, pe_icmp_gt, pe_istore3, pe_iload3, pe_istore4, pe_iload4, pe_call5, pm_af_ret, pm_af_void, pm_af_thr, pe_istore5, pe_istore6, pe_istore7, pe_iload7, pe_iload6, pe_aaload, pe_imul, pe_iload5, pe_if_eq, pe_ishl, pe_goto, pe_ior, pe_iinc7, pe_call4, pe_i2b, pe_bastore, pe_iinc4, pe_iinc3, pe_iinc2, pe_iinc1, pe_bipush, pe_putfield, pe_return, pm_prog_1, pm_ob_some, Nat.reduceDiv, Nat.reduceMod, Nat.reduceMul, Nat.reduceAdd, Int.reduceToNat, pm_kill_i, pm_kill_r, pm_kill_n, pm_kill_j, pm_kill_l, pm_kill_d, pm_cats_nil, pm_cats_i, pm_cats_r, pm_cats_n, pm_cats_l, pm_cats_d, sz_1, sz_2, sl_1, sl_2, lc_0, lc_lt, lc_le, li_ne, va_rf, wr_m1, we_m1, pm_kill_w, Int32.reduceOfInt, Int64.reduceOfInt, Int32.reduceOfNat, Int32.reduceLT, Int32.reduceLE, Prod.mk.injEq, Nat.reduceEqDiff, reduceCtorEq, and_true, true_and, and_false, false_and, and_self, ite_true, ite_false, ↓reduceIte, not_true_eq_false, not_false_eq_true, pe_ri, pe_rz, pe_rc, Cr_g0_0 hP hA, Cr_g0_1 hP hA, Cr_g0_10 hP hA, Cr_g0_2 hP hA, Cr_g0_5 hP hA, Cr_g0_6 hP hA, Cr_g0_9 hP hA, Cr_p4_6 hP hA, Cr_r3 hP hA, Cr_w6 hP hA]
  refine z275_1 hP hA hD k1 ?_ _ _ _ _ _ _
  dsimp only [ex275_1]
  intro q1 q2 q3 q4 q5 q6 q7
  obtain ⟨S24, k2, e⟩ := Option.bind_eq_some_iff.mp e
  try dsimp only at e
  try simp -implicitDefEqProofs (disch := first | assumption | exact Nat.le_of_ble_eq_true rfl | decide) only [b275_0, g275_6, b275_6, g275_7, b275_7, g275_8, b275_8, g275_9, b275_9, g275_10, b275_10, g275_11, b275_11, g275_12, b275_12, g275_14, b275_14, pe_sipush, pe_istore1, pe_goto_w, pe_iload1, pe_aload0, pe_getfield, pe_icmp_ge, pe_istore2, pe_iload2, pe_iadd, pe_icmp_gt, pe_istore3, pe_iload3, pe_istore4, pe_iload4, pe_call5, pm_af_ret, pm_af_void, pm_af_thr, pe_istore5, pe_istore6, pe_istore7, pe_iload7, pe_iload6, pe_aaload, pe_imul, pe_iload5, pe_if_eq, pe_ishl, pe_goto, pe_ior, pe_iinc7, pe_call4, pe_i2b, pe_bastore, pe_iinc4, pe_iinc3, pe_iinc2, pe_iinc1, pe_bipush, pe_putfield, pe_return, pm_prog_1, pm_ob_some, Nat.reduceDiv, Nat.reduceMod, Nat.reduceMul, Nat.reduceAdd, Int.reduceToNat, pm_kill_i, pm_kill_r, pm_kill_n, pm_kill_j, pm_kill_l, pm_kill_d, pm_cats_nil, pm_cats_i, pm_cats_r, pm_cats_n, pm_cats_l, pm_cats_d, sz_1, sz_2, sl_1, sl_2, lc_0, lc_lt, lc_le, li_ne, va_rf, wr_m1, we_m1, pm_kill_w, Int32.reduceOfInt, Int64.reduceOfInt, Int32.reduceOfNat, Int32.reduceLT, Int32.reduceLE, Prod.mk.injEq, Nat.reduceEqDiff, reduceCtorEq, and_true, true_and, and_false, false_and, and_self, ite_true, ite_false, ↓reduceIte, not_true_eq_false, not_false_eq_true, pe_ri, pe_rz, pe_rc, Cr_g0_0 hP hA, Cr_g0_1 hP hA, Cr_g0_10 hP hA, Cr_g0_2 hP hA, Cr_g0_5 hP hA, Cr_g0_6 hP hA, Cr_g0_9 hP hA, Cr_p4_6 hP hA, Cr_r3 hP hA, Cr_w6 hP hA]
  refine z275_13 hP hA hD k2 ?_ _ _ _ _ _ _
  dsimp only [ex275_13]
  intro q0 q1 q2 q3 q4 q5 q6 q7
  have e := Option.some.inj e; subst e
  simp -implicitDefEqProofs (disch := first | assumption | exact Nat.le_of_ble_eq_true rfl | decide) only [b275_0, g275_6, b275_6, g275_7, b275_7, g275_8, b275_8, g275_9, b275_9, g275_10, b275_10, g275_11, b275_11, g275_12, b275_12, g275_14, b275_14, pe_sipush, pe_istore1, pe_goto_w, pe_iload1, pe_aload0, pe_getfield, pe_icmp_ge, pe_istore2, pe_iload2, pe_iadd, pe_icmp_gt, pe_istore3, pe_iload3, pe_istore4, pe_iload4, pe_call5, pm_af_ret, pm_af_void, pm_af_thr, pe_istore5, pe_istore6, pe_istore7, pe_iload7, pe_iload6, pe_aaload, pe_imul, pe_iload5, pe_if_eq, pe_ishl, pe_goto, pe_ior, pe_iinc7, pe_call4, pe_i2b, pe_bastore, pe_iinc4, pe_iinc3, pe_iinc2, pe_iinc1, pe_bipush, pe_putfield, pe_return, pm_prog_1, pm_ob_some, Nat.reduceDiv, Nat.reduceMod, Nat.reduceMul, Nat.reduceAdd, Int.reduceToNat, pm_kill_i, pm_kill_r, pm_kill_n, pm_kill_j, pm_kill_l, pm_kill_d, pm_cats_nil, pm_cats_i, pm_cats_r, pm_cats_n, pm_cats_l, pm_cats_d, sz_1, sz_2, sl_1, sl_2, lc_0, lc_lt, lc_le, li_ne, va_rf, wr_m1, we_m1, pm_kill_w, Int32.reduceOfInt, Int64.reduceOfInt, Int32.reduceOfNat, Int32.reduceLT, Int32.reduceLE, Prod.mk.injEq, Nat.reduceEqDiff, reduceCtorEq, and_true, true_and, and_false, false_and, and_self, ite_true, ite_false, ↓reduceIte, not_true_eq_false, not_false_eq_true, pe_ri, pe_rz, pe_rc, Cr_g0_0 hP hA, Cr_g0_1 hP hA, Cr_g0_10 hP hA, Cr_g0_2 hP hA, Cr_g0_5 hP hA, Cr_g0_6 hP hA, Cr_g0_9 hP hA, Cr_p4_6 hP hA, Cr_r3 hP hA, Cr_w6 hP hA]
/-- TimberHouse$FaultRips$Planner.worth(II)J -/
theorem c323 {d : Nat} {h : pm_H} {a : Nat} {x0 : Int32} {x1 : Int32} (hc : pm_cls h a = some 5) : pm_call pm_prog (d + 1) 323 [.ref a, .int x0, .int x1] h = pm_ev pm_prog (pm_call pm_prog d) 323 0 b323_0 [.ref a, .int x0, .int x1] [] h := pm_cal (pm_rc1 hc rfl) rfl rfl rfl
/-- TimberHouse$FaultRips$Planner.worth(II)J -/
noncomputable def f323 (fc : Int32) (pc : Int32) (S : wS) (x1 : Int32) (x2 : Int32) : Option (Int64) :=
  if 0 ≤ x1 ∧ x1 < 8 then
    if x1 < pc then
      if 0 ≤ x1 ∧ x1 < pc then
        some (((S.2 (4, x1, 0) 3) * (Int32.toInt64 x2)) - (S.2 (4, x1, 0) 6))
      else none
    else none
  else none
theorem x323 {fc : Int32} {pc : Int32} {A : wK → Nat} {h : pm_H} {D : Nat} {S : wS} {x1 : Int32} {x2 : Int32} {r : Int64} (hP : Cr_P fc pc) (hA : wok A (Cr_d fc pc) h.1) (hD : 1 ≤ D) (e : f323 fc pc S x1 x2 = some r) : pm_call pm_prog D 323 [.ref (A (7, 0, 0)), .int x1, .int x2] (wput A (Cr_d fc pc) S h) = some (Outcome.returned (some (.long r)), (wput A (Cr_d fc pc) S h)) := by
  obtain ⟨D, rfl⟩ : ∃ D', D = D' + 1 := ⟨D - 1, by omega⟩
  have hD : 0 ≤ D := by omega
  simp only [f323] at e
  rw [c323 (Cr_c7 hP hA), b323_0]
  by_cases k1 : 0 ≤ x1 ∧ x1 < 8
  · rw [if_pos k1] at e
    by_cases k2 : x1 < pc
    · rw [if_pos k2] at e
      by_cases k3 : 0 ≤ x1 ∧ x1 < pc
      · rw [if_pos k3] at e
        have e := Option.some.inj e; subst e
        simp -implicitDefEqProofs (disch := first | assumption | exact Nat.le_of_ble_eq_true rfl | decide) only [b323_0, pe_aload0, pe_getfield, pe_iload1, pe_aaload, pe_iload2, pe_i2l, pe_lmul, pe_lsub, pe_lreturn, pm_prog_1, pm_ob_some, Nat.reduceDiv, Nat.reduceMod, Nat.reduceMul, Nat.reduceAdd, Int.reduceToNat, pm_kill_i, pm_kill_r, pm_kill_n, pm_kill_j, pm_kill_l, pm_kill_d, pm_cats_nil, pm_cats_i, pm_cats_r, pm_cats_n, pm_cats_l, pm_cats_d, sz_1, sz_2, sl_1, sl_2, lc_0, lc_lt, lc_le, li_ne, va_rf, wr_m1, we_m1, pm_kill_w, Int32.reduceOfInt, Int64.reduceOfInt, Int32.reduceOfNat, Int32.reduceLT, Int32.reduceLE, Prod.mk.injEq, Nat.reduceEqDiff, reduceCtorEq, and_true, true_and, and_false, false_and, and_self, ite_true, ite_false, ↓reduceIte, not_true_eq_false, not_false_eq_true, pe_ri, pe_rz, pe_rc, Cr_g4_3 hP hA, Cr_g4_6 hP hA, Cr_g7_0 hP hA, Cr_r3 hP hA]
      · rw [if_neg k3] at e; cases e
    · rw [if_neg k2] at e; cases e
  · rw [if_neg k1] at e; cases e
/-- TimberHouse$FaultRips$Planner.choose([BIII)V -/
theorem c322 {d : Nat} {h : pm_H} {a : Nat} {r0 : Nat} {x1 : Int32} {x2 : Int32} {x3 : Int32} (hc : pm_cls h a = some 5) : pm_call pm_prog (d + 1) 322 [.ref a, .ref r0, .int x1, .int x2, .int x3] h = pm_ev pm_prog (pm_call pm_prog d) 322 0 b322_0 [.ref a, .ref r0, .int x1, .int x2, .int x3, pm_junk, pm_junk, pm_junk, pm_junk, pm_junk, pm_junk, pm_junk] [] h := pm_cal (pm_rc1 hc rfl) rfl rfl rfl
theorem g322_1 {cl : pm_C} {ls st : List Value} {h : pm_H} : pm_go pm_prog cl 322 1 ls st h = pm_ev pm_prog cl 322 1 b322_1 ls st h := pm_go_eq pm_prog cl 322 1 ls st h
theorem g322_2 {cl : pm_C} {ls st : List Value} {h : pm_H} : pm_go pm_prog cl 322 2 ls st h = pm_ev pm_prog cl 322 2 b322_2 ls st h := pm_go_eq pm_prog cl 322 2 ls st h
theorem g322_3 {cl : pm_C} {ls st : List Value} {h : pm_H} : pm_go pm_prog cl 322 3 ls st h = pm_ev pm_prog cl 322 3 b322_3 ls st h := pm_go_eq pm_prog cl 322 3 ls st h
theorem g322_4 {cl : pm_C} {ls st : List Value} {h : pm_H} : pm_go pm_prog cl 322 4 ls st h = pm_ev pm_prog cl 322 4 b322_4 ls st h := pm_go_eq pm_prog cl 322 4 ls st h
theorem g322_5 {cl : pm_C} {ls st : List Value} {h : pm_H} : pm_go pm_prog cl 322 5 ls st h = pm_ev pm_prog cl 322 5 b322_5 ls st h := pm_go_eq pm_prog cl 322 5 ls st h
theorem g322_6 {cl : pm_C} {ls st : List Value} {h : pm_H} : pm_go pm_prog cl 322 6 ls st h = pm_ev pm_prog cl 322 6 b322_6 ls st h := pm_go_eq pm_prog cl 322 6 ls st h
theorem g322_7 {cl : pm_C} {ls st : List Value} {h : pm_H} : pm_go pm_prog cl 322 7 ls st h = pm_ev pm_prog cl 322 7 b322_7 ls st h := pm_go_eq pm_prog cl 322 7 ls st h
theorem g322_8 {cl : pm_C} {ls st : List Value} {h : pm_H} : pm_go pm_prog cl 322 8 ls st h = pm_ev pm_prog cl 322 8 b322_8 ls st h := pm_go_eq pm_prog cl 322 8 ls st h
theorem g322_9 {cl : pm_C} {ls st : List Value} {h : pm_H} : pm_go pm_prog cl 322 9 ls st h = pm_ev pm_prog cl 322 9 b322_9 ls st h := pm_go_eq pm_prog cl 322 9 ls st h
theorem g322_10 {cl : pm_C} {ls st : List Value} {h : pm_H} : pm_go pm_prog cl 322 10 ls st h = pm_ev pm_prog cl 322 10 b322_10 ls st h := pm_go_eq pm_prog cl 322 10 ls st h
theorem g322_11 {cl : pm_C} {ls st : List Value} {h : pm_H} : pm_go pm_prog cl 322 11 ls st h = pm_ev pm_prog cl 322 11 b322_11 ls st h := pm_go_eq pm_prog cl 322 11 ls st h
theorem g322_12 {cl : pm_C} {ls st : List Value} {h : pm_H} : pm_go pm_prog cl 322 12 ls st h = pm_ev pm_prog cl 322 12 b322_12 ls st h := pm_go_eq pm_prog cl 322 12 ls st h
noncomputable def f322_b5 (fc : Int32) (pc : Int32) (S : wS) : Int32 × Int32 × Int32 × Int32 × Int32 × Int32 × Int32 × Int32 × Int32 × Int32 → Option ((Int32 × Int32 × Int32 × Int32 × Int32 × Int32 × Int32 × Int32 × Int32 × Int32) ⊕ ((Int32 × Int32 × Int32 × Int32 × Int32 × Int32 × Int32 × Int32 × Int32))) := fun (x2, x3, x4, x5, x6, x7, x8, x9, x10, x11) =>
  if x11 < x2 then
    if 0 ≤ x9 ∧ x9 < 75625 then
      if (((S.1 (6, 0, 0) x9) >>> ((x11 : Int32) &&& 31)) &&& 1) = 1 then
        if x10 = (-1) then
          some (.inl (x2, x3, x4, x5, x6, x7, x8, x9, x11, (x11 + 1)))
        else
          (f323 fc pc S x11 x6).bind fun v2 =>
          (f323 fc pc S x10 x6).bind fun v3 =>
          if v2 ≤ v3 then
            some (.inl (x2, x3, x4, x5, x6, x7, x8, x9, x10, (x11 + 1)))
          else
            some (.inl (x2, x3, x4, x5, x6, x7, x8, x9, x11, (x11 + 1)))
      else
        some (.inl (x2, x3, x4, x5, x6, x7, x8, x9, x10, (x11 + 1)))
    else none
  else
    some (.inr (x2, x3, x4, x5, x6, x7, x8, x9, x10))
noncomputable def f322_b4 (fc : Int32) (pc : Int32) : Int32 × Int32 × Int32 × Int32 × Int32 × Int32 × Int32 × wS → Option ((Int32 × Int32 × Int32 × Int32 × Int32 × Int32 × Int32 × wS) ⊕ ((Int32 × Int32 × Int32 × Int32 × Int32 × Int32 × wS))) := fun (x2, x3, x4, x5, x6, x7, x8, S) =>
  if (x7 + x8) ≤ x4 then
    (f321 x5 x6 x7 x8).bind fun v1 =>
    (lp (f322_b5 fc pc S) FU (x2, x3, x4, x5, x6, x7, x8, v1, (-1), 0)).bind fun (v6, v7, v8, v9, v10, v11, v12, v13, v14) =>
    if 0 ≤ v13 ∧ v13 < 75625 then
      some (.inl (v6, v7, v8, v9, v10, v11, (v12 + 1), (sz S (8, 0, 0) v13 (vp_nar .byte (Int8.toInt32 (Int32.toInt8 v14))))))
    else none
  else
    some (.inr (x2, x3, x4, x5, x6, x7, S))
noncomputable def f322_b3 (fc : Int32) (pc : Int32) : Int32 × Int32 × Int32 × Int32 × Int32 × Int32 × wS → Option ((Int32 × Int32 × Int32 × Int32 × Int32 × Int32 × wS) ⊕ ((Int32 × Int32 × Int32 × Int32 × Int32 × wS))) := fun (x2, x3, x4, x5, x6, x7, S) =>
  if x7 < x4 then
    (lp (f322_b4 fc pc) FU (x2, x3, x4, x5, x6, x7, 1, S)).bind fun (v18, v19, v20, v21, v22, v23, S15) =>
    some (.inl (v18, v19, v20, v21, v22, (v23 + 1), S15))
  else
    some (.inr (x2, x3, x4, x5, x6, S))
noncomputable def f322_b2 (fc : Int32) (pc : Int32) : Int32 × Int32 × Int32 × Int32 × Int32 × wS → Option ((Int32 × Int32 × Int32 × Int32 × Int32 × wS) ⊕ ((Int32 × Int32 × Int32 × Int32 × wS))) := fun (x2, x3, x4, x5, x6, S) =>
  if (x5 + x6) ≤ x3 then
    (lp (f322_b3 fc pc) FU (x2, x3, x4, x5, x6, 0, S)).bind fun (v27, v28, v29, v30, v31, S24) =>
    some (.inl (v27, v28, v29, v30, (v31 + 1), S24))
  else
    some (.inr (x2, x3, x4, x5, S))
noncomputable def f322_b1 (fc : Int32) (pc : Int32) : Int32 × Int32 × Int32 × Int32 × wS → Option ((Int32 × Int32 × Int32 × Int32 × wS) ⊕ ((wS))) := fun (x2, x3, x4, x5, S) =>
  if x5 < x3 then
    (lp (f322_b2 fc pc) FU (x2, x3, x4, x5, 1, S)).bind fun (v35, v36, v37, v38, S32) =>
    some (.inl (v35, v36, v37, (v38 + 1), S32))
  else
    some (.inr S)
/-- TimberHouse$FaultRips$Planner.choose([BIII)V -/
noncomputable def f322 (fc : Int32) (pc : Int32) (S : wS) (x2 : Int32) (x3 : Int32) (x4 : Int32) : Option (wS) :=
  (lp (f322_b1 fc pc) FU (x2, x3, x4, 0, S)).bind fun S39 =>
  some S39
def go322_5 (fc : Int32) (pc : Int32) (A : wK → Nat) (h : pm_H) (D : Nat) (R : Outcome × pm_H) (S : wS) : Int32 × Int32 × Int32 × Int32 × Int32 × Int32 × Int32 × Int32 × Int32 × Int32 → Prop := fun (x2, x3, x4, x5, x6, x7, x8, x9, x10, x11) => pm_go pm_prog (pm_call pm_prog D) 322 5 [.ref (A (7, 0, 0)), .ref (A (6, 0, 0)), .int x2, .int x3, .int x4, .int x5, .int x6, .int x7, .int x8, .int x9, .int x10, .int x11] [] (wput A (Cr_d fc pc) S h) = some R
def ex322_5 (fc : Int32) (pc : Int32) (A : wK → Nat) (h : pm_H) (D : Nat) (R : Outcome × pm_H) (S : wS) : (Int32 × Int32 × Int32 × Int32 × Int32 × Int32 × Int32 × Int32 × Int32) → Prop := fun (x2, x3, x4, x5, x6, x7, x8, x9, x10) => ∀ q11 : Value, pm_go pm_prog (pm_call pm_prog D) 322 8 [.ref (A (7, 0, 0)), .ref (A (6, 0, 0)), .int x2, .int x3, .int x4, .int x5, .int x6, .int x7, .int x8, .int x9, .int x10, q11] [] (wput A (Cr_d fc pc) S h) = some R
theorem y322_b5 {fc : Int32} {pc : Int32} {A : wK → Nat} {h : pm_H} {D : Nat} {R : Outcome × pm_H} {S : wS} (hP : Cr_P fc pc) (hA : wok A (Cr_d fc pc) h.1) (hD : 1 ≤ D) (a : Int32 × Int32 × Int32 × Int32 × Int32 × Int32 × Int32 × Int32 × Int32 × Int32) (r : (Int32 × Int32 × Int32 × Int32 × Int32 × Int32 × Int32 × Int32 × Int32 × Int32) ⊕ ((Int32 × Int32 × Int32 × Int32 × Int32 × Int32 × Int32 × Int32 × Int32))) (e : f322_b5 fc pc S a = some r) (hc : Sum.elim (go322_5 fc pc A h D R S) (ex322_5 fc pc A h D R S) r) : go322_5 fc pc A h D R S a := by
  obtain ⟨x2, x3, x4, x5, x6, x7, x8, x9, x10, x11⟩ := a
  dsimp only [go322_5]
  simp only [f322_b5] at e
  rw [g322_5, b322_5]
  by_cases k1 : x11 < x2
  · rw [if_pos k1] at e
    by_cases k2 : 0 ≤ x9 ∧ x9 < 75625
    · rw [if_pos k2] at e
      by_cases k3 : (((S.1 (6, 0, 0) x9) >>> ((x11 : Int32) &&& 31)) &&& 1) = 1
      · rw [if_pos k3] at e
        by_cases k4 : x10 = (-1)
        · rw [if_pos k4] at e
          have e := Option.some.inj e; subst e
          dsimp only [Sum.elim_inl, go322_5] at hc
          simp -implicitDefEqProofs (disch := first | assumption | exact Nat.le_of_ble_eq_true rfl | decide) only [b322_0, g322_6, b322_6, g322_7, b322_7, g322_8, b322_8, g322_9, b322_9, g322_10, b322_10, g322_11, b322_11, g322_12, b322_12, pe_sipush, pe_istore5, pe_goto_w, pe_iload5, pe_iload3, pe_icmp_ge, pe_istore6, pe_iload6, pe_iadd, pe_icmp_gt, pe_istore7, pe_iload7, pe_iload4, pe_istore8, pe_iload8, pe_call4, pm_af_ret, pm_af_void, pm_af_thr, pe_istore9, pe_istore10, pe_istore11, pe_iload11, pe_iload2, pe_aload1, pe_iload9, pe_baload, pe_ishr, pe_iand, pe_icmp_ne, pe_iload10, pe_icmp_eq, pe_aload0, pe_call3, pe_lcmp, pe_if_le, pe_iinc11, pe_goto, pe_getfield, pe_i2b, pe_bastore, pe_iinc8, pe_iinc7, pe_iinc6, pe_iinc5, pe_return, pm_prog_1, pm_ob_some, Nat.reduceDiv, Nat.reduceMod, Nat.reduceMul, Nat.reduceAdd, Int.reduceToNat, pm_kill_i, pm_kill_r, pm_kill_n, pm_kill_j, pm_kill_l, pm_kill_d, pm_cats_nil, pm_cats_i, pm_cats_r, pm_cats_n, pm_cats_l, pm_cats_d, sz_1, sz_2, sl_1, sl_2, lc_0, lc_lt, lc_le, li_ne, va_rf, wr_m1, we_m1, pm_kill_w, Int32.reduceOfInt, Int64.reduceOfInt, Int32.reduceOfNat, Int32.reduceLT, Int32.reduceLE, Prod.mk.injEq, Nat.reduceEqDiff, reduceCtorEq, and_true, true_and, and_false, false_and, and_self, ite_true, ite_false, ↓reduceIte, not_true_eq_false, not_false_eq_true, pe_ri, pe_rz, pe_rc, Cr_g7_3 hP hA, Cr_r6 hP hA, Cr_w8 hP hA, eq_true k1, eq_true k3, eq_true k4, hc]
        · rw [if_neg k4] at e
          obtain ⟨v2, k5, e⟩ := Option.bind_eq_some_iff.mp e
          try dsimp only at e
          have z5 := x323 (D := D) (h := h) hP hA (by omega) k5
          obtain ⟨v3, k6, e⟩ := Option.bind_eq_some_iff.mp e
          try dsimp only at e
          have z6 := x323 (D := D) (h := h) hP hA (by omega) k6
          by_cases k7 : v2 ≤ v3
          · rw [if_pos k7] at e
            have e := Option.some.inj e; subst e
            dsimp only [Sum.elim_inl, go322_5] at hc
            simp -implicitDefEqProofs (disch := first | assumption | exact Nat.le_of_ble_eq_true rfl | decide) only [b322_0, g322_6, b322_6, g322_7, b322_7, g322_8, b322_8, g322_9, b322_9, g322_10, b322_10, g322_11, b322_11, g322_12, b322_12, pe_sipush, pe_istore5, pe_goto_w, pe_iload5, pe_iload3, pe_icmp_ge, pe_istore6, pe_iload6, pe_iadd, pe_icmp_gt, pe_istore7, pe_iload7, pe_iload4, pe_istore8, pe_iload8, pe_call4, pm_af_ret, pm_af_void, pm_af_thr, pe_istore9, pe_istore10, pe_istore11, pe_iload11, pe_iload2, pe_aload1, pe_iload9, pe_baload, pe_ishr, pe_iand, pe_icmp_ne, pe_iload10, pe_icmp_eq, pe_aload0, pe_call3, pe_lcmp, pe_if_le, pe_iinc11, pe_goto, pe_getfield, pe_i2b, pe_bastore, pe_iinc8, pe_iinc7, pe_iinc6, pe_iinc5, pe_return, pm_prog_1, pm_ob_some, Nat.reduceDiv, Nat.reduceMod, Nat.reduceMul, Nat.reduceAdd, Int.reduceToNat, pm_kill_i, pm_kill_r, pm_kill_n, pm_kill_j, pm_kill_l, pm_kill_d, pm_cats_nil, pm_cats_i, pm_cats_r, pm_cats_n, pm_cats_l, pm_cats_d, sz_1, sz_2, sl_1, sl_2, lc_0, lc_lt, lc_le, li_ne, va_rf, wr_m1, we_m1, pm_kill_w, Int32.reduceOfInt, Int64.reduceOfInt, Int32.reduceOfNat, Int32.reduceLT, Int32.reduceLE, Prod.mk.injEq, Nat.reduceEqDiff, reduceCtorEq, and_true, true_and, and_false, false_and, and_self, ite_true, ite_false, ↓reduceIte, not_true_eq_false, not_false_eq_true, pe_ri, pe_rz, pe_rc, Cr_g7_3 hP hA, Cr_r6 hP hA, Cr_w8 hP hA, eq_true k1, eq_true k3, eq_false k4, z5, z6, eq_true k7, hc]
          · rw [if_neg k7] at e
            have e := Option.some.inj e; subst e
            dsimp only [Sum.elim_inl, go322_5] at hc
            simp -implicitDefEqProofs (disch := first | assumption | exact Nat.le_of_ble_eq_true rfl | decide) only [b322_0, g322_6, b322_6, g322_7, b322_7, g322_8, b322_8, g322_9, b322_9, g322_10, b322_10, g322_11, b322_11, g322_12, b322_12, pe_sipush, pe_istore5, pe_goto_w, pe_iload5, pe_iload3, pe_icmp_ge, pe_istore6, pe_iload6, pe_iadd, pe_icmp_gt, pe_istore7, pe_iload7, pe_iload4, pe_istore8, pe_iload8, pe_call4, pm_af_ret, pm_af_void, pm_af_thr, pe_istore9, pe_istore10, pe_istore11, pe_iload11, pe_iload2, pe_aload1, pe_iload9, pe_baload, pe_ishr, pe_iand, pe_icmp_ne, pe_iload10, pe_icmp_eq, pe_aload0, pe_call3, pe_lcmp, pe_if_le, pe_iinc11, pe_goto, pe_getfield, pe_i2b, pe_bastore, pe_iinc8, pe_iinc7, pe_iinc6, pe_iinc5, pe_return, pm_prog_1, pm_ob_some, Nat.reduceDiv, Nat.reduceMod, Nat.reduceMul, Nat.reduceAdd, Int.reduceToNat, pm_kill_i, pm_kill_r, pm_kill_n, pm_kill_j, pm_kill_l, pm_kill_d, pm_cats_nil, pm_cats_i, pm_cats_r, pm_cats_n, pm_cats_l, pm_cats_d, sz_1, sz_2, sl_1, sl_2, lc_0, lc_lt, lc_le, li_ne, va_rf, wr_m1, we_m1, pm_kill_w, Int32.reduceOfInt, Int64.reduceOfInt, Int32.reduceOfNat, Int32.reduceLT, Int32.reduceLE, Prod.mk.injEq, Nat.reduceEqDiff, reduceCtorEq, and_true, true_and, and_false, false_and, and_self, ite_true, ite_false, ↓reduceIte, not_true_eq_false, not_false_eq_true, pe_ri, pe_rz, pe_rc, Cr_g7_3 hP hA, Cr_r6 hP hA, Cr_w8 hP hA, eq_true k1, eq_true k3, eq_false k4, z5, z6, eq_false k7, hc]
      · rw [if_neg k3] at e
        have e := Option.some.inj e; subst e
        dsimp only [Sum.elim_inl, go322_5] at hc
        simp -implicitDefEqProofs (disch := first | assumption | exact Nat.le_of_ble_eq_true rfl | decide) only [b322_0, g322_6, b322_6, g322_7, b322_7, g322_8, b322_8, g322_9, b322_9, g322_10, b322_10, g322_11, b322_11, g322_12, b322_12, pe_sipush, pe_istore5, pe_goto_w, pe_iload5, pe_iload3, pe_icmp_ge, pe_istore6, pe_iload6, pe_iadd, pe_icmp_gt, pe_istore7, pe_iload7, pe_iload4, pe_istore8, pe_iload8, pe_call4, pm_af_ret, pm_af_void, pm_af_thr, pe_istore9, pe_istore10, pe_istore11, pe_iload11, pe_iload2, pe_aload1, pe_iload9, pe_baload, pe_ishr, pe_iand, pe_icmp_ne, pe_iload10, pe_icmp_eq, pe_aload0, pe_call3, pe_lcmp, pe_if_le, pe_iinc11, pe_goto, pe_getfield, pe_i2b, pe_bastore, pe_iinc8, pe_iinc7, pe_iinc6, pe_iinc5, pe_return, pm_prog_1, pm_ob_some, Nat.reduceDiv, Nat.reduceMod, Nat.reduceMul, Nat.reduceAdd, Int.reduceToNat, pm_kill_i, pm_kill_r, pm_kill_n, pm_kill_j, pm_kill_l, pm_kill_d, pm_cats_nil, pm_cats_i, pm_cats_r, pm_cats_n, pm_cats_l, pm_cats_d, sz_1, sz_2, sl_1, sl_2, lc_0, lc_lt, lc_le, li_ne, va_rf, wr_m1, we_m1, pm_kill_w, Int32.reduceOfInt, Int64.reduceOfInt, Int32.reduceOfNat, Int32.reduceLT, Int32.reduceLE, Prod.mk.injEq, Nat.reduceEqDiff, reduceCtorEq, and_true, true_and, and_false, false_and, and_self, ite_true, ite_false, ↓reduceIte, not_true_eq_false, not_false_eq_true, pe_ri, pe_rz, pe_rc, Cr_g7_3 hP hA, Cr_r6 hP hA, Cr_w8 hP hA, eq_true k1, eq_false k3, hc]
    · rw [if_neg k2] at e; cases e
  · rw [if_neg k1] at e
    have e := Option.some.inj e; subst e
    dsimp only [Sum.elim_inr, ex322_5] at hc
    simp -implicitDefEqProofs (disch := first | assumption | exact Nat.le_of_ble_eq_true rfl | decide) only [b322_0, g322_6, b322_6, g322_7, b322_7, g322_8, b322_8, g322_9, b322_9, g322_10, b322_10, g322_11, b322_11, g322_12, b322_12, pe_sipush, pe_istore5, pe_goto_w, pe_iload5, pe_iload3, pe_icmp_ge, pe_istore6, pe_iload6, pe_iadd, pe_icmp_gt, pe_istore7, pe_iload7, pe_iload4, pe_istore8, pe_iload8, pe_call4, pm_af_ret, pm_af_void, pm_af_thr, pe_istore9, pe_istore10, pe_istore11, pe_iload11, pe_iload2, pe_aload1, pe_iload9, pe_baload, pe_ishr, pe_iand, pe_icmp_ne, pe_iload10, pe_icmp_eq, pe_aload0, pe_call3, pe_lcmp, pe_if_le, pe_iinc11, pe_goto, pe_getfield, pe_i2b, pe_bastore, pe_iinc8, pe_iinc7, pe_iinc6, pe_iinc5, pe_return, pm_prog_1, pm_ob_some, Nat.reduceDiv, Nat.reduceMod, Nat.reduceMul, Nat.reduceAdd, Int.reduceToNat, pm_kill_i, pm_kill_r, pm_kill_n, pm_kill_j, pm_kill_l, pm_kill_d, pm_cats_nil, pm_cats_i, pm_cats_r, pm_cats_n, pm_cats_l, pm_cats_d, sz_1, sz_2, sl_1, sl_2, lc_0, lc_lt, lc_le, li_ne, va_rf, wr_m1, we_m1, pm_kill_w, Int32.reduceOfInt, Int64.reduceOfInt, Int32.reduceOfNat, Int32.reduceLT, Int32.reduceLE, Prod.mk.injEq, Nat.reduceEqDiff, reduceCtorEq, and_true, true_and, and_false, false_and, and_self, ite_true, ite_false, ↓reduceIte, not_true_eq_false, not_false_eq_true, pe_ri, pe_rz, pe_rc, Cr_g7_3 hP hA, Cr_r6 hP hA, Cr_w8 hP hA, eq_false k1, hc]
theorem z322_5 {fc : Int32} {pc : Int32} {A : wK → Nat} {h : pm_H} {D : Nat} {R : Outcome × pm_H} {S : wS} (hP : Cr_P fc pc) (hA : wok A (Cr_d fc pc) h.1) (hD : 1 ≤ D) {n : Nat} {a : Int32 × Int32 × Int32 × Int32 × Int32 × Int32 × Int32 × Int32 × Int32 × Int32} {b : (Int32 × Int32 × Int32 × Int32 × Int32 × Int32 × Int32 × Int32 × Int32)} (e : lp (f322_b5 fc pc S) n a = some b) (hx : ex322_5 fc pc A h D R S b) : go322_5 fc pc A h D R S a := lp_run (fun a r => y322_b5 hP hA hD a r) n a b e hx
def go322_4 (fc : Int32) (pc : Int32) (A : wK → Nat) (h : pm_H) (D : Nat) (R : Outcome × pm_H) : Int32 × Int32 × Int32 × Int32 × Int32 × Int32 × Int32 × wS → Prop := fun (x2, x3, x4, x5, x6, x7, x8, S) => ∀ q9 q10 q11 : Value, pm_go pm_prog (pm_call pm_prog D) 322 4 [.ref (A (7, 0, 0)), .ref (A (6, 0, 0)), .int x2, .int x3, .int x4, .int x5, .int x6, .int x7, .int x8, q9, q10, q11] [] (wput A (Cr_d fc pc) S h) = some R
def ex322_4 (fc : Int32) (pc : Int32) (A : wK → Nat) (h : pm_H) (D : Nat) (R : Outcome × pm_H) : (Int32 × Int32 × Int32 × Int32 × Int32 × Int32 × wS) → Prop := fun (x2, x3, x4, x5, x6, x7, S) => ∀ q8 q9 q10 q11 : Value, pm_go pm_prog (pm_call pm_prog D) 322 9 [.ref (A (7, 0, 0)), .ref (A (6, 0, 0)), .int x2, .int x3, .int x4, .int x5, .int x6, .int x7, q8, q9, q10, q11] [] (wput A (Cr_d fc pc) S h) = some R
theorem y322_b4 {fc : Int32} {pc : Int32} {A : wK → Nat} {h : pm_H} {D : Nat} {R : Outcome × pm_H} (hP : Cr_P fc pc) (hA : wok A (Cr_d fc pc) h.1) (hD : 1 ≤ D) (a : Int32 × Int32 × Int32 × Int32 × Int32 × Int32 × Int32 × wS) (r : (Int32 × Int32 × Int32 × Int32 × Int32 × Int32 × Int32 × wS) ⊕ ((Int32 × Int32 × Int32 × Int32 × Int32 × Int32 × wS))) (e : f322_b4 fc pc a = some r) (hc : Sum.elim (go322_4 fc pc A h D R) (ex322_4 fc pc A h D R) r) : go322_4 fc pc A h D R a := by
  obtain ⟨x2, x3, x4, x5, x6, x7, x8, S⟩ := a
  dsimp only [go322_4]
  intro q9 q10 q11
  simp only [f322_b4] at e
  rw [g322_4, b322_4]
  by_cases k1 : (x7 + x8) ≤ x4
  · rw [if_pos k1] at e
    obtain ⟨v1, k2, e⟩ := Option.bind_eq_some_iff.mp e
    try dsimp only at e
    have z2 := fun h => x321 (D := D) (h := h) (by omega) k2
    obtain ⟨⟨v6, v7, v8, v9, v10, v11, v12, v13, v14⟩, k3, e⟩ := Option.bind_eq_some_iff.mp e
    try dsimp only at e
    try simp -implicitDefEqProofs (disch := first | assumption | exact Nat.le_of_ble_eq_true rfl | decide) only [b322_0, g322_6, b322_6, g322_7, b322_7, g322_8, b322_8, g322_9, b322_9, g322_10, b322_10, g322_11, b322_11, g322_12, b322_12, pe_sipush, pe_istore5, pe_goto_w, pe_iload5, pe_iload3, pe_icmp_ge, pe_istore6, pe_iload6, pe_iadd, pe_icmp_gt, pe_istore7, pe_iload7, pe_iload4, pe_istore8, pe_iload8, pe_call4, pm_af_ret, pm_af_void, pm_af_thr, pe_istore9, pe_istore10, pe_istore11, pe_iload11, pe_iload2, pe_aload1, pe_iload9, pe_baload, pe_ishr, pe_iand, pe_icmp_ne, pe_iload10, pe_icmp_eq, pe_aload0, pe_call3, pe_lcmp, pe_if_le, pe_iinc11, pe_goto, pe_getfield, pe_i2b, pe_bastore, pe_iinc8, pe_iinc7, pe_iinc6, pe_iinc5, pe_return, pm_prog_1, pm_ob_some, Nat.reduceDiv, Nat.reduceMod, Nat.reduceMul, Nat.reduceAdd, Int.reduceToNat, pm_kill_i, pm_kill_r, pm_kill_n, pm_kill_j, pm_kill_l, pm_kill_d, pm_cats_nil, pm_cats_i, pm_cats_r, pm_cats_n, pm_cats_l, pm_cats_d, sz_1, sz_2, sl_1, sl_2, lc_0, lc_lt, lc_le, li_ne, va_rf, wr_m1, we_m1, pm_kill_w, Int32.reduceOfInt, Int64.reduceOfInt, Int32.reduceOfNat, Int32.reduceLT, Int32.reduceLE, Prod.mk.injEq, Nat.reduceEqDiff, reduceCtorEq, and_true, true_and, and_false, false_and, and_self, ite_true, ite_false, ↓reduceIte, not_true_eq_false, not_false_eq_true, pe_ri, pe_rz, pe_rc, Cr_g7_3 hP hA, Cr_r6 hP hA, Cr_w8 hP hA, eq_true k1, z2]
    refine z322_5 hP hA hD k3 ?_
    dsimp only [ex322_5]
    intro q11
    by_cases k4 : 0 ≤ v13 ∧ v13 < 75625
    · rw [if_pos k4] at e
      have e := Option.some.inj e; subst e
      dsimp only [Sum.elim_inl, go322_4] at hc
      simp -implicitDefEqProofs (disch := first | assumption | exact Nat.le_of_ble_eq_true rfl | decide) only [b322_0, g322_6, b322_6, g322_7, b322_7, g322_8, b322_8, g322_9, b322_9, g322_10, b322_10, g322_11, b322_11, g322_12, b322_12, pe_sipush, pe_istore5, pe_goto_w, pe_iload5, pe_iload3, pe_icmp_ge, pe_istore6, pe_iload6, pe_iadd, pe_icmp_gt, pe_istore7, pe_iload7, pe_iload4, pe_istore8, pe_iload8, pe_call4, pm_af_ret, pm_af_void, pm_af_thr, pe_istore9, pe_istore10, pe_istore11, pe_iload11, pe_iload2, pe_aload1, pe_iload9, pe_baload, pe_ishr, pe_iand, pe_icmp_ne, pe_iload10, pe_icmp_eq, pe_aload0, pe_call3, pe_lcmp, pe_if_le, pe_iinc11, pe_goto, pe_getfield, pe_i2b, pe_bastore, pe_iinc8, pe_iinc7, pe_iinc6, pe_iinc5, pe_return, pm_prog_1, pm_ob_some, Nat.reduceDiv, Nat.reduceMod, Nat.reduceMul, Nat.reduceAdd, Int.reduceToNat, pm_kill_i, pm_kill_r, pm_kill_n, pm_kill_j, pm_kill_l, pm_kill_d, pm_cats_nil, pm_cats_i, pm_cats_r, pm_cats_n, pm_cats_l, pm_cats_d, sz_1, sz_2, sl_1, sl_2, lc_0, lc_lt, lc_le, li_ne, va_rf, wr_m1, we_m1, pm_kill_w, Int32.reduceOfInt, Int64.reduceOfInt, Int32.reduceOfNat, Int32.reduceLT, Int32.reduceLE, Prod.mk.injEq, Nat.reduceEqDiff, reduceCtorEq, and_true, true_and, and_false, false_and, and_self, ite_true, ite_false, ↓reduceIte, not_true_eq_false, not_false_eq_true, pe_ri, pe_rz, pe_rc, Cr_g7_3 hP hA, Cr_r6 hP hA, Cr_w8 hP hA, eq_true k1, z2, hc]
    · rw [if_neg k4] at e; cases e
  · rw [if_neg k1] at e
    have e := Option.some.inj e; subst e
    dsimp only [Sum.elim_inr, ex322_4] at hc
    simp -implicitDefEqProofs (disch := first | assumption | exact Nat.le_of_ble_eq_true rfl | decide) only [b322_0, g322_6, b322_6, g322_7, b322_7, g322_8, b322_8, g322_9, b322_9, g322_10, b322_10, g322_11, b322_11, g322_12, b322_12, pe_sipush, pe_istore5, pe_goto_w, pe_iload5, pe_iload3, pe_icmp_ge, pe_istore6, pe_iload6, pe_iadd, pe_icmp_gt, pe_istore7, pe_iload7, pe_iload4, pe_istore8, pe_iload8, pe_call4, pm_af_ret, pm_af_void, pm_af_thr, pe_istore9, pe_istore10, pe_istore11, pe_iload11, pe_iload2, pe_aload1, pe_iload9, pe_baload, pe_ishr, pe_iand, pe_icmp_ne, pe_iload10, pe_icmp_eq, pe_aload0, pe_call3, pe_lcmp, pe_if_le, pe_iinc11, pe_goto, pe_getfield, pe_i2b, pe_bastore, pe_iinc8, pe_iinc7, pe_iinc6, pe_iinc5, pe_return, pm_prog_1, pm_ob_some, Nat.reduceDiv, Nat.reduceMod, Nat.reduceMul, Nat.reduceAdd, Int.reduceToNat, pm_kill_i, pm_kill_r, pm_kill_n, pm_kill_j, pm_kill_l, pm_kill_d, pm_cats_nil, pm_cats_i, pm_cats_r, pm_cats_n, pm_cats_l, pm_cats_d, sz_1, sz_2, sl_1, sl_2, lc_0, lc_lt, lc_le, li_ne, va_rf, wr_m1, we_m1, pm_kill_w, Int32.reduceOfInt, Int64.reduceOfInt, Int32.reduceOfNat, Int32.reduceLT, Int32.reduceLE, Prod.mk.injEq, Nat.reduceEqDiff, reduceCtorEq, and_true, true_and, and_false, false_and, and_self, ite_true, ite_false, ↓reduceIte, not_true_eq_false, not_false_eq_true, pe_ri, pe_rz, pe_rc, Cr_g7_3 hP hA, Cr_r6 hP hA, Cr_w8 hP hA, eq_false k1, hc]
theorem z322_4 {fc : Int32} {pc : Int32} {A : wK → Nat} {h : pm_H} {D : Nat} {R : Outcome × pm_H} (hP : Cr_P fc pc) (hA : wok A (Cr_d fc pc) h.1) (hD : 1 ≤ D) {n : Nat} {a : Int32 × Int32 × Int32 × Int32 × Int32 × Int32 × Int32 × wS} {b : (Int32 × Int32 × Int32 × Int32 × Int32 × Int32 × wS)} (e : lp (f322_b4 fc pc) n a = some b) (hx : ex322_4 fc pc A h D R b) : go322_4 fc pc A h D R a := lp_run (fun a r => y322_b4 hP hA hD a r) n a b e hx
def go322_3 (fc : Int32) (pc : Int32) (A : wK → Nat) (h : pm_H) (D : Nat) (R : Outcome × pm_H) : Int32 × Int32 × Int32 × Int32 × Int32 × Int32 × wS → Prop := fun (x2, x3, x4, x5, x6, x7, S) => ∀ q8 q9 q10 q11 : Value, pm_go pm_prog (pm_call pm_prog D) 322 3 [.ref (A (7, 0, 0)), .ref (A (6, 0, 0)), .int x2, .int x3, .int x4, .int x5, .int x6, .int x7, q8, q9, q10, q11] [] (wput A (Cr_d fc pc) S h) = some R
def ex322_3 (fc : Int32) (pc : Int32) (A : wK → Nat) (h : pm_H) (D : Nat) (R : Outcome × pm_H) : (Int32 × Int32 × Int32 × Int32 × Int32 × wS) → Prop := fun (x2, x3, x4, x5, x6, S) => ∀ q7 q8 q9 q10 q11 : Value, pm_go pm_prog (pm_call pm_prog D) 322 10 [.ref (A (7, 0, 0)), .ref (A (6, 0, 0)), .int x2, .int x3, .int x4, .int x5, .int x6, q7, q8, q9, q10, q11] [] (wput A (Cr_d fc pc) S h) = some R
theorem y322_b3 {fc : Int32} {pc : Int32} {A : wK → Nat} {h : pm_H} {D : Nat} {R : Outcome × pm_H} (hP : Cr_P fc pc) (hA : wok A (Cr_d fc pc) h.1) (hD : 1 ≤ D) (a : Int32 × Int32 × Int32 × Int32 × Int32 × Int32 × wS) (r : (Int32 × Int32 × Int32 × Int32 × Int32 × Int32 × wS) ⊕ ((Int32 × Int32 × Int32 × Int32 × Int32 × wS))) (e : f322_b3 fc pc a = some r) (hc : Sum.elim (go322_3 fc pc A h D R) (ex322_3 fc pc A h D R) r) : go322_3 fc pc A h D R a := by
  obtain ⟨x2, x3, x4, x5, x6, x7, S⟩ := a
  dsimp only [go322_3]
  intro q8 q9 q10 q11
  simp only [f322_b3] at e
  rw [g322_3, b322_3]
  by_cases k1 : x7 < x4
  · rw [if_pos k1] at e
    obtain ⟨⟨v18, v19, v20, v21, v22, v23, S15⟩, k2, e⟩ := Option.bind_eq_some_iff.mp e
    try dsimp only at e
    try simp -implicitDefEqProofs (disch := first | assumption | exact Nat.le_of_ble_eq_true rfl | decide) only [b322_0, g322_6, b322_6, g322_7, b322_7, g322_8, b322_8, g322_9, b322_9, g322_10, b322_10, g322_11, b322_11, g322_12, b322_12, pe_sipush, pe_istore5, pe_goto_w, pe_iload5, pe_iload3, pe_icmp_ge, pe_istore6, pe_iload6, pe_iadd, pe_icmp_gt, pe_istore7, pe_iload7, pe_iload4, pe_istore8, pe_iload8, pe_call4, pm_af_ret, pm_af_void, pm_af_thr, pe_istore9, pe_istore10, pe_istore11, pe_iload11, pe_iload2, pe_aload1, pe_iload9, pe_baload, pe_ishr, pe_iand, pe_icmp_ne, pe_iload10, pe_icmp_eq, pe_aload0, pe_call3, pe_lcmp, pe_if_le, pe_iinc11, pe_goto, pe_getfield, pe_i2b, pe_bastore, pe_iinc8, pe_iinc7, pe_iinc6, pe_iinc5, pe_return, pm_prog_1, pm_ob_some, Nat.reduceDiv, Nat.reduceMod, Nat.reduceMul, Nat.reduceAdd, Int.reduceToNat, pm_kill_i, pm_kill_r, pm_kill_n, pm_kill_j, pm_kill_l, pm_kill_d, pm_cats_nil, pm_cats_i, pm_cats_r, pm_cats_n, pm_cats_l, pm_cats_d, sz_1, sz_2, sl_1, sl_2, lc_0, lc_lt, lc_le, li_ne, va_rf, wr_m1, we_m1, pm_kill_w, Int32.reduceOfInt, Int64.reduceOfInt, Int32.reduceOfNat, Int32.reduceLT, Int32.reduceLE, Prod.mk.injEq, Nat.reduceEqDiff, reduceCtorEq, and_true, true_and, and_false, false_and, and_self, ite_true, ite_false, ↓reduceIte, not_true_eq_false, not_false_eq_true, pe_ri, pe_rz, pe_rc, Cr_g7_3 hP hA, Cr_r6 hP hA, Cr_w8 hP hA, eq_true k1]
    refine z322_4 hP hA hD k2 ?_ _ _ _
    dsimp only [ex322_4]
    intro q8 q9 q10 q11
    have e := Option.some.inj e; subst e
    dsimp only [Sum.elim_inl, go322_3] at hc
    simp -implicitDefEqProofs (disch := first | assumption | exact Nat.le_of_ble_eq_true rfl | decide) only [b322_0, g322_6, b322_6, g322_7, b322_7, g322_8, b322_8, g322_9, b322_9, g322_10, b322_10, g322_11, b322_11, g322_12, b322_12, pe_sipush, pe_istore5, pe_goto_w, pe_iload5, pe_iload3, pe_icmp_ge, pe_istore6, pe_iload6, pe_iadd, pe_icmp_gt, pe_istore7, pe_iload7, pe_iload4, pe_istore8, pe_iload8, pe_call4, pm_af_ret, pm_af_void, pm_af_thr, pe_istore9, pe_istore10, pe_istore11, pe_iload11, pe_iload2, pe_aload1, pe_iload9, pe_baload, pe_ishr, pe_iand, pe_icmp_ne, pe_iload10, pe_icmp_eq, pe_aload0, pe_call3, pe_lcmp, pe_if_le, pe_iinc11, pe_goto, pe_getfield, pe_i2b, pe_bastore, pe_iinc8, pe_iinc7, pe_iinc6, pe_iinc5, pe_return, pm_prog_1, pm_ob_some, Nat.reduceDiv, Nat.reduceMod, Nat.reduceMul, Nat.reduceAdd, Int.reduceToNat, pm_kill_i, pm_kill_r, pm_kill_n, pm_kill_j, pm_kill_l, pm_kill_d, pm_cats_nil, pm_cats_i, pm_cats_r, pm_cats_n, pm_cats_l, pm_cats_d, sz_1, sz_2, sl_1, sl_2, lc_0, lc_lt, lc_le, li_ne, va_rf, wr_m1, we_m1, pm_kill_w, Int32.reduceOfInt, Int64.reduceOfInt, Int32.reduceOfNat, Int32.reduceLT, Int32.reduceLE, Prod.mk.injEq, Nat.reduceEqDiff, reduceCtorEq, and_true, true_and, and_false, false_and, and_self, ite_true, ite_false, ↓reduceIte, not_true_eq_false, not_false_eq_true, pe_ri, pe_rz, pe_rc, Cr_g7_3 hP hA, Cr_r6 hP hA, Cr_w8 hP hA, eq_true k1, hc]
  · rw [if_neg k1] at e
    have e := Option.some.inj e; subst e
    dsimp only [Sum.elim_inr, ex322_3] at hc
    simp -implicitDefEqProofs (disch := first | assumption | exact Nat.le_of_ble_eq_true rfl | decide) only [b322_0, g322_6, b322_6, g322_7, b322_7, g322_8, b322_8, g322_9, b322_9, g322_10, b322_10, g322_11, b322_11, g322_12, b322_12, pe_sipush, pe_istore5, pe_goto_w, pe_iload5, pe_iload3, pe_icmp_ge, pe_istore6, pe_iload6, pe_iadd, pe_icmp_gt, pe_istore7, pe_iload7, pe_iload4, pe_istore8, pe_iload8, pe_call4, pm_af_ret, pm_af_void, pm_af_thr, pe_istore9, pe_istore10, pe_istore11, pe_iload11, pe_iload2, pe_aload1, pe_iload9, pe_baload, pe_ishr, pe_iand, pe_icmp_ne, pe_iload10, pe_icmp_eq, pe_aload0, pe_call3, pe_lcmp, pe_if_le, pe_iinc11, pe_goto, pe_getfield, pe_i2b, pe_bastore, pe_iinc8, pe_iinc7, pe_iinc6, pe_iinc5, pe_return, pm_prog_1, pm_ob_some, Nat.reduceDiv, Nat.reduceMod, Nat.reduceMul, Nat.reduceAdd, Int.reduceToNat, pm_kill_i, pm_kill_r, pm_kill_n, pm_kill_j, pm_kill_l, pm_kill_d, pm_cats_nil, pm_cats_i, pm_cats_r, pm_cats_n, pm_cats_l, pm_cats_d, sz_1, sz_2, sl_1, sl_2, lc_0, lc_lt, lc_le, li_ne, va_rf, wr_m1, we_m1, pm_kill_w, Int32.reduceOfInt, Int64.reduceOfInt, Int32.reduceOfNat, Int32.reduceLT, Int32.reduceLE, Prod.mk.injEq, Nat.reduceEqDiff, reduceCtorEq, and_true, true_and, and_false, false_and, and_self, ite_true, ite_false, ↓reduceIte, not_true_eq_false, not_false_eq_true, pe_ri, pe_rz, pe_rc, Cr_g7_3 hP hA, Cr_r6 hP hA, Cr_w8 hP hA, eq_false k1, hc]
theorem z322_3 {fc : Int32} {pc : Int32} {A : wK → Nat} {h : pm_H} {D : Nat} {R : Outcome × pm_H} (hP : Cr_P fc pc) (hA : wok A (Cr_d fc pc) h.1) (hD : 1 ≤ D) {n : Nat} {a : Int32 × Int32 × Int32 × Int32 × Int32 × Int32 × wS} {b : (Int32 × Int32 × Int32 × Int32 × Int32 × wS)} (e : lp (f322_b3 fc pc) n a = some b) (hx : ex322_3 fc pc A h D R b) : go322_3 fc pc A h D R a := lp_run (fun a r => y322_b3 hP hA hD a r) n a b e hx
def go322_2 (fc : Int32) (pc : Int32) (A : wK → Nat) (h : pm_H) (D : Nat) (R : Outcome × pm_H) : Int32 × Int32 × Int32 × Int32 × Int32 × wS → Prop := fun (x2, x3, x4, x5, x6, S) => ∀ q7 q8 q9 q10 q11 : Value, pm_go pm_prog (pm_call pm_prog D) 322 2 [.ref (A (7, 0, 0)), .ref (A (6, 0, 0)), .int x2, .int x3, .int x4, .int x5, .int x6, q7, q8, q9, q10, q11] [] (wput A (Cr_d fc pc) S h) = some R
def ex322_2 (fc : Int32) (pc : Int32) (A : wK → Nat) (h : pm_H) (D : Nat) (R : Outcome × pm_H) : (Int32 × Int32 × Int32 × Int32 × wS) → Prop := fun (x2, x3, x4, x5, S) => ∀ q6 q7 q8 q9 q10 q11 : Value, pm_go pm_prog (pm_call pm_prog D) 322 11 [.ref (A (7, 0, 0)), .ref (A (6, 0, 0)), .int x2, .int x3, .int x4, .int x5, q6, q7, q8, q9, q10, q11] [] (wput A (Cr_d fc pc) S h) = some R
theorem y322_b2 {fc : Int32} {pc : Int32} {A : wK → Nat} {h : pm_H} {D : Nat} {R : Outcome × pm_H} (hP : Cr_P fc pc) (hA : wok A (Cr_d fc pc) h.1) (hD : 1 ≤ D) (a : Int32 × Int32 × Int32 × Int32 × Int32 × wS) (r : (Int32 × Int32 × Int32 × Int32 × Int32 × wS) ⊕ ((Int32 × Int32 × Int32 × Int32 × wS))) (e : f322_b2 fc pc a = some r) (hc : Sum.elim (go322_2 fc pc A h D R) (ex322_2 fc pc A h D R) r) : go322_2 fc pc A h D R a := by
  obtain ⟨x2, x3, x4, x5, x6, S⟩ := a
  dsimp only [go322_2]
  intro q7 q8 q9 q10 q11
  simp only [f322_b2] at e
  rw [g322_2, b322_2]
  by_cases k1 : (x5 + x6) ≤ x3
  · rw [if_pos k1] at e
    obtain ⟨⟨v27, v28, v29, v30, v31, S24⟩, k2, e⟩ := Option.bind_eq_some_iff.mp e
    try dsimp only at e
    try simp -implicitDefEqProofs (disch := first | assumption | exact Nat.le_of_ble_eq_true rfl | decide) only [b322_0, g322_6, b322_6, g322_7, b322_7, g322_8, b322_8, g322_9, b322_9, g322_10, b322_10, g322_11, b322_11, g322_12, b322_12, pe_sipush, pe_istore5, pe_goto_w, pe_iload5, pe_iload3, pe_icmp_ge, pe_istore6, pe_iload6, pe_iadd, pe_icmp_gt, pe_istore7, pe_iload7, pe_iload4, pe_istore8, pe_iload8, pe_call4, pm_af_ret, pm_af_void, pm_af_thr, pe_istore9, pe_istore10, pe_istore11, pe_iload11, pe_iload2, pe_aload1, pe_iload9, pe_baload, pe_ishr, pe_iand, pe_icmp_ne, pe_iload10, pe_icmp_eq, pe_aload0, pe_call3, pe_lcmp, pe_if_le, pe_iinc11, pe_goto, pe_getfield, pe_i2b, pe_bastore, pe_iinc8, pe_iinc7, pe_iinc6, pe_iinc5, pe_return, pm_prog_1, pm_ob_some, Nat.reduceDiv, Nat.reduceMod, Nat.reduceMul, Nat.reduceAdd, Int.reduceToNat, pm_kill_i, pm_kill_r, pm_kill_n, pm_kill_j, pm_kill_l, pm_kill_d, pm_cats_nil, pm_cats_i, pm_cats_r, pm_cats_n, pm_cats_l, pm_cats_d, sz_1, sz_2, sl_1, sl_2, lc_0, lc_lt, lc_le, li_ne, va_rf, wr_m1, we_m1, pm_kill_w, Int32.reduceOfInt, Int64.reduceOfInt, Int32.reduceOfNat, Int32.reduceLT, Int32.reduceLE, Prod.mk.injEq, Nat.reduceEqDiff, reduceCtorEq, and_true, true_and, and_false, false_and, and_self, ite_true, ite_false, ↓reduceIte, not_true_eq_false, not_false_eq_true, pe_ri, pe_rz, pe_rc, Cr_g7_3 hP hA, Cr_r6 hP hA, Cr_w8 hP hA, eq_true k1]
    refine z322_3 hP hA hD k2 ?_ _ _ _ _
    dsimp only [ex322_3]
    intro q7 q8 q9 q10 q11
    have e := Option.some.inj e; subst e
    dsimp only [Sum.elim_inl, go322_2] at hc
    simp -implicitDefEqProofs (disch := first | assumption | exact Nat.le_of_ble_eq_true rfl | decide) only [b322_0, g322_6, b322_6, g322_7, b322_7, g322_8, b322_8, g322_9, b322_9, g322_10, b322_10, g322_11, b322_11, g322_12, b322_12, pe_sipush, pe_istore5, pe_goto_w, pe_iload5, pe_iload3, pe_icmp_ge, pe_istore6, pe_iload6, pe_iadd, pe_icmp_gt, pe_istore7, pe_iload7, pe_iload4, pe_istore8, pe_iload8, pe_call4, pm_af_ret, pm_af_void, pm_af_thr, pe_istore9, pe_istore10, pe_istore11, pe_iload11, pe_iload2, pe_aload1, pe_iload9, pe_baload, pe_ishr, pe_iand, pe_icmp_ne, pe_iload10, pe_icmp_eq, pe_aload0, pe_call3, pe_lcmp, pe_if_le, pe_iinc11, pe_goto, pe_getfield, pe_i2b, pe_bastore, pe_iinc8, pe_iinc7, pe_iinc6, pe_iinc5, pe_return, pm_prog_1, pm_ob_some, Nat.reduceDiv, Nat.reduceMod, Nat.reduceMul, Nat.reduceAdd, Int.reduceToNat, pm_kill_i, pm_kill_r, pm_kill_n, pm_kill_j, pm_kill_l, pm_kill_d, pm_cats_nil, pm_cats_i, pm_cats_r, pm_cats_n, pm_cats_l, pm_cats_d, sz_1, sz_2, sl_1, sl_2, lc_0, lc_lt, lc_le, li_ne, va_rf, wr_m1, we_m1, pm_kill_w, Int32.reduceOfInt, Int64.reduceOfInt, Int32.reduceOfNat, Int32.reduceLT, Int32.reduceLE, Prod.mk.injEq, Nat.reduceEqDiff, reduceCtorEq, and_true, true_and, and_false, false_and, and_self, ite_true, ite_false, ↓reduceIte, not_true_eq_false, not_false_eq_true, pe_ri, pe_rz, pe_rc, Cr_g7_3 hP hA, Cr_r6 hP hA, Cr_w8 hP hA, eq_true k1, hc]
  · rw [if_neg k1] at e
    have e := Option.some.inj e; subst e
    dsimp only [Sum.elim_inr, ex322_2] at hc
    simp -implicitDefEqProofs (disch := first | assumption | exact Nat.le_of_ble_eq_true rfl | decide) only [b322_0, g322_6, b322_6, g322_7, b322_7, g322_8, b322_8, g322_9, b322_9, g322_10, b322_10, g322_11, b322_11, g322_12, b322_12, pe_sipush, pe_istore5, pe_goto_w, pe_iload5, pe_iload3, pe_icmp_ge, pe_istore6, pe_iload6, pe_iadd, pe_icmp_gt, pe_istore7, pe_iload7, pe_iload4, pe_istore8, pe_iload8, pe_call4, pm_af_ret, pm_af_void, pm_af_thr, pe_istore9, pe_istore10, pe_istore11, pe_iload11, pe_iload2, pe_aload1, pe_iload9, pe_baload, pe_ishr, pe_iand, pe_icmp_ne, pe_iload10, pe_icmp_eq, pe_aload0, pe_call3, pe_lcmp, pe_if_le, pe_iinc11, pe_goto, pe_getfield, pe_i2b, pe_bastore, pe_iinc8, pe_iinc7, pe_iinc6, pe_iinc5, pe_return, pm_prog_1, pm_ob_some, Nat.reduceDiv, Nat.reduceMod, Nat.reduceMul, Nat.reduceAdd, Int.reduceToNat, pm_kill_i, pm_kill_r, pm_kill_n, pm_kill_j, pm_kill_l, pm_kill_d, pm_cats_nil, pm_cats_i, pm_cats_r, pm_cats_n, pm_cats_l, pm_cats_d, sz_1, sz_2, sl_1, sl_2, lc_0, lc_lt, lc_le, li_ne, va_rf, wr_m1, we_m1, pm_kill_w, Int32.reduceOfInt, Int64.reduceOfInt, Int32.reduceOfNat, Int32.reduceLT, Int32.reduceLE, Prod.mk.injEq, Nat.reduceEqDiff, reduceCtorEq, and_true, true_and, and_false, false_and, and_self, ite_true, ite_false, ↓reduceIte, not_true_eq_false, not_false_eq_true, pe_ri, pe_rz, pe_rc, Cr_g7_3 hP hA, Cr_r6 hP hA, Cr_w8 hP hA, eq_false k1, hc]
theorem z322_2 {fc : Int32} {pc : Int32} {A : wK → Nat} {h : pm_H} {D : Nat} {R : Outcome × pm_H} (hP : Cr_P fc pc) (hA : wok A (Cr_d fc pc) h.1) (hD : 1 ≤ D) {n : Nat} {a : Int32 × Int32 × Int32 × Int32 × Int32 × wS} {b : (Int32 × Int32 × Int32 × Int32 × wS)} (e : lp (f322_b2 fc pc) n a = some b) (hx : ex322_2 fc pc A h D R b) : go322_2 fc pc A h D R a := lp_run (fun a r => y322_b2 hP hA hD a r) n a b e hx
def go322_1 (fc : Int32) (pc : Int32) (A : wK → Nat) (h : pm_H) (D : Nat) (R : Outcome × pm_H) : Int32 × Int32 × Int32 × Int32 × wS → Prop := fun (x2, x3, x4, x5, S) => ∀ q6 q7 q8 q9 q10 q11 : Value, pm_go pm_prog (pm_call pm_prog D) 322 1 [.ref (A (7, 0, 0)), .ref (A (6, 0, 0)), .int x2, .int x3, .int x4, .int x5, q6, q7, q8, q9, q10, q11] [] (wput A (Cr_d fc pc) S h) = some R
def ex322_1 (fc : Int32) (pc : Int32) (A : wK → Nat) (h : pm_H) (D : Nat) (R : Outcome × pm_H) : (wS) → Prop := fun S => ∀ q0 q1 q2 q3 q4 q5 q6 q7 q8 q9 q10 q11 : Value, pm_go pm_prog (pm_call pm_prog D) 322 12 [q0, q1, q2, q3, q4, q5, q6, q7, q8, q9, q10, q11] [] (wput A (Cr_d fc pc) S h) = some R
theorem y322_b1 {fc : Int32} {pc : Int32} {A : wK → Nat} {h : pm_H} {D : Nat} {R : Outcome × pm_H} (hP : Cr_P fc pc) (hA : wok A (Cr_d fc pc) h.1) (hD : 1 ≤ D) (a : Int32 × Int32 × Int32 × Int32 × wS) (r : (Int32 × Int32 × Int32 × Int32 × wS) ⊕ ((wS))) (e : f322_b1 fc pc a = some r) (hc : Sum.elim (go322_1 fc pc A h D R) (ex322_1 fc pc A h D R) r) : go322_1 fc pc A h D R a := by
  obtain ⟨x2, x3, x4, x5, S⟩ := a
  dsimp only [go322_1]
  intro q6 q7 q8 q9 q10 q11
  simp only [f322_b1] at e
  rw [g322_1, b322_1]
  by_cases k1 : x5 < x3
  · rw [if_pos k1] at e
    obtain ⟨⟨v35, v36, v37, v38, S32⟩, k2, e⟩ := Option.bind_eq_some_iff.mp e
    try dsimp only at e
    try simp -implicitDefEqProofs (disch := first | assumption | exact Nat.le_of_ble_eq_true rfl | decide) only [b322_0, g322_6, b322_6, g322_7, b322_7, g322_8, b322_8, g322_9, b322_9, g322_10, b322_10, g322_11, b322_11, g322_12, b322_12, pe_sipush, pe_istore5, pe_goto_w, pe_iload5, pe_iload3, pe_icmp_ge, pe_istore6, pe_iload6, pe_iadd, pe_icmp_gt, pe_istore7, pe_iload7, pe_iload4, pe_istore8, pe_iload8, pe_call4, pm_af_ret, pm_af_void, pm_af_thr, pe_istore9, pe_istore10, pe_istore11, pe_iload11, pe_iload2, pe_aload1, pe_iload9, pe_baload, pe_ishr, pe_iand, pe_icmp_ne, pe_iload10, pe_icmp_eq, pe_aload0, pe_call3, pe_lcmp, pe_if_le, pe_iinc11, pe_goto, pe_getfield, pe_i2b, pe_bastore, pe_iinc8, pe_iinc7, pe_iinc6, pe_iinc5, pe_return, pm_prog_1, pm_ob_some, Nat.reduceDiv, Nat.reduceMod, Nat.reduceMul, Nat.reduceAdd, Int.reduceToNat, pm_kill_i, pm_kill_r, pm_kill_n, pm_kill_j, pm_kill_l, pm_kill_d, pm_cats_nil, pm_cats_i, pm_cats_r, pm_cats_n, pm_cats_l, pm_cats_d, sz_1, sz_2, sl_1, sl_2, lc_0, lc_lt, lc_le, li_ne, va_rf, wr_m1, we_m1, pm_kill_w, Int32.reduceOfInt, Int64.reduceOfInt, Int32.reduceOfNat, Int32.reduceLT, Int32.reduceLE, Prod.mk.injEq, Nat.reduceEqDiff, reduceCtorEq, and_true, true_and, and_false, false_and, and_self, ite_true, ite_false, ↓reduceIte, not_true_eq_false, not_false_eq_true, pe_ri, pe_rz, pe_rc, Cr_g7_3 hP hA, Cr_r6 hP hA, Cr_w8 hP hA, eq_true k1]
    refine z322_2 hP hA hD k2 ?_ _ _ _ _ _
    dsimp only [ex322_2]
    intro q6 q7 q8 q9 q10 q11
    have e := Option.some.inj e; subst e
    dsimp only [Sum.elim_inl, go322_1] at hc
    simp -implicitDefEqProofs (disch := first | assumption | exact Nat.le_of_ble_eq_true rfl | decide) only [b322_0, g322_6, b322_6, g322_7, b322_7, g322_8, b322_8, g322_9, b322_9, g322_10, b322_10, g322_11, b322_11, g322_12, b322_12, pe_sipush, pe_istore5, pe_goto_w, pe_iload5, pe_iload3, pe_icmp_ge, pe_istore6, pe_iload6, pe_iadd, pe_icmp_gt, pe_istore7, pe_iload7, pe_iload4, pe_istore8, pe_iload8, pe_call4, pm_af_ret, pm_af_void, pm_af_thr, pe_istore9, pe_istore10, pe_istore11, pe_iload11, pe_iload2, pe_aload1, pe_iload9, pe_baload, pe_ishr, pe_iand, pe_icmp_ne, pe_iload10, pe_icmp_eq, pe_aload0, pe_call3, pe_lcmp, pe_if_le, pe_iinc11, pe_goto, pe_getfield, pe_i2b, pe_bastore, pe_iinc8, pe_iinc7, pe_iinc6, pe_iinc5, pe_return, pm_prog_1, pm_ob_some, Nat.reduceDiv, Nat.reduceMod, Nat.reduceMul, Nat.reduceAdd, Int.reduceToNat, pm_kill_i, pm_kill_r, pm_kill_n, pm_kill_j, pm_kill_l, pm_kill_d, pm_cats_nil, pm_cats_i, pm_cats_r, pm_cats_n, pm_cats_l, pm_cats_d, sz_1, sz_2, sl_1, sl_2, lc_0, lc_lt, lc_le, li_ne, va_rf, wr_m1, we_m1, pm_kill_w, Int32.reduceOfInt, Int64.reduceOfInt, Int32.reduceOfNat, Int32.reduceLT, Int32.reduceLE, Prod.mk.injEq, Nat.reduceEqDiff, reduceCtorEq, and_true, true_and, and_false, false_and, and_self, ite_true, ite_false, ↓reduceIte, not_true_eq_false, not_false_eq_true, pe_ri, pe_rz, pe_rc, Cr_g7_3 hP hA, Cr_r6 hP hA, Cr_w8 hP hA, eq_true k1, hc]
  · rw [if_neg k1] at e
    have e := Option.some.inj e; subst e
    dsimp only [Sum.elim_inr, ex322_1] at hc
    simp -implicitDefEqProofs (disch := first | assumption | exact Nat.le_of_ble_eq_true rfl | decide) only [b322_0, g322_6, b322_6, g322_7, b322_7, g322_8, b322_8, g322_9, b322_9, g322_10, b322_10, g322_11, b322_11, g322_12, b322_12, pe_sipush, pe_istore5, pe_goto_w, pe_iload5, pe_iload3, pe_icmp_ge, pe_istore6, pe_iload6, pe_iadd, pe_icmp_gt, pe_istore7, pe_iload7, pe_iload4, pe_istore8, pe_iload8, pe_call4, pm_af_ret, pm_af_void, pm_af_thr, pe_istore9, pe_istore10, pe_istore11, pe_iload11, pe_iload2, pe_aload1, pe_iload9, pe_baload, pe_ishr, pe_iand, pe_icmp_ne, pe_iload10, pe_icmp_eq, pe_aload0, pe_call3, pe_lcmp, pe_if_le, pe_iinc11, pe_goto, pe_getfield, pe_i2b, pe_bastore, pe_iinc8, pe_iinc7, pe_iinc6, pe_iinc5, pe_return, pm_prog_1, pm_ob_some, Nat.reduceDiv, Nat.reduceMod, Nat.reduceMul, Nat.reduceAdd, Int.reduceToNat, pm_kill_i, pm_kill_r, pm_kill_n, pm_kill_j, pm_kill_l, pm_kill_d, pm_cats_nil, pm_cats_i, pm_cats_r, pm_cats_n, pm_cats_l, pm_cats_d, sz_1, sz_2, sl_1, sl_2, lc_0, lc_lt, lc_le, li_ne, va_rf, wr_m1, we_m1, pm_kill_w, Int32.reduceOfInt, Int64.reduceOfInt, Int32.reduceOfNat, Int32.reduceLT, Int32.reduceLE, Prod.mk.injEq, Nat.reduceEqDiff, reduceCtorEq, and_true, true_and, and_false, false_and, and_self, ite_true, ite_false, ↓reduceIte, not_true_eq_false, not_false_eq_true, pe_ri, pe_rz, pe_rc, Cr_g7_3 hP hA, Cr_r6 hP hA, Cr_w8 hP hA, eq_false k1, hc]
theorem z322_1 {fc : Int32} {pc : Int32} {A : wK → Nat} {h : pm_H} {D : Nat} {R : Outcome × pm_H} (hP : Cr_P fc pc) (hA : wok A (Cr_d fc pc) h.1) (hD : 1 ≤ D) {n : Nat} {a : Int32 × Int32 × Int32 × Int32 × wS} {b : (wS)} (e : lp (f322_b1 fc pc) n a = some b) (hx : ex322_1 fc pc A h D R b) : go322_1 fc pc A h D R a := lp_run (fun a r => y322_b1 hP hA hD a r) n a b e hx
theorem x322 {fc : Int32} {pc : Int32} {A : wK → Nat} {h : pm_H} {D : Nat} {S : wS} {x2 : Int32} {x3 : Int32} {x4 : Int32} {r : wS} (hP : Cr_P fc pc) (hA : wok A (Cr_d fc pc) h.1) (hD : 2 ≤ D) (e : f322 fc pc S x2 x3 x4 = some r) : pm_call pm_prog D 322 [.ref (A (7, 0, 0)), .ref (A (6, 0, 0)), .int x2, .int x3, .int x4] (wput A (Cr_d fc pc) S h) = some (Outcome.returned none, (wput A (Cr_d fc pc) r h)) := by
  obtain ⟨D, rfl⟩ : ∃ D', D = D' + 1 := ⟨D - 1, by omega⟩
  have hD : 1 ≤ D := by omega
  simp only [f322] at e
  rw [c322 (Cr_c7 hP hA), b322_0]
  obtain ⟨S39, k1, e⟩ := Option.bind_eq_some_iff.mp e
  try dsimp only at e
  try simp -implicitDefEqProofs (disch := first | assumption | exact Nat.le_of_ble_eq_true rfl | decide) only [b322_0, g322_6, b322_6, g322_7, b322_7, g322_8, b322_8, g322_9, b322_9, g322_10, b322_10, g322_11, b322_11, g322_12, b322_12, pe_sipush, pe_istore5, pe_goto_w, pe_iload5, pe_iload3, pe_icmp_ge, pe_istore6, pe_iload6, pe_iadd, pe_icmp_gt, pe_istore7, pe_iload7, pe_iload4, pe_istore8, pe_iload8, pe_call4, pm_af_ret, pm_af_void, pm_af_thr, pe_istore9, pe_istore10, pe_istore11, pe_iload11, pe_iload2, pe_aload1, pe_iload9, pe_baload, pe_ishr, pe_iand, pe_icmp_ne, pe_iload10, pe_icmp_eq, pe_aload0, pe_call3, pe_lcmp, pe_if_le, pe_iinc11, pe_goto, pe_getfield, pe_i2b, pe_bastore, pe_iinc8, pe_iinc7, pe_iinc6, pe_iinc5, pe_return, pm_prog_1, pm_ob_some, Nat.reduceDiv, Nat.reduceMod, Nat.reduceMul, Nat.reduceAdd, Int.reduceToNat, pm_kill_i, pm_kill_r, pm_kill_n, pm_kill_j, pm_kill_l, pm_kill_d, pm_cats_nil, pm_cats_i, pm_cats_r, pm_cats_n, pm_cats_l, pm_cats_d, sz_1, sz_2, sl_1, sl_2, lc_0, lc_lt, lc_le, li_ne, va_rf, wr_m1, we_m1, pm_kill_w, Int32.reduceOfInt, Int64.reduceOfInt, Int32.reduceOfNat, Int32.reduceLT, Int32.reduceLE, Prod.mk.injEq, Nat.reduceEqDiff, reduceCtorEq, and_true, true_and, and_false, false_and, and_self, ite_true, ite_false, ↓reduceIte, not_true_eq_false, not_false_eq_true, pe_ri, pe_rz, pe_rc, Cr_g7_3 hP hA, Cr_r6 hP hA, Cr_w8 hP hA]
  refine z322_1 hP hA hD k1 ?_ _ _ _ _ _ _
  dsimp only [ex322_1]
  intro q0 q1 q2 q3 q4 q5 q6 q7 q8 q9 q10 q11
  have e := Option.some.inj e; subst e
  simp -implicitDefEqProofs (disch := first | assumption | exact Nat.le_of_ble_eq_true rfl | decide) only [b322_0, g322_6, b322_6, g322_7, b322_7, g322_8, b322_8, g322_9, b322_9, g322_10, b322_10, g322_11, b322_11, g322_12, b322_12, pe_sipush, pe_istore5, pe_goto_w, pe_iload5, pe_iload3, pe_icmp_ge, pe_istore6, pe_iload6, pe_iadd, pe_icmp_gt, pe_istore7, pe_iload7, pe_iload4, pe_istore8, pe_iload8, pe_call4, pm_af_ret, pm_af_void, pm_af_thr, pe_istore9, pe_istore10, pe_istore11, pe_iload11, pe_iload2, pe_aload1, pe_iload9, pe_baload, pe_ishr, pe_iand, pe_icmp_ne, pe_iload10, pe_icmp_eq, pe_aload0, pe_call3, pe_lcmp, pe_if_le, pe_iinc11, pe_goto, pe_getfield, pe_i2b, pe_bastore, pe_iinc8, pe_iinc7, pe_iinc6, pe_iinc5, pe_return, pm_prog_1, pm_ob_some, Nat.reduceDiv, Nat.reduceMod, Nat.reduceMul, Nat.reduceAdd, Int.reduceToNat, pm_kill_i, pm_kill_r, pm_kill_n, pm_kill_j, pm_kill_l, pm_kill_d, pm_cats_nil, pm_cats_i, pm_cats_r, pm_cats_n, pm_cats_l, pm_cats_d, sz_1, sz_2, sl_1, sl_2, lc_0, lc_lt, lc_le, li_ne, va_rf, wr_m1, we_m1, pm_kill_w, Int32.reduceOfInt, Int64.reduceOfInt, Int32.reduceOfNat, Int32.reduceLT, Int32.reduceLE, Prod.mk.injEq, Nat.reduceEqDiff, reduceCtorEq, and_true, true_and, and_false, false_and, and_self, ite_true, ite_false, ↓reduceIte, not_true_eq_false, not_false_eq_true, pe_ri, pe_rz, pe_rc, Cr_g7_3 hP hA, Cr_r6 hP hA, Cr_w8 hP hA]
/-- TimberHouse$FaultRips.truly(LTimberHouse$FaultRips$Plan;)J -/
theorem c278 {d : Nat} {h : pm_H} {a : Nat} {r0 : Nat} (hc : pm_cls h a = some 4) : pm_call pm_prog (d + 1) 278 [.ref a, .ref r0] h = pm_ev pm_prog (pm_call pm_prog d) 278 0 b278_0 [.ref a, .ref r0, pm_junk, pm_junk, pm_junk] [] h := pm_cal (pm_rc1 hc rfl) rfl rfl rfl
theorem g278_1 {cl : pm_C} {ls st : List Value} {h : pm_H} : pm_go pm_prog cl 278 1 ls st h = pm_ev pm_prog cl 278 1 b278_1 ls st h := pm_go_eq pm_prog cl 278 1 ls st h
theorem g278_2 {cl : pm_C} {ls st : List Value} {h : pm_H} : pm_go pm_prog cl 278 2 ls st h = pm_ev pm_prog cl 278 2 b278_2 ls st h := pm_go_eq pm_prog cl 278 2 ls st h
noncomputable def f278_b1 (fc : Int32) (pc : Int32) (S : wS) : Int32 × Int64 × Int32 → Option ((Int32 × Int64 × Int32) ⊕ ((Int64))) := fun (x1i, x2, x4) =>
  if 0 ≤ x1i ∧ x1i < 2 then
    if x4 < (S.1 (12, x1i, 0) 5) then
      if 0 ≤ x4 ∧ x4 < 240 then
        if 0 ≤ (S.1 (17, x1i, 0) x4) ∧ (S.1 (17, x1i, 0) x4) < 8 then
          if (S.1 (17, x1i, 0) x4) < pc then
            if 0 ≤ (S.1 (17, x1i, 0) x4) ∧ (S.1 (17, x1i, 0) x4) < pc then
              some (.inl (x1i, (x2 + ((S.2 (4, (S.1 (17, x1i, 0) x4), 0) 3) * (Int32.toInt64 (S.1 (15, x1i, 0) x4)))), (x4 + 1)))
            else none
          else none
        else none
      else none
    else
      some (.inr x2)
  else none
/-- TimberHouse$FaultRips.truly(LTimberHouse$FaultRips$Plan;)J -/
noncomputable def f278 (fc : Int32) (pc : Int32) (S : wS) (x1i : Int32) : Option (Int64) :=
  if 0 ≤ x1i ∧ x1i < 2 then
    (lp (f278_b1 fc pc S) FU (x1i, 0, 0)).bind fun v1 =>
    some v1
  else none
def go278_1 (fc : Int32) (pc : Int32) (A : wK → Nat) (h : pm_H) (D : Nat) (R : Outcome × pm_H) (S : wS) : Int32 × Int64 × Int32 → Prop := fun (x1i, x2, x4) => pm_go pm_prog (pm_call pm_prog D) 278 1 [.ref (A (0, 0, 0)), .ref (A (12, x1i, 0)), .long x2, pm_junk, .int x4] [] (wput A (Cr_d fc pc) S h) = some R
def ex278_1 (fc : Int32) (pc : Int32) (A : wK → Nat) (h : pm_H) (D : Nat) (R : Outcome × pm_H) (S : wS) : (Int64) → Prop := fun x2 => ∀ q0 q1 q4 : Value, pm_go pm_prog (pm_call pm_prog D) 278 2 [q0, q1, .long x2, pm_junk, q4] [] (wput A (Cr_d fc pc) S h) = some R
theorem y278_b1 {fc : Int32} {pc : Int32} {A : wK → Nat} {h : pm_H} {D : Nat} {R : Outcome × pm_H} {S : wS} (hP : Cr_P fc pc) (hA : wok A (Cr_d fc pc) h.1) (hD : 0 ≤ D) (a : Int32 × Int64 × Int32) (r : (Int32 × Int64 × Int32) ⊕ ((Int64))) (e : f278_b1 fc pc S a = some r) (hc : Sum.elim (go278_1 fc pc A h D R S) (ex278_1 fc pc A h D R S) r) : go278_1 fc pc A h D R S a := by
  obtain ⟨x1i, x2, x4⟩ := a
  dsimp only [go278_1]
  simp only [f278_b1] at e
  rw [g278_1, b278_1]
  by_cases k1 : 0 ≤ x1i ∧ x1i < 2
  · rw [if_pos k1] at e
    by_cases k2 : x4 < (S.1 (12, x1i, 0) 5)
    · rw [if_pos k2] at e
      by_cases k3 : 0 ≤ x4 ∧ x4 < 240
      · rw [if_pos k3] at e
        by_cases k4 : 0 ≤ (S.1 (17, x1i, 0) x4) ∧ (S.1 (17, x1i, 0) x4) < 8
        · rw [if_pos k4] at e
          by_cases k5 : (S.1 (17, x1i, 0) x4) < pc
          · rw [if_pos k5] at e
            by_cases k6 : 0 ≤ (S.1 (17, x1i, 0) x4) ∧ (S.1 (17, x1i, 0) x4) < pc
            · rw [if_pos k6] at e
              have e := Option.some.inj e; subst e
              dsimp only [Sum.elim_inl, go278_1] at hc
              simp -implicitDefEqProofs (disch := first | assumption | exact Nat.le_of_ble_eq_true rfl | decide) only [b278_0, g278_2, b278_2, pe_bipush, pe_lstore2, pe_sipush, pe_istore4, pe_goto_w, pe_iload4, pe_aload1, pe_getfield, pe_icmp_ge, pe_lload2, pe_aload0, pe_baload, pe_aaload, pe_i2l, pe_lmul, pe_ladd, pe_iinc4, pe_goto, pe_lreturn, pm_prog_1, pm_ob_some, Nat.reduceDiv, Nat.reduceMod, Nat.reduceMul, Nat.reduceAdd, Int.reduceToNat, pm_kill_i, pm_kill_r, pm_kill_n, pm_kill_j, pm_kill_l, pm_kill_d, pm_cats_nil, pm_cats_i, pm_cats_r, pm_cats_n, pm_cats_l, pm_cats_d, sz_1, sz_2, sl_1, sl_2, lc_0, lc_lt, lc_le, li_ne, va_rf, wr_m1, we_m1, pm_kill_w, Int32.reduceOfInt, Int64.reduceOfInt, Int32.reduceOfNat, Int32.reduceLT, Int32.reduceLE, Prod.mk.injEq, Nat.reduceEqDiff, reduceCtorEq, and_true, true_and, and_false, false_and, and_self, ite_true, ite_false, ↓reduceIte, not_true_eq_false, not_false_eq_true, pe_ri, pe_rz, pe_rc, Cr_g0_5 hP hA, Cr_g12_2 hP hA, Cr_g12_4 hP hA, Cr_g12_5 hP hA, Cr_g4_3 hP hA, Cr_r15 hP hA, Cr_r17 hP hA, Cr_r3 hP hA, eq_true k2, hc]
            · rw [if_neg k6] at e; cases e
          · rw [if_neg k5] at e; cases e
        · rw [if_neg k4] at e; cases e
      · rw [if_neg k3] at e; cases e
    · rw [if_neg k2] at e
      have e := Option.some.inj e; subst e
      dsimp only [Sum.elim_inr, ex278_1] at hc
      simp -implicitDefEqProofs (disch := first | assumption | exact Nat.le_of_ble_eq_true rfl | decide) only [b278_0, g278_2, b278_2, pe_bipush, pe_lstore2, pe_sipush, pe_istore4, pe_goto_w, pe_iload4, pe_aload1, pe_getfield, pe_icmp_ge, pe_lload2, pe_aload0, pe_baload, pe_aaload, pe_i2l, pe_lmul, pe_ladd, pe_iinc4, pe_goto, pe_lreturn, pm_prog_1, pm_ob_some, Nat.reduceDiv, Nat.reduceMod, Nat.reduceMul, Nat.reduceAdd, Int.reduceToNat, pm_kill_i, pm_kill_r, pm_kill_n, pm_kill_j, pm_kill_l, pm_kill_d, pm_cats_nil, pm_cats_i, pm_cats_r, pm_cats_n, pm_cats_l, pm_cats_d, sz_1, sz_2, sl_1, sl_2, lc_0, lc_lt, lc_le, li_ne, va_rf, wr_m1, we_m1, pm_kill_w, Int32.reduceOfInt, Int64.reduceOfInt, Int32.reduceOfNat, Int32.reduceLT, Int32.reduceLE, Prod.mk.injEq, Nat.reduceEqDiff, reduceCtorEq, and_true, true_and, and_false, false_and, and_self, ite_true, ite_false, ↓reduceIte, not_true_eq_false, not_false_eq_true, pe_ri, pe_rz, pe_rc, Cr_g0_5 hP hA, Cr_g12_2 hP hA, Cr_g12_4 hP hA, Cr_g12_5 hP hA, Cr_g4_3 hP hA, Cr_r15 hP hA, Cr_r17 hP hA, Cr_r3 hP hA, eq_false k2, hc]
  · rw [if_neg k1] at e; cases e
theorem z278_1 {fc : Int32} {pc : Int32} {A : wK → Nat} {h : pm_H} {D : Nat} {R : Outcome × pm_H} {S : wS} (hP : Cr_P fc pc) (hA : wok A (Cr_d fc pc) h.1) (hD : 0 ≤ D) {n : Nat} {a : Int32 × Int64 × Int32} {b : (Int64)} (e : lp (f278_b1 fc pc S) n a = some b) (hx : ex278_1 fc pc A h D R S b) : go278_1 fc pc A h D R S a := lp_run (fun a r => y278_b1 hP hA hD a r) n a b e hx
theorem x278 {fc : Int32} {pc : Int32} {A : wK → Nat} {h : pm_H} {D : Nat} {S : wS} {x1i : Int32} {r : Int64} (hP : Cr_P fc pc) (hA : wok A (Cr_d fc pc) h.1) (hD : 1 ≤ D) (e : f278 fc pc S x1i = some r) : pm_call pm_prog D 278 [.ref (A (0, 0, 0)), .ref (A (12, x1i, 0))] (wput A (Cr_d fc pc) S h) = some (Outcome.returned (some (.long r)), (wput A (Cr_d fc pc) S h)) := by
  obtain ⟨D, rfl⟩ : ∃ D', D = D' + 1 := ⟨D - 1, by omega⟩
  have hD : 0 ≤ D := by omega
  simp only [f278] at e
  have k1 : 0 ≤ x1i ∧ x1i < 2 := by
    by_cases q : 0 ≤ x1i ∧ x1i < 2
    · exact q
    · rw [if_neg q] at e; cases e
  rw [if_pos k1] at e
  rw [c278 (Cr_c0 hP hA), b278_0]
  obtain ⟨v1, k2, e⟩ := Option.bind_eq_some_iff.mp e
  try dsimp only at e
  try simp -implicitDefEqProofs (disch := first | assumption | exact Nat.le_of_ble_eq_true rfl | decide) only [b278_0, g278_2, b278_2, pe_bipush, pe_lstore2, pe_sipush, pe_istore4, pe_goto_w, pe_iload4, pe_aload1, pe_getfield, pe_icmp_ge, pe_lload2, pe_aload0, pe_baload, pe_aaload, pe_i2l, pe_lmul, pe_ladd, pe_iinc4, pe_goto, pe_lreturn, pm_prog_1, pm_ob_some, Nat.reduceDiv, Nat.reduceMod, Nat.reduceMul, Nat.reduceAdd, Int.reduceToNat, pm_kill_i, pm_kill_r, pm_kill_n, pm_kill_j, pm_kill_l, pm_kill_d, pm_cats_nil, pm_cats_i, pm_cats_r, pm_cats_n, pm_cats_l, pm_cats_d, sz_1, sz_2, sl_1, sl_2, lc_0, lc_lt, lc_le, li_ne, va_rf, wr_m1, we_m1, pm_kill_w, Int32.reduceOfInt, Int64.reduceOfInt, Int32.reduceOfNat, Int32.reduceLT, Int32.reduceLE, Prod.mk.injEq, Nat.reduceEqDiff, reduceCtorEq, and_true, true_and, and_false, false_and, and_self, ite_true, ite_false, ↓reduceIte, not_true_eq_false, not_false_eq_true, pe_ri, pe_rz, pe_rc, Cr_g0_5 hP hA, Cr_g12_2 hP hA, Cr_g12_4 hP hA, Cr_g12_5 hP hA, Cr_g4_3 hP hA, Cr_r15 hP hA, Cr_r17 hP hA, Cr_r3 hP hA]
  refine z278_1 hP hA hD k2 ?_
  dsimp only [ex278_1]
  intro q0 q1 q4
  have e := Option.some.inj e; subst e
  simp -implicitDefEqProofs (disch := first | assumption | exact Nat.le_of_ble_eq_true rfl | decide) only [b278_0, g278_2, b278_2, pe_bipush, pe_lstore2, pe_sipush, pe_istore4, pe_goto_w, pe_iload4, pe_aload1, pe_getfield, pe_icmp_ge, pe_lload2, pe_aload0, pe_baload, pe_aaload, pe_i2l, pe_lmul, pe_ladd, pe_iinc4, pe_goto, pe_lreturn, pm_prog_1, pm_ob_some, Nat.reduceDiv, Nat.reduceMod, Nat.reduceMul, Nat.reduceAdd, Int.reduceToNat, pm_kill_i, pm_kill_r, pm_kill_n, pm_kill_j, pm_kill_l, pm_kill_d, pm_cats_nil, pm_cats_i, pm_cats_r, pm_cats_n, pm_cats_l, pm_cats_d, sz_1, sz_2, sl_1, sl_2, lc_0, lc_lt, lc_le, li_ne, va_rf, wr_m1, we_m1, pm_kill_w, Int32.reduceOfInt, Int64.reduceOfInt, Int32.reduceOfNat, Int32.reduceLT, Int32.reduceLE, Prod.mk.injEq, Nat.reduceEqDiff, reduceCtorEq, and_true, true_and, and_false, false_and, and_self, ite_true, ite_false, ↓reduceIte, not_true_eq_false, not_false_eq_true, pe_ri, pe_rz, pe_rc, Cr_g0_5 hP hA, Cr_g12_2 hP hA, Cr_g12_4 hP hA, Cr_g12_5 hP hA, Cr_g4_3 hP hA, Cr_r15 hP hA, Cr_r17 hP hA, Cr_r3 hP hA]
/-- TimberHouse$FaultRips$Planner.fits(ZZI)Z -/
theorem c326 {d : Nat} {h : pm_H} {a : Nat} {x0 : Int32} {x1 : Int32} {x2 : Int32} (hc : pm_cls h a = some 5) : pm_call pm_prog (d + 1) 326 [.ref a, .int x0, .int x1, .int x2] h = pm_ev pm_prog (pm_call pm_prog d) 326 0 b326_0 [.ref a, .int x0, .int x1, .int x2] [] h := pm_cal (pm_rc1 hc rfl) rfl rfl rfl
theorem g326_1 {cl : pm_C} {ls st : List Value} {h : pm_H} : pm_go pm_prog cl 326 1 ls st h = pm_ev pm_prog cl 326 1 b326_1 ls st h := pm_go_eq pm_prog cl 326 1 ls st h
theorem g326_2 {cl : pm_C} {ls st : List Value} {h : pm_H} : pm_go pm_prog cl 326 2 ls st h = pm_ev pm_prog cl 326 2 b326_2 ls st h := pm_go_eq pm_prog cl 326 2 ls st h
theorem g326_3 {cl : pm_C} {ls st : List Value} {h : pm_H} : pm_go pm_prog cl 326 3 ls st h = pm_ev pm_prog cl 326 3 b326_3 ls st h := pm_go_eq pm_prog cl 326 3 ls st h
/-- TimberHouse$FaultRips$Planner.fits(ZZI)Z -/
noncomputable def f326 (fc : Int32) (pc : Int32) (S : wS) (x1 : Int32) (x2 : Int32) (x3 : Int32) : Option (Int32) :=
  if x2 = 0 then
    some 1
  else
    if x1 = 0 then
      some 1
    else
      if (S.1 (7, 0, 0) 2) = 0 then
        some 1
      else
        if 0 ≤ x3 ∧ x3 < 65537 then
          if (S.1 (5, 0, 0) x3) = 0 then
            some 0
          else
            some 1
        else none
theorem x326 {fc : Int32} {pc : Int32} {A : wK → Nat} {h : pm_H} {D : Nat} {S : wS} {x1 : Int32} {x2 : Int32} {x3 : Int32} {r : Int32} (hP : Cr_P fc pc) (hA : wok A (Cr_d fc pc) h.1) (hD : 1 ≤ D) (e : f326 fc pc S x1 x2 x3 = some r) : pm_call pm_prog D 326 [.ref (A (7, 0, 0)), .int x1, .int x2, .int x3] (wput A (Cr_d fc pc) S h) = some (Outcome.returned (some (.int r)), (wput A (Cr_d fc pc) S h)) := by
  obtain ⟨D, rfl⟩ : ∃ D', D = D' + 1 := ⟨D - 1, by omega⟩
  have hD : 0 ≤ D := by omega
  simp only [f326] at e
  rw [c326 (Cr_c7 hP hA), b326_0]
  by_cases k1 : x2 = 0
  · rw [if_pos k1] at e
    have e := Option.some.inj e; subst e
    simp -implicitDefEqProofs (disch := first | assumption | exact Nat.le_of_ble_eq_true rfl | decide) only [b326_0, g326_1, b326_1, g326_2, b326_2, g326_3, b326_3, pe_iload2, pe_if_eq, pe_iload1, pe_aload0, pe_getfield, pe_iload3, pe_baload, pe_goto_w, pe_sipush, pe_goto, pm_prog_1, pm_ob_some, Nat.reduceDiv, Nat.reduceMod, Nat.reduceMul, Nat.reduceAdd, Int.reduceToNat, pm_kill_i, pm_kill_r, pm_kill_n, pm_kill_j, pm_kill_l, pm_kill_d, pm_cats_nil, pm_cats_i, pm_cats_r, pm_cats_n, pm_cats_l, pm_cats_d, sz_1, sz_2, sl_1, sl_2, lc_0, lc_lt, lc_le, li_ne, va_rf, wr_m1, we_m1, pm_kill_w, Int32.reduceOfInt, Int64.reduceOfInt, Int32.reduceOfNat, Int32.reduceLT, Int32.reduceLE, Prod.mk.injEq, Nat.reduceEqDiff, reduceCtorEq, and_true, true_and, and_false, false_and, and_self, ite_true, ite_false, ↓reduceIte, not_true_eq_false, not_false_eq_true, pe_ri, pe_rz, pe_rc, Cr_g7_1 hP hA, Cr_g7_2 hP hA, Cr_r5 hP hA, eq_true k1]
  · rw [if_neg k1] at e
    by_cases k2 : x1 = 0
    · rw [if_pos k2] at e
      have e := Option.some.inj e; subst e
      simp -implicitDefEqProofs (disch := first | assumption | exact Nat.le_of_ble_eq_true rfl | decide) only [b326_0, g326_1, b326_1, g326_2, b326_2, g326_3, b326_3, pe_iload2, pe_if_eq, pe_iload1, pe_aload0, pe_getfield, pe_iload3, pe_baload, pe_goto_w, pe_sipush, pe_goto, pm_prog_1, pm_ob_some, Nat.reduceDiv, Nat.reduceMod, Nat.reduceMul, Nat.reduceAdd, Int.reduceToNat, pm_kill_i, pm_kill_r, pm_kill_n, pm_kill_j, pm_kill_l, pm_kill_d, pm_cats_nil, pm_cats_i, pm_cats_r, pm_cats_n, pm_cats_l, pm_cats_d, sz_1, sz_2, sl_1, sl_2, lc_0, lc_lt, lc_le, li_ne, va_rf, wr_m1, we_m1, pm_kill_w, Int32.reduceOfInt, Int64.reduceOfInt, Int32.reduceOfNat, Int32.reduceLT, Int32.reduceLE, Prod.mk.injEq, Nat.reduceEqDiff, reduceCtorEq, and_true, true_and, and_false, false_and, and_self, ite_true, ite_false, ↓reduceIte, not_true_eq_false, not_false_eq_true, pe_ri, pe_rz, pe_rc, Cr_g7_1 hP hA, Cr_g7_2 hP hA, Cr_r5 hP hA, eq_false k1, eq_true k2]
    · rw [if_neg k2] at e
      by_cases k3 : (S.1 (7, 0, 0) 2) = 0
      · rw [if_pos k3] at e
        have e := Option.some.inj e; subst e
        simp -implicitDefEqProofs (disch := first | assumption | exact Nat.le_of_ble_eq_true rfl | decide) only [b326_0, g326_1, b326_1, g326_2, b326_2, g326_3, b326_3, pe_iload2, pe_if_eq, pe_iload1, pe_aload0, pe_getfield, pe_iload3, pe_baload, pe_goto_w, pe_sipush, pe_goto, pm_prog_1, pm_ob_some, Nat.reduceDiv, Nat.reduceMod, Nat.reduceMul, Nat.reduceAdd, Int.reduceToNat, pm_kill_i, pm_kill_r, pm_kill_n, pm_kill_j, pm_kill_l, pm_kill_d, pm_cats_nil, pm_cats_i, pm_cats_r, pm_cats_n, pm_cats_l, pm_cats_d, sz_1, sz_2, sl_1, sl_2, lc_0, lc_lt, lc_le, li_ne, va_rf, wr_m1, we_m1, pm_kill_w, Int32.reduceOfInt, Int64.reduceOfInt, Int32.reduceOfNat, Int32.reduceLT, Int32.reduceLE, Prod.mk.injEq, Nat.reduceEqDiff, reduceCtorEq, and_true, true_and, and_false, false_and, and_self, ite_true, ite_false, ↓reduceIte, not_true_eq_false, not_false_eq_true, pe_ri, pe_rz, pe_rc, Cr_g7_1 hP hA, Cr_g7_2 hP hA, Cr_r5 hP hA, eq_false k1, eq_false k2, eq_true k3]
      · rw [if_neg k3] at e
        by_cases k4 : 0 ≤ x3 ∧ x3 < 65537
        · rw [if_pos k4] at e
          by_cases k5 : (S.1 (5, 0, 0) x3) = 0
          · rw [if_pos k5] at e
            have e := Option.some.inj e; subst e
            simp -implicitDefEqProofs (disch := first | assumption | exact Nat.le_of_ble_eq_true rfl | decide) only [b326_0, g326_1, b326_1, g326_2, b326_2, g326_3, b326_3, pe_iload2, pe_if_eq, pe_iload1, pe_aload0, pe_getfield, pe_iload3, pe_baload, pe_goto_w, pe_sipush, pe_goto, pm_prog_1, pm_ob_some, Nat.reduceDiv, Nat.reduceMod, Nat.reduceMul, Nat.reduceAdd, Int.reduceToNat, pm_kill_i, pm_kill_r, pm_kill_n, pm_kill_j, pm_kill_l, pm_kill_d, pm_cats_nil, pm_cats_i, pm_cats_r, pm_cats_n, pm_cats_l, pm_cats_d, sz_1, sz_2, sl_1, sl_2, lc_0, lc_lt, lc_le, li_ne, va_rf, wr_m1, we_m1, pm_kill_w, Int32.reduceOfInt, Int64.reduceOfInt, Int32.reduceOfNat, Int32.reduceLT, Int32.reduceLE, Prod.mk.injEq, Nat.reduceEqDiff, reduceCtorEq, and_true, true_and, and_false, false_and, and_self, ite_true, ite_false, ↓reduceIte, not_true_eq_false, not_false_eq_true, pe_ri, pe_rz, pe_rc, Cr_g7_1 hP hA, Cr_g7_2 hP hA, Cr_r5 hP hA, eq_false k1, eq_false k2, eq_false k3, eq_true k5]
          · rw [if_neg k5] at e
            have e := Option.some.inj e; subst e
            simp -implicitDefEqProofs (disch := first | assumption | exact Nat.le_of_ble_eq_true rfl | decide) only [b326_0, g326_1, b326_1, g326_2, b326_2, g326_3, b326_3, pe_iload2, pe_if_eq, pe_iload1, pe_aload0, pe_getfield, pe_iload3, pe_baload, pe_goto_w, pe_sipush, pe_goto, pm_prog_1, pm_ob_some, Nat.reduceDiv, Nat.reduceMod, Nat.reduceMul, Nat.reduceAdd, Int.reduceToNat, pm_kill_i, pm_kill_r, pm_kill_n, pm_kill_j, pm_kill_l, pm_kill_d, pm_cats_nil, pm_cats_i, pm_cats_r, pm_cats_n, pm_cats_l, pm_cats_d, sz_1, sz_2, sl_1, sl_2, lc_0, lc_lt, lc_le, li_ne, va_rf, wr_m1, we_m1, pm_kill_w, Int32.reduceOfInt, Int64.reduceOfInt, Int32.reduceOfNat, Int32.reduceLT, Int32.reduceLE, Prod.mk.injEq, Nat.reduceEqDiff, reduceCtorEq, and_true, true_and, and_false, false_and, and_self, ite_true, ite_false, ↓reduceIte, not_true_eq_false, not_false_eq_true, pe_ri, pe_rz, pe_rc, Cr_g7_1 hP hA, Cr_g7_2 hP hA, Cr_r5 hP hA, eq_false k1, eq_false k2, eq_false k3, eq_false k5]
        · rw [if_neg k4] at e; cases e
/-- TimberHouse$FaultRips$Planner.segment(IZIIIIII)J -/
theorem c327 {d : Nat} {h : pm_H} {a : Nat} {x0 : Int32} {x1 : Int32} {x2 : Int32} {x3 : Int32} {x4 : Int32} {x5 : Int32} {x6 : Int32} {x7 : Int32} (hc : pm_cls h a = some 5) : pm_call pm_prog (d + 1) 327 [.ref a, .int x0, .int x1, .int x2, .int x3, .int x4, .int x5, .int x6, .int x7] h = pm_ev pm_prog (pm_call pm_prog d) 327 0 b327_0 [.ref a, .int x0, .int x1, .int x2, .int x3, .int x4, .int x5, .int x6, .int x7] [] h := pm_cal (pm_rc1 hc rfl) rfl rfl rfl
theorem g327_1 {cl : pm_C} {ls st : List Value} {h : pm_H} : pm_go pm_prog cl 327 1 ls st h = pm_ev pm_prog cl 327 1 b327_1 ls st h := pm_go_eq pm_prog cl 327 1 ls st h
theorem g327_2 {cl : pm_C} {ls st : List Value} {h : pm_H} : pm_go pm_prog cl 327 2 ls st h = pm_ev pm_prog cl 327 2 b327_2 ls st h := pm_go_eq pm_prog cl 327 2 ls st h
def FOK324 (fc : Int32) (pc : Int32) (A : wK → Nat) (h : pm_H) (E : Nat) (F : wS → Int32 → Int32 → Int32 → Int32 → Int32 → Int32 → Int32 → Option (Int64 × wS)) : Prop := ∀ (D : Nat) (S : wS) (x1 : Int32) (x2 : Int32) (x3 : Int32) (x4 : Int32) (x5 : Int32) (x6 : Int32) (x7 : Int32) (r : Int64 × wS), E ≤ D → F S x1 x2 x3 x4 x5 x6 x7 = some r → pm_call pm_prog D 324 [.ref (A (7, 0, 0)), .int x1, .int x2, .int x3, .int x4, .int x5, .int x6, .int x7] (wput A (Cr_d fc pc) S h) = some (match (generalizing := false) r with | (w0, S1) => (Outcome.returned (some (.long w0)), (wput A (Cr_d fc pc) S1 h)))
/-- TimberHouse$FaultRips$Planner.segment(IZIIIIII)J -/
noncomputable def f327 (fc : Int32) (pc : Int32) (F : wS → Int32 → Int32 → Int32 → Int32 → Int32 → Int32 → Int32 → Option (Int64 × wS)) (S : wS) (x1 : Int32) (x2 : Int32) (x3 : Int32) (x4 : Int32) (x5 : Int32) (x6 : Int32) (x7 : Int32) (x8 : Int32) : Option (Int64 × wS) :=
  if x2 = 0 then
    (F S (x1 - 1) 1 0 (x3 + x7) x8 x5 x6).bind fun (v1, S2) =>
    some (v1, S2)
  else
    (F S (x1 - 1) 0 0 x3 x4 (x5 + x7) x8).bind fun (v3, S4) =>
    some (v3, S4)
theorem x327 {fc : Int32} {pc : Int32} {A : wK → Nat} {h : pm_H} {D : Nat} {F : wS → Int32 → Int32 → Int32 → Int32 → Int32 → Int32 → Int32 → Option (Int64 × wS)} {E : Nat} {S : wS} {x1 : Int32} {x2 : Int32} {x3 : Int32} {x4 : Int32} {x5 : Int32} {x6 : Int32} {x7 : Int32} {x8 : Int32} {r : Int64 × wS} (hP : Cr_P fc pc) (hA : wok A (Cr_d fc pc) h.1) (hF : FOK324 fc pc A h E F) (hE : E + 1 ≤ D) (hD : 1 ≤ D) (e : f327 fc pc F S x1 x2 x3 x4 x5 x6 x7 x8 = some r) : pm_call pm_prog D 327 [.ref (A (7, 0, 0)), .int x1, .int x2, .int x3, .int x4, .int x5, .int x6, .int x7, .int x8] (wput A (Cr_d fc pc) S h) = some (match (generalizing := false) r with | (w0, S1) => (Outcome.returned (some (.long w0)), (wput A (Cr_d fc pc) S1 h))) := by
  obtain ⟨D, rfl⟩ : ∃ D', D = D' + 1 := ⟨D - 1, by omega⟩
  have hE : E + 0 ≤ D := by omega
  have hD : 0 ≤ D := by omega
  simp only [f327] at e
  rw [c327 (Cr_c7 hP hA), b327_0]
  by_cases k1 : x2 = 0
  · rw [if_pos k1] at e
    obtain ⟨⟨v1, S2⟩, k2, e⟩ := Option.bind_eq_some_iff.mp e
    try dsimp only at e
    have z2 := hF D _ _ _ _ _ _ _ _ _ (by omega) k2
    dsimp only at z2
    have e := Option.some.inj e; subst e
    simp -implicitDefEqProofs (disch := first | assumption | exact Nat.le_of_ble_eq_true rfl | decide) only [b327_0, g327_1, b327_1, g327_2, b327_2, pe_iload2, pe_if_eq, pe_aload0, pe_iload1, pe_sipush, pe_isub, pe_iload3, pe_iload4, pe_iload5, pe_iload7, pe_iadd, pe_iload8, pe_call8, pm_af_ret, pm_af_void, pm_af_thr, pe_goto, pe_iload6, pe_goto_w, pe_lreturn, pm_prog_1, pm_ob_some, Nat.reduceDiv, Nat.reduceMod, Nat.reduceMul, Nat.reduceAdd, Int.reduceToNat, pm_kill_i, pm_kill_r, pm_kill_n, pm_kill_j, pm_kill_l, pm_kill_d, pm_cats_nil, pm_cats_i, pm_cats_r, pm_cats_n, pm_cats_l, pm_cats_d, sz_1, sz_2, sl_1, sl_2, lc_0, lc_lt, lc_le, li_ne, va_rf, wr_m1, we_m1, pm_kill_w, Int32.reduceOfInt, Int64.reduceOfInt, Int32.reduceOfNat, Int32.reduceLT, Int32.reduceLE, Prod.mk.injEq, Nat.reduceEqDiff, reduceCtorEq, and_true, true_and, and_false, false_and, and_self, ite_true, ite_false, ↓reduceIte, not_true_eq_false, not_false_eq_true, pe_ri, pe_rz, pe_rc, eq_true k1, z2]
  · rw [if_neg k1] at e
    obtain ⟨⟨v3, S4⟩, k3, e⟩ := Option.bind_eq_some_iff.mp e
    try dsimp only at e
    have z3 := hF D _ _ _ _ _ _ _ _ _ (by omega) k3
    dsimp only at z3
    have e := Option.some.inj e; subst e
    simp -implicitDefEqProofs (disch := first | assumption | exact Nat.le_of_ble_eq_true rfl | decide) only [b327_0, g327_1, b327_1, g327_2, b327_2, pe_iload2, pe_if_eq, pe_aload0, pe_iload1, pe_sipush, pe_isub, pe_iload3, pe_iload4, pe_iload5, pe_iload7, pe_iadd, pe_iload8, pe_call8, pm_af_ret, pm_af_void, pm_af_thr, pe_goto, pe_iload6, pe_goto_w, pe_lreturn, pm_prog_1, pm_ob_some, Nat.reduceDiv, Nat.reduceMod, Nat.reduceMul, Nat.reduceAdd, Int.reduceToNat, pm_kill_i, pm_kill_r, pm_kill_n, pm_kill_j, pm_kill_l, pm_kill_d, pm_cats_nil, pm_cats_i, pm_cats_r, pm_cats_n, pm_cats_l, pm_cats_d, sz_1, sz_2, sl_1, sl_2, lc_0, lc_lt, lc_le, li_ne, va_rf, wr_m1, we_m1, pm_kill_w, Int32.reduceOfInt, Int64.reduceOfInt, Int32.reduceOfNat, Int32.reduceLT, Int32.reduceLE, Prod.mk.injEq, Nat.reduceEqDiff, reduceCtorEq, and_true, true_and, and_false, false_and, and_self, ite_true, ite_false, ↓reduceIte, not_true_eq_false, not_false_eq_true, pe_ri, pe_rz, pe_rc, eq_false k1, z3]
/-- TimberHouse$FaultRips$Planner.fill(IZZIIII)V -/
theorem c325 {d : Nat} {h : pm_H} {a : Nat} {x0 : Int32} {x1 : Int32} {x2 : Int32} {x3 : Int32} {x4 : Int32} {x5 : Int32} {x6 : Int32} (hc : pm_cls h a = some 5) : pm_call pm_prog (d + 1) 325 [.ref a, .int x0, .int x1, .int x2, .int x3, .int x4, .int x5, .int x6] h = pm_ev pm_prog (pm_call pm_prog d) 325 0 b325_0 [.ref a, .int x0, .int x1, .int x2, .int x3, .int x4, .int x5, .int x6, pm_junk, pm_junk, pm_junk, pm_junk, pm_junk, pm_junk, pm_junk, pm_junk, pm_junk, pm_junk] [] h := pm_cal (pm_rc1 hc rfl) rfl rfl rfl
theorem g325_1 {cl : pm_C} {ls st : List Value} {h : pm_H} : pm_go pm_prog cl 325 1 ls st h = pm_ev pm_prog cl 325 1 b325_1 ls st h := pm_go_eq pm_prog cl 325 1 ls st h
theorem g325_2 {cl : pm_C} {ls st : List Value} {h : pm_H} : pm_go pm_prog cl 325 2 ls st h = pm_ev pm_prog cl 325 2 b325_2 ls st h := pm_go_eq pm_prog cl 325 2 ls st h
theorem g325_3 {cl : pm_C} {ls st : List Value} {h : pm_H} : pm_go pm_prog cl 325 3 ls st h = pm_ev pm_prog cl 325 3 b325_3 ls st h := pm_go_eq pm_prog cl 325 3 ls st h
theorem g325_4 {cl : pm_C} {ls st : List Value} {h : pm_H} : pm_go pm_prog cl 325 4 ls st h = pm_ev pm_prog cl 325 4 b325_4 ls st h := pm_go_eq pm_prog cl 325 4 ls st h
theorem g325_5 {cl : pm_C} {ls st : List Value} {h : pm_H} : pm_go pm_prog cl 325 5 ls st h = pm_ev pm_prog cl 325 5 b325_5 ls st h := pm_go_eq pm_prog cl 325 5 ls st h
theorem g325_6 {cl : pm_C} {ls st : List Value} {h : pm_H} : pm_go pm_prog cl 325 6 ls st h = pm_ev pm_prog cl 325 6 b325_6 ls st h := pm_go_eq pm_prog cl 325 6 ls st h
theorem g325_7 {cl : pm_C} {ls st : List Value} {h : pm_H} : pm_go pm_prog cl 325 7 ls st h = pm_ev pm_prog cl 325 7 b325_7 ls st h := pm_go_eq pm_prog cl 325 7 ls st h
theorem g325_8 {cl : pm_C} {ls st : List Value} {h : pm_H} : pm_go pm_prog cl 325 8 ls st h = pm_ev pm_prog cl 325 8 b325_8 ls st h := pm_go_eq pm_prog cl 325 8 ls st h
theorem g325_9 {cl : pm_C} {ls st : List Value} {h : pm_H} : pm_go pm_prog cl 325 9 ls st h = pm_ev pm_prog cl 325 9 b325_9 ls st h := pm_go_eq pm_prog cl 325 9 ls st h
theorem g325_10 {cl : pm_C} {ls st : List Value} {h : pm_H} : pm_go pm_prog cl 325 10 ls st h = pm_ev pm_prog cl 325 10 b325_10 ls st h := pm_go_eq pm_prog cl 325 10 ls st h
noncomputable def f325_b4 (fc : Int32) (pc : Int32) (F : wS → Int32 → Int32 → Int32 → Int32 → Int32 → Int32 → Int32 → Option (Int64 × wS)) : Int32 × Int32 × Int32 × Int32 × Int32 × Int32 × Int32 × Int32 × Int32 × Int32 × Int64 × Int32 × Int32 × wS → Option ((Int32 × Int32 × Int32 × Int32 × Int32 × Int32 × Int32 × Int32 × Int32 × Int32 × Int64 × Int32 × Int32 × wS) ⊕ ((Int32 × Int32 × Int32 × Int32 × Int32 × Int32 × Int32 × Int32 × Int32 × Int32 × Int64 × Int32 × wS))) := fun (x1, x2, x3, x4, x5, x6, x7, x8i, x9, x10, x11, x13, x14, S) =>
  if 0 ≤ x8i ∧ x8i < 4 then
    if (x10 + x14) ≤ x9 then
      (f326 fc pc S x2 x3 x14).bind fun v1 =>
      if v1 = 0 then
        some (.inl (x1, x2, x3, x4, x5, x6, x7, x8i, x9, x10, x11, x13, (x14 + 1), S))
      else
        (f327 fc pc F S x1 x2 x4 x5 x6 x7 x10 x14).bind fun (v2, S3) =>
        if (S3.1 (7, 0, 0) 5) = 0 then
          some (.inl (x1, x2, x3, x4, x5, x6, x7, x8i, x9, x10, x11, x13, (x14 + 1), S3))
        else
          if 0 ≤ (x10 + x14) ∧ (x10 + x14) < 25 then
            if (v2 + (S3.2 (11, x8i, 0) (x10 + x14))) ≤ x11 then
              if (v2 + (S3.2 (11, x8i, 0) (x10 + x14))) = x11 then
                if ((S3.1 (7, 0, 0) 5) + (S3.1 (20, x8i, 0) (x10 + x14))) < x13 then
                  some (.inl (x1, x2, x3, x4, x5, x6, x7, x8i, x9, x10, (v2 + (S3.2 (11, x8i, 0) (x10 + x14))), ((S3.1 (7, 0, 0) 5) + (S3.1 (20, x8i, 0) (x10 + x14))), (x14 + 1), S3))
                else
                  some (.inl (x1, x2, x3, x4, x5, x6, x7, x8i, x9, x10, x11, x13, (x14 + 1), S3))
              else
                some (.inl (x1, x2, x3, x4, x5, x6, x7, x8i, x9, x10, x11, x13, (x14 + 1), S3))
            else
              some (.inl (x1, x2, x3, x4, x5, x6, x7, x8i, x9, x10, (v2 + (S3.2 (11, x8i, 0) (x10 + x14))), ((S3.1 (7, 0, 0) 5) + (S3.1 (20, x8i, 0) (x10 + x14))), (x14 + 1), S3))
          else none
    else
      some (.inr (x1, x2, x3, x4, x5, x6, x7, x8i, x9, x10, x11, x13, S))
  else none
noncomputable def f325_b3 (fc : Int32) (pc : Int32) (F : wS → Int32 → Int32 → Int32 → Int32 → Int32 → Int32 → Int32 → Option (Int64 × wS)) : Int32 × Int32 × Int32 × Int32 × Int32 × Int32 × Int32 × Int32 × Int32 × Int32 × wS → Option ((Int32 × Int32 × Int32 × Int32 × Int32 × Int32 × Int32 × Int32 × Int32 × Int32 × wS) ⊕ ((wS))) := fun (x1, x2, x3, x4, x5, x6, x7, x8i, x9, x10, S) =>
  if 0 ≤ x8i ∧ x8i < 4 then
    if x10 < 0 then
      some (.inr S)
    else
      if 0 ≤ (x10 + 1) ∧ (x10 + 1) < 25 then
        (lp (f325_b4 fc pc F) FU (x1, x2, x3, x4, x5, x6, x7, x8i, x9, x10, (S.2 (11, x8i, 0) (x10 + 1)), (S.1 (20, x8i, 0) (x10 + 1)), 1, S)).bind fun (v6, v7, v8, v9, v10, v11, v12, v13i, v14, v15, v16, v17, S4) =>
        if 0 ≤ v13i ∧ v13i < 4 then
          if 0 ≤ v15 ∧ v15 < 25 then
            some (.inl (v6, v7, v8, v9, v10, v11, v12, v13i, v14, (v15 + (-1)), (sz (sl S4 (11, v13i, 0) v15 v16) (20, v13i, 0) v15 v17)))
          else none
        else none
      else none
  else none
noncomputable def f325_2 (fc : Int32) (pc : Int32) (F : wS → Int32 → Int32 → Int32 → Int32 → Int32 → Int32 → Int32 → Option (Int64 × wS)) (S : wS) (x1 : Int32) (x2 : Int32) (x3 : Int32) (x4 : Int32) (x5 : Int32) (x6 : Int32) (x7 : Int32) (x8i : Int32) (y0 : Int32) : Option (wS) :=
  if 0 ≤ x8i ∧ x8i < 4 then
    if 0 ≤ y0 ∧ y0 < 25 then
      (lp (f325_b3 fc pc F) FU (x1, x2, x3, x4, x5, x6, x7, x8i, y0, (y0 - 1), (sz (sl S (11, x8i, 0) y0 0) (20, x8i, 0) y0 0))).bind fun S18 =>
      some S18
    else none
  else none
/-- TimberHouse$FaultRips$Planner.fill(IZZIIII)V -/
noncomputable def f325 (fc : Int32) (pc : Int32) (F : wS → Int32 → Int32 → Int32 → Int32 → Int32 → Int32 → Int32 → Option (Int64 × wS)) (S : wS) (x1 : Int32) (x2 : Int32) (x3 : Int32) (x4 : Int32) (x5 : Int32) (x6 : Int32) (x7 : Int32) : Option (wS) :=
  if 0 ≤ x1 ∧ x1 < 4 then
    if x2 = 0 then
      f325_2 fc pc F S x1 x2 x3 x4 x5 x6 x7 x1 x5
    else
      f325_2 fc pc F S x1 x2 x3 x4 x5 x6 x7 x1 x7
  else none
def go325_4 (fc : Int32) (pc : Int32) (A : wK → Nat) (h : pm_H) (D : Nat) (R : Outcome × pm_H) : Int32 × Int32 × Int32 × Int32 × Int32 × Int32 × Int32 × Int32 × Int32 × Int32 × Int64 × Int32 × Int32 × wS → Prop := fun (x1, x2, x3, x4, x5, x6, x7, x8i, x9, x10, x11, x13, x14, S) => ∀ q15 q16 q17 : Value, pm_go pm_prog (pm_call pm_prog D) 325 4 [.ref (A (7, 0, 0)), .int x1, .int x2, .int x3, .int x4, .int x5, .int x6, .int x7, .ref (A (10, x8i, 0)), .int x9, .int x10, .long x11, pm_junk, .int x13, .int x14, q15, q16, q17] [] (wput A (Cr_d fc pc) S h) = some R
def ex325_4 (fc : Int32) (pc : Int32) (A : wK → Nat) (h : pm_H) (D : Nat) (R : Outcome × pm_H) : (Int32 × Int32 × Int32 × Int32 × Int32 × Int32 × Int32 × Int32 × Int32 × Int32 × Int64 × Int32 × wS) → Prop := fun (x1, x2, x3, x4, x5, x6, x7, x8i, x9, x10, x11, x13, S) => ∀ q14 q15 q16 q17 : Value, pm_go pm_prog (pm_call pm_prog D) 325 9 [.ref (A (7, 0, 0)), .int x1, .int x2, .int x3, .int x4, .int x5, .int x6, .int x7, .ref (A (10, x8i, 0)), .int x9, .int x10, .long x11, pm_junk, .int x13, q14, q15, q16, q17] [] (wput A (Cr_d fc pc) S h) = some R
theorem y325_b4 {fc : Int32} {pc : Int32} {A : wK → Nat} {h : pm_H} {D : Nat} {F : wS → Int32 → Int32 → Int32 → Int32 → Int32 → Int32 → Int32 → Option (Int64 × wS)} {E : Nat} {R : Outcome × pm_H} (hP : Cr_P fc pc) (hA : wok A (Cr_d fc pc) h.1) (hF : FOK324 fc pc A h E F) (hE : E + 1 ≤ D) (hD : 1 ≤ D) (a : Int32 × Int32 × Int32 × Int32 × Int32 × Int32 × Int32 × Int32 × Int32 × Int32 × Int64 × Int32 × Int32 × wS) (r : (Int32 × Int32 × Int32 × Int32 × Int32 × Int32 × Int32 × Int32 × Int32 × Int32 × Int64 × Int32 × Int32 × wS) ⊕ ((Int32 × Int32 × Int32 × Int32 × Int32 × Int32 × Int32 × Int32 × Int32 × Int32 × Int64 × Int32 × wS))) (e : f325_b4 fc pc F a = some r) (hc : Sum.elim (go325_4 fc pc A h D R) (ex325_4 fc pc A h D R) r) : go325_4 fc pc A h D R a := by
  obtain ⟨x1, x2, x3, x4, x5, x6, x7, x8i, x9, x10, x11, x13, x14, S⟩ := a
  dsimp only [go325_4]
  intro q15 q16 q17
  simp only [f325_b4] at e
  rw [g325_4, b325_4]
  by_cases k1 : 0 ≤ x8i ∧ x8i < 4
  · rw [if_pos k1] at e
    by_cases k2 : (x10 + x14) ≤ x9
    · rw [if_pos k2] at e
      obtain ⟨v1, k3, e⟩ := Option.bind_eq_some_iff.mp e
      try dsimp only at e
      have z3 := x326 (D := D) (h := h) hP hA (by omega) k3
      by_cases k4 : v1 = 0
      · rw [if_pos k4] at e
        have e := Option.some.inj e; subst e
        dsimp only [Sum.elim_inl, go325_4] at hc
        simp -implicitDefEqProofs (disch := first | assumption | exact Nat.le_of_ble_eq_true rfl | decide) only [b325_0, g325_1, b325_1, g325_5, b325_5, g325_6, b325_6, g325_7, b325_7, g325_8, b325_8, g325_9, b325_9, g325_10, b325_10, pe_aload0, pe_getfield, pe_iload1, pe_aaload, pe_astore8, pe_iload2, pe_if_eq, pe_iload7, pe_goto, pe_iload5, pe_goto_w, pe_istore9, pe_aload8, pe_iload9, pe_bipush, pe_lastore, pe_sipush, pe_iastore, pe_isub, pe_istore10, pe_iload10, pe_if_lt, pe_iadd, pe_laload, pe_lstore11, pe_iaload, pe_istore13, pe_istore14, pe_iload14, pe_icmp_gt, pe_iload3, pe_call4, pm_af_ret, pm_af_void, pm_af_thr, pe_if_ne, pe_iload4, pe_iload6, pe_call9, pe_lstore15, pe_istore17, pe_iload17, pe_lload15, pe_ladd, pe_lload11, pe_lcmp, pe_if_gt, pe_iload13, pe_icmp_ge, pe_iinc14, pe_iinc10, pe_return, pm_prog_1, pm_ob_some, Nat.reduceDiv, Nat.reduceMod, Nat.reduceMul, Nat.reduceAdd, Int.reduceToNat, pm_kill_i, pm_kill_r, pm_kill_n, pm_kill_j, pm_kill_l, pm_kill_d, pm_cats_nil, pm_cats_i, pm_cats_r, pm_cats_n, pm_cats_l, pm_cats_d, sz_1, sz_2, sl_1, sl_2, lc_0, lc_lt, lc_le, li_ne, va_rf, wr_m1, we_m1, pm_kill_w, Int32.reduceOfInt, Int64.reduceOfInt, Int32.reduceOfNat, Int32.reduceLT, Int32.reduceLE, Prod.mk.injEq, Nat.reduceEqDiff, reduceCtorEq, and_true, true_and, and_false, false_and, and_self, ite_true, ite_false, ↓reduceIte, not_true_eq_false, not_false_eq_true, pe_ri, pe_rz, pe_rc, Cr_g10_0 hP hA, Cr_g10_1 hP hA, Cr_g7_4 hP hA, Cr_g7_5 hP hA, Cr_r11 hP hA, Cr_r20 hP hA, Cr_r9 hP hA, Cr_w11 hP hA, Cr_w20 hP hA, eq_true k2, z3, eq_true k4, hc]
      · rw [if_neg k4] at e
        obtain ⟨⟨v2, S3⟩, k5, e⟩ := Option.bind_eq_some_iff.mp e
        try dsimp only at e
        have z5 := x327 (D := D) (h := h) hP hA hF (by omega) (by omega) k5
        dsimp only at z5
        by_cases k6 : (S3.1 (7, 0, 0) 5) = 0
        · rw [if_pos k6] at e
          have e := Option.some.inj e; subst e
          dsimp only [Sum.elim_inl, go325_4] at hc
          simp -implicitDefEqProofs (disch := first | assumption | exact Nat.le_of_ble_eq_true rfl | decide) only [b325_0, g325_1, b325_1, g325_5, b325_5, g325_6, b325_6, g325_7, b325_7, g325_8, b325_8, g325_9, b325_9, g325_10, b325_10, pe_aload0, pe_getfield, pe_iload1, pe_aaload, pe_astore8, pe_iload2, pe_if_eq, pe_iload7, pe_goto, pe_iload5, pe_goto_w, pe_istore9, pe_aload8, pe_iload9, pe_bipush, pe_lastore, pe_sipush, pe_iastore, pe_isub, pe_istore10, pe_iload10, pe_if_lt, pe_iadd, pe_laload, pe_lstore11, pe_iaload, pe_istore13, pe_istore14, pe_iload14, pe_icmp_gt, pe_iload3, pe_call4, pm_af_ret, pm_af_void, pm_af_thr, pe_if_ne, pe_iload4, pe_iload6, pe_call9, pe_lstore15, pe_istore17, pe_iload17, pe_lload15, pe_ladd, pe_lload11, pe_lcmp, pe_if_gt, pe_iload13, pe_icmp_ge, pe_iinc14, pe_iinc10, pe_return, pm_prog_1, pm_ob_some, Nat.reduceDiv, Nat.reduceMod, Nat.reduceMul, Nat.reduceAdd, Int.reduceToNat, pm_kill_i, pm_kill_r, pm_kill_n, pm_kill_j, pm_kill_l, pm_kill_d, pm_cats_nil, pm_cats_i, pm_cats_r, pm_cats_n, pm_cats_l, pm_cats_d, sz_1, sz_2, sl_1, sl_2, lc_0, lc_lt, lc_le, li_ne, va_rf, wr_m1, we_m1, pm_kill_w, Int32.reduceOfInt, Int64.reduceOfInt, Int32.reduceOfNat, Int32.reduceLT, Int32.reduceLE, Prod.mk.injEq, Nat.reduceEqDiff, reduceCtorEq, and_true, true_and, and_false, false_and, and_self, ite_true, ite_false, ↓reduceIte, not_true_eq_false, not_false_eq_true, pe_ri, pe_rz, pe_rc, Cr_g10_0 hP hA, Cr_g10_1 hP hA, Cr_g7_4 hP hA, Cr_g7_5 hP hA, Cr_r11 hP hA, Cr_r20 hP hA, Cr_r9 hP hA, Cr_w11 hP hA, Cr_w20 hP hA, eq_true k2, z3, eq_false k4, z5, eq_true k6, hc]
        · rw [if_neg k6] at e
          by_cases k7 : 0 ≤ (x10 + x14) ∧ (x10 + x14) < 25
          · rw [if_pos k7] at e
            by_cases k8 : (v2 + (S3.2 (11, x8i, 0) (x10 + x14))) ≤ x11
            · rw [if_pos k8] at e
              by_cases k9 : (v2 + (S3.2 (11, x8i, 0) (x10 + x14))) = x11
              · rw [if_pos k9] at e
                by_cases k10 : ((S3.1 (7, 0, 0) 5) + (S3.1 (20, x8i, 0) (x10 + x14))) < x13
                · rw [if_pos k10] at e
                  have e := Option.some.inj e; subst e
                  dsimp only [Sum.elim_inl, go325_4] at hc
                  simp -implicitDefEqProofs (disch := first | assumption | exact Nat.le_of_ble_eq_true rfl | decide) only [b325_0, g325_1, b325_1, g325_5, b325_5, g325_6, b325_6, g325_7, b325_7, g325_8, b325_8, g325_9, b325_9, g325_10, b325_10, pe_aload0, pe_getfield, pe_iload1, pe_aaload, pe_astore8, pe_iload2, pe_if_eq, pe_iload7, pe_goto, pe_iload5, pe_goto_w, pe_istore9, pe_aload8, pe_iload9, pe_bipush, pe_lastore, pe_sipush, pe_iastore, pe_isub, pe_istore10, pe_iload10, pe_if_lt, pe_iadd, pe_laload, pe_lstore11, pe_iaload, pe_istore13, pe_istore14, pe_iload14, pe_icmp_gt, pe_iload3, pe_call4, pm_af_ret, pm_af_void, pm_af_thr, pe_if_ne, pe_iload4, pe_iload6, pe_call9, pe_lstore15, pe_istore17, pe_iload17, pe_lload15, pe_ladd, pe_lload11, pe_lcmp, pe_if_gt, pe_iload13, pe_icmp_ge, pe_iinc14, pe_iinc10, pe_return, pm_prog_1, pm_ob_some, Nat.reduceDiv, Nat.reduceMod, Nat.reduceMul, Nat.reduceAdd, Int.reduceToNat, pm_kill_i, pm_kill_r, pm_kill_n, pm_kill_j, pm_kill_l, pm_kill_d, pm_cats_nil, pm_cats_i, pm_cats_r, pm_cats_n, pm_cats_l, pm_cats_d, sz_1, sz_2, sl_1, sl_2, lc_0, lc_lt, lc_le, li_ne, va_rf, wr_m1, we_m1, pm_kill_w, Int32.reduceOfInt, Int64.reduceOfInt, Int32.reduceOfNat, Int32.reduceLT, Int32.reduceLE, Prod.mk.injEq, Nat.reduceEqDiff, reduceCtorEq, and_true, true_and, and_false, false_and, and_self, ite_true, ite_false, ↓reduceIte, not_true_eq_false, not_false_eq_true, pe_ri, pe_rz, pe_rc, Cr_g10_0 hP hA, Cr_g10_1 hP hA, Cr_g7_4 hP hA, Cr_g7_5 hP hA, Cr_r11 hP hA, Cr_r20 hP hA, Cr_r9 hP hA, Cr_w11 hP hA, Cr_w20 hP hA, eq_true k2, z3, eq_false k4, z5, eq_false k6, eq_true k8, eq_true k9, eq_true k10, hc]
                · rw [if_neg k10] at e
                  have e := Option.some.inj e; subst e
                  dsimp only [Sum.elim_inl, go325_4] at hc
                  simp -implicitDefEqProofs (disch := first | assumption | exact Nat.le_of_ble_eq_true rfl | decide) only [b325_0, g325_1, b325_1, g325_5, b325_5, g325_6, b325_6, g325_7, b325_7, g325_8, b325_8, g325_9, b325_9, g325_10, b325_10, pe_aload0, pe_getfield, pe_iload1, pe_aaload, pe_astore8, pe_iload2, pe_if_eq, pe_iload7, pe_goto, pe_iload5, pe_goto_w, pe_istore9, pe_aload8, pe_iload9, pe_bipush, pe_lastore, pe_sipush, pe_iastore, pe_isub, pe_istore10, pe_iload10, pe_if_lt, pe_iadd, pe_laload, pe_lstore11, pe_iaload, pe_istore13, pe_istore14, pe_iload14, pe_icmp_gt, pe_iload3, pe_call4, pm_af_ret, pm_af_void, pm_af_thr, pe_if_ne, pe_iload4, pe_iload6, pe_call9, pe_lstore15, pe_istore17, pe_iload17, pe_lload15, pe_ladd, pe_lload11, pe_lcmp, pe_if_gt, pe_iload13, pe_icmp_ge, pe_iinc14, pe_iinc10, pe_return, pm_prog_1, pm_ob_some, Nat.reduceDiv, Nat.reduceMod, Nat.reduceMul, Nat.reduceAdd, Int.reduceToNat, pm_kill_i, pm_kill_r, pm_kill_n, pm_kill_j, pm_kill_l, pm_kill_d, pm_cats_nil, pm_cats_i, pm_cats_r, pm_cats_n, pm_cats_l, pm_cats_d, sz_1, sz_2, sl_1, sl_2, lc_0, lc_lt, lc_le, li_ne, va_rf, wr_m1, we_m1, pm_kill_w, Int32.reduceOfInt, Int64.reduceOfInt, Int32.reduceOfNat, Int32.reduceLT, Int32.reduceLE, Prod.mk.injEq, Nat.reduceEqDiff, reduceCtorEq, and_true, true_and, and_false, false_and, and_self, ite_true, ite_false, ↓reduceIte, not_true_eq_false, not_false_eq_true, pe_ri, pe_rz, pe_rc, Cr_g10_0 hP hA, Cr_g10_1 hP hA, Cr_g7_4 hP hA, Cr_g7_5 hP hA, Cr_r11 hP hA, Cr_r20 hP hA, Cr_r9 hP hA, Cr_w11 hP hA, Cr_w20 hP hA, eq_true k2, z3, eq_false k4, z5, eq_false k6, eq_true k8, eq_true k9, eq_false k10, hc]
              · rw [if_neg k9] at e
                have e := Option.some.inj e; subst e
                dsimp only [Sum.elim_inl, go325_4] at hc
                simp -implicitDefEqProofs (disch := first | assumption | exact Nat.le_of_ble_eq_true rfl | decide) only [b325_0, g325_1, b325_1, g325_5, b325_5, g325_6, b325_6, g325_7, b325_7, g325_8, b325_8, g325_9, b325_9, g325_10, b325_10, pe_aload0, pe_getfield, pe_iload1, pe_aaload, pe_astore8, pe_iload2, pe_if_eq, pe_iload7, pe_goto, pe_iload5, pe_goto_w, pe_istore9, pe_aload8, pe_iload9, pe_bipush, pe_lastore, pe_sipush, pe_iastore, pe_isub, pe_istore10, pe_iload10, pe_if_lt, pe_iadd, pe_laload, pe_lstore11, pe_iaload, pe_istore13, pe_istore14, pe_iload14, pe_icmp_gt, pe_iload3, pe_call4, pm_af_ret, pm_af_void, pm_af_thr, pe_if_ne, pe_iload4, pe_iload6, pe_call9, pe_lstore15, pe_istore17, pe_iload17, pe_lload15, pe_ladd, pe_lload11, pe_lcmp, pe_if_gt, pe_iload13, pe_icmp_ge, pe_iinc14, pe_iinc10, pe_return, pm_prog_1, pm_ob_some, Nat.reduceDiv, Nat.reduceMod, Nat.reduceMul, Nat.reduceAdd, Int.reduceToNat, pm_kill_i, pm_kill_r, pm_kill_n, pm_kill_j, pm_kill_l, pm_kill_d, pm_cats_nil, pm_cats_i, pm_cats_r, pm_cats_n, pm_cats_l, pm_cats_d, sz_1, sz_2, sl_1, sl_2, lc_0, lc_lt, lc_le, li_ne, va_rf, wr_m1, we_m1, pm_kill_w, Int32.reduceOfInt, Int64.reduceOfInt, Int32.reduceOfNat, Int32.reduceLT, Int32.reduceLE, Prod.mk.injEq, Nat.reduceEqDiff, reduceCtorEq, and_true, true_and, and_false, false_and, and_self, ite_true, ite_false, ↓reduceIte, not_true_eq_false, not_false_eq_true, pe_ri, pe_rz, pe_rc, Cr_g10_0 hP hA, Cr_g10_1 hP hA, Cr_g7_4 hP hA, Cr_g7_5 hP hA, Cr_r11 hP hA, Cr_r20 hP hA, Cr_r9 hP hA, Cr_w11 hP hA, Cr_w20 hP hA, eq_true k2, z3, eq_false k4, z5, eq_false k6, eq_true k8, eq_false k9, hc]
            · rw [if_neg k8] at e
              have e := Option.some.inj e; subst e
              dsimp only [Sum.elim_inl, go325_4] at hc
              simp -implicitDefEqProofs (disch := first | assumption | exact Nat.le_of_ble_eq_true rfl | decide) only [b325_0, g325_1, b325_1, g325_5, b325_5, g325_6, b325_6, g325_7, b325_7, g325_8, b325_8, g325_9, b325_9, g325_10, b325_10, pe_aload0, pe_getfield, pe_iload1, pe_aaload, pe_astore8, pe_iload2, pe_if_eq, pe_iload7, pe_goto, pe_iload5, pe_goto_w, pe_istore9, pe_aload8, pe_iload9, pe_bipush, pe_lastore, pe_sipush, pe_iastore, pe_isub, pe_istore10, pe_iload10, pe_if_lt, pe_iadd, pe_laload, pe_lstore11, pe_iaload, pe_istore13, pe_istore14, pe_iload14, pe_icmp_gt, pe_iload3, pe_call4, pm_af_ret, pm_af_void, pm_af_thr, pe_if_ne, pe_iload4, pe_iload6, pe_call9, pe_lstore15, pe_istore17, pe_iload17, pe_lload15, pe_ladd, pe_lload11, pe_lcmp, pe_if_gt, pe_iload13, pe_icmp_ge, pe_iinc14, pe_iinc10, pe_return, pm_prog_1, pm_ob_some, Nat.reduceDiv, Nat.reduceMod, Nat.reduceMul, Nat.reduceAdd, Int.reduceToNat, pm_kill_i, pm_kill_r, pm_kill_n, pm_kill_j, pm_kill_l, pm_kill_d, pm_cats_nil, pm_cats_i, pm_cats_r, pm_cats_n, pm_cats_l, pm_cats_d, sz_1, sz_2, sl_1, sl_2, lc_0, lc_lt, lc_le, li_ne, va_rf, wr_m1, we_m1, pm_kill_w, Int32.reduceOfInt, Int64.reduceOfInt, Int32.reduceOfNat, Int32.reduceLT, Int32.reduceLE, Prod.mk.injEq, Nat.reduceEqDiff, reduceCtorEq, and_true, true_and, and_false, false_and, and_self, ite_true, ite_false, ↓reduceIte, not_true_eq_false, not_false_eq_true, pe_ri, pe_rz, pe_rc, Cr_g10_0 hP hA, Cr_g10_1 hP hA, Cr_g7_4 hP hA, Cr_g7_5 hP hA, Cr_r11 hP hA, Cr_r20 hP hA, Cr_r9 hP hA, Cr_w11 hP hA, Cr_w20 hP hA, eq_true k2, z3, eq_false k4, z5, eq_false k6, eq_false k8, hc]
          · rw [if_neg k7] at e; cases e
    · rw [if_neg k2] at e
      have e := Option.some.inj e; subst e
      dsimp only [Sum.elim_inr, ex325_4] at hc
      simp -implicitDefEqProofs (disch := first | assumption | exact Nat.le_of_ble_eq_true rfl | decide) only [b325_0, g325_1, b325_1, g325_5, b325_5, g325_6, b325_6, g325_7, b325_7, g325_8, b325_8, g325_9, b325_9, g325_10, b325_10, pe_aload0, pe_getfield, pe_iload1, pe_aaload, pe_astore8, pe_iload2, pe_if_eq, pe_iload7, pe_goto, pe_iload5, pe_goto_w, pe_istore9, pe_aload8, pe_iload9, pe_bipush, pe_lastore, pe_sipush, pe_iastore, pe_isub, pe_istore10, pe_iload10, pe_if_lt, pe_iadd, pe_laload, pe_lstore11, pe_iaload, pe_istore13, pe_istore14, pe_iload14, pe_icmp_gt, pe_iload3, pe_call4, pm_af_ret, pm_af_void, pm_af_thr, pe_if_ne, pe_iload4, pe_iload6, pe_call9, pe_lstore15, pe_istore17, pe_iload17, pe_lload15, pe_ladd, pe_lload11, pe_lcmp, pe_if_gt, pe_iload13, pe_icmp_ge, pe_iinc14, pe_iinc10, pe_return, pm_prog_1, pm_ob_some, Nat.reduceDiv, Nat.reduceMod, Nat.reduceMul, Nat.reduceAdd, Int.reduceToNat, pm_kill_i, pm_kill_r, pm_kill_n, pm_kill_j, pm_kill_l, pm_kill_d, pm_cats_nil, pm_cats_i, pm_cats_r, pm_cats_n, pm_cats_l, pm_cats_d, sz_1, sz_2, sl_1, sl_2, lc_0, lc_lt, lc_le, li_ne, va_rf, wr_m1, we_m1, pm_kill_w, Int32.reduceOfInt, Int64.reduceOfInt, Int32.reduceOfNat, Int32.reduceLT, Int32.reduceLE, Prod.mk.injEq, Nat.reduceEqDiff, reduceCtorEq, and_true, true_and, and_false, false_and, and_self, ite_true, ite_false, ↓reduceIte, not_true_eq_false, not_false_eq_true, pe_ri, pe_rz, pe_rc, Cr_g10_0 hP hA, Cr_g10_1 hP hA, Cr_g7_4 hP hA, Cr_g7_5 hP hA, Cr_r11 hP hA, Cr_r20 hP hA, Cr_r9 hP hA, Cr_w11 hP hA, Cr_w20 hP hA, eq_false k2, hc]
  · rw [if_neg k1] at e; cases e
theorem z325_4 {fc : Int32} {pc : Int32} {A : wK → Nat} {h : pm_H} {D : Nat} {F : wS → Int32 → Int32 → Int32 → Int32 → Int32 → Int32 → Int32 → Option (Int64 × wS)} {E : Nat} {R : Outcome × pm_H} (hP : Cr_P fc pc) (hA : wok A (Cr_d fc pc) h.1) (hF : FOK324 fc pc A h E F) (hE : E + 1 ≤ D) (hD : 1 ≤ D) {n : Nat} {a : Int32 × Int32 × Int32 × Int32 × Int32 × Int32 × Int32 × Int32 × Int32 × Int32 × Int64 × Int32 × Int32 × wS} {b : (Int32 × Int32 × Int32 × Int32 × Int32 × Int32 × Int32 × Int32 × Int32 × Int32 × Int64 × Int32 × wS)} (e : lp (f325_b4 fc pc F) n a = some b) (hx : ex325_4 fc pc A h D R b) : go325_4 fc pc A h D R a := lp_run (fun a r => y325_b4 hP hA hF hE hD a r) n a b e hx
def go325_3 (fc : Int32) (pc : Int32) (A : wK → Nat) (h : pm_H) (D : Nat) (R : Outcome × pm_H) : Int32 × Int32 × Int32 × Int32 × Int32 × Int32 × Int32 × Int32 × Int32 × Int32 × wS → Prop := fun (x1, x2, x3, x4, x5, x6, x7, x8i, x9, x10, S) => ∀ q11 q12 q13 q14 q15 q16 q17 : Value, pm_go pm_prog (pm_call pm_prog D) 325 3 [.ref (A (7, 0, 0)), .int x1, .int x2, .int x3, .int x4, .int x5, .int x6, .int x7, .ref (A (10, x8i, 0)), .int x9, .int x10, q11, q12, q13, q14, q15, q16, q17] [] (wput A (Cr_d fc pc) S h) = some R
def ex325_3 (fc : Int32) (pc : Int32) (A : wK → Nat) (h : pm_H) (D : Nat) (R : Outcome × pm_H) : (wS) → Prop := fun S => ∀ q0 q1 q2 q3 q4 q5 q6 q7 q8 q9 q10 q11 q12 q13 q14 q15 q16 q17 : Value, pm_go pm_prog (pm_call pm_prog D) 325 10 [q0, q1, q2, q3, q4, q5, q6, q7, q8, q9, q10, q11, q12, q13, q14, q15, q16, q17] [] (wput A (Cr_d fc pc) S h) = some R
theorem y325_b3 {fc : Int32} {pc : Int32} {A : wK → Nat} {h : pm_H} {D : Nat} {F : wS → Int32 → Int32 → Int32 → Int32 → Int32 → Int32 → Int32 → Option (Int64 × wS)} {E : Nat} {R : Outcome × pm_H} (hP : Cr_P fc pc) (hA : wok A (Cr_d fc pc) h.1) (hF : FOK324 fc pc A h E F) (hE : E + 1 ≤ D) (hD : 1 ≤ D) (a : Int32 × Int32 × Int32 × Int32 × Int32 × Int32 × Int32 × Int32 × Int32 × Int32 × wS) (r : (Int32 × Int32 × Int32 × Int32 × Int32 × Int32 × Int32 × Int32 × Int32 × Int32 × wS) ⊕ ((wS))) (e : f325_b3 fc pc F a = some r) (hc : Sum.elim (go325_3 fc pc A h D R) (ex325_3 fc pc A h D R) r) : go325_3 fc pc A h D R a := by
  obtain ⟨x1, x2, x3, x4, x5, x6, x7, x8i, x9, x10, S⟩ := a
  dsimp only [go325_3]
  intro q11 q12 q13 q14 q15 q16 q17
  simp only [f325_b3] at e
  rw [g325_3, b325_3]
  by_cases k1 : 0 ≤ x8i ∧ x8i < 4
  · rw [if_pos k1] at e
    by_cases k2 : x10 < 0
    · rw [if_pos k2] at e
      have e := Option.some.inj e; subst e
      dsimp only [Sum.elim_inr, ex325_3] at hc
      simp -implicitDefEqProofs (disch := first | assumption | exact Nat.le_of_ble_eq_true rfl | decide) only [b325_0, g325_1, b325_1, g325_5, b325_5, g325_6, b325_6, g325_7, b325_7, g325_8, b325_8, g325_9, b325_9, g325_10, b325_10, pe_aload0, pe_getfield, pe_iload1, pe_aaload, pe_astore8, pe_iload2, pe_if_eq, pe_iload7, pe_goto, pe_iload5, pe_goto_w, pe_istore9, pe_aload8, pe_iload9, pe_bipush, pe_lastore, pe_sipush, pe_iastore, pe_isub, pe_istore10, pe_iload10, pe_if_lt, pe_iadd, pe_laload, pe_lstore11, pe_iaload, pe_istore13, pe_istore14, pe_iload14, pe_icmp_gt, pe_iload3, pe_call4, pm_af_ret, pm_af_void, pm_af_thr, pe_if_ne, pe_iload4, pe_iload6, pe_call9, pe_lstore15, pe_istore17, pe_iload17, pe_lload15, pe_ladd, pe_lload11, pe_lcmp, pe_if_gt, pe_iload13, pe_icmp_ge, pe_iinc14, pe_iinc10, pe_return, pm_prog_1, pm_ob_some, Nat.reduceDiv, Nat.reduceMod, Nat.reduceMul, Nat.reduceAdd, Int.reduceToNat, pm_kill_i, pm_kill_r, pm_kill_n, pm_kill_j, pm_kill_l, pm_kill_d, pm_cats_nil, pm_cats_i, pm_cats_r, pm_cats_n, pm_cats_l, pm_cats_d, sz_1, sz_2, sl_1, sl_2, lc_0, lc_lt, lc_le, li_ne, va_rf, wr_m1, we_m1, pm_kill_w, Int32.reduceOfInt, Int64.reduceOfInt, Int32.reduceOfNat, Int32.reduceLT, Int32.reduceLE, Prod.mk.injEq, Nat.reduceEqDiff, reduceCtorEq, and_true, true_and, and_false, false_and, and_self, ite_true, ite_false, ↓reduceIte, not_true_eq_false, not_false_eq_true, pe_ri, pe_rz, pe_rc, Cr_g10_0 hP hA, Cr_g10_1 hP hA, Cr_g7_4 hP hA, Cr_g7_5 hP hA, Cr_r11 hP hA, Cr_r20 hP hA, Cr_r9 hP hA, Cr_w11 hP hA, Cr_w20 hP hA, eq_true k2, hc]
    · rw [if_neg k2] at e
      by_cases k3 : 0 ≤ (x10 + 1) ∧ (x10 + 1) < 25
      · rw [if_pos k3] at e
        obtain ⟨⟨v6, v7, v8, v9, v10, v11, v12, v13i, v14, v15, v16, v17, S4⟩, k4, e⟩ := Option.bind_eq_some_iff.mp e
        try dsimp only at e
        try simp -implicitDefEqProofs (disch := first | assumption | exact Nat.le_of_ble_eq_true rfl | decide) only [b325_0, g325_1, b325_1, g325_5, b325_5, g325_6, b325_6, g325_7, b325_7, g325_8, b325_8, g325_9, b325_9, g325_10, b325_10, pe_aload0, pe_getfield, pe_iload1, pe_aaload, pe_astore8, pe_iload2, pe_if_eq, pe_iload7, pe_goto, pe_iload5, pe_goto_w, pe_istore9, pe_aload8, pe_iload9, pe_bipush, pe_lastore, pe_sipush, pe_iastore, pe_isub, pe_istore10, pe_iload10, pe_if_lt, pe_iadd, pe_laload, pe_lstore11, pe_iaload, pe_istore13, pe_istore14, pe_iload14, pe_icmp_gt, pe_iload3, pe_call4, pm_af_ret, pm_af_void, pm_af_thr, pe_if_ne, pe_iload4, pe_iload6, pe_call9, pe_lstore15, pe_istore17, pe_iload17, pe_lload15, pe_ladd, pe_lload11, pe_lcmp, pe_if_gt, pe_iload13, pe_icmp_ge, pe_iinc14, pe_iinc10, pe_return, pm_prog_1, pm_ob_some, Nat.reduceDiv, Nat.reduceMod, Nat.reduceMul, Nat.reduceAdd, Int.reduceToNat, pm_kill_i, pm_kill_r, pm_kill_n, pm_kill_j, pm_kill_l, pm_kill_d, pm_cats_nil, pm_cats_i, pm_cats_r, pm_cats_n, pm_cats_l, pm_cats_d, sz_1, sz_2, sl_1, sl_2, lc_0, lc_lt, lc_le, li_ne, va_rf, wr_m1, we_m1, pm_kill_w, Int32.reduceOfInt, Int64.reduceOfInt, Int32.reduceOfNat, Int32.reduceLT, Int32.reduceLE, Prod.mk.injEq, Nat.reduceEqDiff, reduceCtorEq, and_true, true_and, and_false, false_and, and_self, ite_true, ite_false, ↓reduceIte, not_true_eq_false, not_false_eq_true, pe_ri, pe_rz, pe_rc, Cr_g10_0 hP hA, Cr_g10_1 hP hA, Cr_g7_4 hP hA, Cr_g7_5 hP hA, Cr_r11 hP hA, Cr_r20 hP hA, Cr_r9 hP hA, Cr_w11 hP hA, Cr_w20 hP hA, eq_false k2]
        refine z325_4 hP hA hF hE hD k4 ?_ _ _ _
        dsimp only [ex325_4]
        intro q14 q15 q16 q17
        by_cases k5 : 0 ≤ v13i ∧ v13i < 4
        · rw [if_pos k5] at e
          by_cases k6 : 0 ≤ v15 ∧ v15 < 25
          · rw [if_pos k6] at e
            have e := Option.some.inj e; subst e
            dsimp only [Sum.elim_inl, go325_3] at hc
            simp -implicitDefEqProofs (disch := first | assumption | exact Nat.le_of_ble_eq_true rfl | decide) only [b325_0, g325_1, b325_1, g325_5, b325_5, g325_6, b325_6, g325_7, b325_7, g325_8, b325_8, g325_9, b325_9, g325_10, b325_10, pe_aload0, pe_getfield, pe_iload1, pe_aaload, pe_astore8, pe_iload2, pe_if_eq, pe_iload7, pe_goto, pe_iload5, pe_goto_w, pe_istore9, pe_aload8, pe_iload9, pe_bipush, pe_lastore, pe_sipush, pe_iastore, pe_isub, pe_istore10, pe_iload10, pe_if_lt, pe_iadd, pe_laload, pe_lstore11, pe_iaload, pe_istore13, pe_istore14, pe_iload14, pe_icmp_gt, pe_iload3, pe_call4, pm_af_ret, pm_af_void, pm_af_thr, pe_if_ne, pe_iload4, pe_iload6, pe_call9, pe_lstore15, pe_istore17, pe_iload17, pe_lload15, pe_ladd, pe_lload11, pe_lcmp, pe_if_gt, pe_iload13, pe_icmp_ge, pe_iinc14, pe_iinc10, pe_return, pm_prog_1, pm_ob_some, Nat.reduceDiv, Nat.reduceMod, Nat.reduceMul, Nat.reduceAdd, Int.reduceToNat, pm_kill_i, pm_kill_r, pm_kill_n, pm_kill_j, pm_kill_l, pm_kill_d, pm_cats_nil, pm_cats_i, pm_cats_r, pm_cats_n, pm_cats_l, pm_cats_d, sz_1, sz_2, sl_1, sl_2, lc_0, lc_lt, lc_le, li_ne, va_rf, wr_m1, we_m1, pm_kill_w, Int32.reduceOfInt, Int64.reduceOfInt, Int32.reduceOfNat, Int32.reduceLT, Int32.reduceLE, Prod.mk.injEq, Nat.reduceEqDiff, reduceCtorEq, and_true, true_and, and_false, false_and, and_self, ite_true, ite_false, ↓reduceIte, not_true_eq_false, not_false_eq_true, pe_ri, pe_rz, pe_rc, Cr_g10_0 hP hA, Cr_g10_1 hP hA, Cr_g7_4 hP hA, Cr_g7_5 hP hA, Cr_r11 hP hA, Cr_r20 hP hA, Cr_r9 hP hA, Cr_w11 hP hA, Cr_w20 hP hA, eq_false k2, hc]
          · rw [if_neg k6] at e; cases e
        · rw [if_neg k5] at e; cases e
      · rw [if_neg k3] at e; cases e
  · rw [if_neg k1] at e; cases e
theorem z325_3 {fc : Int32} {pc : Int32} {A : wK → Nat} {h : pm_H} {D : Nat} {F : wS → Int32 → Int32 → Int32 → Int32 → Int32 → Int32 → Int32 → Option (Int64 × wS)} {E : Nat} {R : Outcome × pm_H} (hP : Cr_P fc pc) (hA : wok A (Cr_d fc pc) h.1) (hF : FOK324 fc pc A h E F) (hE : E + 1 ≤ D) (hD : 1 ≤ D) {n : Nat} {a : Int32 × Int32 × Int32 × Int32 × Int32 × Int32 × Int32 × Int32 × Int32 × Int32 × wS} {b : (wS)} (e : lp (f325_b3 fc pc F) n a = some b) (hx : ex325_3 fc pc A h D R b) : go325_3 fc pc A h D R a := lp_run (fun a r => y325_b3 hP hA hF hE hD a r) n a b e hx
theorem y325_2 {fc : Int32} {pc : Int32} {A : wK → Nat} {h : pm_H} {D : Nat} {F : wS → Int32 → Int32 → Int32 → Int32 → Int32 → Int32 → Int32 → Option (Int64 × wS)} {E : Nat} {S : wS} {x1 : Int32} {x2 : Int32} {x3 : Int32} {x4 : Int32} {x5 : Int32} {x6 : Int32} {x7 : Int32} {x8i : Int32} {y0 : Int32} {r : wS} (hP : Cr_P fc pc) (hA : wok A (Cr_d fc pc) h.1) (hF : FOK324 fc pc A h E F) (hE : E + 1 ≤ D) (hD : 1 ≤ D) (e : f325_2 fc pc F S x1 x2 x3 x4 x5 x6 x7 x8i y0 = some r) : ∀ q9 q10 q11 q12 q13 q14 q15 q16 q17 : Value, pm_go pm_prog (pm_call pm_prog D) 325 2 [.ref (A (7, 0, 0)), .int x1, .int x2, .int x3, .int x4, .int x5, .int x6, .int x7, .ref (A (10, x8i, 0)), q9, q10, q11, q12, q13, q14, q15, q16, q17] [.int y0] (wput A (Cr_d fc pc) S h) = some (Outcome.returned none, (wput A (Cr_d fc pc) r h)) := by
  intro q9 q10 q11 q12 q13 q14 q15 q16 q17
  simp only [f325_2] at e
  rw [g325_2, b325_2]
  by_cases k1 : 0 ≤ x8i ∧ x8i < 4
  · rw [if_pos k1] at e
    by_cases k2 : 0 ≤ y0 ∧ y0 < 25
    · rw [if_pos k2] at e
      obtain ⟨S18, k3, e⟩ := Option.bind_eq_some_iff.mp e
      try dsimp only at e
      try simp -implicitDefEqProofs (disch := first | assumption | exact Nat.le_of_ble_eq_true rfl | decide) only [b325_0, g325_1, b325_1, g325_5, b325_5, g325_6, b325_6, g325_7, b325_7, g325_8, b325_8, g325_9, b325_9, g325_10, b325_10, pe_aload0, pe_getfield, pe_iload1, pe_aaload, pe_astore8, pe_iload2, pe_if_eq, pe_iload7, pe_goto, pe_iload5, pe_goto_w, pe_istore9, pe_aload8, pe_iload9, pe_bipush, pe_lastore, pe_sipush, pe_iastore, pe_isub, pe_istore10, pe_iload10, pe_if_lt, pe_iadd, pe_laload, pe_lstore11, pe_iaload, pe_istore13, pe_istore14, pe_iload14, pe_icmp_gt, pe_iload3, pe_call4, pm_af_ret, pm_af_void, pm_af_thr, pe_if_ne, pe_iload4, pe_iload6, pe_call9, pe_lstore15, pe_istore17, pe_iload17, pe_lload15, pe_ladd, pe_lload11, pe_lcmp, pe_if_gt, pe_iload13, pe_icmp_ge, pe_iinc14, pe_iinc10, pe_return, pm_prog_1, pm_ob_some, Nat.reduceDiv, Nat.reduceMod, Nat.reduceMul, Nat.reduceAdd, Int.reduceToNat, pm_kill_i, pm_kill_r, pm_kill_n, pm_kill_j, pm_kill_l, pm_kill_d, pm_cats_nil, pm_cats_i, pm_cats_r, pm_cats_n, pm_cats_l, pm_cats_d, sz_1, sz_2, sl_1, sl_2, lc_0, lc_lt, lc_le, li_ne, va_rf, wr_m1, we_m1, pm_kill_w, Int32.reduceOfInt, Int64.reduceOfInt, Int32.reduceOfNat, Int32.reduceLT, Int32.reduceLE, Prod.mk.injEq, Nat.reduceEqDiff, reduceCtorEq, and_true, true_and, and_false, false_and, and_self, ite_true, ite_false, ↓reduceIte, not_true_eq_false, not_false_eq_true, pe_ri, pe_rz, pe_rc, Cr_g10_0 hP hA, Cr_g10_1 hP hA, Cr_g7_4 hP hA, Cr_g7_5 hP hA, Cr_r11 hP hA, Cr_r20 hP hA, Cr_r9 hP hA, Cr_w11 hP hA, Cr_w20 hP hA]
      refine z325_3 hP hA hF hE hD k3 ?_ _ _ _ _ _ _ _
      dsimp only [ex325_3]
      intro q0 q1 q2 q3 q4 q5 q6 q7 q8 q9 q10 q11 q12 q13 q14 q15 q16 q17
      have e := Option.some.inj e; subst e
      simp -implicitDefEqProofs (disch := first | assumption | exact Nat.le_of_ble_eq_true rfl | decide) only [b325_0, g325_1, b325_1, g325_5, b325_5, g325_6, b325_6, g325_7, b325_7, g325_8, b325_8, g325_9, b325_9, g325_10, b325_10, pe_aload0, pe_getfield, pe_iload1, pe_aaload, pe_astore8, pe_iload2, pe_if_eq, pe_iload7, pe_goto, pe_iload5, pe_goto_w, pe_istore9, pe_aload8, pe_iload9, pe_bipush, pe_lastore, pe_sipush, pe_iastore, pe_isub, pe_istore10, pe_iload10, pe_if_lt, pe_iadd, pe_laload, pe_lstore11, pe_iaload, pe_istore13, pe_istore14, pe_iload14, pe_icmp_gt, pe_iload3, pe_call4, pm_af_ret, pm_af_void, pm_af_thr, pe_if_ne, pe_iload4, pe_iload6, pe_call9, pe_lstore15, pe_istore17, pe_iload17, pe_lload15, pe_ladd, pe_lload11, pe_lcmp, pe_if_gt, pe_iload13, pe_icmp_ge, pe_iinc14, pe_iinc10, pe_return, pm_prog_1, pm_ob_some, Nat.reduceDiv, Nat.reduceMod, Nat.reduceMul, Nat.reduceAdd, Int.reduceToNat, pm_kill_i, pm_kill_r, pm_kill_n, pm_kill_j, pm_kill_l, pm_kill_d, pm_cats_nil, pm_cats_i, pm_cats_r, pm_cats_n, pm_cats_l, pm_cats_d, sz_1, sz_2, sl_1, sl_2, lc_0, lc_lt, lc_le, li_ne, va_rf, wr_m1, we_m1, pm_kill_w, Int32.reduceOfInt, Int64.reduceOfInt, Int32.reduceOfNat, Int32.reduceLT, Int32.reduceLE, Prod.mk.injEq, Nat.reduceEqDiff, reduceCtorEq, and_true, true_and, and_false, false_and, and_self, ite_true, ite_false, ↓reduceIte, not_true_eq_false, not_false_eq_true, pe_ri, pe_rz, pe_rc, Cr_g10_0 hP hA, Cr_g10_1 hP hA, Cr_g7_4 hP hA, Cr_g7_5 hP hA, Cr_r11 hP hA, Cr_r20 hP hA, Cr_r9 hP hA, Cr_w11 hP hA, Cr_w20 hP hA]
    · rw [if_neg k2] at e; cases e
  · rw [if_neg k1] at e; cases e
theorem x325 {fc : Int32} {pc : Int32} {A : wK → Nat} {h : pm_H} {D : Nat} {F : wS → Int32 → Int32 → Int32 → Int32 → Int32 → Int32 → Int32 → Option (Int64 × wS)} {E : Nat} {S : wS} {x1 : Int32} {x2 : Int32} {x3 : Int32} {x4 : Int32} {x5 : Int32} {x6 : Int32} {x7 : Int32} {r : wS} (hP : Cr_P fc pc) (hA : wok A (Cr_d fc pc) h.1) (hF : FOK324 fc pc A h E F) (hE : E + 2 ≤ D) (hD : 2 ≤ D) (e : f325 fc pc F S x1 x2 x3 x4 x5 x6 x7 = some r) : pm_call pm_prog D 325 [.ref (A (7, 0, 0)), .int x1, .int x2, .int x3, .int x4, .int x5, .int x6, .int x7] (wput A (Cr_d fc pc) S h) = some (Outcome.returned none, (wput A (Cr_d fc pc) r h)) := by
  obtain ⟨D, rfl⟩ : ∃ D', D = D' + 1 := ⟨D - 1, by omega⟩
  have hE : E + 1 ≤ D := by omega
  have hD : 1 ≤ D := by omega
  simp only [f325] at e
  rw [c325 (Cr_c7 hP hA), b325_0]
  by_cases k1 : 0 ≤ x1 ∧ x1 < 4
  · rw [if_pos k1] at e
    by_cases k2 : x2 = 0
    · rw [if_pos k2] at e
      have k3 := y325_2 (h := h) hP hA hF hE hD e
      simp -implicitDefEqProofs (disch := first | assumption | exact Nat.le_of_ble_eq_true rfl | decide) only [b325_0, g325_1, b325_1, g325_5, b325_5, g325_6, b325_6, g325_7, b325_7, g325_8, b325_8, g325_9, b325_9, g325_10, b325_10, pe_aload0, pe_getfield, pe_iload1, pe_aaload, pe_astore8, pe_iload2, pe_if_eq, pe_iload7, pe_goto, pe_iload5, pe_goto_w, pe_istore9, pe_aload8, pe_iload9, pe_bipush, pe_lastore, pe_sipush, pe_iastore, pe_isub, pe_istore10, pe_iload10, pe_if_lt, pe_iadd, pe_laload, pe_lstore11, pe_iaload, pe_istore13, pe_istore14, pe_iload14, pe_icmp_gt, pe_iload3, pe_call4, pm_af_ret, pm_af_void, pm_af_thr, pe_if_ne, pe_iload4, pe_iload6, pe_call9, pe_lstore15, pe_istore17, pe_iload17, pe_lload15, pe_ladd, pe_lload11, pe_lcmp, pe_if_gt, pe_iload13, pe_icmp_ge, pe_iinc14, pe_iinc10, pe_return, pm_prog_1, pm_ob_some, Nat.reduceDiv, Nat.reduceMod, Nat.reduceMul, Nat.reduceAdd, Int.reduceToNat, pm_kill_i, pm_kill_r, pm_kill_n, pm_kill_j, pm_kill_l, pm_kill_d, pm_cats_nil, pm_cats_i, pm_cats_r, pm_cats_n, pm_cats_l, pm_cats_d, sz_1, sz_2, sl_1, sl_2, lc_0, lc_lt, lc_le, li_ne, va_rf, wr_m1, we_m1, pm_kill_w, Int32.reduceOfInt, Int64.reduceOfInt, Int32.reduceOfNat, Int32.reduceLT, Int32.reduceLE, Prod.mk.injEq, Nat.reduceEqDiff, reduceCtorEq, and_true, true_and, and_false, false_and, and_self, ite_true, ite_false, ↓reduceIte, not_true_eq_false, not_false_eq_true, pe_ri, pe_rz, pe_rc, Cr_g10_0 hP hA, Cr_g10_1 hP hA, Cr_g7_4 hP hA, Cr_g7_5 hP hA, Cr_r11 hP hA, Cr_r20 hP hA, Cr_r9 hP hA, Cr_w11 hP hA, Cr_w20 hP hA, eq_true k2, k3]
    · rw [if_neg k2] at e
      have k4 := y325_2 (h := h) hP hA hF hE hD e
      simp -implicitDefEqProofs (disch := first | assumption | exact Nat.le_of_ble_eq_true rfl | decide) only [b325_0, g325_1, b325_1, g325_5, b325_5, g325_6, b325_6, g325_7, b325_7, g325_8, b325_8, g325_9, b325_9, g325_10, b325_10, pe_aload0, pe_getfield, pe_iload1, pe_aaload, pe_astore8, pe_iload2, pe_if_eq, pe_iload7, pe_goto, pe_iload5, pe_goto_w, pe_istore9, pe_aload8, pe_iload9, pe_bipush, pe_lastore, pe_sipush, pe_iastore, pe_isub, pe_istore10, pe_iload10, pe_if_lt, pe_iadd, pe_laload, pe_lstore11, pe_iaload, pe_istore13, pe_istore14, pe_iload14, pe_icmp_gt, pe_iload3, pe_call4, pm_af_ret, pm_af_void, pm_af_thr, pe_if_ne, pe_iload4, pe_iload6, pe_call9, pe_lstore15, pe_istore17, pe_iload17, pe_lload15, pe_ladd, pe_lload11, pe_lcmp, pe_if_gt, pe_iload13, pe_icmp_ge, pe_iinc14, pe_iinc10, pe_return, pm_prog_1, pm_ob_some, Nat.reduceDiv, Nat.reduceMod, Nat.reduceMul, Nat.reduceAdd, Int.reduceToNat, pm_kill_i, pm_kill_r, pm_kill_n, pm_kill_j, pm_kill_l, pm_kill_d, pm_cats_nil, pm_cats_i, pm_cats_r, pm_cats_n, pm_cats_l, pm_cats_d, sz_1, sz_2, sl_1, sl_2, lc_0, lc_lt, lc_le, li_ne, va_rf, wr_m1, we_m1, pm_kill_w, Int32.reduceOfInt, Int64.reduceOfInt, Int32.reduceOfNat, Int32.reduceLT, Int32.reduceLE, Prod.mk.injEq, Nat.reduceEqDiff, reduceCtorEq, and_true, true_and, and_false, false_and, and_self, ite_true, ite_false, ↓reduceIte, not_true_eq_false, not_false_eq_true, pe_ri, pe_rz, pe_rc, Cr_g10_0 hP hA, Cr_g10_1 hP hA, Cr_g7_4 hP hA, Cr_g7_5 hP hA, Cr_r11 hP hA, Cr_r20 hP hA, Cr_r9 hP hA, Cr_w11 hP hA, Cr_w20 hP hA, eq_false k2, k4]
  · rw [if_neg k1] at e; cases e
/-- TimberHouse$FaultRips$Planner.plan(IZZIIII)J -/
theorem c324 {d : Nat} {h : pm_H} {a : Nat} {x0 : Int32} {x1 : Int32} {x2 : Int32} {x3 : Int32} {x4 : Int32} {x5 : Int32} {x6 : Int32} (hc : pm_cls h a = some 5) : pm_call pm_prog (d + 1) 324 [.ref a, .int x0, .int x1, .int x2, .int x3, .int x4, .int x5, .int x6] h = pm_ev pm_prog (pm_call pm_prog d) 324 0 b324_0 [.ref a, .int x0, .int x1, .int x2, .int x3, .int x4, .int x5, .int x6, pm_junk] [] h := pm_cal (pm_rc1 hc rfl) rfl rfl rfl
theorem g324_1 {cl : pm_C} {ls st : List Value} {h : pm_H} : pm_go pm_prog cl 324 1 ls st h = pm_ev pm_prog cl 324 1 b324_1 ls st h := pm_go_eq pm_prog cl 324 1 ls st h
theorem g324_2 {cl : pm_C} {ls st : List Value} {h : pm_H} : pm_go pm_prog cl 324 2 ls st h = pm_ev pm_prog cl 324 2 b324_2 ls st h := pm_go_eq pm_prog cl 324 2 ls st h
theorem g324_3 {cl : pm_C} {ls st : List Value} {h : pm_H} : pm_go pm_prog cl 324 3 ls st h = pm_ev pm_prog cl 324 3 b324_3 ls st h := pm_go_eq pm_prog cl 324 3 ls st h
theorem g324_4 {cl : pm_C} {ls st : List Value} {h : pm_H} : pm_go pm_prog cl 324 4 ls st h = pm_ev pm_prog cl 324 4 b324_4 ls st h := pm_go_eq pm_prog cl 324 4 ls st h
theorem g324_5 {cl : pm_C} {ls st : List Value} {h : pm_H} : pm_go pm_prog cl 324 5 ls st h = pm_ev pm_prog cl 324 5 b324_5 ls st h := pm_go_eq pm_prog cl 324 5 ls st h
noncomputable def f324_2 (fc : Int32) (pc : Int32) (F : wS → Int32 → Int32 → Int32 → Int32 → Int32 → Int32 → Int32 → Option (Int64 × wS)) (S : wS) (x5 : Int32) (x8 : Int32) (y1 : Int32) : Option (Int64 × wS) :=
  if x8 = (-1) then
    some (0, (sz S (7, 0, 0) 5 y1))
  else
    (f323 fc pc (sz S (7, 0, 0) 5 y1) x8 x5).bind fun v2 =>
    some (v2, (sz S (7, 0, 0) 5 y1))
/-- TimberHouse$FaultRips$Planner.plan(IZZIIII)J -/
noncomputable def f324 (fc : Int32) (pc : Int32) (F : wS → Int32 → Int32 → Int32 → Int32 → Int32 → Int32 → Int32 → Option (Int64 × wS)) (S : wS) (x1 : Int32) (x2 : Int32) (x3 : Int32) (x4 : Int32) (x5 : Int32) (x6 : Int32) (x7 : Int32) : Option (Int64 × wS) :=
  if x1 = 0 then
    (f321 x4 x5 x6 x7).bind fun v1 =>
    if 0 ≤ v1 ∧ v1 < 75625 then
      if (S.1 (8, 0, 0) v1) = (-1) then
        f324_2 fc pc F S x5 (S.1 (8, 0, 0) v1) 0
      else
        f324_2 fc pc F S x5 (S.1 (8, 0, 0) v1) 1
    else none
  else
    (f325 fc pc F S x1 x2 x3 x4 x5 x6 x7).bind fun S3 =>
    if 0 ≤ x1 ∧ x1 < 4 then
      some ((S3.2 (11, x1, 0) 0), (sz S3 (7, 0, 0) 5 (S3.1 (20, x1, 0) 0)))
    else none
theorem y324_2 {fc : Int32} {pc : Int32} {A : wK → Nat} {h : pm_H} {D : Nat} {F : wS → Int32 → Int32 → Int32 → Int32 → Int32 → Int32 → Int32 → Option (Int64 × wS)} {E : Nat} {S : wS} {x5 : Int32} {x8 : Int32} {y1 : Int32} {r : Int64 × wS} (hP : Cr_P fc pc) (hA : wok A (Cr_d fc pc) h.1) (hF : FOK324 fc pc A h E F) (hE : E + 2 ≤ D) (hD : 2 ≤ D) (e : f324_2 fc pc F S x5 x8 y1 = some r) : ∀ q1 q2 q3 q4 q6 q7 : Value, pm_go pm_prog (pm_call pm_prog D) 324 2 [.ref (A (7, 0, 0)), q1, q2, q3, q4, .int x5, q6, q7, .int x8] [.int y1, .ref (A (7, 0, 0))] (wput A (Cr_d fc pc) S h) = some (match (generalizing := false) r with | (w0, S1) => (Outcome.returned (some (.long w0)), (wput A (Cr_d fc pc) S1 h))) := by
  intro q1 q2 q3 q4 q6 q7
  simp only [f324_2] at e
  rw [g324_2, b324_2]
  by_cases k1 : x8 = (-1)
  · rw [if_pos k1] at e
    have e := Option.some.inj e; subst e
    simp -implicitDefEqProofs (disch := first | assumption | exact Nat.le_of_ble_eq_true rfl | decide) only [b324_0, g324_1, b324_1, g324_3, b324_3, g324_4, b324_4, g324_5, b324_5, pe_iload1, pe_if_ne, pe_aload0, pe_getfield, pe_iload4, pe_iload5, pe_iload6, pe_iload7, pe_call4, pm_af_ret, pm_af_void, pm_af_thr, pe_baload, pe_istore8, pe_iload8, pe_sipush, pe_icmp_ne, pe_goto, pe_goto_w, pe_putfield, pe_bipush, pe_call3, pe_lreturn, pe_iload2, pe_iload3, pe_call8, pe_aaload, pe_iaload, pe_laload, pm_prog_1, pm_ob_some, Nat.reduceDiv, Nat.reduceMod, Nat.reduceMul, Nat.reduceAdd, Int.reduceToNat, pm_kill_i, pm_kill_r, pm_kill_n, pm_kill_j, pm_kill_l, pm_kill_d, pm_cats_nil, pm_cats_i, pm_cats_r, pm_cats_n, pm_cats_l, pm_cats_d, sz_1, sz_2, sl_1, sl_2, lc_0, lc_lt, lc_le, li_ne, va_rf, wr_m1, we_m1, pm_kill_w, Int32.reduceOfInt, Int64.reduceOfInt, Int32.reduceOfNat, Int32.reduceLT, Int32.reduceLE, Prod.mk.injEq, Nat.reduceEqDiff, reduceCtorEq, and_true, true_and, and_false, false_and, and_self, ite_true, ite_false, ↓reduceIte, not_true_eq_false, not_false_eq_true, pe_ri, pe_rz, pe_rc, Cr_g10_0 hP hA, Cr_g10_1 hP hA, Cr_g7_3 hP hA, Cr_g7_4 hP hA, Cr_p7_5 hP hA, Cr_r11 hP hA, Cr_r20 hP hA, Cr_r8 hP hA, Cr_r9 hP hA, eq_true k1]
  · rw [if_neg k1] at e
    obtain ⟨v2, k2, e⟩ := Option.bind_eq_some_iff.mp e
    try dsimp only at e
    have z2 := x323 (D := D) (h := h) hP hA (by omega) k2
    have e := Option.some.inj e; subst e
    simp -implicitDefEqProofs (disch := first | assumption | exact Nat.le_of_ble_eq_true rfl | decide) only [b324_0, g324_1, b324_1, g324_3, b324_3, g324_4, b324_4, g324_5, b324_5, pe_iload1, pe_if_ne, pe_aload0, pe_getfield, pe_iload4, pe_iload5, pe_iload6, pe_iload7, pe_call4, pm_af_ret, pm_af_void, pm_af_thr, pe_baload, pe_istore8, pe_iload8, pe_sipush, pe_icmp_ne, pe_goto, pe_goto_w, pe_putfield, pe_bipush, pe_call3, pe_lreturn, pe_iload2, pe_iload3, pe_call8, pe_aaload, pe_iaload, pe_laload, pm_prog_1, pm_ob_some, Nat.reduceDiv, Nat.reduceMod, Nat.reduceMul, Nat.reduceAdd, Int.reduceToNat, pm_kill_i, pm_kill_r, pm_kill_n, pm_kill_j, pm_kill_l, pm_kill_d, pm_cats_nil, pm_cats_i, pm_cats_r, pm_cats_n, pm_cats_l, pm_cats_d, sz_1, sz_2, sl_1, sl_2, lc_0, lc_lt, lc_le, li_ne, va_rf, wr_m1, we_m1, pm_kill_w, Int32.reduceOfInt, Int64.reduceOfInt, Int32.reduceOfNat, Int32.reduceLT, Int32.reduceLE, Prod.mk.injEq, Nat.reduceEqDiff, reduceCtorEq, and_true, true_and, and_false, false_and, and_self, ite_true, ite_false, ↓reduceIte, not_true_eq_false, not_false_eq_true, pe_ri, pe_rz, pe_rc, Cr_g10_0 hP hA, Cr_g10_1 hP hA, Cr_g7_3 hP hA, Cr_g7_4 hP hA, Cr_p7_5 hP hA, Cr_r11 hP hA, Cr_r20 hP hA, Cr_r8 hP hA, Cr_r9 hP hA, eq_false k1, z2]
theorem x324 {fc : Int32} {pc : Int32} {A : wK → Nat} {h : pm_H} {D : Nat} {F : wS → Int32 → Int32 → Int32 → Int32 → Int32 → Int32 → Int32 → Option (Int64 × wS)} {E : Nat} {S : wS} {x1 : Int32} {x2 : Int32} {x3 : Int32} {x4 : Int32} {x5 : Int32} {x6 : Int32} {x7 : Int32} {r : Int64 × wS} (hP : Cr_P fc pc) (hA : wok A (Cr_d fc pc) h.1) (hF : FOK324 fc pc A h E F) (hE : E + 3 ≤ D) (hD : 3 ≤ D) (e : f324 fc pc F S x1 x2 x3 x4 x5 x6 x7 = some r) : pm_call pm_prog D 324 [.ref (A (7, 0, 0)), .int x1, .int x2, .int x3, .int x4, .int x5, .int x6, .int x7] (wput A (Cr_d fc pc) S h) = some (match (generalizing := false) r with | (w0, S1) => (Outcome.returned (some (.long w0)), (wput A (Cr_d fc pc) S1 h))) := by
  obtain ⟨D, rfl⟩ : ∃ D', D = D' + 1 := ⟨D - 1, by omega⟩
  have hE : E + 2 ≤ D := by omega
  have hD : 2 ≤ D := by omega
  simp only [f324] at e
  rw [c324 (Cr_c7 hP hA), b324_0]
  by_cases k1 : x1 = 0
  · rw [if_pos k1] at e
    obtain ⟨v1, k2, e⟩ := Option.bind_eq_some_iff.mp e
    try dsimp only at e
    have z2 := fun h => x321 (D := D) (h := h) (by omega) k2
    by_cases k3 : 0 ≤ v1 ∧ v1 < 75625
    · rw [if_pos k3] at e
      by_cases k4 : (S.1 (8, 0, 0) v1) = (-1)
      · rw [if_pos k4] at e
        have k5 := y324_2 (h := h) hP hA hF hE hD e
        simp -implicitDefEqProofs (disch := first | assumption | exact Nat.le_of_ble_eq_true rfl | decide) only [b324_0, g324_1, b324_1, g324_3, b324_3, g324_4, b324_4, g324_5, b324_5, pe_iload1, pe_if_ne, pe_aload0, pe_getfield, pe_iload4, pe_iload5, pe_iload6, pe_iload7, pe_call4, pm_af_ret, pm_af_void, pm_af_thr, pe_baload, pe_istore8, pe_iload8, pe_sipush, pe_icmp_ne, pe_goto, pe_goto_w, pe_putfield, pe_bipush, pe_call3, pe_lreturn, pe_iload2, pe_iload3, pe_call8, pe_aaload, pe_iaload, pe_laload, pm_prog_1, pm_ob_some, Nat.reduceDiv, Nat.reduceMod, Nat.reduceMul, Nat.reduceAdd, Int.reduceToNat, pm_kill_i, pm_kill_r, pm_kill_n, pm_kill_j, pm_kill_l, pm_kill_d, pm_cats_nil, pm_cats_i, pm_cats_r, pm_cats_n, pm_cats_l, pm_cats_d, sz_1, sz_2, sl_1, sl_2, lc_0, lc_lt, lc_le, li_ne, va_rf, wr_m1, we_m1, pm_kill_w, Int32.reduceOfInt, Int64.reduceOfInt, Int32.reduceOfNat, Int32.reduceLT, Int32.reduceLE, Prod.mk.injEq, Nat.reduceEqDiff, reduceCtorEq, and_true, true_and, and_false, false_and, and_self, ite_true, ite_false, ↓reduceIte, not_true_eq_false, not_false_eq_true, pe_ri, pe_rz, pe_rc, Cr_g10_0 hP hA, Cr_g10_1 hP hA, Cr_g7_3 hP hA, Cr_g7_4 hP hA, Cr_p7_5 hP hA, Cr_r11 hP hA, Cr_r20 hP hA, Cr_r8 hP hA, Cr_r9 hP hA, eq_true k1, z2, eq_true k4, k5]
      · rw [if_neg k4] at e
        have k6 := y324_2 (h := h) hP hA hF hE hD e
        simp -implicitDefEqProofs (disch := first | assumption | exact Nat.le_of_ble_eq_true rfl | decide) only [b324_0, g324_1, b324_1, g324_3, b324_3, g324_4, b324_4, g324_5, b324_5, pe_iload1, pe_if_ne, pe_aload0, pe_getfield, pe_iload4, pe_iload5, pe_iload6, pe_iload7, pe_call4, pm_af_ret, pm_af_void, pm_af_thr, pe_baload, pe_istore8, pe_iload8, pe_sipush, pe_icmp_ne, pe_goto, pe_goto_w, pe_putfield, pe_bipush, pe_call3, pe_lreturn, pe_iload2, pe_iload3, pe_call8, pe_aaload, pe_iaload, pe_laload, pm_prog_1, pm_ob_some, Nat.reduceDiv, Nat.reduceMod, Nat.reduceMul, Nat.reduceAdd, Int.reduceToNat, pm_kill_i, pm_kill_r, pm_kill_n, pm_kill_j, pm_kill_l, pm_kill_d, pm_cats_nil, pm_cats_i, pm_cats_r, pm_cats_n, pm_cats_l, pm_cats_d, sz_1, sz_2, sl_1, sl_2, lc_0, lc_lt, lc_le, li_ne, va_rf, wr_m1, we_m1, pm_kill_w, Int32.reduceOfInt, Int64.reduceOfInt, Int32.reduceOfNat, Int32.reduceLT, Int32.reduceLE, Prod.mk.injEq, Nat.reduceEqDiff, reduceCtorEq, and_true, true_and, and_false, false_and, and_self, ite_true, ite_false, ↓reduceIte, not_true_eq_false, not_false_eq_true, pe_ri, pe_rz, pe_rc, Cr_g10_0 hP hA, Cr_g10_1 hP hA, Cr_g7_3 hP hA, Cr_g7_4 hP hA, Cr_p7_5 hP hA, Cr_r11 hP hA, Cr_r20 hP hA, Cr_r8 hP hA, Cr_r9 hP hA, eq_true k1, z2, eq_false k4, k6]
    · rw [if_neg k3] at e; cases e
  · rw [if_neg k1] at e
    obtain ⟨S3, k7, e⟩ := Option.bind_eq_some_iff.mp e
    try dsimp only at e
    have z7 := x325 (D := D) (h := h) hP hA hF (by omega) (by omega) k7
    by_cases k8 : 0 ≤ x1 ∧ x1 < 4
    · rw [if_pos k8] at e
      have e := Option.some.inj e; subst e
      simp -implicitDefEqProofs (disch := first | assumption | exact Nat.le_of_ble_eq_true rfl | decide) only [b324_0, g324_1, b324_1, g324_3, b324_3, g324_4, b324_4, g324_5, b324_5, pe_iload1, pe_if_ne, pe_aload0, pe_getfield, pe_iload4, pe_iload5, pe_iload6, pe_iload7, pe_call4, pm_af_ret, pm_af_void, pm_af_thr, pe_baload, pe_istore8, pe_iload8, pe_sipush, pe_icmp_ne, pe_goto, pe_goto_w, pe_putfield, pe_bipush, pe_call3, pe_lreturn, pe_iload2, pe_iload3, pe_call8, pe_aaload, pe_iaload, pe_laload, pm_prog_1, pm_ob_some, Nat.reduceDiv, Nat.reduceMod, Nat.reduceMul, Nat.reduceAdd, Int.reduceToNat, pm_kill_i, pm_kill_r, pm_kill_n, pm_kill_j, pm_kill_l, pm_kill_d, pm_cats_nil, pm_cats_i, pm_cats_r, pm_cats_n, pm_cats_l, pm_cats_d, sz_1, sz_2, sl_1, sl_2, lc_0, lc_lt, lc_le, li_ne, va_rf, wr_m1, we_m1, pm_kill_w, Int32.reduceOfInt, Int64.reduceOfInt, Int32.reduceOfNat, Int32.reduceLT, Int32.reduceLE, Prod.mk.injEq, Nat.reduceEqDiff, reduceCtorEq, and_true, true_and, and_false, false_and, and_self, ite_true, ite_false, ↓reduceIte, not_true_eq_false, not_false_eq_true, pe_ri, pe_rz, pe_rc, Cr_g10_0 hP hA, Cr_g10_1 hP hA, Cr_g7_3 hP hA, Cr_g7_4 hP hA, Cr_p7_5 hP hA, Cr_r11 hP hA, Cr_r20 hP hA, Cr_r8 hP hA, Cr_r9 hP hA, eq_false k1, z7]
    · rw [if_neg k8] at e; cases e
noncomputable def r324 (fc : Int32) (pc : Int32) : Nat → wS → Int32 → Int32 → Int32 → Int32 → Int32 → Int32 → Int32 → Option (Int64 × wS)
  | 0 => fun _ _ _ _ _ _ _ _ => none
  | n + 1 => fun S x1 x2 x3 x4 x5 x6 x7 => f324 fc pc (r324 fc pc n) S x1 x2 x3 x4 x5 x6 x7
theorem w324 {fc : Int32} {pc : Int32} {A : wK → Nat} {h : pm_H} (hP : Cr_P fc pc) (hA : wok A (Cr_d fc pc) h.1) : ∀ n, FOK324 fc pc A h (3 + 3 * n) (r324 fc pc n)
  | 0 => by
    intro D S x1 x2 x3 x4 x5 x6 x7 r _ e
    exact absurd e (by simp [r324])
  | n + 1 => by
    intro D S x1 x2 x3 x4 x5 x6 x7 r hE e
    exact x324 hP hA (w324 hP hA n) (by omega) (by omega) e
/-- TimberHouse$FaultRips$Plan.add(IIIII)V -/
theorem c449 {d : Nat} {h : pm_H} {a : Nat} {x0 : Int32} {x1 : Int32} {x2 : Int32} {x3 : Int32} {x4 : Int32} (hc : pm_cls h a = some 7) : pm_call pm_prog (d + 1) 449 [.ref a, .int x0, .int x1, .int x2, .int x3, .int x4] h = pm_ev pm_prog (pm_call pm_prog d) 449 0 b449_0 [.ref a, .int x0, .int x1, .int x2, .int x3, .int x4] [] h := pm_cal (pm_rc1 hc rfl) rfl rfl rfl
/-- TimberHouse$FaultRips$Plan.add(IIIII)V -/
noncomputable def f449 (fc : Int32) (pc : Int32) (S : wS) (x0i : Int32) (x1 : Int32) (x2 : Int32) (x3 : Int32) (x4 : Int32) (x5 : Int32) : Option (wS) :=
  if 0 ≤ x0i ∧ x0i < 2 then
    if 0 ≤ (S.1 (12, x0i, 0) 5) ∧ (S.1 (12, x0i, 0) 5) < 240 then
      some (sz (sz (sz (sz (sz (sz S (13, x0i, 0) (S.1 (12, x0i, 0) 5) (vp_nar .byte (Int8.toInt32 (Int32.toInt8 x1)))) (15, x0i, 0) (S.1 (12, x0i, 0) 5) (vp_nar .byte (Int8.toInt32 (Int32.toInt8 x2)))) (14, x0i, 0) (S.1 (12, x0i, 0) 5) (vp_nar .byte (Int8.toInt32 (Int32.toInt8 x3)))) (16, x0i, 0) (S.1 (12, x0i, 0) 5) (vp_nar .byte (Int8.toInt32 (Int32.toInt8 x4)))) (12, x0i, 0) 5 ((S.1 (12, x0i, 0) 5) + 1)) (17, x0i, 0) (S.1 (12, x0i, 0) 5) (vp_nar .byte (Int8.toInt32 (Int32.toInt8 x5))))
    else none
  else none
theorem x449 {fc : Int32} {pc : Int32} {A : wK → Nat} {h : pm_H} {D : Nat} {S : wS} {x0i : Int32} {x1 : Int32} {x2 : Int32} {x3 : Int32} {x4 : Int32} {x5 : Int32} {r : wS} (hP : Cr_P fc pc) (hA : wok A (Cr_d fc pc) h.1) (hD : 1 ≤ D) (e : f449 fc pc S x0i x1 x2 x3 x4 x5 = some r) : pm_call pm_prog D 449 [.ref (A (12, x0i, 0)), .int x1, .int x2, .int x3, .int x4, .int x5] (wput A (Cr_d fc pc) S h) = some (Outcome.returned none, (wput A (Cr_d fc pc) r h)) := by
  obtain ⟨D, rfl⟩ : ∃ D', D = D' + 1 := ⟨D - 1, by omega⟩
  have hD : 0 ≤ D := by omega
  simp only [f449] at e
  have k1 : 0 ≤ x0i ∧ x0i < 2 := by
    by_cases q : 0 ≤ x0i ∧ x0i < 2
    · exact q
    · rw [if_neg q] at e; cases e
  rw [if_pos k1] at e
  rw [c449 (Cr_c12 hP hA k1), b449_0]
  by_cases k2 : 0 ≤ (S.1 (12, x0i, 0) 5) ∧ (S.1 (12, x0i, 0) 5) < 240
  · rw [if_pos k2] at e
    have e := Option.some.inj e; subst e
    simp -implicitDefEqProofs (disch := first | assumption | exact Nat.le_of_ble_eq_true rfl | decide) only [b449_0, pe_aload0, pe_getfield, pe_iload1, pe_i2b, pe_bastore, pe_iload2, pe_iload3, pe_iload4, pe_dup_i, pe_dup_r, pe_dup_x1_ii, pe_dup_x1_ir, pe_dup_x1_ri, pe_dup_x1_rr, pe_sipush, pe_iadd, pe_putfield, pe_iload5, pe_return, pm_prog_1, pm_ob_some, Nat.reduceDiv, Nat.reduceMod, Nat.reduceMul, Nat.reduceAdd, Int.reduceToNat, pm_kill_i, pm_kill_r, pm_kill_n, pm_kill_j, pm_kill_l, pm_kill_d, pm_cats_nil, pm_cats_i, pm_cats_r, pm_cats_n, pm_cats_l, pm_cats_d, sz_1, sz_2, sl_1, sl_2, lc_0, lc_lt, lc_le, li_ne, va_rf, wr_m1, we_m1, pm_kill_w, Int32.reduceOfInt, Int64.reduceOfInt, Int32.reduceOfNat, Int32.reduceLT, Int32.reduceLE, Prod.mk.injEq, Nat.reduceEqDiff, reduceCtorEq, and_true, true_and, and_false, false_and, and_self, ite_true, ite_false, ↓reduceIte, not_true_eq_false, not_false_eq_true, pe_ri, pe_rz, pe_rc, Cr_g12_0 hP hA, Cr_g12_1 hP hA, Cr_g12_2 hP hA, Cr_g12_3 hP hA, Cr_g12_4 hP hA, Cr_g12_5 hP hA, Cr_p12_5 hP hA, Cr_w13 hP hA, Cr_w14 hP hA, Cr_w15 hP hA, Cr_w16 hP hA, Cr_w17 hP hA]
  · rw [if_neg k2] at e; cases e
/-- TimberHouse$FaultRips$Planner.goesOn(IZZIIIIII)Z -/
theorem c329 {d : Nat} {h : pm_H} {a : Nat} {x0 : Int32} {x1 : Int32} {x2 : Int32} {x3 : Int32} {x4 : Int32} {x5 : Int32} {x6 : Int32} {x7 : Int32} {x8 : Int32} (hc : pm_cls h a = some 5) : pm_call pm_prog (d + 1) 329 [.ref a, .int x0, .int x1, .int x2, .int x3, .int x4, .int x5, .int x6, .int x7, .int x8] h = pm_ev pm_prog (pm_call pm_prog d) 329 0 b329_0 [.ref a, .int x0, .int x1, .int x2, .int x3, .int x4, .int x5, .int x6, .int x7, .int x8, pm_junk, pm_junk, pm_junk] [] h := pm_cal (pm_rc1 hc rfl) rfl rfl rfl
theorem g329_1 {cl : pm_C} {ls st : List Value} {h : pm_H} : pm_go pm_prog cl 329 1 ls st h = pm_ev pm_prog cl 329 1 b329_1 ls st h := pm_go_eq pm_prog cl 329 1 ls st h
theorem g329_2 {cl : pm_C} {ls st : List Value} {h : pm_H} : pm_go pm_prog cl 329 2 ls st h = pm_ev pm_prog cl 329 2 b329_2 ls st h := pm_go_eq pm_prog cl 329 2 ls st h
theorem g329_3 {cl : pm_C} {ls st : List Value} {h : pm_H} : pm_go pm_prog cl 329 3 ls st h = pm_ev pm_prog cl 329 3 b329_3 ls st h := pm_go_eq pm_prog cl 329 3 ls st h
/-- TimberHouse$FaultRips$Planner.goesOn(IZZIIIIII)Z -/
noncomputable def f329 (fc : Int32) (pc : Int32) (S : wS) (x1 : Int32) (x2 : Int32) (x3 : Int32) (x4 : Int32) (x5 : Int32) (x6 : Int32) (x7 : Int32) (x8 : Int32) (x9 : Int32) : Option (Int32 × wS) :=
  (f326 fc pc S x2 x3 x9).bind fun v1 =>
  if v1 = 0 then
    some (0, S)
  else
    if 0 ≤ x1 ∧ x1 < 4 then
      (f327 fc pc (r324 fc pc 12) S x1 x2 x4 x5 x6 x7 x8 x9).bind fun (v2, S3) =>
      if (S3.1 (7, 0, 0) 5) ≤ 0 then
        some (0, S3)
      else
        if 0 ≤ (x8 + x9) ∧ (x8 + x9) < 25 then
          if 0 ≤ x8 ∧ x8 < 25 then
            if (v2 + (S3.2 (11, x1, 0) (x8 + x9))) = (S3.2 (11, x1, 0) x8) then
              if ((S3.1 (7, 0, 0) 5) + (S3.1 (20, x1, 0) (x8 + x9))) = (S3.1 (20, x1, 0) x8) then
                some (1, S3)
              else
                some (0, S3)
            else
              some (0, S3)
          else none
        else none
    else none
theorem x329 {fc : Int32} {pc : Int32} {A : wK → Nat} {h : pm_H} {D : Nat} {S : wS} {x1 : Int32} {x2 : Int32} {x3 : Int32} {x4 : Int32} {x5 : Int32} {x6 : Int32} {x7 : Int32} {x8 : Int32} {x9 : Int32} {r : Int32 × wS} (hP : Cr_P fc pc) (hA : wok A (Cr_d fc pc) h.1) (hD : 41 ≤ D) (e : f329 fc pc S x1 x2 x3 x4 x5 x6 x7 x8 x9 = some r) : pm_call pm_prog D 329 [.ref (A (7, 0, 0)), .int x1, .int x2, .int x3, .int x4, .int x5, .int x6, .int x7, .int x8, .int x9] (wput A (Cr_d fc pc) S h) = some (match (generalizing := false) r with | (w0, S1) => (Outcome.returned (some (.int w0)), (wput A (Cr_d fc pc) S1 h))) := by
  obtain ⟨D, rfl⟩ : ∃ D', D = D' + 1 := ⟨D - 1, by omega⟩
  have hD : 40 ≤ D := by omega
  simp only [f329] at e
  rw [c329 (Cr_c7 hP hA), b329_0]
  obtain ⟨v1, k1, e⟩ := Option.bind_eq_some_iff.mp e
  try dsimp only at e
  have z1 := x326 (D := D) (h := h) hP hA (by omega) k1
  by_cases k2 : v1 = 0
  · rw [if_pos k2] at e
    have e := Option.some.inj e; subst e
    simp -implicitDefEqProofs (disch := first | assumption | exact Nat.le_of_ble_eq_true rfl | decide) only [b329_0, g329_1, b329_1, g329_2, b329_2, g329_3, b329_3, pe_aload0, pe_iload2, pe_iload3, pe_iload9, pe_call4, pm_af_ret, pm_af_void, pm_af_thr, pe_if_ne, pe_sipush, pe_getfield, pe_iload1, pe_aaload, pe_astore10, pe_iload4, pe_iload5, pe_iload6, pe_iload7, pe_iload8, pe_call9, pe_lstore11, pe_if_le, pe_lload11, pe_aload10, pe_iadd, pe_laload, pe_ladd, pe_lcmp, pe_iaload, pe_icmp_ne, pe_goto, pe_goto_w, pm_prog_1, pm_ob_some, Nat.reduceDiv, Nat.reduceMod, Nat.reduceMul, Nat.reduceAdd, Int.reduceToNat, pm_kill_i, pm_kill_r, pm_kill_n, pm_kill_j, pm_kill_l, pm_kill_d, pm_cats_nil, pm_cats_i, pm_cats_r, pm_cats_n, pm_cats_l, pm_cats_d, sz_1, sz_2, sl_1, sl_2, lc_0, lc_lt, lc_le, li_ne, va_rf, wr_m1, we_m1, pm_kill_w, Int32.reduceOfInt, Int64.reduceOfInt, Int32.reduceOfNat, Int32.reduceLT, Int32.reduceLE, Prod.mk.injEq, Nat.reduceEqDiff, reduceCtorEq, and_true, true_and, and_false, false_and, and_self, ite_true, ite_false, ↓reduceIte, not_true_eq_false, not_false_eq_true, pe_ri, pe_rz, pe_rc, Cr_g10_0 hP hA, Cr_g10_1 hP hA, Cr_g7_4 hP hA, Cr_g7_5 hP hA, Cr_r11 hP hA, Cr_r20 hP hA, Cr_r9 hP hA, z1, eq_true k2]
  · rw [if_neg k2] at e
    by_cases k3 : 0 ≤ x1 ∧ x1 < 4
    · rw [if_pos k3] at e
      obtain ⟨⟨v2, S3⟩, k4, e⟩ := Option.bind_eq_some_iff.mp e
      try dsimp only at e
      have z4 := x327 (D := D) (h := h) hP hA (w324 hP hA 12) (by omega) (by omega) k4
      dsimp only at z4
      by_cases k5 : (S3.1 (7, 0, 0) 5) ≤ 0
      · rw [if_pos k5] at e
        have e := Option.some.inj e; subst e
        simp -implicitDefEqProofs (disch := first | assumption | exact Nat.le_of_ble_eq_true rfl | decide) only [b329_0, g329_1, b329_1, g329_2, b329_2, g329_3, b329_3, pe_aload0, pe_iload2, pe_iload3, pe_iload9, pe_call4, pm_af_ret, pm_af_void, pm_af_thr, pe_if_ne, pe_sipush, pe_getfield, pe_iload1, pe_aaload, pe_astore10, pe_iload4, pe_iload5, pe_iload6, pe_iload7, pe_iload8, pe_call9, pe_lstore11, pe_if_le, pe_lload11, pe_aload10, pe_iadd, pe_laload, pe_ladd, pe_lcmp, pe_iaload, pe_icmp_ne, pe_goto, pe_goto_w, pm_prog_1, pm_ob_some, Nat.reduceDiv, Nat.reduceMod, Nat.reduceMul, Nat.reduceAdd, Int.reduceToNat, pm_kill_i, pm_kill_r, pm_kill_n, pm_kill_j, pm_kill_l, pm_kill_d, pm_cats_nil, pm_cats_i, pm_cats_r, pm_cats_n, pm_cats_l, pm_cats_d, sz_1, sz_2, sl_1, sl_2, lc_0, lc_lt, lc_le, li_ne, va_rf, wr_m1, we_m1, pm_kill_w, Int32.reduceOfInt, Int64.reduceOfInt, Int32.reduceOfNat, Int32.reduceLT, Int32.reduceLE, Prod.mk.injEq, Nat.reduceEqDiff, reduceCtorEq, and_true, true_and, and_false, false_and, and_self, ite_true, ite_false, ↓reduceIte, not_true_eq_false, not_false_eq_true, pe_ri, pe_rz, pe_rc, Cr_g10_0 hP hA, Cr_g10_1 hP hA, Cr_g7_4 hP hA, Cr_g7_5 hP hA, Cr_r11 hP hA, Cr_r20 hP hA, Cr_r9 hP hA, z1, eq_false k2, z4, eq_true k5]
      · rw [if_neg k5] at e
        by_cases k6 : 0 ≤ (x8 + x9) ∧ (x8 + x9) < 25
        · rw [if_pos k6] at e
          by_cases k7 : 0 ≤ x8 ∧ x8 < 25
          · rw [if_pos k7] at e
            by_cases k8 : (v2 + (S3.2 (11, x1, 0) (x8 + x9))) = (S3.2 (11, x1, 0) x8)
            · rw [if_pos k8] at e
              by_cases k9 : ((S3.1 (7, 0, 0) 5) + (S3.1 (20, x1, 0) (x8 + x9))) = (S3.1 (20, x1, 0) x8)
              · rw [if_pos k9] at e
                have e := Option.some.inj e; subst e
                simp -implicitDefEqProofs (disch := first | assumption | exact Nat.le_of_ble_eq_true rfl | decide) only [b329_0, g329_1, b329_1, g329_2, b329_2, g329_3, b329_3, pe_aload0, pe_iload2, pe_iload3, pe_iload9, pe_call4, pm_af_ret, pm_af_void, pm_af_thr, pe_if_ne, pe_sipush, pe_getfield, pe_iload1, pe_aaload, pe_astore10, pe_iload4, pe_iload5, pe_iload6, pe_iload7, pe_iload8, pe_call9, pe_lstore11, pe_if_le, pe_lload11, pe_aload10, pe_iadd, pe_laload, pe_ladd, pe_lcmp, pe_iaload, pe_icmp_ne, pe_goto, pe_goto_w, pm_prog_1, pm_ob_some, Nat.reduceDiv, Nat.reduceMod, Nat.reduceMul, Nat.reduceAdd, Int.reduceToNat, pm_kill_i, pm_kill_r, pm_kill_n, pm_kill_j, pm_kill_l, pm_kill_d, pm_cats_nil, pm_cats_i, pm_cats_r, pm_cats_n, pm_cats_l, pm_cats_d, sz_1, sz_2, sl_1, sl_2, lc_0, lc_lt, lc_le, li_ne, va_rf, wr_m1, we_m1, pm_kill_w, Int32.reduceOfInt, Int64.reduceOfInt, Int32.reduceOfNat, Int32.reduceLT, Int32.reduceLE, Prod.mk.injEq, Nat.reduceEqDiff, reduceCtorEq, and_true, true_and, and_false, false_and, and_self, ite_true, ite_false, ↓reduceIte, not_true_eq_false, not_false_eq_true, pe_ri, pe_rz, pe_rc, Cr_g10_0 hP hA, Cr_g10_1 hP hA, Cr_g7_4 hP hA, Cr_g7_5 hP hA, Cr_r11 hP hA, Cr_r20 hP hA, Cr_r9 hP hA, z1, eq_false k2, z4, eq_false k5, eq_true k8, eq_true k9]
              · rw [if_neg k9] at e
                have e := Option.some.inj e; subst e
                simp -implicitDefEqProofs (disch := first | assumption | exact Nat.le_of_ble_eq_true rfl | decide) only [b329_0, g329_1, b329_1, g329_2, b329_2, g329_3, b329_3, pe_aload0, pe_iload2, pe_iload3, pe_iload9, pe_call4, pm_af_ret, pm_af_void, pm_af_thr, pe_if_ne, pe_sipush, pe_getfield, pe_iload1, pe_aaload, pe_astore10, pe_iload4, pe_iload5, pe_iload6, pe_iload7, pe_iload8, pe_call9, pe_lstore11, pe_if_le, pe_lload11, pe_aload10, pe_iadd, pe_laload, pe_ladd, pe_lcmp, pe_iaload, pe_icmp_ne, pe_goto, pe_goto_w, pm_prog_1, pm_ob_some, Nat.reduceDiv, Nat.reduceMod, Nat.reduceMul, Nat.reduceAdd, Int.reduceToNat, pm_kill_i, pm_kill_r, pm_kill_n, pm_kill_j, pm_kill_l, pm_kill_d, pm_cats_nil, pm_cats_i, pm_cats_r, pm_cats_n, pm_cats_l, pm_cats_d, sz_1, sz_2, sl_1, sl_2, lc_0, lc_lt, lc_le, li_ne, va_rf, wr_m1, we_m1, pm_kill_w, Int32.reduceOfInt, Int64.reduceOfInt, Int32.reduceOfNat, Int32.reduceLT, Int32.reduceLE, Prod.mk.injEq, Nat.reduceEqDiff, reduceCtorEq, and_true, true_and, and_false, false_and, and_self, ite_true, ite_false, ↓reduceIte, not_true_eq_false, not_false_eq_true, pe_ri, pe_rz, pe_rc, Cr_g10_0 hP hA, Cr_g10_1 hP hA, Cr_g7_4 hP hA, Cr_g7_5 hP hA, Cr_r11 hP hA, Cr_r20 hP hA, Cr_r9 hP hA, z1, eq_false k2, z4, eq_false k5, eq_true k8, eq_false k9]
            · rw [if_neg k8] at e
              have e := Option.some.inj e; subst e
              simp -implicitDefEqProofs (disch := first | assumption | exact Nat.le_of_ble_eq_true rfl | decide) only [b329_0, g329_1, b329_1, g329_2, b329_2, g329_3, b329_3, pe_aload0, pe_iload2, pe_iload3, pe_iload9, pe_call4, pm_af_ret, pm_af_void, pm_af_thr, pe_if_ne, pe_sipush, pe_getfield, pe_iload1, pe_aaload, pe_astore10, pe_iload4, pe_iload5, pe_iload6, pe_iload7, pe_iload8, pe_call9, pe_lstore11, pe_if_le, pe_lload11, pe_aload10, pe_iadd, pe_laload, pe_ladd, pe_lcmp, pe_iaload, pe_icmp_ne, pe_goto, pe_goto_w, pm_prog_1, pm_ob_some, Nat.reduceDiv, Nat.reduceMod, Nat.reduceMul, Nat.reduceAdd, Int.reduceToNat, pm_kill_i, pm_kill_r, pm_kill_n, pm_kill_j, pm_kill_l, pm_kill_d, pm_cats_nil, pm_cats_i, pm_cats_r, pm_cats_n, pm_cats_l, pm_cats_d, sz_1, sz_2, sl_1, sl_2, lc_0, lc_lt, lc_le, li_ne, va_rf, wr_m1, we_m1, pm_kill_w, Int32.reduceOfInt, Int64.reduceOfInt, Int32.reduceOfNat, Int32.reduceLT, Int32.reduceLE, Prod.mk.injEq, Nat.reduceEqDiff, reduceCtorEq, and_true, true_and, and_false, false_and, and_self, ite_true, ite_false, ↓reduceIte, not_true_eq_false, not_false_eq_true, pe_ri, pe_rz, pe_rc, Cr_g10_0 hP hA, Cr_g10_1 hP hA, Cr_g7_4 hP hA, Cr_g7_5 hP hA, Cr_r11 hP hA, Cr_r20 hP hA, Cr_r9 hP hA, z1, eq_false k2, z4, eq_false k5, eq_false k8]
          · rw [if_neg k7] at e; cases e
        · rw [if_neg k6] at e; cases e
    · rw [if_neg k3] at e; cases e
/-- TimberHouse$FaultRips$Planner.walk(IZZIIIILTimberHouse$FaultRips$Plan;)V -/
theorem c328 {d : Nat} {h : pm_H} {a : Nat} {x0 : Int32} {x1 : Int32} {x2 : Int32} {x3 : Int32} {x4 : Int32} {x5 : Int32} {x6 : Int32} {r7 : Nat} (hc : pm_cls h a = some 5) : pm_call pm_prog (d + 1) 328 [.ref a, .int x0, .int x1, .int x2, .int x3, .int x4, .int x5, .int x6, .ref r7] h = pm_ev pm_prog (pm_call pm_prog d) 328 0 b328_0 [.ref a, .int x0, .int x1, .int x2, .int x3, .int x4, .int x5, .int x6, .ref r7, pm_junk, pm_junk, pm_junk, pm_junk] [] h := pm_cal (pm_rc1 hc rfl) rfl rfl rfl
theorem g328_1 {cl : pm_C} {ls st : List Value} {h : pm_H} : pm_go pm_prog cl 328 1 ls st h = pm_ev pm_prog cl 328 1 b328_1 ls st h := pm_go_eq pm_prog cl 328 1 ls st h
theorem g328_2 {cl : pm_C} {ls st : List Value} {h : pm_H} : pm_go pm_prog cl 328 2 ls st h = pm_ev pm_prog cl 328 2 b328_2 ls st h := pm_go_eq pm_prog cl 328 2 ls st h
theorem g328_3 {cl : pm_C} {ls st : List Value} {h : pm_H} : pm_go pm_prog cl 328 3 ls st h = pm_ev pm_prog cl 328 3 b328_3 ls st h := pm_go_eq pm_prog cl 328 3 ls st h
theorem g328_4 {cl : pm_C} {ls st : List Value} {h : pm_H} : pm_go pm_prog cl 328 4 ls st h = pm_ev pm_prog cl 328 4 b328_4 ls st h := pm_go_eq pm_prog cl 328 4 ls st h
theorem g328_5 {cl : pm_C} {ls st : List Value} {h : pm_H} : pm_go pm_prog cl 328 5 ls st h = pm_ev pm_prog cl 328 5 b328_5 ls st h := pm_go_eq pm_prog cl 328 5 ls st h
theorem g328_6 {cl : pm_C} {ls st : List Value} {h : pm_H} : pm_go pm_prog cl 328 6 ls st h = pm_ev pm_prog cl 328 6 b328_6 ls st h := pm_go_eq pm_prog cl 328 6 ls st h
theorem g328_7 {cl : pm_C} {ls st : List Value} {h : pm_H} : pm_go pm_prog cl 328 7 ls st h = pm_ev pm_prog cl 328 7 b328_7 ls st h := pm_go_eq pm_prog cl 328 7 ls st h
theorem g328_8 {cl : pm_C} {ls st : List Value} {h : pm_H} : pm_go pm_prog cl 328 8 ls st h = pm_ev pm_prog cl 328 8 b328_8 ls st h := pm_go_eq pm_prog cl 328 8 ls st h
theorem g328_9 {cl : pm_C} {ls st : List Value} {h : pm_H} : pm_go pm_prog cl 328 9 ls st h = pm_ev pm_prog cl 328 9 b328_9 ls st h := pm_go_eq pm_prog cl 328 9 ls st h
def FOK328 (fc : Int32) (pc : Int32) (A : wK → Nat) (h : pm_H) (E : Nat) (F : wS → Int32 → Int32 → Int32 → Int32 → Int32 → Int32 → Int32 → Int32 → Option (wS)) : Prop := ∀ (D : Nat) (S : wS) (x1 : Int32) (x2 : Int32) (x3 : Int32) (x4 : Int32) (x5 : Int32) (x6 : Int32) (x7 : Int32) (x8i : Int32) (r : wS), E ≤ D → F S x1 x2 x3 x4 x5 x6 x7 x8i = some r → pm_call pm_prog D 328 [.ref (A (7, 0, 0)), .int x1, .int x2, .int x3, .int x4, .int x5, .int x6, .int x7, .ref (A (12, x8i, 0))] (wput A (Cr_d fc pc) S h) = some (Outcome.returned none, (wput A (Cr_d fc pc) r h))
noncomputable def f328_b5 (fc : Int32) (pc : Int32) (F : wS → Int32 → Int32 → Int32 → Int32 → Int32 → Int32 → Int32 → Int32 → Option (wS)) : Int32 × Int32 × Int32 × Int32 × Int32 × Int32 × Int32 × Int32 × Int32 × Int32 × Int32 × wS → Option ((Int32 × Int32 × Int32 × Int32 × Int32 × Int32 × Int32 × Int32 × Int32 × Int32 × Int32 × wS) ⊕ ((Int32 × Int32 × Int32 × Int32 × Int32 × Int32 × Int32 × Int32 × Int32 × Int32 × Int32 × wS))) := fun (x1, x2, x3, x4, x5, x6, x7, x8i, x10, x11, x12, S) =>
  if 0 ≤ x8i ∧ x8i < 2 then
    if x12 ≤ 0 then
      some (.inr (x1, x2, x3, x4, x5, x6, x7, x8i, x10, x11, x12, S))
    else
      (f329 fc pc S x1 x2 x3 x4 x5 x6 x7 x11 x12).bind fun (v4, S5) =>
      if v4 = 0 then
        some (.inl (x1, x2, x3, x4, x5, x6, x7, x8i, x10, x11, (x12 + (-1)), S5))
      else
        some (.inr (x1, x2, x3, x4, x5, x6, x7, x8i, x10, x11, x12, S5))
  else none
noncomputable def f328_8_4 (fc : Int32) (pc : Int32) (F : wS → Int32 → Int32 → Int32 → Int32 → Int32 → Int32 → Int32 → Int32 → Option (wS)) (S : wS) (x1 : Int32) (x2 : Int32) (x3 : Int32) (x4 : Int32) (x5 : Int32) (x6 : Int32) (x7 : Int32) (x8i : Int32) (x10 : Int32) (x11 : Int32) (x12 : Int32) : Option ((Int32 × Int32 × Int32 × Int32 × Int32 × Int32 × Int32 × Int32 × Int32 × Int32 × wS) ⊕ ((wS))) :=
  if 0 ≤ x8i ∧ x8i < 2 then
    (f3841 1 x12).bind fun v19 =>
    some (.inl (x1, x2, x3, x4, x5, x6, x7, x8i, x10, (x11 + v19), S))
  else none
noncomputable def f328_7_4 (fc : Int32) (pc : Int32) (F : wS → Int32 → Int32 → Int32 → Int32 → Int32 → Int32 → Int32 → Int32 → Option (wS)) (S : wS) (x1 : Int32) (x2 : Int32) (x3 : Int32) (x4 : Int32) (x5 : Int32) (x6 : Int32) (x7 : Int32) (x8i : Int32) (x10 : Int32) (x11 : Int32) (x12 : Int32) : Option ((Int32 × Int32 × Int32 × Int32 × Int32 × Int32 × Int32 × Int32 × Int32 × Int32 × wS) ⊕ ((wS))) :=
  if 0 ≤ x8i ∧ x8i < 2 then
    if x12 ≤ 0 then
      f328_8_4 fc pc F S x1 x2 x3 x4 x5 x6 x7 x8i x10 x11 x12
    else
      (F S (x1 - 1) 1 0 (x4 + x11) x12 x6 x7 x8i).bind fun S20 =>
      f328_8_4 fc pc F S20 x1 x2 x3 x4 x5 x6 x7 x8i x10 x11 x12
  else none
noncomputable def f328_6_4 (fc : Int32) (pc : Int32) (F : wS → Int32 → Int32 → Int32 → Int32 → Int32 → Int32 → Int32 → Int32 → Option (wS)) (S : wS) (x1 : Int32) (x2 : Int32) (x3 : Int32) (x4 : Int32) (x5 : Int32) (x6 : Int32) (x7 : Int32) (x8i : Int32) (x10 : Int32) (x11 : Int32) (x12 : Int32) : Option ((Int32 × Int32 × Int32 × Int32 × Int32 × Int32 × Int32 × Int32 × Int32 × Int32 × wS) ⊕ ((wS))) :=
  if 0 ≤ x8i ∧ x8i < 2 then
    if x12 ≤ 0 then
      f328_7_4 fc pc F S x1 x2 x3 x4 x5 x6 x7 x8i x10 x11 x12
    else
      if x2 = 0 then
        f328_7_4 fc pc F S x1 x2 x3 x4 x5 x6 x7 x8i x10 x11 x12
      else
        (F S (x1 - 1) 0 0 x4 x5 (x6 + x11) x12 x8i).bind fun S21 =>
        f328_8_4 fc pc F S21 x1 x2 x3 x4 x5 x6 x7 x8i x10 x11 x12
  else none
noncomputable def f328_b4 (fc : Int32) (pc : Int32) (F : wS → Int32 → Int32 → Int32 → Int32 → Int32 → Int32 → Int32 → Int32 → Option (wS)) : Int32 × Int32 × Int32 × Int32 × Int32 × Int32 × Int32 × Int32 × Int32 × Int32 × wS → Option ((Int32 × Int32 × Int32 × Int32 × Int32 × Int32 × Int32 × Int32 × Int32 × Int32 × wS) ⊕ ((wS))) := fun (x1, x2, x3, x4, x5, x6, x7, x8i, x10, x11, S) =>
  if 0 ≤ x8i ∧ x8i < 2 then
    if x11 < x10 then
      (lp (f328_b5 fc pc F) FU (x1, x2, x3, x4, x5, x6, x7, x8i, x10, x11, (x10 - x11), S)).bind fun (v8, v9, v10, v11, v12, v13, v14, v15i, v16, v17, v18, S6) =>
      if 0 ≤ v15i ∧ v15i < 2 then
        f328_6_4 fc pc F S6 v8 v9 v10 v11 v12 v13 v14 v15i v16 v17 v18
      else none
    else
      some (.inr S)
  else none
noncomputable def f328_3 (fc : Int32) (pc : Int32) (F : wS → Int32 → Int32 → Int32 → Int32 → Int32 → Int32 → Int32 → Int32 → Option (wS)) (S : wS) (x1 : Int32) (x2 : Int32) (x3 : Int32) (x4 : Int32) (x5 : Int32) (x6 : Int32) (x7 : Int32) (x8i : Int32) (y0 : Int32) : Option (wS) :=
  if 0 ≤ x8i ∧ x8i < 2 then
    (lp (f328_b4 fc pc F) FU (x1, x2, x3, x4, x5, x6, x7, x8i, y0, 0, S)).bind fun S22 =>
    some S22
  else none
/-- TimberHouse$FaultRips$Planner.walk(IZZIIIILTimberHouse$FaultRips$Plan;)V -/
noncomputable def f328 (fc : Int32) (pc : Int32) (F : wS → Int32 → Int32 → Int32 → Int32 → Int32 → Int32 → Int32 → Int32 → Option (wS)) (S : wS) (x1 : Int32) (x2 : Int32) (x3 : Int32) (x4 : Int32) (x5 : Int32) (x6 : Int32) (x7 : Int32) (x8i : Int32) : Option (wS) :=
  if 0 ≤ x8i ∧ x8i < 2 then
    if x1 = 0 then
      (f321 x4 x5 x6 x7).bind fun v1 =>
      if 0 ≤ v1 ∧ v1 < 75625 then
        (f449 fc pc S x8i x4 x5 x6 x7 (S.1 (8, 0, 0) v1)).bind fun S2 =>
        some S2
      else none
    else
      (f325 fc pc (r324 fc pc 12) S x1 x2 x3 x4 x5 x6 x7).bind fun S3 =>
      if 0 ≤ x1 ∧ x1 < 4 then
        if x2 = 0 then
          f328_3 fc pc F S3 x1 x2 x3 x4 x5 x6 x7 x8i x5
        else
          f328_3 fc pc F S3 x1 x2 x3 x4 x5 x6 x7 x8i x7
      else none
  else none
def go328_5 (fc : Int32) (pc : Int32) (A : wK → Nat) (h : pm_H) (D : Nat) (R : Outcome × pm_H) : Int32 × Int32 × Int32 × Int32 × Int32 × Int32 × Int32 × Int32 × Int32 × Int32 × Int32 × wS → Prop := fun (x1, x2, x3, x4, x5, x6, x7, x8i, x10, x11, x12, S) => ∀ q9 : Value, pm_go pm_prog (pm_call pm_prog D) 328 5 [.ref (A (7, 0, 0)), .int x1, .int x2, .int x3, .int x4, .int x5, .int x6, .int x7, .ref (A (12, x8i, 0)), q9, .int x10, .int x11, .int x12] [] (wput A (Cr_d fc pc) S h) = some R
def ex328_5 (fc : Int32) (pc : Int32) (A : wK → Nat) (h : pm_H) (D : Nat) (R : Outcome × pm_H) : (Int32 × Int32 × Int32 × Int32 × Int32 × Int32 × Int32 × Int32 × Int32 × Int32 × Int32 × wS) → Prop := fun (x1, x2, x3, x4, x5, x6, x7, x8i, x10, x11, x12, S) => ∀ q9 : Value, pm_go pm_prog (pm_call pm_prog D) 328 6 [.ref (A (7, 0, 0)), .int x1, .int x2, .int x3, .int x4, .int x5, .int x6, .int x7, .ref (A (12, x8i, 0)), q9, .int x10, .int x11, .int x12] [] (wput A (Cr_d fc pc) S h) = some R
theorem y328_b5 {fc : Int32} {pc : Int32} {A : wK → Nat} {h : pm_H} {D : Nat} {F : wS → Int32 → Int32 → Int32 → Int32 → Int32 → Int32 → Int32 → Int32 → Option (wS)} {E : Nat} {R : Outcome × pm_H} (hP : Cr_P fc pc) (hA : wok A (Cr_d fc pc) h.1) (hF : FOK328 fc pc A h E F) (hE : E + 0 ≤ D) (hD : 41 ≤ D) (a : Int32 × Int32 × Int32 × Int32 × Int32 × Int32 × Int32 × Int32 × Int32 × Int32 × Int32 × wS) (r : (Int32 × Int32 × Int32 × Int32 × Int32 × Int32 × Int32 × Int32 × Int32 × Int32 × Int32 × wS) ⊕ ((Int32 × Int32 × Int32 × Int32 × Int32 × Int32 × Int32 × Int32 × Int32 × Int32 × Int32 × wS))) (e : f328_b5 fc pc F a = some r) (hc : Sum.elim (go328_5 fc pc A h D R) (ex328_5 fc pc A h D R) r) : go328_5 fc pc A h D R a := by
  obtain ⟨x1, x2, x3, x4, x5, x6, x7, x8i, x10, x11, x12, S⟩ := a
  dsimp only [go328_5]
  intro q9
  simp only [f328_b5] at e
  rw [g328_5, b328_5]
  by_cases k1 : 0 ≤ x8i ∧ x8i < 2
  · rw [if_pos k1] at e
    by_cases k2 : x12 ≤ 0
    · rw [if_pos k2] at e
      have e := Option.some.inj e; subst e
      dsimp only [Sum.elim_inr, ex328_5] at hc
      simp -implicitDefEqProofs (disch := first | assumption | exact Nat.le_of_ble_eq_true rfl | decide) only [b328_0, g328_1, b328_1, g328_2, b328_2, g328_9, b328_9, pe_iload1, pe_if_ne, pe_aload8, pe_iload4, pe_iload5, pe_iload6, pe_iload7, pe_aload0, pe_getfield, pe_call4, pm_af_ret, pm_af_void, pm_af_thr, pe_baload, pe_call6, pe_return, pe_iload2, pe_iload3, pe_call8, pe_aaload, pe_astore9, pe_if_eq, pe_goto, pe_goto_w, pe_istore10, pe_sipush, pe_istore11, pe_iload11, pe_iload10, pe_icmp_ge, pe_isub, pe_istore12, pe_iload12, pe_if_le, pe_call10, pe_iinc12, pe_iadd, pe_call9, pe_call2, pm_prog_1, pm_ob_some, Nat.reduceDiv, Nat.reduceMod, Nat.reduceMul, Nat.reduceAdd, Int.reduceToNat, pm_kill_i, pm_kill_r, pm_kill_n, pm_kill_j, pm_kill_l, pm_kill_d, pm_cats_nil, pm_cats_i, pm_cats_r, pm_cats_n, pm_cats_l, pm_cats_d, sz_1, sz_2, sl_1, sl_2, lc_0, lc_lt, lc_le, li_ne, va_rf, wr_m1, we_m1, pm_kill_w, Int32.reduceOfInt, Int64.reduceOfInt, Int32.reduceOfNat, Int32.reduceLT, Int32.reduceLE, Prod.mk.injEq, Nat.reduceEqDiff, reduceCtorEq, and_true, true_and, and_false, false_and, and_self, ite_true, ite_false, ↓reduceIte, not_true_eq_false, not_false_eq_true, pe_ri, pe_rz, pe_rc, Cr_g7_3 hP hA, Cr_g7_4 hP hA, Cr_r8 hP hA, Cr_r9 hP hA, eq_true k2, hc]
    · rw [if_neg k2] at e
      obtain ⟨⟨v4, S5⟩, k3, e⟩ := Option.bind_eq_some_iff.mp e
      try dsimp only at e
      have z3 := x329 (D := D) (h := h) hP hA (by omega) k3
      dsimp only at z3
      by_cases k4 : v4 = 0
      · rw [if_pos k4] at e
        have e := Option.some.inj e; subst e
        dsimp only [Sum.elim_inl, go328_5] at hc
        simp -implicitDefEqProofs (disch := first | assumption | exact Nat.le_of_ble_eq_true rfl | decide) only [b328_0, g328_1, b328_1, g328_2, b328_2, g328_9, b328_9, pe_iload1, pe_if_ne, pe_aload8, pe_iload4, pe_iload5, pe_iload6, pe_iload7, pe_aload0, pe_getfield, pe_call4, pm_af_ret, pm_af_void, pm_af_thr, pe_baload, pe_call6, pe_return, pe_iload2, pe_iload3, pe_call8, pe_aaload, pe_astore9, pe_if_eq, pe_goto, pe_goto_w, pe_istore10, pe_sipush, pe_istore11, pe_iload11, pe_iload10, pe_icmp_ge, pe_isub, pe_istore12, pe_iload12, pe_if_le, pe_call10, pe_iinc12, pe_iadd, pe_call9, pe_call2, pm_prog_1, pm_ob_some, Nat.reduceDiv, Nat.reduceMod, Nat.reduceMul, Nat.reduceAdd, Int.reduceToNat, pm_kill_i, pm_kill_r, pm_kill_n, pm_kill_j, pm_kill_l, pm_kill_d, pm_cats_nil, pm_cats_i, pm_cats_r, pm_cats_n, pm_cats_l, pm_cats_d, sz_1, sz_2, sl_1, sl_2, lc_0, lc_lt, lc_le, li_ne, va_rf, wr_m1, we_m1, pm_kill_w, Int32.reduceOfInt, Int64.reduceOfInt, Int32.reduceOfNat, Int32.reduceLT, Int32.reduceLE, Prod.mk.injEq, Nat.reduceEqDiff, reduceCtorEq, and_true, true_and, and_false, false_and, and_self, ite_true, ite_false, ↓reduceIte, not_true_eq_false, not_false_eq_true, pe_ri, pe_rz, pe_rc, Cr_g7_3 hP hA, Cr_g7_4 hP hA, Cr_r8 hP hA, Cr_r9 hP hA, eq_false k2, z3, eq_true k4, hc]
      · rw [if_neg k4] at e
        have e := Option.some.inj e; subst e
        dsimp only [Sum.elim_inr, ex328_5] at hc
        simp -implicitDefEqProofs (disch := first | assumption | exact Nat.le_of_ble_eq_true rfl | decide) only [b328_0, g328_1, b328_1, g328_2, b328_2, g328_9, b328_9, pe_iload1, pe_if_ne, pe_aload8, pe_iload4, pe_iload5, pe_iload6, pe_iload7, pe_aload0, pe_getfield, pe_call4, pm_af_ret, pm_af_void, pm_af_thr, pe_baload, pe_call6, pe_return, pe_iload2, pe_iload3, pe_call8, pe_aaload, pe_astore9, pe_if_eq, pe_goto, pe_goto_w, pe_istore10, pe_sipush, pe_istore11, pe_iload11, pe_iload10, pe_icmp_ge, pe_isub, pe_istore12, pe_iload12, pe_if_le, pe_call10, pe_iinc12, pe_iadd, pe_call9, pe_call2, pm_prog_1, pm_ob_some, Nat.reduceDiv, Nat.reduceMod, Nat.reduceMul, Nat.reduceAdd, Int.reduceToNat, pm_kill_i, pm_kill_r, pm_kill_n, pm_kill_j, pm_kill_l, pm_kill_d, pm_cats_nil, pm_cats_i, pm_cats_r, pm_cats_n, pm_cats_l, pm_cats_d, sz_1, sz_2, sl_1, sl_2, lc_0, lc_lt, lc_le, li_ne, va_rf, wr_m1, we_m1, pm_kill_w, Int32.reduceOfInt, Int64.reduceOfInt, Int32.reduceOfNat, Int32.reduceLT, Int32.reduceLE, Prod.mk.injEq, Nat.reduceEqDiff, reduceCtorEq, and_true, true_and, and_false, false_and, and_self, ite_true, ite_false, ↓reduceIte, not_true_eq_false, not_false_eq_true, pe_ri, pe_rz, pe_rc, Cr_g7_3 hP hA, Cr_g7_4 hP hA, Cr_r8 hP hA, Cr_r9 hP hA, eq_false k2, z3, eq_false k4, hc]
  · rw [if_neg k1] at e; cases e
theorem z328_5 {fc : Int32} {pc : Int32} {A : wK → Nat} {h : pm_H} {D : Nat} {F : wS → Int32 → Int32 → Int32 → Int32 → Int32 → Int32 → Int32 → Int32 → Option (wS)} {E : Nat} {R : Outcome × pm_H} (hP : Cr_P fc pc) (hA : wok A (Cr_d fc pc) h.1) (hF : FOK328 fc pc A h E F) (hE : E + 0 ≤ D) (hD : 41 ≤ D) {n : Nat} {a : Int32 × Int32 × Int32 × Int32 × Int32 × Int32 × Int32 × Int32 × Int32 × Int32 × Int32 × wS} {b : (Int32 × Int32 × Int32 × Int32 × Int32 × Int32 × Int32 × Int32 × Int32 × Int32 × Int32 × wS)} (e : lp (f328_b5 fc pc F) n a = some b) (hx : ex328_5 fc pc A h D R b) : go328_5 fc pc A h D R a := lp_run (fun a r => y328_b5 hP hA hF hE hD a r) n a b e hx
def go328_4 (fc : Int32) (pc : Int32) (A : wK → Nat) (h : pm_H) (D : Nat) (R : Outcome × pm_H) : Int32 × Int32 × Int32 × Int32 × Int32 × Int32 × Int32 × Int32 × Int32 × Int32 × wS → Prop := fun (x1, x2, x3, x4, x5, x6, x7, x8i, x10, x11, S) => ∀ q9 q12 : Value, pm_go pm_prog (pm_call pm_prog D) 328 4 [.ref (A (7, 0, 0)), .int x1, .int x2, .int x3, .int x4, .int x5, .int x6, .int x7, .ref (A (12, x8i, 0)), q9, .int x10, .int x11, q12] [] (wput A (Cr_d fc pc) S h) = some R
def ex328_4 (fc : Int32) (pc : Int32) (A : wK → Nat) (h : pm_H) (D : Nat) (R : Outcome × pm_H) : (wS) → Prop := fun S => ∀ q0 q1 q2 q3 q4 q5 q6 q7 q8 q9 q10 q11 q12 : Value, pm_go pm_prog (pm_call pm_prog D) 328 9 [q0, q1, q2, q3, q4, q5, q6, q7, q8, q9, q10, q11, q12] [] (wput A (Cr_d fc pc) S h) = some R
theorem y328_8_4 {fc : Int32} {pc : Int32} {A : wK → Nat} {h : pm_H} {D : Nat} {F : wS → Int32 → Int32 → Int32 → Int32 → Int32 → Int32 → Int32 → Int32 → Option (wS)} {E : Nat} {R : Outcome × pm_H} {S : wS} {x1 : Int32} {x2 : Int32} {x3 : Int32} {x4 : Int32} {x5 : Int32} {x6 : Int32} {x7 : Int32} {x8i : Int32} {x10 : Int32} {x11 : Int32} {x12 : Int32} {r : (Int32 × Int32 × Int32 × Int32 × Int32 × Int32 × Int32 × Int32 × Int32 × Int32 × wS) ⊕ ((wS))} (hP : Cr_P fc pc) (hA : wok A (Cr_d fc pc) h.1) (hF : FOK328 fc pc A h E F) (hE : E + 0 ≤ D) (hD : 41 ≤ D) (e : f328_8_4 fc pc F S x1 x2 x3 x4 x5 x6 x7 x8i x10 x11 x12 = some r) (hc : Sum.elim (go328_4 fc pc A h D R) (ex328_4 fc pc A h D R) r) : ∀ q9 : Value, pm_go pm_prog (pm_call pm_prog D) 328 8 [.ref (A (7, 0, 0)), .int x1, .int x2, .int x3, .int x4, .int x5, .int x6, .int x7, .ref (A (12, x8i, 0)), q9, .int x10, .int x11, .int x12] [] (wput A (Cr_d fc pc) S h) = some R := by
  intro q9
  simp only [f328_8_4] at e
  rw [g328_8, b328_8]
  by_cases k1 : 0 ≤ x8i ∧ x8i < 2
  · rw [if_pos k1] at e
    obtain ⟨v19, k2, e⟩ := Option.bind_eq_some_iff.mp e
    try dsimp only at e
    have z2 := fun h => x3841 (D := D) (h := h) (by omega) k2
    have e := Option.some.inj e; subst e
    dsimp only [Sum.elim_inl, go328_4] at hc
    simp -implicitDefEqProofs (disch := first | assumption | exact Nat.le_of_ble_eq_true rfl | decide) only [b328_0, g328_1, b328_1, g328_2, b328_2, g328_9, b328_9, pe_iload1, pe_if_ne, pe_aload8, pe_iload4, pe_iload5, pe_iload6, pe_iload7, pe_aload0, pe_getfield, pe_call4, pm_af_ret, pm_af_void, pm_af_thr, pe_baload, pe_call6, pe_return, pe_iload2, pe_iload3, pe_call8, pe_aaload, pe_astore9, pe_if_eq, pe_goto, pe_goto_w, pe_istore10, pe_sipush, pe_istore11, pe_iload11, pe_iload10, pe_icmp_ge, pe_isub, pe_istore12, pe_iload12, pe_if_le, pe_call10, pe_iinc12, pe_iadd, pe_call9, pe_call2, pm_prog_1, pm_ob_some, Nat.reduceDiv, Nat.reduceMod, Nat.reduceMul, Nat.reduceAdd, Int.reduceToNat, pm_kill_i, pm_kill_r, pm_kill_n, pm_kill_j, pm_kill_l, pm_kill_d, pm_cats_nil, pm_cats_i, pm_cats_r, pm_cats_n, pm_cats_l, pm_cats_d, sz_1, sz_2, sl_1, sl_2, lc_0, lc_lt, lc_le, li_ne, va_rf, wr_m1, we_m1, pm_kill_w, Int32.reduceOfInt, Int64.reduceOfInt, Int32.reduceOfNat, Int32.reduceLT, Int32.reduceLE, Prod.mk.injEq, Nat.reduceEqDiff, reduceCtorEq, and_true, true_and, and_false, false_and, and_self, ite_true, ite_false, ↓reduceIte, not_true_eq_false, not_false_eq_true, pe_ri, pe_rz, pe_rc, Cr_g7_3 hP hA, Cr_g7_4 hP hA, Cr_r8 hP hA, Cr_r9 hP hA, z2, hc]
  · rw [if_neg k1] at e; cases e
theorem y328_7_4 {fc : Int32} {pc : Int32} {A : wK → Nat} {h : pm_H} {D : Nat} {F : wS → Int32 → Int32 → Int32 → Int32 → Int32 → Int32 → Int32 → Int32 → Option (wS)} {E : Nat} {R : Outcome × pm_H} {S : wS} {x1 : Int32} {x2 : Int32} {x3 : Int32} {x4 : Int32} {x5 : Int32} {x6 : Int32} {x7 : Int32} {x8i : Int32} {x10 : Int32} {x11 : Int32} {x12 : Int32} {r : (Int32 × Int32 × Int32 × Int32 × Int32 × Int32 × Int32 × Int32 × Int32 × Int32 × wS) ⊕ ((wS))} (hP : Cr_P fc pc) (hA : wok A (Cr_d fc pc) h.1) (hF : FOK328 fc pc A h E F) (hE : E + 0 ≤ D) (hD : 41 ≤ D) (e : f328_7_4 fc pc F S x1 x2 x3 x4 x5 x6 x7 x8i x10 x11 x12 = some r) (hc : Sum.elim (go328_4 fc pc A h D R) (ex328_4 fc pc A h D R) r) : ∀ q9 : Value, pm_go pm_prog (pm_call pm_prog D) 328 7 [.ref (A (7, 0, 0)), .int x1, .int x2, .int x3, .int x4, .int x5, .int x6, .int x7, .ref (A (12, x8i, 0)), q9, .int x10, .int x11, .int x12] [] (wput A (Cr_d fc pc) S h) = some R := by
  intro q9
  simp only [f328_7_4] at e
  rw [g328_7, b328_7]
  by_cases k1 : 0 ≤ x8i ∧ x8i < 2
  · rw [if_pos k1] at e
    by_cases k2 : x12 ≤ 0
    · rw [if_pos k2] at e
      have k3 := y328_8_4 (h := h) hP hA hF hE hD e hc
      simp -implicitDefEqProofs (disch := first | assumption | exact Nat.le_of_ble_eq_true rfl | decide) only [b328_0, g328_1, b328_1, g328_2, b328_2, g328_9, b328_9, pe_iload1, pe_if_ne, pe_aload8, pe_iload4, pe_iload5, pe_iload6, pe_iload7, pe_aload0, pe_getfield, pe_call4, pm_af_ret, pm_af_void, pm_af_thr, pe_baload, pe_call6, pe_return, pe_iload2, pe_iload3, pe_call8, pe_aaload, pe_astore9, pe_if_eq, pe_goto, pe_goto_w, pe_istore10, pe_sipush, pe_istore11, pe_iload11, pe_iload10, pe_icmp_ge, pe_isub, pe_istore12, pe_iload12, pe_if_le, pe_call10, pe_iinc12, pe_iadd, pe_call9, pe_call2, pm_prog_1, pm_ob_some, Nat.reduceDiv, Nat.reduceMod, Nat.reduceMul, Nat.reduceAdd, Int.reduceToNat, pm_kill_i, pm_kill_r, pm_kill_n, pm_kill_j, pm_kill_l, pm_kill_d, pm_cats_nil, pm_cats_i, pm_cats_r, pm_cats_n, pm_cats_l, pm_cats_d, sz_1, sz_2, sl_1, sl_2, lc_0, lc_lt, lc_le, li_ne, va_rf, wr_m1, we_m1, pm_kill_w, Int32.reduceOfInt, Int64.reduceOfInt, Int32.reduceOfNat, Int32.reduceLT, Int32.reduceLE, Prod.mk.injEq, Nat.reduceEqDiff, reduceCtorEq, and_true, true_and, and_false, false_and, and_self, ite_true, ite_false, ↓reduceIte, not_true_eq_false, not_false_eq_true, pe_ri, pe_rz, pe_rc, Cr_g7_3 hP hA, Cr_g7_4 hP hA, Cr_r8 hP hA, Cr_r9 hP hA, eq_true k2, k3]
    · rw [if_neg k2] at e
      obtain ⟨S20, k4, e⟩ := Option.bind_eq_some_iff.mp e
      try dsimp only at e
      have z4 := hF D _ _ _ _ _ _ _ _ _ _ (by omega) k4
      have k5 := y328_8_4 (h := h) hP hA hF hE hD e hc
      simp -implicitDefEqProofs (disch := first | assumption | exact Nat.le_of_ble_eq_true rfl | decide) only [b328_0, g328_1, b328_1, g328_2, b328_2, g328_9, b328_9, pe_iload1, pe_if_ne, pe_aload8, pe_iload4, pe_iload5, pe_iload6, pe_iload7, pe_aload0, pe_getfield, pe_call4, pm_af_ret, pm_af_void, pm_af_thr, pe_baload, pe_call6, pe_return, pe_iload2, pe_iload3, pe_call8, pe_aaload, pe_astore9, pe_if_eq, pe_goto, pe_goto_w, pe_istore10, pe_sipush, pe_istore11, pe_iload11, pe_iload10, pe_icmp_ge, pe_isub, pe_istore12, pe_iload12, pe_if_le, pe_call10, pe_iinc12, pe_iadd, pe_call9, pe_call2, pm_prog_1, pm_ob_some, Nat.reduceDiv, Nat.reduceMod, Nat.reduceMul, Nat.reduceAdd, Int.reduceToNat, pm_kill_i, pm_kill_r, pm_kill_n, pm_kill_j, pm_kill_l, pm_kill_d, pm_cats_nil, pm_cats_i, pm_cats_r, pm_cats_n, pm_cats_l, pm_cats_d, sz_1, sz_2, sl_1, sl_2, lc_0, lc_lt, lc_le, li_ne, va_rf, wr_m1, we_m1, pm_kill_w, Int32.reduceOfInt, Int64.reduceOfInt, Int32.reduceOfNat, Int32.reduceLT, Int32.reduceLE, Prod.mk.injEq, Nat.reduceEqDiff, reduceCtorEq, and_true, true_and, and_false, false_and, and_self, ite_true, ite_false, ↓reduceIte, not_true_eq_false, not_false_eq_true, pe_ri, pe_rz, pe_rc, Cr_g7_3 hP hA, Cr_g7_4 hP hA, Cr_r8 hP hA, Cr_r9 hP hA, eq_false k2, z4, k5]
  · rw [if_neg k1] at e; cases e
theorem y328_6_4 {fc : Int32} {pc : Int32} {A : wK → Nat} {h : pm_H} {D : Nat} {F : wS → Int32 → Int32 → Int32 → Int32 → Int32 → Int32 → Int32 → Int32 → Option (wS)} {E : Nat} {R : Outcome × pm_H} {S : wS} {x1 : Int32} {x2 : Int32} {x3 : Int32} {x4 : Int32} {x5 : Int32} {x6 : Int32} {x7 : Int32} {x8i : Int32} {x10 : Int32} {x11 : Int32} {x12 : Int32} {r : (Int32 × Int32 × Int32 × Int32 × Int32 × Int32 × Int32 × Int32 × Int32 × Int32 × wS) ⊕ ((wS))} (hP : Cr_P fc pc) (hA : wok A (Cr_d fc pc) h.1) (hF : FOK328 fc pc A h E F) (hE : E + 0 ≤ D) (hD : 41 ≤ D) (e : f328_6_4 fc pc F S x1 x2 x3 x4 x5 x6 x7 x8i x10 x11 x12 = some r) (hc : Sum.elim (go328_4 fc pc A h D R) (ex328_4 fc pc A h D R) r) : ∀ q9 : Value, pm_go pm_prog (pm_call pm_prog D) 328 6 [.ref (A (7, 0, 0)), .int x1, .int x2, .int x3, .int x4, .int x5, .int x6, .int x7, .ref (A (12, x8i, 0)), q9, .int x10, .int x11, .int x12] [] (wput A (Cr_d fc pc) S h) = some R := by
  intro q9
  simp only [f328_6_4] at e
  rw [g328_6, b328_6]
  by_cases k1 : 0 ≤ x8i ∧ x8i < 2
  · rw [if_pos k1] at e
    by_cases k2 : x12 ≤ 0
    · rw [if_pos k2] at e
      have k3 := y328_7_4 (h := h) hP hA hF hE hD e hc
      simp -implicitDefEqProofs (disch := first | assumption | exact Nat.le_of_ble_eq_true rfl | decide) only [b328_0, g328_1, b328_1, g328_2, b328_2, g328_9, b328_9, pe_iload1, pe_if_ne, pe_aload8, pe_iload4, pe_iload5, pe_iload6, pe_iload7, pe_aload0, pe_getfield, pe_call4, pm_af_ret, pm_af_void, pm_af_thr, pe_baload, pe_call6, pe_return, pe_iload2, pe_iload3, pe_call8, pe_aaload, pe_astore9, pe_if_eq, pe_goto, pe_goto_w, pe_istore10, pe_sipush, pe_istore11, pe_iload11, pe_iload10, pe_icmp_ge, pe_isub, pe_istore12, pe_iload12, pe_if_le, pe_call10, pe_iinc12, pe_iadd, pe_call9, pe_call2, pm_prog_1, pm_ob_some, Nat.reduceDiv, Nat.reduceMod, Nat.reduceMul, Nat.reduceAdd, Int.reduceToNat, pm_kill_i, pm_kill_r, pm_kill_n, pm_kill_j, pm_kill_l, pm_kill_d, pm_cats_nil, pm_cats_i, pm_cats_r, pm_cats_n, pm_cats_l, pm_cats_d, sz_1, sz_2, sl_1, sl_2, lc_0, lc_lt, lc_le, li_ne, va_rf, wr_m1, we_m1, pm_kill_w, Int32.reduceOfInt, Int64.reduceOfInt, Int32.reduceOfNat, Int32.reduceLT, Int32.reduceLE, Prod.mk.injEq, Nat.reduceEqDiff, reduceCtorEq, and_true, true_and, and_false, false_and, and_self, ite_true, ite_false, ↓reduceIte, not_true_eq_false, not_false_eq_true, pe_ri, pe_rz, pe_rc, Cr_g7_3 hP hA, Cr_g7_4 hP hA, Cr_r8 hP hA, Cr_r9 hP hA, eq_true k2, k3]
    · rw [if_neg k2] at e
      by_cases k4 : x2 = 0
      · rw [if_pos k4] at e
        have k5 := y328_7_4 (h := h) hP hA hF hE hD e hc
        simp -implicitDefEqProofs (disch := first | assumption | exact Nat.le_of_ble_eq_true rfl | decide) only [b328_0, g328_1, b328_1, g328_2, b328_2, g328_9, b328_9, pe_iload1, pe_if_ne, pe_aload8, pe_iload4, pe_iload5, pe_iload6, pe_iload7, pe_aload0, pe_getfield, pe_call4, pm_af_ret, pm_af_void, pm_af_thr, pe_baload, pe_call6, pe_return, pe_iload2, pe_iload3, pe_call8, pe_aaload, pe_astore9, pe_if_eq, pe_goto, pe_goto_w, pe_istore10, pe_sipush, pe_istore11, pe_iload11, pe_iload10, pe_icmp_ge, pe_isub, pe_istore12, pe_iload12, pe_if_le, pe_call10, pe_iinc12, pe_iadd, pe_call9, pe_call2, pm_prog_1, pm_ob_some, Nat.reduceDiv, Nat.reduceMod, Nat.reduceMul, Nat.reduceAdd, Int.reduceToNat, pm_kill_i, pm_kill_r, pm_kill_n, pm_kill_j, pm_kill_l, pm_kill_d, pm_cats_nil, pm_cats_i, pm_cats_r, pm_cats_n, pm_cats_l, pm_cats_d, sz_1, sz_2, sl_1, sl_2, lc_0, lc_lt, lc_le, li_ne, va_rf, wr_m1, we_m1, pm_kill_w, Int32.reduceOfInt, Int64.reduceOfInt, Int32.reduceOfNat, Int32.reduceLT, Int32.reduceLE, Prod.mk.injEq, Nat.reduceEqDiff, reduceCtorEq, and_true, true_and, and_false, false_and, and_self, ite_true, ite_false, ↓reduceIte, not_true_eq_false, not_false_eq_true, pe_ri, pe_rz, pe_rc, Cr_g7_3 hP hA, Cr_g7_4 hP hA, Cr_r8 hP hA, Cr_r9 hP hA, eq_false k2, eq_true k4, k5]
      · rw [if_neg k4] at e
        obtain ⟨S21, k6, e⟩ := Option.bind_eq_some_iff.mp e
        try dsimp only at e
        have z6 := hF D _ _ _ _ _ _ _ _ _ _ (by omega) k6
        have k7 := y328_8_4 (h := h) hP hA hF hE hD e hc
        simp -implicitDefEqProofs (disch := first | assumption | exact Nat.le_of_ble_eq_true rfl | decide) only [b328_0, g328_1, b328_1, g328_2, b328_2, g328_9, b328_9, pe_iload1, pe_if_ne, pe_aload8, pe_iload4, pe_iload5, pe_iload6, pe_iload7, pe_aload0, pe_getfield, pe_call4, pm_af_ret, pm_af_void, pm_af_thr, pe_baload, pe_call6, pe_return, pe_iload2, pe_iload3, pe_call8, pe_aaload, pe_astore9, pe_if_eq, pe_goto, pe_goto_w, pe_istore10, pe_sipush, pe_istore11, pe_iload11, pe_iload10, pe_icmp_ge, pe_isub, pe_istore12, pe_iload12, pe_if_le, pe_call10, pe_iinc12, pe_iadd, pe_call9, pe_call2, pm_prog_1, pm_ob_some, Nat.reduceDiv, Nat.reduceMod, Nat.reduceMul, Nat.reduceAdd, Int.reduceToNat, pm_kill_i, pm_kill_r, pm_kill_n, pm_kill_j, pm_kill_l, pm_kill_d, pm_cats_nil, pm_cats_i, pm_cats_r, pm_cats_n, pm_cats_l, pm_cats_d, sz_1, sz_2, sl_1, sl_2, lc_0, lc_lt, lc_le, li_ne, va_rf, wr_m1, we_m1, pm_kill_w, Int32.reduceOfInt, Int64.reduceOfInt, Int32.reduceOfNat, Int32.reduceLT, Int32.reduceLE, Prod.mk.injEq, Nat.reduceEqDiff, reduceCtorEq, and_true, true_and, and_false, false_and, and_self, ite_true, ite_false, ↓reduceIte, not_true_eq_false, not_false_eq_true, pe_ri, pe_rz, pe_rc, Cr_g7_3 hP hA, Cr_g7_4 hP hA, Cr_r8 hP hA, Cr_r9 hP hA, eq_false k2, eq_false k4, z6, k7]
  · rw [if_neg k1] at e; cases e
theorem y328_b4 {fc : Int32} {pc : Int32} {A : wK → Nat} {h : pm_H} {D : Nat} {F : wS → Int32 → Int32 → Int32 → Int32 → Int32 → Int32 → Int32 → Int32 → Option (wS)} {E : Nat} {R : Outcome × pm_H} (hP : Cr_P fc pc) (hA : wok A (Cr_d fc pc) h.1) (hF : FOK328 fc pc A h E F) (hE : E + 0 ≤ D) (hD : 41 ≤ D) (a : Int32 × Int32 × Int32 × Int32 × Int32 × Int32 × Int32 × Int32 × Int32 × Int32 × wS) (r : (Int32 × Int32 × Int32 × Int32 × Int32 × Int32 × Int32 × Int32 × Int32 × Int32 × wS) ⊕ ((wS))) (e : f328_b4 fc pc F a = some r) (hc : Sum.elim (go328_4 fc pc A h D R) (ex328_4 fc pc A h D R) r) : go328_4 fc pc A h D R a := by
  obtain ⟨x1, x2, x3, x4, x5, x6, x7, x8i, x10, x11, S⟩ := a
  dsimp only [go328_4]
  intro q9 q12
  simp only [f328_b4] at e
  rw [g328_4, b328_4]
  by_cases k1 : 0 ≤ x8i ∧ x8i < 2
  · rw [if_pos k1] at e
    by_cases k2 : x11 < x10
    · rw [if_pos k2] at e
      obtain ⟨⟨v8, v9, v10, v11, v12, v13, v14, v15i, v16, v17, v18, S6⟩, k3, e⟩ := Option.bind_eq_some_iff.mp e
      try dsimp only at e
      try simp -implicitDefEqProofs (disch := first | assumption | exact Nat.le_of_ble_eq_true rfl | decide) only [b328_0, g328_1, b328_1, g328_2, b328_2, g328_9, b328_9, pe_iload1, pe_if_ne, pe_aload8, pe_iload4, pe_iload5, pe_iload6, pe_iload7, pe_aload0, pe_getfield, pe_call4, pm_af_ret, pm_af_void, pm_af_thr, pe_baload, pe_call6, pe_return, pe_iload2, pe_iload3, pe_call8, pe_aaload, pe_astore9, pe_if_eq, pe_goto, pe_goto_w, pe_istore10, pe_sipush, pe_istore11, pe_iload11, pe_iload10, pe_icmp_ge, pe_isub, pe_istore12, pe_iload12, pe_if_le, pe_call10, pe_iinc12, pe_iadd, pe_call9, pe_call2, pm_prog_1, pm_ob_some, Nat.reduceDiv, Nat.reduceMod, Nat.reduceMul, Nat.reduceAdd, Int.reduceToNat, pm_kill_i, pm_kill_r, pm_kill_n, pm_kill_j, pm_kill_l, pm_kill_d, pm_cats_nil, pm_cats_i, pm_cats_r, pm_cats_n, pm_cats_l, pm_cats_d, sz_1, sz_2, sl_1, sl_2, lc_0, lc_lt, lc_le, li_ne, va_rf, wr_m1, we_m1, pm_kill_w, Int32.reduceOfInt, Int64.reduceOfInt, Int32.reduceOfNat, Int32.reduceLT, Int32.reduceLE, Prod.mk.injEq, Nat.reduceEqDiff, reduceCtorEq, and_true, true_and, and_false, false_and, and_self, ite_true, ite_false, ↓reduceIte, not_true_eq_false, not_false_eq_true, pe_ri, pe_rz, pe_rc, Cr_g7_3 hP hA, Cr_g7_4 hP hA, Cr_r8 hP hA, Cr_r9 hP hA, eq_true k2]
      refine z328_5 hP hA hF hE hD k3 ?_ _
      dsimp only [ex328_5]
      intro q9
      by_cases k4 : 0 ≤ v15i ∧ v15i < 2
      · rw [if_pos k4] at e
        have k5 := y328_6_4 (h := h) hP hA hF hE hD e hc
        simp -implicitDefEqProofs (disch := first | assumption | exact Nat.le_of_ble_eq_true rfl | decide) only [b328_0, g328_1, b328_1, g328_2, b328_2, g328_9, b328_9, pe_iload1, pe_if_ne, pe_aload8, pe_iload4, pe_iload5, pe_iload6, pe_iload7, pe_aload0, pe_getfield, pe_call4, pm_af_ret, pm_af_void, pm_af_thr, pe_baload, pe_call6, pe_return, pe_iload2, pe_iload3, pe_call8, pe_aaload, pe_astore9, pe_if_eq, pe_goto, pe_goto_w, pe_istore10, pe_sipush, pe_istore11, pe_iload11, pe_iload10, pe_icmp_ge, pe_isub, pe_istore12, pe_iload12, pe_if_le, pe_call10, pe_iinc12, pe_iadd, pe_call9, pe_call2, pm_prog_1, pm_ob_some, Nat.reduceDiv, Nat.reduceMod, Nat.reduceMul, Nat.reduceAdd, Int.reduceToNat, pm_kill_i, pm_kill_r, pm_kill_n, pm_kill_j, pm_kill_l, pm_kill_d, pm_cats_nil, pm_cats_i, pm_cats_r, pm_cats_n, pm_cats_l, pm_cats_d, sz_1, sz_2, sl_1, sl_2, lc_0, lc_lt, lc_le, li_ne, va_rf, wr_m1, we_m1, pm_kill_w, Int32.reduceOfInt, Int64.reduceOfInt, Int32.reduceOfNat, Int32.reduceLT, Int32.reduceLE, Prod.mk.injEq, Nat.reduceEqDiff, reduceCtorEq, and_true, true_and, and_false, false_and, and_self, ite_true, ite_false, ↓reduceIte, not_true_eq_false, not_false_eq_true, pe_ri, pe_rz, pe_rc, Cr_g7_3 hP hA, Cr_g7_4 hP hA, Cr_r8 hP hA, Cr_r9 hP hA, eq_true k2, k5]
      · rw [if_neg k4] at e; cases e
    · rw [if_neg k2] at e
      have e := Option.some.inj e; subst e
      dsimp only [Sum.elim_inr, ex328_4] at hc
      simp -implicitDefEqProofs (disch := first | assumption | exact Nat.le_of_ble_eq_true rfl | decide) only [b328_0, g328_1, b328_1, g328_2, b328_2, g328_9, b328_9, pe_iload1, pe_if_ne, pe_aload8, pe_iload4, pe_iload5, pe_iload6, pe_iload7, pe_aload0, pe_getfield, pe_call4, pm_af_ret, pm_af_void, pm_af_thr, pe_baload, pe_call6, pe_return, pe_iload2, pe_iload3, pe_call8, pe_aaload, pe_astore9, pe_if_eq, pe_goto, pe_goto_w, pe_istore10, pe_sipush, pe_istore11, pe_iload11, pe_iload10, pe_icmp_ge, pe_isub, pe_istore12, pe_iload12, pe_if_le, pe_call10, pe_iinc12, pe_iadd, pe_call9, pe_call2, pm_prog_1, pm_ob_some, Nat.reduceDiv, Nat.reduceMod, Nat.reduceMul, Nat.reduceAdd, Int.reduceToNat, pm_kill_i, pm_kill_r, pm_kill_n, pm_kill_j, pm_kill_l, pm_kill_d, pm_cats_nil, pm_cats_i, pm_cats_r, pm_cats_n, pm_cats_l, pm_cats_d, sz_1, sz_2, sl_1, sl_2, lc_0, lc_lt, lc_le, li_ne, va_rf, wr_m1, we_m1, pm_kill_w, Int32.reduceOfInt, Int64.reduceOfInt, Int32.reduceOfNat, Int32.reduceLT, Int32.reduceLE, Prod.mk.injEq, Nat.reduceEqDiff, reduceCtorEq, and_true, true_and, and_false, false_and, and_self, ite_true, ite_false, ↓reduceIte, not_true_eq_false, not_false_eq_true, pe_ri, pe_rz, pe_rc, Cr_g7_3 hP hA, Cr_g7_4 hP hA, Cr_r8 hP hA, Cr_r9 hP hA, eq_false k2, hc]
  · rw [if_neg k1] at e; cases e
theorem z328_4 {fc : Int32} {pc : Int32} {A : wK → Nat} {h : pm_H} {D : Nat} {F : wS → Int32 → Int32 → Int32 → Int32 → Int32 → Int32 → Int32 → Int32 → Option (wS)} {E : Nat} {R : Outcome × pm_H} (hP : Cr_P fc pc) (hA : wok A (Cr_d fc pc) h.1) (hF : FOK328 fc pc A h E F) (hE : E + 0 ≤ D) (hD : 41 ≤ D) {n : Nat} {a : Int32 × Int32 × Int32 × Int32 × Int32 × Int32 × Int32 × Int32 × Int32 × Int32 × wS} {b : (wS)} (e : lp (f328_b4 fc pc F) n a = some b) (hx : ex328_4 fc pc A h D R b) : go328_4 fc pc A h D R a := lp_run (fun a r => y328_b4 hP hA hF hE hD a r) n a b e hx
theorem y328_3 {fc : Int32} {pc : Int32} {A : wK → Nat} {h : pm_H} {D : Nat} {F : wS → Int32 → Int32 → Int32 → Int32 → Int32 → Int32 → Int32 → Int32 → Option (wS)} {E : Nat} {S : wS} {x1 : Int32} {x2 : Int32} {x3 : Int32} {x4 : Int32} {x5 : Int32} {x6 : Int32} {x7 : Int32} {x8i : Int32} {y0 : Int32} {r : wS} (hP : Cr_P fc pc) (hA : wok A (Cr_d fc pc) h.1) (hF : FOK328 fc pc A h E F) (hE : E + 0 ≤ D) (hD : 41 ≤ D) (e : f328_3 fc pc F S x1 x2 x3 x4 x5 x6 x7 x8i y0 = some r) : ∀ q9 q10 q11 q12 : Value, pm_go pm_prog (pm_call pm_prog D) 328 3 [.ref (A (7, 0, 0)), .int x1, .int x2, .int x3, .int x4, .int x5, .int x6, .int x7, .ref (A (12, x8i, 0)), q9, q10, q11, q12] [.int y0] (wput A (Cr_d fc pc) S h) = some (Outcome.returned none, (wput A (Cr_d fc pc) r h)) := by
  intro q9 q10 q11 q12
  simp only [f328_3] at e
  rw [g328_3, b328_3]
  by_cases k1 : 0 ≤ x8i ∧ x8i < 2
  · rw [if_pos k1] at e
    obtain ⟨S22, k2, e⟩ := Option.bind_eq_some_iff.mp e
    try dsimp only at e
    try simp -implicitDefEqProofs (disch := first | assumption | exact Nat.le_of_ble_eq_true rfl | decide) only [b328_0, g328_1, b328_1, g328_2, b328_2, g328_9, b328_9, pe_iload1, pe_if_ne, pe_aload8, pe_iload4, pe_iload5, pe_iload6, pe_iload7, pe_aload0, pe_getfield, pe_call4, pm_af_ret, pm_af_void, pm_af_thr, pe_baload, pe_call6, pe_return, pe_iload2, pe_iload3, pe_call8, pe_aaload, pe_astore9, pe_if_eq, pe_goto, pe_goto_w, pe_istore10, pe_sipush, pe_istore11, pe_iload11, pe_iload10, pe_icmp_ge, pe_isub, pe_istore12, pe_iload12, pe_if_le, pe_call10, pe_iinc12, pe_iadd, pe_call9, pe_call2, pm_prog_1, pm_ob_some, Nat.reduceDiv, Nat.reduceMod, Nat.reduceMul, Nat.reduceAdd, Int.reduceToNat, pm_kill_i, pm_kill_r, pm_kill_n, pm_kill_j, pm_kill_l, pm_kill_d, pm_cats_nil, pm_cats_i, pm_cats_r, pm_cats_n, pm_cats_l, pm_cats_d, sz_1, sz_2, sl_1, sl_2, lc_0, lc_lt, lc_le, li_ne, va_rf, wr_m1, we_m1, pm_kill_w, Int32.reduceOfInt, Int64.reduceOfInt, Int32.reduceOfNat, Int32.reduceLT, Int32.reduceLE, Prod.mk.injEq, Nat.reduceEqDiff, reduceCtorEq, and_true, true_and, and_false, false_and, and_self, ite_true, ite_false, ↓reduceIte, not_true_eq_false, not_false_eq_true, pe_ri, pe_rz, pe_rc, Cr_g7_3 hP hA, Cr_g7_4 hP hA, Cr_r8 hP hA, Cr_r9 hP hA]
    refine z328_4 hP hA hF hE hD k2 ?_ _ _
    dsimp only [ex328_4]
    intro q0 q1 q2 q3 q4 q5 q6 q7 q8 q9 q10 q11 q12
    have e := Option.some.inj e; subst e
    simp -implicitDefEqProofs (disch := first | assumption | exact Nat.le_of_ble_eq_true rfl | decide) only [b328_0, g328_1, b328_1, g328_2, b328_2, g328_9, b328_9, pe_iload1, pe_if_ne, pe_aload8, pe_iload4, pe_iload5, pe_iload6, pe_iload7, pe_aload0, pe_getfield, pe_call4, pm_af_ret, pm_af_void, pm_af_thr, pe_baload, pe_call6, pe_return, pe_iload2, pe_iload3, pe_call8, pe_aaload, pe_astore9, pe_if_eq, pe_goto, pe_goto_w, pe_istore10, pe_sipush, pe_istore11, pe_iload11, pe_iload10, pe_icmp_ge, pe_isub, pe_istore12, pe_iload12, pe_if_le, pe_call10, pe_iinc12, pe_iadd, pe_call9, pe_call2, pm_prog_1, pm_ob_some, Nat.reduceDiv, Nat.reduceMod, Nat.reduceMul, Nat.reduceAdd, Int.reduceToNat, pm_kill_i, pm_kill_r, pm_kill_n, pm_kill_j, pm_kill_l, pm_kill_d, pm_cats_nil, pm_cats_i, pm_cats_r, pm_cats_n, pm_cats_l, pm_cats_d, sz_1, sz_2, sl_1, sl_2, lc_0, lc_lt, lc_le, li_ne, va_rf, wr_m1, we_m1, pm_kill_w, Int32.reduceOfInt, Int64.reduceOfInt, Int32.reduceOfNat, Int32.reduceLT, Int32.reduceLE, Prod.mk.injEq, Nat.reduceEqDiff, reduceCtorEq, and_true, true_and, and_false, false_and, and_self, ite_true, ite_false, ↓reduceIte, not_true_eq_false, not_false_eq_true, pe_ri, pe_rz, pe_rc, Cr_g7_3 hP hA, Cr_g7_4 hP hA, Cr_r8 hP hA, Cr_r9 hP hA]
  · rw [if_neg k1] at e; cases e
theorem x328 {fc : Int32} {pc : Int32} {A : wK → Nat} {h : pm_H} {D : Nat} {F : wS → Int32 → Int32 → Int32 → Int32 → Int32 → Int32 → Int32 → Int32 → Option (wS)} {E : Nat} {S : wS} {x1 : Int32} {x2 : Int32} {x3 : Int32} {x4 : Int32} {x5 : Int32} {x6 : Int32} {x7 : Int32} {x8i : Int32} {r : wS} (hP : Cr_P fc pc) (hA : wok A (Cr_d fc pc) h.1) (hF : FOK328 fc pc A h E F) (hE : E + 1 ≤ D) (hD : 42 ≤ D) (e : f328 fc pc F S x1 x2 x3 x4 x5 x6 x7 x8i = some r) : pm_call pm_prog D 328 [.ref (A (7, 0, 0)), .int x1, .int x2, .int x3, .int x4, .int x5, .int x6, .int x7, .ref (A (12, x8i, 0))] (wput A (Cr_d fc pc) S h) = some (Outcome.returned none, (wput A (Cr_d fc pc) r h)) := by
  obtain ⟨D, rfl⟩ : ∃ D', D = D' + 1 := ⟨D - 1, by omega⟩
  have hE : E + 0 ≤ D := by omega
  have hD : 41 ≤ D := by omega
  simp only [f328] at e
  have k1 : 0 ≤ x8i ∧ x8i < 2 := by
    by_cases q : 0 ≤ x8i ∧ x8i < 2
    · exact q
    · rw [if_neg q] at e; cases e
  rw [if_pos k1] at e
  rw [c328 (Cr_c7 hP hA), b328_0]
  by_cases k2 : x1 = 0
  · rw [if_pos k2] at e
    obtain ⟨v1, k3, e⟩ := Option.bind_eq_some_iff.mp e
    try dsimp only at e
    have z3 := fun h => x321 (D := D) (h := h) (by omega) k3
    by_cases k4 : 0 ≤ v1 ∧ v1 < 75625
    · rw [if_pos k4] at e
      obtain ⟨S2, k5, e⟩ := Option.bind_eq_some_iff.mp e
      try dsimp only at e
      have z5 := x449 (D := D) (h := h) hP hA (by omega) k5
      have e := Option.some.inj e; subst e
      simp -implicitDefEqProofs (disch := first | assumption | exact Nat.le_of_ble_eq_true rfl | decide) only [b328_0, g328_1, b328_1, g328_2, b328_2, g328_9, b328_9, pe_iload1, pe_if_ne, pe_aload8, pe_iload4, pe_iload5, pe_iload6, pe_iload7, pe_aload0, pe_getfield, pe_call4, pm_af_ret, pm_af_void, pm_af_thr, pe_baload, pe_call6, pe_return, pe_iload2, pe_iload3, pe_call8, pe_aaload, pe_astore9, pe_if_eq, pe_goto, pe_goto_w, pe_istore10, pe_sipush, pe_istore11, pe_iload11, pe_iload10, pe_icmp_ge, pe_isub, pe_istore12, pe_iload12, pe_if_le, pe_call10, pe_iinc12, pe_iadd, pe_call9, pe_call2, pm_prog_1, pm_ob_some, Nat.reduceDiv, Nat.reduceMod, Nat.reduceMul, Nat.reduceAdd, Int.reduceToNat, pm_kill_i, pm_kill_r, pm_kill_n, pm_kill_j, pm_kill_l, pm_kill_d, pm_cats_nil, pm_cats_i, pm_cats_r, pm_cats_n, pm_cats_l, pm_cats_d, sz_1, sz_2, sl_1, sl_2, lc_0, lc_lt, lc_le, li_ne, va_rf, wr_m1, we_m1, pm_kill_w, Int32.reduceOfInt, Int64.reduceOfInt, Int32.reduceOfNat, Int32.reduceLT, Int32.reduceLE, Prod.mk.injEq, Nat.reduceEqDiff, reduceCtorEq, and_true, true_and, and_false, false_and, and_self, ite_true, ite_false, ↓reduceIte, not_true_eq_false, not_false_eq_true, pe_ri, pe_rz, pe_rc, Cr_g7_3 hP hA, Cr_g7_4 hP hA, Cr_r8 hP hA, Cr_r9 hP hA, eq_true k2, z3, z5]
    · rw [if_neg k4] at e; cases e
  · rw [if_neg k2] at e
    obtain ⟨S3, k6, e⟩ := Option.bind_eq_some_iff.mp e
    try dsimp only at e
    have z6 := x325 (D := D) (h := h) hP hA (w324 hP hA 12) (by omega) (by omega) k6
    by_cases k7 : 0 ≤ x1 ∧ x1 < 4
    · rw [if_pos k7] at e
      by_cases k8 : x2 = 0
      · rw [if_pos k8] at e
        have k9 := y328_3 (h := h) hP hA hF hE hD e
        simp -implicitDefEqProofs (disch := first | assumption | exact Nat.le_of_ble_eq_true rfl | decide) only [b328_0, g328_1, b328_1, g328_2, b328_2, g328_9, b328_9, pe_iload1, pe_if_ne, pe_aload8, pe_iload4, pe_iload5, pe_iload6, pe_iload7, pe_aload0, pe_getfield, pe_call4, pm_af_ret, pm_af_void, pm_af_thr, pe_baload, pe_call6, pe_return, pe_iload2, pe_iload3, pe_call8, pe_aaload, pe_astore9, pe_if_eq, pe_goto, pe_goto_w, pe_istore10, pe_sipush, pe_istore11, pe_iload11, pe_iload10, pe_icmp_ge, pe_isub, pe_istore12, pe_iload12, pe_if_le, pe_call10, pe_iinc12, pe_iadd, pe_call9, pe_call2, pm_prog_1, pm_ob_some, Nat.reduceDiv, Nat.reduceMod, Nat.reduceMul, Nat.reduceAdd, Int.reduceToNat, pm_kill_i, pm_kill_r, pm_kill_n, pm_kill_j, pm_kill_l, pm_kill_d, pm_cats_nil, pm_cats_i, pm_cats_r, pm_cats_n, pm_cats_l, pm_cats_d, sz_1, sz_2, sl_1, sl_2, lc_0, lc_lt, lc_le, li_ne, va_rf, wr_m1, we_m1, pm_kill_w, Int32.reduceOfInt, Int64.reduceOfInt, Int32.reduceOfNat, Int32.reduceLT, Int32.reduceLE, Prod.mk.injEq, Nat.reduceEqDiff, reduceCtorEq, and_true, true_and, and_false, false_and, and_self, ite_true, ite_false, ↓reduceIte, not_true_eq_false, not_false_eq_true, pe_ri, pe_rz, pe_rc, Cr_g7_3 hP hA, Cr_g7_4 hP hA, Cr_r8 hP hA, Cr_r9 hP hA, eq_false k2, z6, eq_true k8, k9]
      · rw [if_neg k8] at e
        have k10 := y328_3 (h := h) hP hA hF hE hD e
        simp -implicitDefEqProofs (disch := first | assumption | exact Nat.le_of_ble_eq_true rfl | decide) only [b328_0, g328_1, b328_1, g328_2, b328_2, g328_9, b328_9, pe_iload1, pe_if_ne, pe_aload8, pe_iload4, pe_iload5, pe_iload6, pe_iload7, pe_aload0, pe_getfield, pe_call4, pm_af_ret, pm_af_void, pm_af_thr, pe_baload, pe_call6, pe_return, pe_iload2, pe_iload3, pe_call8, pe_aaload, pe_astore9, pe_if_eq, pe_goto, pe_goto_w, pe_istore10, pe_sipush, pe_istore11, pe_iload11, pe_iload10, pe_icmp_ge, pe_isub, pe_istore12, pe_iload12, pe_if_le, pe_call10, pe_iinc12, pe_iadd, pe_call9, pe_call2, pm_prog_1, pm_ob_some, Nat.reduceDiv, Nat.reduceMod, Nat.reduceMul, Nat.reduceAdd, Int.reduceToNat, pm_kill_i, pm_kill_r, pm_kill_n, pm_kill_j, pm_kill_l, pm_kill_d, pm_cats_nil, pm_cats_i, pm_cats_r, pm_cats_n, pm_cats_l, pm_cats_d, sz_1, sz_2, sl_1, sl_2, lc_0, lc_lt, lc_le, li_ne, va_rf, wr_m1, we_m1, pm_kill_w, Int32.reduceOfInt, Int64.reduceOfInt, Int32.reduceOfNat, Int32.reduceLT, Int32.reduceLE, Prod.mk.injEq, Nat.reduceEqDiff, reduceCtorEq, and_true, true_and, and_false, false_and, and_self, ite_true, ite_false, ↓reduceIte, not_true_eq_false, not_false_eq_true, pe_ri, pe_rz, pe_rc, Cr_g7_3 hP hA, Cr_g7_4 hP hA, Cr_r8 hP hA, Cr_r9 hP hA, eq_false k2, z6, eq_false k8, k10]
    · rw [if_neg k7] at e; cases e
noncomputable def r328 (fc : Int32) (pc : Int32) : Nat → wS → Int32 → Int32 → Int32 → Int32 → Int32 → Int32 → Int32 → Int32 → Option (wS)
  | 0 => fun _ _ _ _ _ _ _ _ _ => none
  | n + 1 => fun S x1 x2 x3 x4 x5 x6 x7 x8i => f328 fc pc (r328 fc pc n) S x1 x2 x3 x4 x5 x6 x7 x8i
theorem w328 {fc : Int32} {pc : Int32} {A : wK → Nat} {h : pm_H} (hP : Cr_P fc pc) (hA : wok A (Cr_d fc pc) h.1) : ∀ n, FOK328 fc pc A h (42 + 1 * n) (r328 fc pc n)
  | 0 => by
    intro D S x1 x2 x3 x4 x5 x6 x7 x8i r _ e
    exact absurd e (by simp [r328])
  | n + 1 => by
    intro D S x1 x2 x3 x4 x5 x6 x7 x8i r hE e
    exact x328 hP hA (w328 hP hA n) (by omega) (by omega) e
/-- TimberHouse$FaultRips.plan(LTimberHouse$FaultRips$Plan;)J -/
theorem c277 {d : Nat} {h : pm_H} {a : Nat} {r0 : Nat} (hc : pm_cls h a = some 4) : pm_call pm_prog (d + 1) 277 [.ref a, .ref r0] h = pm_ev pm_prog (pm_call pm_prog d) 277 0 b277_0 [.ref a, .ref r0, pm_junk, pm_junk] [] h := pm_cal (pm_rc1 hc rfl) rfl rfl rfl
theorem g277_1 {cl : pm_C} {ls st : List Value} {h : pm_H} : pm_go pm_prog cl 277 1 ls st h = pm_ev pm_prog cl 277 1 b277_1 ls st h := pm_go_eq pm_prog cl 277 1 ls st h
theorem g277_2 {cl : pm_C} {ls st : List Value} {h : pm_H} : pm_go pm_prog cl 277 2 ls st h = pm_ev pm_prog cl 277 2 b277_2 ls st h := pm_go_eq pm_prog cl 277 2 ls st h
theorem g277_3 {cl : pm_C} {ls st : List Value} {h : pm_H} : pm_go pm_prog cl 277 3 ls st h = pm_ev pm_prog cl 277 3 b277_3 ls st h := pm_go_eq pm_prog cl 277 3 ls st h
theorem g277_4 {cl : pm_C} {ls st : List Value} {h : pm_H} : pm_go pm_prog cl 277 4 ls st h = pm_ev pm_prog cl 277 4 b277_4 ls st h := pm_go_eq pm_prog cl 277 4 ls st h
theorem g277_5 {cl : pm_C} {ls st : List Value} {h : pm_H} : pm_go pm_prog cl 277 5 ls st h = pm_ev pm_prog cl 277 5 b277_5 ls st h := pm_go_eq pm_prog cl 277 5 ls st h
noncomputable def f277_5 (fc : Int32) (pc : Int32) (S : wS) (x1i : Int32) (x2 : Int64) : Option (Int64 × wS) :=
  if 0 ≤ x1i ∧ x1i < 2 then
    (f278 fc pc S x1i).bind fun v2 =>
    some (x2, (sl S (12, x1i, 0) 6 v2))
  else none
noncomputable def f277_4 (fc : Int32) (pc : Int32) (S : wS) (x1i : Int32) (x2 : Int64) (y1 : Int32) (y2 : Int32) : Option (Int64 × wS) :=
  if 0 ≤ x1i ∧ x1i < 2 then
    (f328 fc pc (r328 fc pc 12) S y1 y2 1 0 (S.1 (0, 0, 0) 1) 0 (S.1 (0, 0, 0) 2) x1i).bind fun S5 =>
    f277_5 fc pc S5 x1i x2
  else none
noncomputable def f277_2 (fc : Int32) (pc : Int32) (S : wS) (x1i : Int32) (y1 : Int32) (y2 : Int32) : Option (Int64 × wS) :=
  if 0 ≤ x1i ∧ x1i < 2 then
    (f324 fc pc (r324 fc pc 12) S y1 y2 1 0 (S.1 (0, 0, 0) 1) 0 (S.1 (0, 0, 0) 2)).bind fun (v3, S4) =>
    if (S4.1 (0, 0, 0) 14) = 0 then
      f277_4 fc pc S4 x1i v3 (S4.1 (0, 0, 0) 15) 1
    else
      f277_4 fc pc S4 x1i v3 (S4.1 (0, 0, 0) 15) 0
  else none
/-- TimberHouse$FaultRips.plan(LTimberHouse$FaultRips$Plan;)J -/
noncomputable def f277 (fc : Int32) (pc : Int32) (S : wS) (x1i : Int32) : Option (Int64 × wS) :=
  if 0 ≤ x1i ∧ x1i < 2 then
    (f322 fc pc S (S.1 (0, 0, 0) 6) (S.1 (0, 0, 0) 1) (S.1 (0, 0, 0) 2)).bind fun S1 =>
    if (S1.1 (0, 0, 0) 1) ≤ 0 then
      f277_5 fc pc (sz S1 (12, x1i, 0) 5 0) x1i 0
    else
      if (S1.1 (0, 0, 0) 2) ≤ 0 then
        f277_5 fc pc (sz S1 (12, x1i, 0) 5 0) x1i 0
      else
        if (S1.1 (0, 0, 0) 14) = 0 then
          f277_2 fc pc (sz S1 (12, x1i, 0) 5 0) x1i (S1.1 (0, 0, 0) 15) 1
        else
          f277_2 fc pc (sz S1 (12, x1i, 0) 5 0) x1i (S1.1 (0, 0, 0) 15) 0
  else none
theorem y277_5 {fc : Int32} {pc : Int32} {A : wK → Nat} {h : pm_H} {D : Nat} {S : wS} {x1i : Int32} {x2 : Int64} {r : Int64 × wS} (hP : Cr_P fc pc) (hA : wok A (Cr_d fc pc) h.1) (hD : 55 ≤ D) (e : f277_5 fc pc S x1i x2 = some r) : pm_go pm_prog (pm_call pm_prog D) 277 5 [.ref (A (0, 0, 0)), .ref (A (12, x1i, 0)), .long x2, pm_junk] [] (wput A (Cr_d fc pc) S h) = some (match (generalizing := false) r with | (w0, S1) => (Outcome.returned (some (.long w0)), (wput A (Cr_d fc pc) S1 h))) := by
  simp only [f277_5] at e
  rw [g277_5, b277_5]
  by_cases k1 : 0 ≤ x1i ∧ x1i < 2
  · rw [if_pos k1] at e
    obtain ⟨v2, k2, e⟩ := Option.bind_eq_some_iff.mp e
    try dsimp only at e
    have z2 := x278 (D := D) (h := h) hP hA (by omega) k2
    have e := Option.some.inj e; subst e
    simp -implicitDefEqProofs (disch := first | assumption | exact Nat.le_of_ble_eq_true rfl | decide) only [b277_0, g277_1, b277_1, g277_3, b277_3, pe_aload0, pe_getfield, pe_call5, pm_af_ret, pm_af_void, pm_af_thr, pe_aload1, pe_sipush, pe_putfield, pe_bipush, pe_lstore2, pe_if_le, pe_if_ne, pe_goto, pe_goto_w, pe_call8, pe_call9, pe_call2, pe_lload2, pe_lreturn, pm_prog_1, pm_ob_some, Nat.reduceDiv, Nat.reduceMod, Nat.reduceMul, Nat.reduceAdd, Int.reduceToNat, pm_kill_i, pm_kill_r, pm_kill_n, pm_kill_j, pm_kill_l, pm_kill_d, pm_cats_nil, pm_cats_i, pm_cats_r, pm_cats_n, pm_cats_l, pm_cats_d, sz_1, sz_2, sl_1, sl_2, lc_0, lc_lt, lc_le, li_ne, va_rf, wr_m1, we_m1, pm_kill_w, Int32.reduceOfInt, Int64.reduceOfInt, Int32.reduceOfNat, Int32.reduceLT, Int32.reduceLE, Prod.mk.injEq, Nat.reduceEqDiff, reduceCtorEq, and_true, true_and, and_false, false_and, and_self, ite_true, ite_false, ↓reduceIte, not_true_eq_false, not_false_eq_true, pe_ri, pe_rz, pe_rc, Cr_g0_1 hP hA, Cr_g0_10 hP hA, Cr_g0_11 hP hA, Cr_g0_14 hP hA, Cr_g0_15 hP hA, Cr_g0_2 hP hA, Cr_g0_6 hP hA, Cr_p12_5 hP hA, Cr_p12_6 hP hA, z2]
  · rw [if_neg k1] at e; cases e
theorem y277_4 {fc : Int32} {pc : Int32} {A : wK → Nat} {h : pm_H} {D : Nat} {S : wS} {x1i : Int32} {x2 : Int64} {y1 : Int32} {y2 : Int32} {r : Int64 × wS} (hP : Cr_P fc pc) (hA : wok A (Cr_d fc pc) h.1) (hD : 55 ≤ D) (e : f277_4 fc pc S x1i x2 y1 y2 = some r) : pm_go pm_prog (pm_call pm_prog D) 277 4 [.ref (A (0, 0, 0)), .ref (A (12, x1i, 0)), .long x2, pm_junk] [.int y2, .int y1, .ref (A (7, 0, 0))] (wput A (Cr_d fc pc) S h) = some (match (generalizing := false) r with | (w0, S1) => (Outcome.returned (some (.long w0)), (wput A (Cr_d fc pc) S1 h))) := by
  simp only [f277_4] at e
  rw [g277_4, b277_4]
  by_cases k1 : 0 ≤ x1i ∧ x1i < 2
  · rw [if_pos k1] at e
    obtain ⟨S5, k2, e⟩ := Option.bind_eq_some_iff.mp e
    try dsimp only at e
    have z2 := x328 (D := D) (h := h) hP hA (w328 hP hA 12) (by omega) (by omega) k2
    have k3 := y277_5 (h := h) hP hA hD e
    simp -implicitDefEqProofs (disch := first | assumption | exact Nat.le_of_ble_eq_true rfl | decide) only [b277_0, g277_1, b277_1, g277_3, b277_3, pe_aload0, pe_getfield, pe_call5, pm_af_ret, pm_af_void, pm_af_thr, pe_aload1, pe_sipush, pe_putfield, pe_bipush, pe_lstore2, pe_if_le, pe_if_ne, pe_goto, pe_goto_w, pe_call8, pe_call9, pe_call2, pe_lload2, pe_lreturn, pm_prog_1, pm_ob_some, Nat.reduceDiv, Nat.reduceMod, Nat.reduceMul, Nat.reduceAdd, Int.reduceToNat, pm_kill_i, pm_kill_r, pm_kill_n, pm_kill_j, pm_kill_l, pm_kill_d, pm_cats_nil, pm_cats_i, pm_cats_r, pm_cats_n, pm_cats_l, pm_cats_d, sz_1, sz_2, sl_1, sl_2, lc_0, lc_lt, lc_le, li_ne, va_rf, wr_m1, we_m1, pm_kill_w, Int32.reduceOfInt, Int64.reduceOfInt, Int32.reduceOfNat, Int32.reduceLT, Int32.reduceLE, Prod.mk.injEq, Nat.reduceEqDiff, reduceCtorEq, and_true, true_and, and_false, false_and, and_self, ite_true, ite_false, ↓reduceIte, not_true_eq_false, not_false_eq_true, pe_ri, pe_rz, pe_rc, Cr_g0_1 hP hA, Cr_g0_10 hP hA, Cr_g0_11 hP hA, Cr_g0_14 hP hA, Cr_g0_15 hP hA, Cr_g0_2 hP hA, Cr_g0_6 hP hA, Cr_p12_5 hP hA, Cr_p12_6 hP hA, z2, k3]
  · rw [if_neg k1] at e; cases e
theorem y277_2 {fc : Int32} {pc : Int32} {A : wK → Nat} {h : pm_H} {D : Nat} {S : wS} {x1i : Int32} {y1 : Int32} {y2 : Int32} {r : Int64 × wS} (hP : Cr_P fc pc) (hA : wok A (Cr_d fc pc) h.1) (hD : 55 ≤ D) (e : f277_2 fc pc S x1i y1 y2 = some r) : ∀ q2 q3 : Value, pm_go pm_prog (pm_call pm_prog D) 277 2 [.ref (A (0, 0, 0)), .ref (A (12, x1i, 0)), q2, q3] [.int y2, .int y1, .ref (A (7, 0, 0))] (wput A (Cr_d fc pc) S h) = some (match (generalizing := false) r with | (w0, S1) => (Outcome.returned (some (.long w0)), (wput A (Cr_d fc pc) S1 h))) := by
  intro q2 q3
  simp only [f277_2] at e
  rw [g277_2, b277_2]
  by_cases k1 : 0 ≤ x1i ∧ x1i < 2
  · rw [if_pos k1] at e
    obtain ⟨⟨v3, S4⟩, k2, e⟩ := Option.bind_eq_some_iff.mp e
    try dsimp only at e
    have z2 := x324 (D := D) (h := h) hP hA (w324 hP hA 12) (by omega) (by omega) k2
    dsimp only at z2
    by_cases k3 : (S4.1 (0, 0, 0) 14) = 0
    · rw [if_pos k3] at e
      have k4 := y277_4 (h := h) hP hA hD e
      simp -implicitDefEqProofs (disch := first | assumption | exact Nat.le_of_ble_eq_true rfl | decide) only [b277_0, g277_1, b277_1, g277_3, b277_3, pe_aload0, pe_getfield, pe_call5, pm_af_ret, pm_af_void, pm_af_thr, pe_aload1, pe_sipush, pe_putfield, pe_bipush, pe_lstore2, pe_if_le, pe_if_ne, pe_goto, pe_goto_w, pe_call8, pe_call9, pe_call2, pe_lload2, pe_lreturn, pm_prog_1, pm_ob_some, Nat.reduceDiv, Nat.reduceMod, Nat.reduceMul, Nat.reduceAdd, Int.reduceToNat, pm_kill_i, pm_kill_r, pm_kill_n, pm_kill_j, pm_kill_l, pm_kill_d, pm_cats_nil, pm_cats_i, pm_cats_r, pm_cats_n, pm_cats_l, pm_cats_d, sz_1, sz_2, sl_1, sl_2, lc_0, lc_lt, lc_le, li_ne, va_rf, wr_m1, we_m1, pm_kill_w, Int32.reduceOfInt, Int64.reduceOfInt, Int32.reduceOfNat, Int32.reduceLT, Int32.reduceLE, Prod.mk.injEq, Nat.reduceEqDiff, reduceCtorEq, and_true, true_and, and_false, false_and, and_self, ite_true, ite_false, ↓reduceIte, not_true_eq_false, not_false_eq_true, pe_ri, pe_rz, pe_rc, Cr_g0_1 hP hA, Cr_g0_10 hP hA, Cr_g0_11 hP hA, Cr_g0_14 hP hA, Cr_g0_15 hP hA, Cr_g0_2 hP hA, Cr_g0_6 hP hA, Cr_p12_5 hP hA, Cr_p12_6 hP hA, z2, eq_true k3, k4]
    · rw [if_neg k3] at e
      have k5 := y277_4 (h := h) hP hA hD e
      simp -implicitDefEqProofs (disch := first | assumption | exact Nat.le_of_ble_eq_true rfl | decide) only [b277_0, g277_1, b277_1, g277_3, b277_3, pe_aload0, pe_getfield, pe_call5, pm_af_ret, pm_af_void, pm_af_thr, pe_aload1, pe_sipush, pe_putfield, pe_bipush, pe_lstore2, pe_if_le, pe_if_ne, pe_goto, pe_goto_w, pe_call8, pe_call9, pe_call2, pe_lload2, pe_lreturn, pm_prog_1, pm_ob_some, Nat.reduceDiv, Nat.reduceMod, Nat.reduceMul, Nat.reduceAdd, Int.reduceToNat, pm_kill_i, pm_kill_r, pm_kill_n, pm_kill_j, pm_kill_l, pm_kill_d, pm_cats_nil, pm_cats_i, pm_cats_r, pm_cats_n, pm_cats_l, pm_cats_d, sz_1, sz_2, sl_1, sl_2, lc_0, lc_lt, lc_le, li_ne, va_rf, wr_m1, we_m1, pm_kill_w, Int32.reduceOfInt, Int64.reduceOfInt, Int32.reduceOfNat, Int32.reduceLT, Int32.reduceLE, Prod.mk.injEq, Nat.reduceEqDiff, reduceCtorEq, and_true, true_and, and_false, false_and, and_self, ite_true, ite_false, ↓reduceIte, not_true_eq_false, not_false_eq_true, pe_ri, pe_rz, pe_rc, Cr_g0_1 hP hA, Cr_g0_10 hP hA, Cr_g0_11 hP hA, Cr_g0_14 hP hA, Cr_g0_15 hP hA, Cr_g0_2 hP hA, Cr_g0_6 hP hA, Cr_p12_5 hP hA, Cr_p12_6 hP hA, z2, eq_false k3, k5]
  · rw [if_neg k1] at e; cases e
theorem x277 {fc : Int32} {pc : Int32} {A : wK → Nat} {h : pm_H} {D : Nat} {S : wS} {x1i : Int32} {r : Int64 × wS} (hP : Cr_P fc pc) (hA : wok A (Cr_d fc pc) h.1) (hD : 56 ≤ D) (e : f277 fc pc S x1i = some r) : pm_call pm_prog D 277 [.ref (A (0, 0, 0)), .ref (A (12, x1i, 0))] (wput A (Cr_d fc pc) S h) = some (match (generalizing := false) r with | (w0, S1) => (Outcome.returned (some (.long w0)), (wput A (Cr_d fc pc) S1 h))) := by
  obtain ⟨D, rfl⟩ : ∃ D', D = D' + 1 := ⟨D - 1, by omega⟩
  have hD : 55 ≤ D := by omega
  simp only [f277] at e
  have k1 : 0 ≤ x1i ∧ x1i < 2 := by
    by_cases q : 0 ≤ x1i ∧ x1i < 2
    · exact q
    · rw [if_neg q] at e; cases e
  rw [if_pos k1] at e
  rw [c277 (Cr_c0 hP hA), b277_0]
  obtain ⟨S1, k2, e⟩ := Option.bind_eq_some_iff.mp e
  try dsimp only at e
  have z2 := x322 (D := D) (h := h) hP hA (by omega) k2
  by_cases k3 : (S1.1 (0, 0, 0) 1) ≤ 0
  · rw [if_pos k3] at e
    have k4 := y277_5 (h := h) hP hA hD e
    simp -implicitDefEqProofs (disch := first | assumption | exact Nat.le_of_ble_eq_true rfl | decide) only [b277_0, g277_1, b277_1, g277_3, b277_3, pe_aload0, pe_getfield, pe_call5, pm_af_ret, pm_af_void, pm_af_thr, pe_aload1, pe_sipush, pe_putfield, pe_bipush, pe_lstore2, pe_if_le, pe_if_ne, pe_goto, pe_goto_w, pe_call8, pe_call9, pe_call2, pe_lload2, pe_lreturn, pm_prog_1, pm_ob_some, Nat.reduceDiv, Nat.reduceMod, Nat.reduceMul, Nat.reduceAdd, Int.reduceToNat, pm_kill_i, pm_kill_r, pm_kill_n, pm_kill_j, pm_kill_l, pm_kill_d, pm_cats_nil, pm_cats_i, pm_cats_r, pm_cats_n, pm_cats_l, pm_cats_d, sz_1, sz_2, sl_1, sl_2, lc_0, lc_lt, lc_le, li_ne, va_rf, wr_m1, we_m1, pm_kill_w, Int32.reduceOfInt, Int64.reduceOfInt, Int32.reduceOfNat, Int32.reduceLT, Int32.reduceLE, Prod.mk.injEq, Nat.reduceEqDiff, reduceCtorEq, and_true, true_and, and_false, false_and, and_self, ite_true, ite_false, ↓reduceIte, not_true_eq_false, not_false_eq_true, pe_ri, pe_rz, pe_rc, Cr_g0_1 hP hA, Cr_g0_10 hP hA, Cr_g0_11 hP hA, Cr_g0_14 hP hA, Cr_g0_15 hP hA, Cr_g0_2 hP hA, Cr_g0_6 hP hA, Cr_p12_5 hP hA, Cr_p12_6 hP hA, z2, eq_true k3, k4]
  · rw [if_neg k3] at e
    by_cases k5 : (S1.1 (0, 0, 0) 2) ≤ 0
    · rw [if_pos k5] at e
      have k6 := y277_5 (h := h) hP hA hD e
      simp -implicitDefEqProofs (disch := first | assumption | exact Nat.le_of_ble_eq_true rfl | decide) only [b277_0, g277_1, b277_1, g277_3, b277_3, pe_aload0, pe_getfield, pe_call5, pm_af_ret, pm_af_void, pm_af_thr, pe_aload1, pe_sipush, pe_putfield, pe_bipush, pe_lstore2, pe_if_le, pe_if_ne, pe_goto, pe_goto_w, pe_call8, pe_call9, pe_call2, pe_lload2, pe_lreturn, pm_prog_1, pm_ob_some, Nat.reduceDiv, Nat.reduceMod, Nat.reduceMul, Nat.reduceAdd, Int.reduceToNat, pm_kill_i, pm_kill_r, pm_kill_n, pm_kill_j, pm_kill_l, pm_kill_d, pm_cats_nil, pm_cats_i, pm_cats_r, pm_cats_n, pm_cats_l, pm_cats_d, sz_1, sz_2, sl_1, sl_2, lc_0, lc_lt, lc_le, li_ne, va_rf, wr_m1, we_m1, pm_kill_w, Int32.reduceOfInt, Int64.reduceOfInt, Int32.reduceOfNat, Int32.reduceLT, Int32.reduceLE, Prod.mk.injEq, Nat.reduceEqDiff, reduceCtorEq, and_true, true_and, and_false, false_and, and_self, ite_true, ite_false, ↓reduceIte, not_true_eq_false, not_false_eq_true, pe_ri, pe_rz, pe_rc, Cr_g0_1 hP hA, Cr_g0_10 hP hA, Cr_g0_11 hP hA, Cr_g0_14 hP hA, Cr_g0_15 hP hA, Cr_g0_2 hP hA, Cr_g0_6 hP hA, Cr_p12_5 hP hA, Cr_p12_6 hP hA, z2, eq_false k3, eq_true k5, k6]
    · rw [if_neg k5] at e
      by_cases k7 : (S1.1 (0, 0, 0) 14) = 0
      · rw [if_pos k7] at e
        have k8 := y277_2 (h := h) hP hA hD e
        simp -implicitDefEqProofs (disch := first | assumption | exact Nat.le_of_ble_eq_true rfl | decide) only [b277_0, g277_1, b277_1, g277_3, b277_3, pe_aload0, pe_getfield, pe_call5, pm_af_ret, pm_af_void, pm_af_thr, pe_aload1, pe_sipush, pe_putfield, pe_bipush, pe_lstore2, pe_if_le, pe_if_ne, pe_goto, pe_goto_w, pe_call8, pe_call9, pe_call2, pe_lload2, pe_lreturn, pm_prog_1, pm_ob_some, Nat.reduceDiv, Nat.reduceMod, Nat.reduceMul, Nat.reduceAdd, Int.reduceToNat, pm_kill_i, pm_kill_r, pm_kill_n, pm_kill_j, pm_kill_l, pm_kill_d, pm_cats_nil, pm_cats_i, pm_cats_r, pm_cats_n, pm_cats_l, pm_cats_d, sz_1, sz_2, sl_1, sl_2, lc_0, lc_lt, lc_le, li_ne, va_rf, wr_m1, we_m1, pm_kill_w, Int32.reduceOfInt, Int64.reduceOfInt, Int32.reduceOfNat, Int32.reduceLT, Int32.reduceLE, Prod.mk.injEq, Nat.reduceEqDiff, reduceCtorEq, and_true, true_and, and_false, false_and, and_self, ite_true, ite_false, ↓reduceIte, not_true_eq_false, not_false_eq_true, pe_ri, pe_rz, pe_rc, Cr_g0_1 hP hA, Cr_g0_10 hP hA, Cr_g0_11 hP hA, Cr_g0_14 hP hA, Cr_g0_15 hP hA, Cr_g0_2 hP hA, Cr_g0_6 hP hA, Cr_p12_5 hP hA, Cr_p12_6 hP hA, z2, eq_false k3, eq_false k5, eq_true k7, k8]
      · rw [if_neg k7] at e
        have k9 := y277_2 (h := h) hP hA hD e
        simp -implicitDefEqProofs (disch := first | assumption | exact Nat.le_of_ble_eq_true rfl | decide) only [b277_0, g277_1, b277_1, g277_3, b277_3, pe_aload0, pe_getfield, pe_call5, pm_af_ret, pm_af_void, pm_af_thr, pe_aload1, pe_sipush, pe_putfield, pe_bipush, pe_lstore2, pe_if_le, pe_if_ne, pe_goto, pe_goto_w, pe_call8, pe_call9, pe_call2, pe_lload2, pe_lreturn, pm_prog_1, pm_ob_some, Nat.reduceDiv, Nat.reduceMod, Nat.reduceMul, Nat.reduceAdd, Int.reduceToNat, pm_kill_i, pm_kill_r, pm_kill_n, pm_kill_j, pm_kill_l, pm_kill_d, pm_cats_nil, pm_cats_i, pm_cats_r, pm_cats_n, pm_cats_l, pm_cats_d, sz_1, sz_2, sl_1, sl_2, lc_0, lc_lt, lc_le, li_ne, va_rf, wr_m1, we_m1, pm_kill_w, Int32.reduceOfInt, Int64.reduceOfInt, Int32.reduceOfNat, Int32.reduceLT, Int32.reduceLE, Prod.mk.injEq, Nat.reduceEqDiff, reduceCtorEq, and_true, true_and, and_false, false_and, and_self, ite_true, ite_false, ↓reduceIte, not_true_eq_false, not_false_eq_true, pe_ri, pe_rz, pe_rc, Cr_g0_1 hP hA, Cr_g0_10 hP hA, Cr_g0_11 hP hA, Cr_g0_14 hP hA, Cr_g0_15 hP hA, Cr_g0_2 hP hA, Cr_g0_6 hP hA, Cr_p12_5 hP hA, Cr_p12_6 hP hA, z2, eq_false k3, eq_false k5, eq_false k7, k9]
/-- TimberHouse$FaultRips.run(II)I -/
theorem c274 {d : Nat} {h : pm_H} {a : Nat} {x0 : Int32} {x1 : Int32} (hc : pm_cls h a = some 4) : pm_call pm_prog (d + 1) 274 [.ref a, .int x0, .int x1] h = pm_ev pm_prog (pm_call pm_prog d) 274 0 b274_0 [.ref a, .int x0, .int x1] [] h := pm_cal (pm_rc1 hc rfl) rfl rfl rfl
theorem g274_1 {cl : pm_C} {ls st : List Value} {h : pm_H} : pm_go pm_prog cl 274 1 ls st h = pm_ev pm_prog cl 274 1 b274_1 ls st h := pm_go_eq pm_prog cl 274 1 ls st h
theorem g274_2 {cl : pm_C} {ls st : List Value} {h : pm_H} : pm_go pm_prog cl 274 2 ls st h = pm_ev pm_prog cl 274 2 b274_2 ls st h := pm_go_eq pm_prog cl 274 2 ls st h
theorem t274 {cl : pm_C} {j : Nat} {ls : List Value} {c : Nat} {h : pm_H} : pm_thr pm_prog cl 274 j ls c h = some (.threw c, h) := rfl
noncomputable def f274_2 (fc : Int32) (pc : Int32) (S : wS) (x1 : Int32) (x2 : Int32) (y0 : Int32) : Option ((Nat × wS) ⊕ (Int32 × wS)) :=
  (f262 y0).bind fun r => match r with
  | .inl c5 =>
    some (.inl (c5, S))
  | .inr _ =>
  (f275 fc pc (sz (sz S (0, 0, 0) 14 x1) (0, 0, 0) 15 x2)).bind fun S2 =>
  (f277 fc pc S2 0).bind fun (v3, S4) =>
  some (.inr ((S4.1 (12, 0, 0) 5), (sz (sl S4 (0, 0, 0) 17 v3) (0, 0, 0) 16 1)))
/-- TimberHouse$FaultRips.run(II)I -/
noncomputable def f274 (fc : Int32) (pc : Int32) (S : wS) (x1 : Int32) (x2 : Int32) : Option ((Nat × wS) ⊕ (Int32 × wS)) :=
  (f260 (Int32.toInt64 x1) 0 1).bind fun v1 =>
  if v1 = 0 then
    f274_2 fc pc S x1 x2 0
  else
    (f260 (Int32.toInt64 x2) 1 3).bind fun v6 =>
    if v6 = 0 then
      f274_2 fc pc S x1 x2 0
    else
      f274_2 fc pc S x1 x2 1
theorem y274_2 {fc : Int32} {pc : Int32} {A : wK → Nat} {h : pm_H} {D : Nat} {S : wS} {x1 : Int32} {x2 : Int32} {y0 : Int32} {r : (Nat × wS) ⊕ (Int32 × wS)} (hP : Cr_P fc pc) (hA : wok A (Cr_d fc pc) h.1) (hD : 56 ≤ D) (e : f274_2 fc pc S x1 x2 y0 = some r) : pm_go pm_prog (pm_call pm_prog D) 274 2 [.ref (A (0, 0, 0)), .int x1, .int x2] [.int y0] (wput A (Cr_d fc pc) S h) = some (match (generalizing := false) r with | .inl (c, S1) => (Outcome.threw c, (wput A (Cr_d fc pc) S1 (pm_new h 6 (.inr (c, []))))) | .inr (w0, S1) => (Outcome.returned (some (.int w0)), (wput A (Cr_d fc pc) S1 h))) := by
  simp only [f274_2] at e
  rw [g274_2, b274_2]
  obtain ⟨r, k1, e⟩ := Option.bind_eq_some_iff.mp e
  have z1 := fun h => x262 (D := D) (h := h) (by omega) k1
  rcases r with c5 | _
  · dsimp only at e z1
    have e := Option.some.inj e; subst e
    simp -implicitDefEqProofs (disch := first | assumption | exact Nat.le_of_ble_eq_true rfl | decide) only [b274_0, g274_1, b274_1, pe_iload1, pe_i2l, pe_bipush, pe_call3, pm_af_ret, pm_af_void, pm_af_thr, pe_if_eq, pe_iload2, pe_sipush, pe_goto, pe_goto_w, pe_call1, pe_aload0, pe_putfield, pe_getfield, pe_call2, pm_prog_1, pm_ob_some, Nat.reduceDiv, Nat.reduceMod, Nat.reduceMul, Nat.reduceAdd, Int.reduceToNat, pm_kill_i, pm_kill_r, pm_kill_n, pm_kill_j, pm_kill_l, pm_kill_d, pm_cats_nil, pm_cats_i, pm_cats_r, pm_cats_n, pm_cats_l, pm_cats_d, sz_1, sz_2, sl_1, sl_2, lc_0, lc_lt, lc_le, li_ne, va_rf, wr_m1, we_m1, pm_kill_w, Int32.reduceOfInt, Int64.reduceOfInt, Int32.reduceOfNat, Int32.reduceLT, Int32.reduceLE, Prod.mk.injEq, Nat.reduceEqDiff, reduceCtorEq, and_true, true_and, and_false, false_and, and_self, ite_true, ite_false, ↓reduceIte, not_true_eq_false, not_false_eq_true, pe_ri, pe_rz, pe_rc, p_throw, t274, w_junk hA, Cr_g0_12 hP hA, Cr_g12_5 hP hA, Cr_p0_14 hP hA, Cr_p0_15 hP hA, Cr_p0_16 hP hA, Cr_p0_17 hP hA, z1]
  · dsimp only at e z1
    obtain ⟨S2, k2, e⟩ := Option.bind_eq_some_iff.mp e
    try dsimp only at e
    have z2 := x275 (D := D) (h := h) hP hA (by omega) k2
    obtain ⟨⟨v3, S4⟩, k3, e⟩ := Option.bind_eq_some_iff.mp e
    try dsimp only at e
    have z3 := x277 (D := D) (h := h) hP hA (by omega) k3
    dsimp only at z3
    have e := Option.some.inj e; subst e
    simp -implicitDefEqProofs (disch := first | assumption | exact Nat.le_of_ble_eq_true rfl | decide) only [b274_0, g274_1, b274_1, pe_iload1, pe_i2l, pe_bipush, pe_call3, pm_af_ret, pm_af_void, pm_af_thr, pe_if_eq, pe_iload2, pe_sipush, pe_goto, pe_goto_w, pe_call1, pe_aload0, pe_putfield, pe_getfield, pe_call2, pm_prog_1, pm_ob_some, Nat.reduceDiv, Nat.reduceMod, Nat.reduceMul, Nat.reduceAdd, Int.reduceToNat, pm_kill_i, pm_kill_r, pm_kill_n, pm_kill_j, pm_kill_l, pm_kill_d, pm_cats_nil, pm_cats_i, pm_cats_r, pm_cats_n, pm_cats_l, pm_cats_d, sz_1, sz_2, sl_1, sl_2, lc_0, lc_lt, lc_le, li_ne, va_rf, wr_m1, we_m1, pm_kill_w, Int32.reduceOfInt, Int64.reduceOfInt, Int32.reduceOfNat, Int32.reduceLT, Int32.reduceLE, Prod.mk.injEq, Nat.reduceEqDiff, reduceCtorEq, and_true, true_and, and_false, false_and, and_self, ite_true, ite_false, ↓reduceIte, not_true_eq_false, not_false_eq_true, pe_ri, pe_rz, pe_rc, p_throw, t274, w_junk hA, Cr_g0_12 hP hA, Cr_g12_5 hP hA, Cr_p0_14 hP hA, Cr_p0_15 hP hA, Cr_p0_16 hP hA, Cr_p0_17 hP hA, z1, z2, z3]
theorem x274 {fc : Int32} {pc : Int32} {A : wK → Nat} {h : pm_H} {D : Nat} {S : wS} {x1 : Int32} {x2 : Int32} {r : (Nat × wS) ⊕ (Int32 × wS)} (hP : Cr_P fc pc) (hA : wok A (Cr_d fc pc) h.1) (hD : 57 ≤ D) (e : f274 fc pc S x1 x2 = some r) : pm_call pm_prog D 274 [.ref (A (0, 0, 0)), .int x1, .int x2] (wput A (Cr_d fc pc) S h) = some (match (generalizing := false) r with | .inl (c, S1) => (Outcome.threw c, (wput A (Cr_d fc pc) S1 (pm_new h 6 (.inr (c, []))))) | .inr (w0, S1) => (Outcome.returned (some (.int w0)), (wput A (Cr_d fc pc) S1 h))) := by
  obtain ⟨D, rfl⟩ : ∃ D', D = D' + 1 := ⟨D - 1, by omega⟩
  have hD : 56 ≤ D := by omega
  simp only [f274] at e
  rw [c274 (Cr_c0 hP hA), b274_0]
  obtain ⟨v1, k1, e⟩ := Option.bind_eq_some_iff.mp e
  try dsimp only at e
  have z1 := fun h => x260 (D := D) (h := h) (by omega) k1
  by_cases k2 : v1 = 0
  · rw [if_pos k2] at e
    have k3 := y274_2 (h := h) hP hA hD e
    simp -implicitDefEqProofs (disch := first | assumption | exact Nat.le_of_ble_eq_true rfl | decide) only [b274_0, g274_1, b274_1, pe_iload1, pe_i2l, pe_bipush, pe_call3, pm_af_ret, pm_af_void, pm_af_thr, pe_if_eq, pe_iload2, pe_sipush, pe_goto, pe_goto_w, pe_call1, pe_aload0, pe_putfield, pe_getfield, pe_call2, pm_prog_1, pm_ob_some, Nat.reduceDiv, Nat.reduceMod, Nat.reduceMul, Nat.reduceAdd, Int.reduceToNat, pm_kill_i, pm_kill_r, pm_kill_n, pm_kill_j, pm_kill_l, pm_kill_d, pm_cats_nil, pm_cats_i, pm_cats_r, pm_cats_n, pm_cats_l, pm_cats_d, sz_1, sz_2, sl_1, sl_2, lc_0, lc_lt, lc_le, li_ne, va_rf, wr_m1, we_m1, pm_kill_w, Int32.reduceOfInt, Int64.reduceOfInt, Int32.reduceOfNat, Int32.reduceLT, Int32.reduceLE, Prod.mk.injEq, Nat.reduceEqDiff, reduceCtorEq, and_true, true_and, and_false, false_and, and_self, ite_true, ite_false, ↓reduceIte, not_true_eq_false, not_false_eq_true, pe_ri, pe_rz, pe_rc, p_throw, t274, w_junk hA, Cr_g0_12 hP hA, Cr_g12_5 hP hA, Cr_p0_14 hP hA, Cr_p0_15 hP hA, Cr_p0_16 hP hA, Cr_p0_17 hP hA, z1, eq_true k2, k3]
  · rw [if_neg k2] at e
    obtain ⟨v6, k4, e⟩ := Option.bind_eq_some_iff.mp e
    try dsimp only at e
    have z4 := fun h => x260 (D := D) (h := h) (by omega) k4
    by_cases k5 : v6 = 0
    · rw [if_pos k5] at e
      have k6 := y274_2 (h := h) hP hA hD e
      simp -implicitDefEqProofs (disch := first | assumption | exact Nat.le_of_ble_eq_true rfl | decide) only [b274_0, g274_1, b274_1, pe_iload1, pe_i2l, pe_bipush, pe_call3, pm_af_ret, pm_af_void, pm_af_thr, pe_if_eq, pe_iload2, pe_sipush, pe_goto, pe_goto_w, pe_call1, pe_aload0, pe_putfield, pe_getfield, pe_call2, pm_prog_1, pm_ob_some, Nat.reduceDiv, Nat.reduceMod, Nat.reduceMul, Nat.reduceAdd, Int.reduceToNat, pm_kill_i, pm_kill_r, pm_kill_n, pm_kill_j, pm_kill_l, pm_kill_d, pm_cats_nil, pm_cats_i, pm_cats_r, pm_cats_n, pm_cats_l, pm_cats_d, sz_1, sz_2, sl_1, sl_2, lc_0, lc_lt, lc_le, li_ne, va_rf, wr_m1, we_m1, pm_kill_w, Int32.reduceOfInt, Int64.reduceOfInt, Int32.reduceOfNat, Int32.reduceLT, Int32.reduceLE, Prod.mk.injEq, Nat.reduceEqDiff, reduceCtorEq, and_true, true_and, and_false, false_and, and_self, ite_true, ite_false, ↓reduceIte, not_true_eq_false, not_false_eq_true, pe_ri, pe_rz, pe_rc, p_throw, t274, w_junk hA, Cr_g0_12 hP hA, Cr_g12_5 hP hA, Cr_p0_14 hP hA, Cr_p0_15 hP hA, Cr_p0_16 hP hA, Cr_p0_17 hP hA, z1, eq_false k2, z4, eq_true k5, k6]
    · rw [if_neg k5] at e
      have k7 := y274_2 (h := h) hP hA hD e
      simp -implicitDefEqProofs (disch := first | assumption | exact Nat.le_of_ble_eq_true rfl | decide) only [b274_0, g274_1, b274_1, pe_iload1, pe_i2l, pe_bipush, pe_call3, pm_af_ret, pm_af_void, pm_af_thr, pe_if_eq, pe_iload2, pe_sipush, pe_goto, pe_goto_w, pe_call1, pe_aload0, pe_putfield, pe_getfield, pe_call2, pm_prog_1, pm_ob_some, Nat.reduceDiv, Nat.reduceMod, Nat.reduceMul, Nat.reduceAdd, Int.reduceToNat, pm_kill_i, pm_kill_r, pm_kill_n, pm_kill_j, pm_kill_l, pm_kill_d, pm_cats_nil, pm_cats_i, pm_cats_r, pm_cats_n, pm_cats_l, pm_cats_d, sz_1, sz_2, sl_1, sl_2, lc_0, lc_lt, lc_le, li_ne, va_rf, wr_m1, we_m1, pm_kill_w, Int32.reduceOfInt, Int64.reduceOfInt, Int32.reduceOfNat, Int32.reduceLT, Int32.reduceLE, Prod.mk.injEq, Nat.reduceEqDiff, reduceCtorEq, and_true, true_and, and_false, false_and, and_self, ite_true, ite_false, ↓reduceIte, not_true_eq_false, not_false_eq_true, pe_ri, pe_rz, pe_rc, p_throw, t274, w_junk hA, Cr_g0_12 hP hA, Cr_g12_5 hP hA, Cr_p0_14 hP hA, Cr_p0_15 hP hA, Cr_p0_16 hP hA, Cr_p0_17 hP hA, z1, eq_false k2, z4, eq_false k5, k7]
/-- TimberHouse$FaultRips.needs()J -/
theorem c280 {d : Nat} {h : pm_H} {a : Nat} (hc : pm_cls h a = some 4) : pm_call pm_prog (d + 1) 280 [.ref a] h = pm_ev pm_prog (pm_call pm_prog d) 280 0 b280_0 [.ref a, pm_junk, pm_junk, pm_junk] [] h := pm_cal (pm_rc1 hc rfl) rfl rfl rfl
theorem g280_1 {cl : pm_C} {ls st : List Value} {h : pm_H} : pm_go pm_prog cl 280 1 ls st h = pm_ev pm_prog cl 280 1 b280_1 ls st h := pm_go_eq pm_prog cl 280 1 ls st h
theorem g280_2 {cl : pm_C} {ls st : List Value} {h : pm_H} : pm_go pm_prog cl 280 2 ls st h = pm_ev pm_prog cl 280 2 b280_2 ls st h := pm_go_eq pm_prog cl 280 2 ls st h
theorem g280_3 {cl : pm_C} {ls st : List Value} {h : pm_H} : pm_go pm_prog cl 280 3 ls st h = pm_ev pm_prog cl 280 3 b280_3 ls st h := pm_go_eq pm_prog cl 280 3 ls st h
theorem g280_4 {cl : pm_C} {ls st : List Value} {h : pm_H} : pm_go pm_prog cl 280 4 ls st h = pm_ev pm_prog cl 280 4 b280_4 ls st h := pm_go_eq pm_prog cl 280 4 ls st h
noncomputable def f280_b1 (fc : Int32) (pc : Int32) (S : wS) : Int64 × Int32 → Option ((Int64 × Int32) ⊕ ((Int64))) := fun (x1, x3) =>
  if x3 < (S.1 (0, 0, 0) 6) then
    if 0 ≤ x3 ∧ x3 < 8 then
      if x3 < pc then
        if 0 ≤ x3 ∧ x3 < pc then
          if (S.1 (4, x3, 0) 5) = (-1) then
            some (.inl ((x1 + 0), (x3 + 1)))
          else
            some (.inl ((x1 + ((S.2 (4, x3, 0) 6) * (Int32.toInt64 (S.1 (4, x3, 0) 5)))), (x3 + 1)))
        else none
      else none
    else none
  else
    some (.inr x1)
/-- TimberHouse$FaultRips.needs()J -/
noncomputable def f280 (fc : Int32) (pc : Int32) (S : wS) : Option (Int64) :=
  (lp (f280_b1 fc pc S) FU (0, 0)).bind fun v1 =>
  some v1
def go280_1 (fc : Int32) (pc : Int32) (A : wK → Nat) (h : pm_H) (D : Nat) (R : Outcome × pm_H) (S : wS) : Int64 × Int32 → Prop := fun (x1, x3) => pm_go pm_prog (pm_call pm_prog D) 280 1 [.ref (A (0, 0, 0)), .long x1, pm_junk, .int x3] [] (wput A (Cr_d fc pc) S h) = some R
def ex280_1 (fc : Int32) (pc : Int32) (A : wK → Nat) (h : pm_H) (D : Nat) (R : Outcome × pm_H) (S : wS) : (Int64) → Prop := fun x1 => ∀ q0 q3 : Value, pm_go pm_prog (pm_call pm_prog D) 280 4 [q0, .long x1, pm_junk, q3] [] (wput A (Cr_d fc pc) S h) = some R
theorem y280_b1 {fc : Int32} {pc : Int32} {A : wK → Nat} {h : pm_H} {D : Nat} {R : Outcome × pm_H} {S : wS} (hP : Cr_P fc pc) (hA : wok A (Cr_d fc pc) h.1) (hD : 0 ≤ D) (a : Int64 × Int32) (r : (Int64 × Int32) ⊕ ((Int64))) (e : f280_b1 fc pc S a = some r) (hc : Sum.elim (go280_1 fc pc A h D R S) (ex280_1 fc pc A h D R S) r) : go280_1 fc pc A h D R S a := by
  obtain ⟨x1, x3⟩ := a
  dsimp only [go280_1]
  simp only [f280_b1] at e
  rw [g280_1, b280_1]
  by_cases k1 : x3 < (S.1 (0, 0, 0) 6)
  · rw [if_pos k1] at e
    by_cases k2 : 0 ≤ x3 ∧ x3 < 8
    · rw [if_pos k2] at e
      by_cases k3 : x3 < pc
      · rw [if_pos k3] at e
        by_cases k4 : 0 ≤ x3 ∧ x3 < pc
        · rw [if_pos k4] at e
          by_cases k5 : (S.1 (4, x3, 0) 5) = (-1)
          · rw [if_pos k5] at e
            have e := Option.some.inj e; subst e
            dsimp only [Sum.elim_inl, go280_1] at hc
            simp -implicitDefEqProofs (disch := first | assumption | exact Nat.le_of_ble_eq_true rfl | decide) only [b280_0, g280_2, b280_2, g280_3, b280_3, g280_4, b280_4, pe_bipush, pe_lstore1, pe_sipush, pe_istore3, pe_goto_w, pe_iload3, pe_aload0, pe_getfield, pe_icmp_ge, pe_lload1, pe_aaload, pe_icmp_ne, pe_goto, pe_i2l, pe_lmul, pe_ladd, pe_iinc3, pe_lreturn, pm_prog_1, pm_ob_some, Nat.reduceDiv, Nat.reduceMod, Nat.reduceMul, Nat.reduceAdd, Int.reduceToNat, pm_kill_i, pm_kill_r, pm_kill_n, pm_kill_j, pm_kill_l, pm_kill_d, pm_cats_nil, pm_cats_i, pm_cats_r, pm_cats_n, pm_cats_l, pm_cats_d, sz_1, sz_2, sl_1, sl_2, lc_0, lc_lt, lc_le, li_ne, va_rf, wr_m1, we_m1, pm_kill_w, Int32.reduceOfInt, Int64.reduceOfInt, Int32.reduceOfNat, Int32.reduceLT, Int32.reduceLE, Prod.mk.injEq, Nat.reduceEqDiff, reduceCtorEq, and_true, true_and, and_false, false_and, and_self, ite_true, ite_false, ↓reduceIte, not_true_eq_false, not_false_eq_true, pe_ri, pe_rz, pe_rc, Cr_g0_5 hP hA, Cr_g0_6 hP hA, Cr_g4_5 hP hA, Cr_g4_6 hP hA, Cr_r3 hP hA, eq_true k1, eq_true k5, hc]
          · rw [if_neg k5] at e
            have e := Option.some.inj e; subst e
            dsimp only [Sum.elim_inl, go280_1] at hc
            simp -implicitDefEqProofs (disch := first | assumption | exact Nat.le_of_ble_eq_true rfl | decide) only [b280_0, g280_2, b280_2, g280_3, b280_3, g280_4, b280_4, pe_bipush, pe_lstore1, pe_sipush, pe_istore3, pe_goto_w, pe_iload3, pe_aload0, pe_getfield, pe_icmp_ge, pe_lload1, pe_aaload, pe_icmp_ne, pe_goto, pe_i2l, pe_lmul, pe_ladd, pe_iinc3, pe_lreturn, pm_prog_1, pm_ob_some, Nat.reduceDiv, Nat.reduceMod, Nat.reduceMul, Nat.reduceAdd, Int.reduceToNat, pm_kill_i, pm_kill_r, pm_kill_n, pm_kill_j, pm_kill_l, pm_kill_d, pm_cats_nil, pm_cats_i, pm_cats_r, pm_cats_n, pm_cats_l, pm_cats_d, sz_1, sz_2, sl_1, sl_2, lc_0, lc_lt, lc_le, li_ne, va_rf, wr_m1, we_m1, pm_kill_w, Int32.reduceOfInt, Int64.reduceOfInt, Int32.reduceOfNat, Int32.reduceLT, Int32.reduceLE, Prod.mk.injEq, Nat.reduceEqDiff, reduceCtorEq, and_true, true_and, and_false, false_and, and_self, ite_true, ite_false, ↓reduceIte, not_true_eq_false, not_false_eq_true, pe_ri, pe_rz, pe_rc, Cr_g0_5 hP hA, Cr_g0_6 hP hA, Cr_g4_5 hP hA, Cr_g4_6 hP hA, Cr_r3 hP hA, eq_true k1, eq_false k5, hc]
        · rw [if_neg k4] at e; cases e
      · rw [if_neg k3] at e; cases e
    · rw [if_neg k2] at e; cases e
  · rw [if_neg k1] at e
    have e := Option.some.inj e; subst e
    dsimp only [Sum.elim_inr, ex280_1] at hc
    simp -implicitDefEqProofs (disch := first | assumption | exact Nat.le_of_ble_eq_true rfl | decide) only [b280_0, g280_2, b280_2, g280_3, b280_3, g280_4, b280_4, pe_bipush, pe_lstore1, pe_sipush, pe_istore3, pe_goto_w, pe_iload3, pe_aload0, pe_getfield, pe_icmp_ge, pe_lload1, pe_aaload, pe_icmp_ne, pe_goto, pe_i2l, pe_lmul, pe_ladd, pe_iinc3, pe_lreturn, pm_prog_1, pm_ob_some, Nat.reduceDiv, Nat.reduceMod, Nat.reduceMul, Nat.reduceAdd, Int.reduceToNat, pm_kill_i, pm_kill_r, pm_kill_n, pm_kill_j, pm_kill_l, pm_kill_d, pm_cats_nil, pm_cats_i, pm_cats_r, pm_cats_n, pm_cats_l, pm_cats_d, sz_1, sz_2, sl_1, sl_2, lc_0, lc_lt, lc_le, li_ne, va_rf, wr_m1, we_m1, pm_kill_w, Int32.reduceOfInt, Int64.reduceOfInt, Int32.reduceOfNat, Int32.reduceLT, Int32.reduceLE, Prod.mk.injEq, Nat.reduceEqDiff, reduceCtorEq, and_true, true_and, and_false, false_and, and_self, ite_true, ite_false, ↓reduceIte, not_true_eq_false, not_false_eq_true, pe_ri, pe_rz, pe_rc, Cr_g0_5 hP hA, Cr_g0_6 hP hA, Cr_g4_5 hP hA, Cr_g4_6 hP hA, Cr_r3 hP hA, eq_false k1, hc]
theorem z280_1 {fc : Int32} {pc : Int32} {A : wK → Nat} {h : pm_H} {D : Nat} {R : Outcome × pm_H} {S : wS} (hP : Cr_P fc pc) (hA : wok A (Cr_d fc pc) h.1) (hD : 0 ≤ D) {n : Nat} {a : Int64 × Int32} {b : (Int64)} (e : lp (f280_b1 fc pc S) n a = some b) (hx : ex280_1 fc pc A h D R S b) : go280_1 fc pc A h D R S a := lp_run (fun a r => y280_b1 hP hA hD a r) n a b e hx
theorem x280 {fc : Int32} {pc : Int32} {A : wK → Nat} {h : pm_H} {D : Nat} {S : wS} {r : Int64} (hP : Cr_P fc pc) (hA : wok A (Cr_d fc pc) h.1) (hD : 1 ≤ D) (e : f280 fc pc S = some r) : pm_call pm_prog D 280 [.ref (A (0, 0, 0))] (wput A (Cr_d fc pc) S h) = some (Outcome.returned (some (.long r)), (wput A (Cr_d fc pc) S h)) := by
  obtain ⟨D, rfl⟩ : ∃ D', D = D' + 1 := ⟨D - 1, by omega⟩
  have hD : 0 ≤ D := by omega
  simp only [f280] at e
  rw [c280 (Cr_c0 hP hA), b280_0]
  obtain ⟨v1, k1, e⟩ := Option.bind_eq_some_iff.mp e
  try dsimp only at e
  try simp -implicitDefEqProofs (disch := first | assumption | exact Nat.le_of_ble_eq_true rfl | decide) only [b280_0, g280_2, b280_2, g280_3, b280_3, g280_4, b280_4, pe_bipush, pe_lstore1, pe_sipush, pe_istore3, pe_goto_w, pe_iload3, pe_aload0, pe_getfield, pe_icmp_ge, pe_lload1, pe_aaload, pe_icmp_ne, pe_goto, pe_i2l, pe_lmul, pe_ladd, pe_iinc3, pe_lreturn, pm_prog_1, pm_ob_some, Nat.reduceDiv, Nat.reduceMod, Nat.reduceMul, Nat.reduceAdd, Int.reduceToNat, pm_kill_i, pm_kill_r, pm_kill_n, pm_kill_j, pm_kill_l, pm_kill_d, pm_cats_nil, pm_cats_i, pm_cats_r, pm_cats_n, pm_cats_l, pm_cats_d, sz_1, sz_2, sl_1, sl_2, lc_0, lc_lt, lc_le, li_ne, va_rf, wr_m1, we_m1, pm_kill_w, Int32.reduceOfInt, Int64.reduceOfInt, Int32.reduceOfNat, Int32.reduceLT, Int32.reduceLE, Prod.mk.injEq, Nat.reduceEqDiff, reduceCtorEq, and_true, true_and, and_false, false_and, and_self, ite_true, ite_false, ↓reduceIte, not_true_eq_false, not_false_eq_true, pe_ri, pe_rz, pe_rc, Cr_g0_5 hP hA, Cr_g0_6 hP hA, Cr_g4_5 hP hA, Cr_g4_6 hP hA, Cr_r3 hP hA]
  refine z280_1 hP hA hD k1 ?_
  dsimp only [ex280_1]
  intro q0 q3
  have e := Option.some.inj e; subst e
  simp -implicitDefEqProofs (disch := first | assumption | exact Nat.le_of_ble_eq_true rfl | decide) only [b280_0, g280_2, b280_2, g280_3, b280_3, g280_4, b280_4, pe_bipush, pe_lstore1, pe_sipush, pe_istore3, pe_goto_w, pe_iload3, pe_aload0, pe_getfield, pe_icmp_ge, pe_lload1, pe_aaload, pe_icmp_ne, pe_goto, pe_i2l, pe_lmul, pe_ladd, pe_iinc3, pe_lreturn, pm_prog_1, pm_ob_some, Nat.reduceDiv, Nat.reduceMod, Nat.reduceMul, Nat.reduceAdd, Int.reduceToNat, pm_kill_i, pm_kill_r, pm_kill_n, pm_kill_j, pm_kill_l, pm_kill_d, pm_cats_nil, pm_cats_i, pm_cats_r, pm_cats_n, pm_cats_l, pm_cats_d, sz_1, sz_2, sl_1, sl_2, lc_0, lc_lt, lc_le, li_ne, va_rf, wr_m1, we_m1, pm_kill_w, Int32.reduceOfInt, Int64.reduceOfInt, Int32.reduceOfNat, Int32.reduceLT, Int32.reduceLE, Prod.mk.injEq, Nat.reduceEqDiff, reduceCtorEq, and_true, true_and, and_false, false_and, and_self, ite_true, ite_false, ↓reduceIte, not_true_eq_false, not_false_eq_true, pe_ri, pe_rz, pe_rc, Cr_g0_5 hP hA, Cr_g0_6 hP hA, Cr_g4_5 hP hA, Cr_g4_6 hP hA, Cr_r3 hP hA]
/-- TimberHouse$FaultRips$Plan.count(I)I -/
theorem c450 {d : Nat} {h : pm_H} {a : Nat} {x0 : Int32} (hc : pm_cls h a = some 7) : pm_call pm_prog (d + 1) 450 [.ref a, .int x0] h = pm_ev pm_prog (pm_call pm_prog d) 450 0 b450_0 [.ref a, .int x0, pm_junk, pm_junk] [] h := pm_cal (pm_rc1 hc rfl) rfl rfl rfl
theorem g450_1 {cl : pm_C} {ls st : List Value} {h : pm_H} : pm_go pm_prog cl 450 1 ls st h = pm_ev pm_prog cl 450 1 b450_1 ls st h := pm_go_eq pm_prog cl 450 1 ls st h
theorem g450_2 {cl : pm_C} {ls st : List Value} {h : pm_H} : pm_go pm_prog cl 450 2 ls st h = pm_ev pm_prog cl 450 2 b450_2 ls st h := pm_go_eq pm_prog cl 450 2 ls st h
theorem g450_3 {cl : pm_C} {ls st : List Value} {h : pm_H} : pm_go pm_prog cl 450 3 ls st h = pm_ev pm_prog cl 450 3 b450_3 ls st h := pm_go_eq pm_prog cl 450 3 ls st h
theorem g450_4 {cl : pm_C} {ls st : List Value} {h : pm_H} : pm_go pm_prog cl 450 4 ls st h = pm_ev pm_prog cl 450 4 b450_4 ls st h := pm_go_eq pm_prog cl 450 4 ls st h
noncomputable def f450_b1 (fc : Int32) (pc : Int32) (S : wS) : Int32 × Int32 × Int32 × Int32 → Option ((Int32 × Int32 × Int32 × Int32) ⊕ ((Int32))) := fun (x0i, x1, x2, x3) =>
  if 0 ≤ x0i ∧ x0i < 2 then
    if x3 < (S.1 (12, x0i, 0) 5) then
      if 0 ≤ x3 ∧ x3 < 240 then
        if (S.1 (17, x0i, 0) x3) = x1 then
          some (.inl (x0i, x1, (x2 + 1), (x3 + 1)))
        else
          some (.inl (x0i, x1, (x2 + 0), (x3 + 1)))
      else none
    else
      some (.inr x2)
  else none
/-- TimberHouse$FaultRips$Plan.count(I)I -/
noncomputable def f450 (fc : Int32) (pc : Int32) (S : wS) (x0i : Int32) (x1 : Int32) : Option (Int32) :=
  if 0 ≤ x0i ∧ x0i < 2 then
    (lp (f450_b1 fc pc S) FU (x0i, x1, 0, 0)).bind fun v1 =>
    some v1
  else none
def go450_1 (fc : Int32) (pc : Int32) (A : wK → Nat) (h : pm_H) (D : Nat) (R : Outcome × pm_H) (S : wS) : Int32 × Int32 × Int32 × Int32 → Prop := fun (x0i, x1, x2, x3) => pm_go pm_prog (pm_call pm_prog D) 450 1 [.ref (A (12, x0i, 0)), .int x1, .int x2, .int x3] [] (wput A (Cr_d fc pc) S h) = some R
def ex450_1 (fc : Int32) (pc : Int32) (A : wK → Nat) (h : pm_H) (D : Nat) (R : Outcome × pm_H) (S : wS) : (Int32) → Prop := fun x2 => ∀ q0 q1 q3 : Value, pm_go pm_prog (pm_call pm_prog D) 450 4 [q0, q1, .int x2, q3] [] (wput A (Cr_d fc pc) S h) = some R
theorem y450_b1 {fc : Int32} {pc : Int32} {A : wK → Nat} {h : pm_H} {D : Nat} {R : Outcome × pm_H} {S : wS} (hP : Cr_P fc pc) (hA : wok A (Cr_d fc pc) h.1) (hD : 0 ≤ D) (a : Int32 × Int32 × Int32 × Int32) (r : (Int32 × Int32 × Int32 × Int32) ⊕ ((Int32))) (e : f450_b1 fc pc S a = some r) (hc : Sum.elim (go450_1 fc pc A h D R S) (ex450_1 fc pc A h D R S) r) : go450_1 fc pc A h D R S a := by
  obtain ⟨x0i, x1, x2, x3⟩ := a
  dsimp only [go450_1]
  simp only [f450_b1] at e
  rw [g450_1, b450_1]
  by_cases k1 : 0 ≤ x0i ∧ x0i < 2
  · rw [if_pos k1] at e
    by_cases k2 : x3 < (S.1 (12, x0i, 0) 5)
    · rw [if_pos k2] at e
      by_cases k3 : 0 ≤ x3 ∧ x3 < 240
      · rw [if_pos k3] at e
        by_cases k4 : (S.1 (17, x0i, 0) x3) = x1
        · rw [if_pos k4] at e
          have e := Option.some.inj e; subst e
          dsimp only [Sum.elim_inl, go450_1] at hc
          simp -implicitDefEqProofs (disch := first | assumption | exact Nat.le_of_ble_eq_true rfl | decide) only [b450_0, g450_2, b450_2, g450_3, b450_3, g450_4, b450_4, pe_sipush, pe_istore2, pe_istore3, pe_goto_w, pe_iload3, pe_aload0, pe_getfield, pe_icmp_ge, pe_iload2, pe_baload, pe_iload1, pe_icmp_ne, pe_goto, pe_iadd, pe_iinc3, pm_prog_1, pm_ob_some, Nat.reduceDiv, Nat.reduceMod, Nat.reduceMul, Nat.reduceAdd, Int.reduceToNat, pm_kill_i, pm_kill_r, pm_kill_n, pm_kill_j, pm_kill_l, pm_kill_d, pm_cats_nil, pm_cats_i, pm_cats_r, pm_cats_n, pm_cats_l, pm_cats_d, sz_1, sz_2, sl_1, sl_2, lc_0, lc_lt, lc_le, li_ne, va_rf, wr_m1, we_m1, pm_kill_w, Int32.reduceOfInt, Int64.reduceOfInt, Int32.reduceOfNat, Int32.reduceLT, Int32.reduceLE, Prod.mk.injEq, Nat.reduceEqDiff, reduceCtorEq, and_true, true_and, and_false, false_and, and_self, ite_true, ite_false, ↓reduceIte, not_true_eq_false, not_false_eq_true, pe_ri, pe_rz, pe_rc, Cr_g12_4 hP hA, Cr_g12_5 hP hA, Cr_r17 hP hA, eq_true k2, eq_true k4, hc]
        · rw [if_neg k4] at e
          have e := Option.some.inj e; subst e
          dsimp only [Sum.elim_inl, go450_1] at hc
          simp -implicitDefEqProofs (disch := first | assumption | exact Nat.le_of_ble_eq_true rfl | decide) only [b450_0, g450_2, b450_2, g450_3, b450_3, g450_4, b450_4, pe_sipush, pe_istore2, pe_istore3, pe_goto_w, pe_iload3, pe_aload0, pe_getfield, pe_icmp_ge, pe_iload2, pe_baload, pe_iload1, pe_icmp_ne, pe_goto, pe_iadd, pe_iinc3, pm_prog_1, pm_ob_some, Nat.reduceDiv, Nat.reduceMod, Nat.reduceMul, Nat.reduceAdd, Int.reduceToNat, pm_kill_i, pm_kill_r, pm_kill_n, pm_kill_j, pm_kill_l, pm_kill_d, pm_cats_nil, pm_cats_i, pm_cats_r, pm_cats_n, pm_cats_l, pm_cats_d, sz_1, sz_2, sl_1, sl_2, lc_0, lc_lt, lc_le, li_ne, va_rf, wr_m1, we_m1, pm_kill_w, Int32.reduceOfInt, Int64.reduceOfInt, Int32.reduceOfNat, Int32.reduceLT, Int32.reduceLE, Prod.mk.injEq, Nat.reduceEqDiff, reduceCtorEq, and_true, true_and, and_false, false_and, and_self, ite_true, ite_false, ↓reduceIte, not_true_eq_false, not_false_eq_true, pe_ri, pe_rz, pe_rc, Cr_g12_4 hP hA, Cr_g12_5 hP hA, Cr_r17 hP hA, eq_true k2, eq_false k4, hc]
      · rw [if_neg k3] at e; cases e
    · rw [if_neg k2] at e
      have e := Option.some.inj e; subst e
      dsimp only [Sum.elim_inr, ex450_1] at hc
      simp -implicitDefEqProofs (disch := first | assumption | exact Nat.le_of_ble_eq_true rfl | decide) only [b450_0, g450_2, b450_2, g450_3, b450_3, g450_4, b450_4, pe_sipush, pe_istore2, pe_istore3, pe_goto_w, pe_iload3, pe_aload0, pe_getfield, pe_icmp_ge, pe_iload2, pe_baload, pe_iload1, pe_icmp_ne, pe_goto, pe_iadd, pe_iinc3, pm_prog_1, pm_ob_some, Nat.reduceDiv, Nat.reduceMod, Nat.reduceMul, Nat.reduceAdd, Int.reduceToNat, pm_kill_i, pm_kill_r, pm_kill_n, pm_kill_j, pm_kill_l, pm_kill_d, pm_cats_nil, pm_cats_i, pm_cats_r, pm_cats_n, pm_cats_l, pm_cats_d, sz_1, sz_2, sl_1, sl_2, lc_0, lc_lt, lc_le, li_ne, va_rf, wr_m1, we_m1, pm_kill_w, Int32.reduceOfInt, Int64.reduceOfInt, Int32.reduceOfNat, Int32.reduceLT, Int32.reduceLE, Prod.mk.injEq, Nat.reduceEqDiff, reduceCtorEq, and_true, true_and, and_false, false_and, and_self, ite_true, ite_false, ↓reduceIte, not_true_eq_false, not_false_eq_true, pe_ri, pe_rz, pe_rc, Cr_g12_4 hP hA, Cr_g12_5 hP hA, Cr_r17 hP hA, eq_false k2, hc]
  · rw [if_neg k1] at e; cases e
theorem z450_1 {fc : Int32} {pc : Int32} {A : wK → Nat} {h : pm_H} {D : Nat} {R : Outcome × pm_H} {S : wS} (hP : Cr_P fc pc) (hA : wok A (Cr_d fc pc) h.1) (hD : 0 ≤ D) {n : Nat} {a : Int32 × Int32 × Int32 × Int32} {b : (Int32)} (e : lp (f450_b1 fc pc S) n a = some b) (hx : ex450_1 fc pc A h D R S b) : go450_1 fc pc A h D R S a := lp_run (fun a r => y450_b1 hP hA hD a r) n a b e hx
theorem x450 {fc : Int32} {pc : Int32} {A : wK → Nat} {h : pm_H} {D : Nat} {S : wS} {x0i : Int32} {x1 : Int32} {r : Int32} (hP : Cr_P fc pc) (hA : wok A (Cr_d fc pc) h.1) (hD : 1 ≤ D) (e : f450 fc pc S x0i x1 = some r) : pm_call pm_prog D 450 [.ref (A (12, x0i, 0)), .int x1] (wput A (Cr_d fc pc) S h) = some (Outcome.returned (some (.int r)), (wput A (Cr_d fc pc) S h)) := by
  obtain ⟨D, rfl⟩ : ∃ D', D = D' + 1 := ⟨D - 1, by omega⟩
  have hD : 0 ≤ D := by omega
  simp only [f450] at e
  have k1 : 0 ≤ x0i ∧ x0i < 2 := by
    by_cases q : 0 ≤ x0i ∧ x0i < 2
    · exact q
    · rw [if_neg q] at e; cases e
  rw [if_pos k1] at e
  rw [c450 (Cr_c12 hP hA k1), b450_0]
  obtain ⟨v1, k2, e⟩ := Option.bind_eq_some_iff.mp e
  try dsimp only at e
  try simp -implicitDefEqProofs (disch := first | assumption | exact Nat.le_of_ble_eq_true rfl | decide) only [b450_0, g450_2, b450_2, g450_3, b450_3, g450_4, b450_4, pe_sipush, pe_istore2, pe_istore3, pe_goto_w, pe_iload3, pe_aload0, pe_getfield, pe_icmp_ge, pe_iload2, pe_baload, pe_iload1, pe_icmp_ne, pe_goto, pe_iadd, pe_iinc3, pm_prog_1, pm_ob_some, Nat.reduceDiv, Nat.reduceMod, Nat.reduceMul, Nat.reduceAdd, Int.reduceToNat, pm_kill_i, pm_kill_r, pm_kill_n, pm_kill_j, pm_kill_l, pm_kill_d, pm_cats_nil, pm_cats_i, pm_cats_r, pm_cats_n, pm_cats_l, pm_cats_d, sz_1, sz_2, sl_1, sl_2, lc_0, lc_lt, lc_le, li_ne, va_rf, wr_m1, we_m1, pm_kill_w, Int32.reduceOfInt, Int64.reduceOfInt, Int32.reduceOfNat, Int32.reduceLT, Int32.reduceLE, Prod.mk.injEq, Nat.reduceEqDiff, reduceCtorEq, and_true, true_and, and_false, false_and, and_self, ite_true, ite_false, ↓reduceIte, not_true_eq_false, not_false_eq_true, pe_ri, pe_rz, pe_rc, Cr_g12_4 hP hA, Cr_g12_5 hP hA, Cr_r17 hP hA]
  refine z450_1 hP hA hD k2 ?_
  dsimp only [ex450_1]
  intro q0 q1 q3
  have e := Option.some.inj e; subst e
  simp -implicitDefEqProofs (disch := first | assumption | exact Nat.le_of_ble_eq_true rfl | decide) only [b450_0, g450_2, b450_2, g450_3, b450_3, g450_4, b450_4, pe_sipush, pe_istore2, pe_istore3, pe_goto_w, pe_iload3, pe_aload0, pe_getfield, pe_icmp_ge, pe_iload2, pe_baload, pe_iload1, pe_icmp_ne, pe_goto, pe_iadd, pe_iinc3, pm_prog_1, pm_ob_some, Nat.reduceDiv, Nat.reduceMod, Nat.reduceMul, Nat.reduceAdd, Int.reduceToNat, pm_kill_i, pm_kill_r, pm_kill_n, pm_kill_j, pm_kill_l, pm_kill_d, pm_cats_nil, pm_cats_i, pm_cats_r, pm_cats_n, pm_cats_l, pm_cats_d, sz_1, sz_2, sl_1, sl_2, lc_0, lc_lt, lc_le, li_ne, va_rf, wr_m1, we_m1, pm_kill_w, Int32.reduceOfInt, Int64.reduceOfInt, Int32.reduceOfNat, Int32.reduceLT, Int32.reduceLE, Prod.mk.injEq, Nat.reduceEqDiff, reduceCtorEq, and_true, true_and, and_false, false_and, and_self, ite_true, ite_false, ↓reduceIte, not_true_eq_false, not_false_eq_true, pe_ri, pe_rz, pe_rc, Cr_g12_4 hP hA, Cr_g12_5 hP hA, Cr_r17 hP hA]
/-- TimberHouse$FaultRips.holds(LTimberHouse$FaultRips$Plan;)Z -/
theorem c281 {d : Nat} {h : pm_H} {a : Nat} {r0 : Nat} (hc : pm_cls h a = some 4) : pm_call pm_prog (d + 1) 281 [.ref a, .ref r0] h = pm_ev pm_prog (pm_call pm_prog d) 281 0 b281_0 [.ref a, .ref r0, pm_junk, pm_junk] [] h := pm_cal (pm_rc1 hc rfl) rfl rfl rfl
theorem g281_1 {cl : pm_C} {ls st : List Value} {h : pm_H} : pm_go pm_prog cl 281 1 ls st h = pm_ev pm_prog cl 281 1 b281_1 ls st h := pm_go_eq pm_prog cl 281 1 ls st h
theorem g281_2 {cl : pm_C} {ls st : List Value} {h : pm_H} : pm_go pm_prog cl 281 2 ls st h = pm_ev pm_prog cl 281 2 b281_2 ls st h := pm_go_eq pm_prog cl 281 2 ls st h
theorem g281_3 {cl : pm_C} {ls st : List Value} {h : pm_H} : pm_go pm_prog cl 281 3 ls st h = pm_ev pm_prog cl 281 3 b281_3 ls st h := pm_go_eq pm_prog cl 281 3 ls st h
theorem g281_4 {cl : pm_C} {ls st : List Value} {h : pm_H} : pm_go pm_prog cl 281 4 ls st h = pm_ev pm_prog cl 281 4 b281_4 ls st h := pm_go_eq pm_prog cl 281 4 ls st h
theorem g281_5 {cl : pm_C} {ls st : List Value} {h : pm_H} : pm_go pm_prog cl 281 5 ls st h = pm_ev pm_prog cl 281 5 b281_5 ls st h := pm_go_eq pm_prog cl 281 5 ls st h
noncomputable def f281_b1 (fc : Int32) (pc : Int32) (S : wS) : Int32 × Int32 × Int32 → Option ((Int32 × Int32 × Int32) ⊕ ((Int32))) := fun (x1i, x2, x3) =>
  if 0 ≤ x1i ∧ x1i < 2 then
    if x3 < (S.1 (0, 0, 0) 6) then
      if 0 ≤ x3 ∧ x3 < 8 then
        if x3 < pc then
          if 0 ≤ x3 ∧ x3 < pc then
            if (S.1 (4, x3, 0) 5) = (-1) then
              some (.inl (x1i, (x2 &&& 1), (x3 + 1)))
            else
              (f450 fc pc S x1i x3).bind fun v1 =>
              if v1 ≤ (S.1 (4, x3, 0) 5) then
                some (.inl (x1i, (x2 &&& 1), (x3 + 1)))
              else
                some (.inl (x1i, (x2 &&& 0), (x3 + 1)))
          else none
        else none
      else none
    else
      some (.inr x2)
  else none
/-- TimberHouse$FaultRips.holds(LTimberHouse$FaultRips$Plan;)Z -/
noncomputable def f281 (fc : Int32) (pc : Int32) (S : wS) (x1i : Int32) : Option (Int32) :=
  if 0 ≤ x1i ∧ x1i < 2 then
    (lp (f281_b1 fc pc S) FU (x1i, 1, 0)).bind fun v2 =>
    if v2 = 0 ∨ v2 = 1 then
      some v2
    else none
  else none
def go281_1 (fc : Int32) (pc : Int32) (A : wK → Nat) (h : pm_H) (D : Nat) (R : Outcome × pm_H) (S : wS) : Int32 × Int32 × Int32 → Prop := fun (x1i, x2, x3) => pm_go pm_prog (pm_call pm_prog D) 281 1 [.ref (A (0, 0, 0)), .ref (A (12, x1i, 0)), .int x2, .int x3] [] (wput A (Cr_d fc pc) S h) = some R
def ex281_1 (fc : Int32) (pc : Int32) (A : wK → Nat) (h : pm_H) (D : Nat) (R : Outcome × pm_H) (S : wS) : (Int32) → Prop := fun x2 => ∀ q0 q1 q3 : Value, pm_go pm_prog (pm_call pm_prog D) 281 5 [q0, q1, .int x2, q3] [] (wput A (Cr_d fc pc) S h) = some R
theorem y281_b1 {fc : Int32} {pc : Int32} {A : wK → Nat} {h : pm_H} {D : Nat} {R : Outcome × pm_H} {S : wS} (hP : Cr_P fc pc) (hA : wok A (Cr_d fc pc) h.1) (hD : 1 ≤ D) (a : Int32 × Int32 × Int32) (r : (Int32 × Int32 × Int32) ⊕ ((Int32))) (e : f281_b1 fc pc S a = some r) (hc : Sum.elim (go281_1 fc pc A h D R S) (ex281_1 fc pc A h D R S) r) : go281_1 fc pc A h D R S a := by
  obtain ⟨x1i, x2, x3⟩ := a
  dsimp only [go281_1]
  simp only [f281_b1] at e
  rw [g281_1, b281_1]
  by_cases k1 : 0 ≤ x1i ∧ x1i < 2
  · rw [if_pos k1] at e
    by_cases k2 : x3 < (S.1 (0, 0, 0) 6)
    · rw [if_pos k2] at e
      by_cases k3 : 0 ≤ x3 ∧ x3 < 8
      · rw [if_pos k3] at e
        by_cases k4 : x3 < pc
        · rw [if_pos k4] at e
          by_cases k5 : 0 ≤ x3 ∧ x3 < pc
          · rw [if_pos k5] at e
            by_cases k6 : (S.1 (4, x3, 0) 5) = (-1)
            · rw [if_pos k6] at e
              have e := Option.some.inj e; subst e
              dsimp only [Sum.elim_inl, go281_1] at hc
              simp -implicitDefEqProofs (disch := first | assumption | exact Nat.le_of_ble_eq_true rfl | decide) only [b281_0, g281_2, b281_2, g281_3, b281_3, g281_4, b281_4, g281_5, b281_5, pe_sipush, pe_istore2, pe_istore3, pe_goto_w, pe_iload3, pe_aload0, pe_getfield, pe_icmp_ge, pe_iload2, pe_aaload, pe_icmp_eq, pe_aload1, pe_call2, pm_af_ret, pm_af_void, pm_af_thr, pe_icmp_gt, pe_goto, pe_iand, pe_iinc3, pm_prog_1, pm_ob_some, Nat.reduceDiv, Nat.reduceMod, Nat.reduceMul, Nat.reduceAdd, Int.reduceToNat, pm_kill_i, pm_kill_r, pm_kill_n, pm_kill_j, pm_kill_l, pm_kill_d, pm_cats_nil, pm_cats_i, pm_cats_r, pm_cats_n, pm_cats_l, pm_cats_d, sz_1, sz_2, sl_1, sl_2, lc_0, lc_lt, lc_le, li_ne, va_rf, wr_m1, we_m1, pm_kill_w, Int32.reduceOfInt, Int64.reduceOfInt, Int32.reduceOfNat, Int32.reduceLT, Int32.reduceLE, Prod.mk.injEq, Nat.reduceEqDiff, reduceCtorEq, and_true, true_and, and_false, false_and, and_self, ite_true, ite_false, ↓reduceIte, not_true_eq_false, not_false_eq_true, pe_ri, pe_rz, pe_rc, Cr_g0_5 hP hA, Cr_g0_6 hP hA, Cr_g4_5 hP hA, Cr_r3 hP hA, eq_true k2, eq_true k6, hc]
            · rw [if_neg k6] at e
              obtain ⟨v1, k7, e⟩ := Option.bind_eq_some_iff.mp e
              try dsimp only at e
              have z7 := x450 (D := D) (h := h) hP hA (by omega) k7
              by_cases k8 : v1 ≤ (S.1 (4, x3, 0) 5)
              · rw [if_pos k8] at e
                have e := Option.some.inj e; subst e
                dsimp only [Sum.elim_inl, go281_1] at hc
                simp -implicitDefEqProofs (disch := first | assumption | exact Nat.le_of_ble_eq_true rfl | decide) only [b281_0, g281_2, b281_2, g281_3, b281_3, g281_4, b281_4, g281_5, b281_5, pe_sipush, pe_istore2, pe_istore3, pe_goto_w, pe_iload3, pe_aload0, pe_getfield, pe_icmp_ge, pe_iload2, pe_aaload, pe_icmp_eq, pe_aload1, pe_call2, pm_af_ret, pm_af_void, pm_af_thr, pe_icmp_gt, pe_goto, pe_iand, pe_iinc3, pm_prog_1, pm_ob_some, Nat.reduceDiv, Nat.reduceMod, Nat.reduceMul, Nat.reduceAdd, Int.reduceToNat, pm_kill_i, pm_kill_r, pm_kill_n, pm_kill_j, pm_kill_l, pm_kill_d, pm_cats_nil, pm_cats_i, pm_cats_r, pm_cats_n, pm_cats_l, pm_cats_d, sz_1, sz_2, sl_1, sl_2, lc_0, lc_lt, lc_le, li_ne, va_rf, wr_m1, we_m1, pm_kill_w, Int32.reduceOfInt, Int64.reduceOfInt, Int32.reduceOfNat, Int32.reduceLT, Int32.reduceLE, Prod.mk.injEq, Nat.reduceEqDiff, reduceCtorEq, and_true, true_and, and_false, false_and, and_self, ite_true, ite_false, ↓reduceIte, not_true_eq_false, not_false_eq_true, pe_ri, pe_rz, pe_rc, Cr_g0_5 hP hA, Cr_g0_6 hP hA, Cr_g4_5 hP hA, Cr_r3 hP hA, eq_true k2, eq_false k6, z7, eq_true k8, hc]
              · rw [if_neg k8] at e
                have e := Option.some.inj e; subst e
                dsimp only [Sum.elim_inl, go281_1] at hc
                simp -implicitDefEqProofs (disch := first | assumption | exact Nat.le_of_ble_eq_true rfl | decide) only [b281_0, g281_2, b281_2, g281_3, b281_3, g281_4, b281_4, g281_5, b281_5, pe_sipush, pe_istore2, pe_istore3, pe_goto_w, pe_iload3, pe_aload0, pe_getfield, pe_icmp_ge, pe_iload2, pe_aaload, pe_icmp_eq, pe_aload1, pe_call2, pm_af_ret, pm_af_void, pm_af_thr, pe_icmp_gt, pe_goto, pe_iand, pe_iinc3, pm_prog_1, pm_ob_some, Nat.reduceDiv, Nat.reduceMod, Nat.reduceMul, Nat.reduceAdd, Int.reduceToNat, pm_kill_i, pm_kill_r, pm_kill_n, pm_kill_j, pm_kill_l, pm_kill_d, pm_cats_nil, pm_cats_i, pm_cats_r, pm_cats_n, pm_cats_l, pm_cats_d, sz_1, sz_2, sl_1, sl_2, lc_0, lc_lt, lc_le, li_ne, va_rf, wr_m1, we_m1, pm_kill_w, Int32.reduceOfInt, Int64.reduceOfInt, Int32.reduceOfNat, Int32.reduceLT, Int32.reduceLE, Prod.mk.injEq, Nat.reduceEqDiff, reduceCtorEq, and_true, true_and, and_false, false_and, and_self, ite_true, ite_false, ↓reduceIte, not_true_eq_false, not_false_eq_true, pe_ri, pe_rz, pe_rc, Cr_g0_5 hP hA, Cr_g0_6 hP hA, Cr_g4_5 hP hA, Cr_r3 hP hA, eq_true k2, eq_false k6, z7, eq_false k8, hc]
          · rw [if_neg k5] at e; cases e
        · rw [if_neg k4] at e; cases e
      · rw [if_neg k3] at e; cases e
    · rw [if_neg k2] at e
      have e := Option.some.inj e; subst e
      dsimp only [Sum.elim_inr, ex281_1] at hc
      simp -implicitDefEqProofs (disch := first | assumption | exact Nat.le_of_ble_eq_true rfl | decide) only [b281_0, g281_2, b281_2, g281_3, b281_3, g281_4, b281_4, g281_5, b281_5, pe_sipush, pe_istore2, pe_istore3, pe_goto_w, pe_iload3, pe_aload0, pe_getfield, pe_icmp_ge, pe_iload2, pe_aaload, pe_icmp_eq, pe_aload1, pe_call2, pm_af_ret, pm_af_void, pm_af_thr, pe_icmp_gt, pe_goto, pe_iand, pe_iinc3, pm_prog_1, pm_ob_some, Nat.reduceDiv, Nat.reduceMod, Nat.reduceMul, Nat.reduceAdd, Int.reduceToNat, pm_kill_i, pm_kill_r, pm_kill_n, pm_kill_j, pm_kill_l, pm_kill_d, pm_cats_nil, pm_cats_i, pm_cats_r, pm_cats_n, pm_cats_l, pm_cats_d, sz_1, sz_2, sl_1, sl_2, lc_0, lc_lt, lc_le, li_ne, va_rf, wr_m1, we_m1, pm_kill_w, Int32.reduceOfInt, Int64.reduceOfInt, Int32.reduceOfNat, Int32.reduceLT, Int32.reduceLE, Prod.mk.injEq, Nat.reduceEqDiff, reduceCtorEq, and_true, true_and, and_false, false_and, and_self, ite_true, ite_false, ↓reduceIte, not_true_eq_false, not_false_eq_true, pe_ri, pe_rz, pe_rc, Cr_g0_5 hP hA, Cr_g0_6 hP hA, Cr_g4_5 hP hA, Cr_r3 hP hA, eq_false k2, hc]
  · rw [if_neg k1] at e; cases e
theorem z281_1 {fc : Int32} {pc : Int32} {A : wK → Nat} {h : pm_H} {D : Nat} {R : Outcome × pm_H} {S : wS} (hP : Cr_P fc pc) (hA : wok A (Cr_d fc pc) h.1) (hD : 1 ≤ D) {n : Nat} {a : Int32 × Int32 × Int32} {b : (Int32)} (e : lp (f281_b1 fc pc S) n a = some b) (hx : ex281_1 fc pc A h D R S b) : go281_1 fc pc A h D R S a := lp_run (fun a r => y281_b1 hP hA hD a r) n a b e hx
theorem x281 {fc : Int32} {pc : Int32} {A : wK → Nat} {h : pm_H} {D : Nat} {S : wS} {x1i : Int32} {r : Int32} (hP : Cr_P fc pc) (hA : wok A (Cr_d fc pc) h.1) (hD : 2 ≤ D) (e : f281 fc pc S x1i = some r) : pm_call pm_prog D 281 [.ref (A (0, 0, 0)), .ref (A (12, x1i, 0))] (wput A (Cr_d fc pc) S h) = some (Outcome.returned (some (.int r)), (wput A (Cr_d fc pc) S h)) := by
  obtain ⟨D, rfl⟩ : ∃ D', D = D' + 1 := ⟨D - 1, by omega⟩
  have hD : 1 ≤ D := by omega
  simp only [f281] at e
  have k1 : 0 ≤ x1i ∧ x1i < 2 := by
    by_cases q : 0 ≤ x1i ∧ x1i < 2
    · exact q
    · rw [if_neg q] at e; cases e
  rw [if_pos k1] at e
  rw [c281 (Cr_c0 hP hA), b281_0]
  obtain ⟨v2, k2, e⟩ := Option.bind_eq_some_iff.mp e
  try dsimp only at e
  try simp -implicitDefEqProofs (disch := first | assumption | exact Nat.le_of_ble_eq_true rfl | decide) only [b281_0, g281_2, b281_2, g281_3, b281_3, g281_4, b281_4, g281_5, b281_5, pe_sipush, pe_istore2, pe_istore3, pe_goto_w, pe_iload3, pe_aload0, pe_getfield, pe_icmp_ge, pe_iload2, pe_aaload, pe_icmp_eq, pe_aload1, pe_call2, pm_af_ret, pm_af_void, pm_af_thr, pe_icmp_gt, pe_goto, pe_iand, pe_iinc3, pm_prog_1, pm_ob_some, Nat.reduceDiv, Nat.reduceMod, Nat.reduceMul, Nat.reduceAdd, Int.reduceToNat, pm_kill_i, pm_kill_r, pm_kill_n, pm_kill_j, pm_kill_l, pm_kill_d, pm_cats_nil, pm_cats_i, pm_cats_r, pm_cats_n, pm_cats_l, pm_cats_d, sz_1, sz_2, sl_1, sl_2, lc_0, lc_lt, lc_le, li_ne, va_rf, wr_m1, we_m1, pm_kill_w, Int32.reduceOfInt, Int64.reduceOfInt, Int32.reduceOfNat, Int32.reduceLT, Int32.reduceLE, Prod.mk.injEq, Nat.reduceEqDiff, reduceCtorEq, and_true, true_and, and_false, false_and, and_self, ite_true, ite_false, ↓reduceIte, not_true_eq_false, not_false_eq_true, pe_ri, pe_rz, pe_rc, Cr_g0_5 hP hA, Cr_g0_6 hP hA, Cr_g4_5 hP hA, Cr_r3 hP hA]
  refine z281_1 hP hA hD k2 ?_
  dsimp only [ex281_1]
  intro q0 q1 q3
  by_cases k3 : v2 = 0 ∨ v2 = 1
  · rw [if_pos k3] at e
    have e := Option.some.inj e; subst e
    simp -implicitDefEqProofs (disch := first | assumption | exact Nat.le_of_ble_eq_true rfl | decide) only [b281_0, g281_2, b281_2, g281_3, b281_3, g281_4, b281_4, g281_5, b281_5, pe_sipush, pe_istore2, pe_istore3, pe_goto_w, pe_iload3, pe_aload0, pe_getfield, pe_icmp_ge, pe_iload2, pe_aaload, pe_icmp_eq, pe_aload1, pe_call2, pm_af_ret, pm_af_void, pm_af_thr, pe_icmp_gt, pe_goto, pe_iand, pe_iinc3, pm_prog_1, pm_ob_some, Nat.reduceDiv, Nat.reduceMod, Nat.reduceMul, Nat.reduceAdd, Int.reduceToNat, pm_kill_i, pm_kill_r, pm_kill_n, pm_kill_j, pm_kill_l, pm_kill_d, pm_cats_nil, pm_cats_i, pm_cats_r, pm_cats_n, pm_cats_l, pm_cats_d, sz_1, sz_2, sl_1, sl_2, lc_0, lc_lt, lc_le, li_ne, va_rf, wr_m1, we_m1, pm_kill_w, Int32.reduceOfInt, Int64.reduceOfInt, Int32.reduceOfNat, Int32.reduceLT, Int32.reduceLE, Prod.mk.injEq, Nat.reduceEqDiff, reduceCtorEq, and_true, true_and, and_false, false_and, and_self, ite_true, ite_false, ↓reduceIte, not_true_eq_false, not_false_eq_true, pe_ri, pe_rz, pe_rc, Cr_g0_5 hP hA, Cr_g0_6 hP hA, Cr_g4_5 hP hA, Cr_r3 hP hA]
  · rw [if_neg k3] at e; cases e
/-- TimberHouse$FaultRips.raise(LTimberHouse$FaultRips$Plan;I)V -/
theorem c283 {d : Nat} {h : pm_H} {a : Nat} {r0 : Nat} {x1 : Int32} (hc : pm_cls h a = some 4) : pm_call pm_prog (d + 1) 283 [.ref a, .ref r0, .int x1] h = pm_ev pm_prog (pm_call pm_prog d) 283 0 b283_0 [.ref a, .ref r0, .int x1, pm_junk, pm_junk] [] h := pm_cal (pm_rc1 hc rfl) rfl rfl rfl
theorem g283_1 {cl : pm_C} {ls st : List Value} {h : pm_H} : pm_go pm_prog cl 283 1 ls st h = pm_ev pm_prog cl 283 1 b283_1 ls st h := pm_go_eq pm_prog cl 283 1 ls st h
theorem g283_2 {cl : pm_C} {ls st : List Value} {h : pm_H} : pm_go pm_prog cl 283 2 ls st h = pm_ev pm_prog cl 283 2 b283_2 ls st h := pm_go_eq pm_prog cl 283 2 ls st h
theorem g283_3 {cl : pm_C} {ls st : List Value} {h : pm_H} : pm_go pm_prog cl 283 3 ls st h = pm_ev pm_prog cl 283 3 b283_3 ls st h := pm_go_eq pm_prog cl 283 3 ls st h
noncomputable def f283_b1 (fc : Int32) (pc : Int32) : Int32 × Int32 × Int32 × wS → Option ((Int32 × Int32 × Int32 × wS) ⊕ ((wS))) := fun (x1i, x2, x3, S) =>
  if 0 ≤ x1i ∧ x1i < 2 then
    if x3 < (S.1 (0, 0, 0) 6) then
      if 0 ≤ x3 ∧ x3 < 8 then
        if x3 < pc then
          if 0 ≤ x3 ∧ x3 < pc then
            if (S.1 (4, x3, 0) 5) = (-1) then
              some (.inl (x1i, x2, (x3 + 1), S))
            else
              (f450 fc pc S x1i x3).bind fun v1 =>
              if ¬ x2 = 0 then
                (f3841 1 (256 / x2)).bind fun v2 =>
                (f3843 0 ((S.2 (4, x3, 0) 6) + ((Int32.toInt64 (v1 - (S.1 (4, x3, 0) 5))) * (Int32.toInt64 v2)))).bind fun v3 =>
                some (.inl (x1i, x2, (x3 + 1), (sl S (4, x3, 0) 6 v3)))
              else none
          else none
        else none
      else none
    else
      some (.inr S)
  else none
/-- TimberHouse$FaultRips.raise(LTimberHouse$FaultRips$Plan;I)V -/
noncomputable def f283 (fc : Int32) (pc : Int32) (S : wS) (x1i : Int32) (x2 : Int32) : Option (wS) :=
  if 0 ≤ x1i ∧ x1i < 2 then
    (lp (f283_b1 fc pc) FU (x1i, x2, 0, S)).bind fun S4 =>
    some S4
  else none
def go283_1 (fc : Int32) (pc : Int32) (A : wK → Nat) (h : pm_H) (D : Nat) (R : Outcome × pm_H) : Int32 × Int32 × Int32 × wS → Prop := fun (x1i, x2, x3, S) => ∀ q4 : Value, pm_go pm_prog (pm_call pm_prog D) 283 1 [.ref (A (0, 0, 0)), .ref (A (12, x1i, 0)), .int x2, .int x3, q4] [] (wput A (Cr_d fc pc) S h) = some R
def ex283_1 (fc : Int32) (pc : Int32) (A : wK → Nat) (h : pm_H) (D : Nat) (R : Outcome × pm_H) : (wS) → Prop := fun S => ∀ q0 q1 q2 q3 q4 : Value, pm_go pm_prog (pm_call pm_prog D) 283 3 [q0, q1, q2, q3, q4] [] (wput A (Cr_d fc pc) S h) = some R
theorem y283_b1 {fc : Int32} {pc : Int32} {A : wK → Nat} {h : pm_H} {D : Nat} {R : Outcome × pm_H} (hP : Cr_P fc pc) (hA : wok A (Cr_d fc pc) h.1) (hD : 1 ≤ D) (a : Int32 × Int32 × Int32 × wS) (r : (Int32 × Int32 × Int32 × wS) ⊕ ((wS))) (e : f283_b1 fc pc a = some r) (hc : Sum.elim (go283_1 fc pc A h D R) (ex283_1 fc pc A h D R) r) : go283_1 fc pc A h D R a := by
  obtain ⟨x1i, x2, x3, S⟩ := a
  dsimp only [go283_1]
  intro q4
  simp only [f283_b1] at e
  rw [g283_1, b283_1]
  by_cases k1 : 0 ≤ x1i ∧ x1i < 2
  · rw [if_pos k1] at e
    by_cases k2 : x3 < (S.1 (0, 0, 0) 6)
    · rw [if_pos k2] at e
      by_cases k3 : 0 ≤ x3 ∧ x3 < 8
      · rw [if_pos k3] at e
        by_cases k4 : x3 < pc
        · rw [if_pos k4] at e
          by_cases k5 : 0 ≤ x3 ∧ x3 < pc
          · rw [if_pos k5] at e
            by_cases k6 : (S.1 (4, x3, 0) 5) = (-1)
            · rw [if_pos k6] at e
              have e := Option.some.inj e; subst e
              dsimp only [Sum.elim_inl, go283_1] at hc
              simp -implicitDefEqProofs (disch := first | assumption | exact Nat.le_of_ble_eq_true rfl | decide) only [b283_0, g283_2, b283_2, g283_3, b283_3, pe_sipush, pe_istore3, pe_goto_w, pe_iload3, pe_aload0, pe_getfield, pe_icmp_ge, pe_aaload, pe_astore4, pe_aload4, pe_icmp_eq, pe_bipush, pe_aload1, pe_call2, pm_af_ret, pm_af_void, pm_af_thr, pe_isub, pe_i2l, pe_iload2, pe_idiv, pe_lmul, pe_ladd, pe_putfield, pe_iinc3, pe_goto, pe_return, pm_prog_1, pm_ob_some, Nat.reduceDiv, Nat.reduceMod, Nat.reduceMul, Nat.reduceAdd, Int.reduceToNat, pm_kill_i, pm_kill_r, pm_kill_n, pm_kill_j, pm_kill_l, pm_kill_d, pm_cats_nil, pm_cats_i, pm_cats_r, pm_cats_n, pm_cats_l, pm_cats_d, sz_1, sz_2, sl_1, sl_2, lc_0, lc_lt, lc_le, li_ne, va_rf, wr_m1, we_m1, pm_kill_w, Int32.reduceOfInt, Int64.reduceOfInt, Int32.reduceOfNat, Int32.reduceLT, Int32.reduceLE, Prod.mk.injEq, Nat.reduceEqDiff, reduceCtorEq, and_true, true_and, and_false, false_and, and_self, ite_true, ite_false, ↓reduceIte, not_true_eq_false, not_false_eq_true, pe_ri, pe_rz, pe_rc, Cr_g0_5 hP hA, Cr_g0_6 hP hA, Cr_g4_5 hP hA, Cr_g4_6 hP hA, Cr_p4_6 hP hA, Cr_r3 hP hA, eq_true k2, eq_true k6, hc]
            · rw [if_neg k6] at e
              obtain ⟨v1, k7, e⟩ := Option.bind_eq_some_iff.mp e
              try dsimp only at e
              have z7 := x450 (D := D) (h := h) hP hA (by omega) k7
              by_cases k8 : ¬ x2 = 0
              · rw [if_pos k8] at e
                obtain ⟨v2, k9, e⟩ := Option.bind_eq_some_iff.mp e
                try dsimp only at e
                have z9 := fun h => x3841 (D := D) (h := h) (by omega) k9
                obtain ⟨v3, k10, e⟩ := Option.bind_eq_some_iff.mp e
                try dsimp only at e
                have z10 := fun h => x3843 (D := D) (h := h) (by omega) k10
                have e := Option.some.inj e; subst e
                dsimp only [Sum.elim_inl, go283_1] at hc
                simp -implicitDefEqProofs (disch := first | assumption | exact Nat.le_of_ble_eq_true rfl | decide) only [b283_0, g283_2, b283_2, g283_3, b283_3, pe_sipush, pe_istore3, pe_goto_w, pe_iload3, pe_aload0, pe_getfield, pe_icmp_ge, pe_aaload, pe_astore4, pe_aload4, pe_icmp_eq, pe_bipush, pe_aload1, pe_call2, pm_af_ret, pm_af_void, pm_af_thr, pe_isub, pe_i2l, pe_iload2, pe_idiv, pe_lmul, pe_ladd, pe_putfield, pe_iinc3, pe_goto, pe_return, pm_prog_1, pm_ob_some, Nat.reduceDiv, Nat.reduceMod, Nat.reduceMul, Nat.reduceAdd, Int.reduceToNat, pm_kill_i, pm_kill_r, pm_kill_n, pm_kill_j, pm_kill_l, pm_kill_d, pm_cats_nil, pm_cats_i, pm_cats_r, pm_cats_n, pm_cats_l, pm_cats_d, sz_1, sz_2, sl_1, sl_2, lc_0, lc_lt, lc_le, li_ne, va_rf, wr_m1, we_m1, pm_kill_w, Int32.reduceOfInt, Int64.reduceOfInt, Int32.reduceOfNat, Int32.reduceLT, Int32.reduceLE, Prod.mk.injEq, Nat.reduceEqDiff, reduceCtorEq, and_true, true_and, and_false, false_and, and_self, ite_true, ite_false, ↓reduceIte, not_true_eq_false, not_false_eq_true, pe_ri, pe_rz, pe_rc, Cr_g0_5 hP hA, Cr_g0_6 hP hA, Cr_g4_5 hP hA, Cr_g4_6 hP hA, Cr_p4_6 hP hA, Cr_r3 hP hA, eq_true k2, eq_false k6, z7, z9, z10, hc]
              · rw [if_neg k8] at e; cases e
          · rw [if_neg k5] at e; cases e
        · rw [if_neg k4] at e; cases e
      · rw [if_neg k3] at e; cases e
    · rw [if_neg k2] at e
      have e := Option.some.inj e; subst e
      dsimp only [Sum.elim_inr, ex283_1] at hc
      simp -implicitDefEqProofs (disch := first | assumption | exact Nat.le_of_ble_eq_true rfl | decide) only [b283_0, g283_2, b283_2, g283_3, b283_3, pe_sipush, pe_istore3, pe_goto_w, pe_iload3, pe_aload0, pe_getfield, pe_icmp_ge, pe_aaload, pe_astore4, pe_aload4, pe_icmp_eq, pe_bipush, pe_aload1, pe_call2, pm_af_ret, pm_af_void, pm_af_thr, pe_isub, pe_i2l, pe_iload2, pe_idiv, pe_lmul, pe_ladd, pe_putfield, pe_iinc3, pe_goto, pe_return, pm_prog_1, pm_ob_some, Nat.reduceDiv, Nat.reduceMod, Nat.reduceMul, Nat.reduceAdd, Int.reduceToNat, pm_kill_i, pm_kill_r, pm_kill_n, pm_kill_j, pm_kill_l, pm_kill_d, pm_cats_nil, pm_cats_i, pm_cats_r, pm_cats_n, pm_cats_l, pm_cats_d, sz_1, sz_2, sl_1, sl_2, lc_0, lc_lt, lc_le, li_ne, va_rf, wr_m1, we_m1, pm_kill_w, Int32.reduceOfInt, Int64.reduceOfInt, Int32.reduceOfNat, Int32.reduceLT, Int32.reduceLE, Prod.mk.injEq, Nat.reduceEqDiff, reduceCtorEq, and_true, true_and, and_false, false_and, and_self, ite_true, ite_false, ↓reduceIte, not_true_eq_false, not_false_eq_true, pe_ri, pe_rz, pe_rc, Cr_g0_5 hP hA, Cr_g0_6 hP hA, Cr_g4_5 hP hA, Cr_g4_6 hP hA, Cr_p4_6 hP hA, Cr_r3 hP hA, eq_false k2, hc]
  · rw [if_neg k1] at e; cases e
theorem z283_1 {fc : Int32} {pc : Int32} {A : wK → Nat} {h : pm_H} {D : Nat} {R : Outcome × pm_H} (hP : Cr_P fc pc) (hA : wok A (Cr_d fc pc) h.1) (hD : 1 ≤ D) {n : Nat} {a : Int32 × Int32 × Int32 × wS} {b : (wS)} (e : lp (f283_b1 fc pc) n a = some b) (hx : ex283_1 fc pc A h D R b) : go283_1 fc pc A h D R a := lp_run (fun a r => y283_b1 hP hA hD a r) n a b e hx
theorem x283 {fc : Int32} {pc : Int32} {A : wK → Nat} {h : pm_H} {D : Nat} {S : wS} {x1i : Int32} {x2 : Int32} {r : wS} (hP : Cr_P fc pc) (hA : wok A (Cr_d fc pc) h.1) (hD : 2 ≤ D) (e : f283 fc pc S x1i x2 = some r) : pm_call pm_prog D 283 [.ref (A (0, 0, 0)), .ref (A (12, x1i, 0)), .int x2] (wput A (Cr_d fc pc) S h) = some (Outcome.returned none, (wput A (Cr_d fc pc) r h)) := by
  obtain ⟨D, rfl⟩ : ∃ D', D = D' + 1 := ⟨D - 1, by omega⟩
  have hD : 1 ≤ D := by omega
  simp only [f283] at e
  have k1 : 0 ≤ x1i ∧ x1i < 2 := by
    by_cases q : 0 ≤ x1i ∧ x1i < 2
    · exact q
    · rw [if_neg q] at e; cases e
  rw [if_pos k1] at e
  rw [c283 (Cr_c0 hP hA), b283_0]
  obtain ⟨S4, k2, e⟩ := Option.bind_eq_some_iff.mp e
  try dsimp only at e
  try simp -implicitDefEqProofs (disch := first | assumption | exact Nat.le_of_ble_eq_true rfl | decide) only [b283_0, g283_2, b283_2, g283_3, b283_3, pe_sipush, pe_istore3, pe_goto_w, pe_iload3, pe_aload0, pe_getfield, pe_icmp_ge, pe_aaload, pe_astore4, pe_aload4, pe_icmp_eq, pe_bipush, pe_aload1, pe_call2, pm_af_ret, pm_af_void, pm_af_thr, pe_isub, pe_i2l, pe_iload2, pe_idiv, pe_lmul, pe_ladd, pe_putfield, pe_iinc3, pe_goto, pe_return, pm_prog_1, pm_ob_some, Nat.reduceDiv, Nat.reduceMod, Nat.reduceMul, Nat.reduceAdd, Int.reduceToNat, pm_kill_i, pm_kill_r, pm_kill_n, pm_kill_j, pm_kill_l, pm_kill_d, pm_cats_nil, pm_cats_i, pm_cats_r, pm_cats_n, pm_cats_l, pm_cats_d, sz_1, sz_2, sl_1, sl_2, lc_0, lc_lt, lc_le, li_ne, va_rf, wr_m1, we_m1, pm_kill_w, Int32.reduceOfInt, Int64.reduceOfInt, Int32.reduceOfNat, Int32.reduceLT, Int32.reduceLE, Prod.mk.injEq, Nat.reduceEqDiff, reduceCtorEq, and_true, true_and, and_false, false_and, and_self, ite_true, ite_false, ↓reduceIte, not_true_eq_false, not_false_eq_true, pe_ri, pe_rz, pe_rc, Cr_g0_5 hP hA, Cr_g0_6 hP hA, Cr_g4_5 hP hA, Cr_g4_6 hP hA, Cr_p4_6 hP hA, Cr_r3 hP hA]
  refine z283_1 hP hA hD k2 ?_ _
  dsimp only [ex283_1]
  intro q0 q1 q2 q3 q4
  have e := Option.some.inj e; subst e
  simp -implicitDefEqProofs (disch := first | assumption | exact Nat.le_of_ble_eq_true rfl | decide) only [b283_0, g283_2, b283_2, g283_3, b283_3, pe_sipush, pe_istore3, pe_goto_w, pe_iload3, pe_aload0, pe_getfield, pe_icmp_ge, pe_aaload, pe_astore4, pe_aload4, pe_icmp_eq, pe_bipush, pe_aload1, pe_call2, pm_af_ret, pm_af_void, pm_af_thr, pe_isub, pe_i2l, pe_iload2, pe_idiv, pe_lmul, pe_ladd, pe_putfield, pe_iinc3, pe_goto, pe_return, pm_prog_1, pm_ob_some, Nat.reduceDiv, Nat.reduceMod, Nat.reduceMul, Nat.reduceAdd, Int.reduceToNat, pm_kill_i, pm_kill_r, pm_kill_n, pm_kill_j, pm_kill_l, pm_kill_d, pm_cats_nil, pm_cats_i, pm_cats_r, pm_cats_n, pm_cats_l, pm_cats_d, sz_1, sz_2, sl_1, sl_2, lc_0, lc_lt, lc_le, li_ne, va_rf, wr_m1, we_m1, pm_kill_w, Int32.reduceOfInt, Int64.reduceOfInt, Int32.reduceOfNat, Int32.reduceLT, Int32.reduceLE, Prod.mk.injEq, Nat.reduceEqDiff, reduceCtorEq, and_true, true_and, and_false, false_and, and_self, ite_true, ite_false, ↓reduceIte, not_true_eq_false, not_false_eq_true, pe_ri, pe_rz, pe_rc, Cr_g0_5 hP hA, Cr_g0_6 hP hA, Cr_g4_5 hP hA, Cr_g4_6 hP hA, Cr_p4_6 hP hA, Cr_r3 hP hA]
/-- TimberHouse$FaultRips$Plan.move(LTimberHouse$FaultRips$Plan;II)V -/
theorem c452 {d : Nat} {h : pm_H} {a : Nat} {r0 : Nat} {x1 : Int32} {x2 : Int32} (hc : pm_cls h a = some 7) : pm_call pm_prog (d + 1) 452 [.ref a, .ref r0, .int x1, .int x2] h = pm_ev pm_prog (pm_call pm_prog d) 452 0 b452_0 [.ref a, .ref r0, .int x1, .int x2] [] h := pm_cal (pm_rc1 hc rfl) rfl rfl rfl
/-- TimberHouse$FaultRips$Plan.move(LTimberHouse$FaultRips$Plan;II)V -/
noncomputable def f452 (fc : Int32) (pc : Int32) (S : wS) (x0i : Int32) (x1i : Int32) (x2 : Int32) (x3 : Int32) : Option (wS) :=
  if 0 ≤ x0i ∧ x0i < 2 then
    if 0 ≤ x1i ∧ x1i < 2 then
      if 0 ≤ x2 ∧ x2 < 240 then
        if 0 ≤ x3 ∧ x3 < 240 then
          some (sz (sz (sz (sz (sz S (13, x0i, 0) x3 (vp_nar .byte (S.1 (13, x1i, 0) x2))) (14, x0i, 0) x3 (vp_nar .byte (S.1 (14, x1i, 0) x2))) (15, x0i, 0) x3 (vp_nar .byte (S.1 (15, x1i, 0) x2))) (16, x0i, 0) x3 (vp_nar .byte (S.1 (16, x1i, 0) x2))) (17, x0i, 0) x3 (vp_nar .byte (S.1 (17, x1i, 0) x2)))
        else none
      else none
    else none
  else none
theorem x452 {fc : Int32} {pc : Int32} {A : wK → Nat} {h : pm_H} {D : Nat} {S : wS} {x0i : Int32} {x1i : Int32} {x2 : Int32} {x3 : Int32} {r : wS} (hP : Cr_P fc pc) (hA : wok A (Cr_d fc pc) h.1) (hD : 1 ≤ D) (e : f452 fc pc S x0i x1i x2 x3 = some r) : pm_call pm_prog D 452 [.ref (A (12, x0i, 0)), .ref (A (12, x1i, 0)), .int x2, .int x3] (wput A (Cr_d fc pc) S h) = some (Outcome.returned none, (wput A (Cr_d fc pc) r h)) := by
  obtain ⟨D, rfl⟩ : ∃ D', D = D' + 1 := ⟨D - 1, by omega⟩
  have hD : 0 ≤ D := by omega
  simp only [f452] at e
  have k1 : 0 ≤ x0i ∧ x0i < 2 := by
    by_cases q : 0 ≤ x0i ∧ x0i < 2
    · exact q
    · rw [if_neg q] at e; cases e
  rw [if_pos k1] at e
  have k2 : 0 ≤ x1i ∧ x1i < 2 := by
    by_cases q : 0 ≤ x1i ∧ x1i < 2
    · exact q
    · rw [if_neg q] at e; cases e
  rw [if_pos k2] at e
  rw [c452 (Cr_c12 hP hA k1), b452_0]
  by_cases k3 : 0 ≤ x2 ∧ x2 < 240
  · rw [if_pos k3] at e
    by_cases k4 : 0 ≤ x3 ∧ x3 < 240
    · rw [if_pos k4] at e
      have e := Option.some.inj e; subst e
      simp -implicitDefEqProofs (disch := first | assumption | exact Nat.le_of_ble_eq_true rfl | decide) only [b452_0, pe_aload0, pe_getfield, pe_iload3, pe_aload1, pe_iload2, pe_baload, pe_bastore, pe_return, pm_prog_1, pm_ob_some, Nat.reduceDiv, Nat.reduceMod, Nat.reduceMul, Nat.reduceAdd, Int.reduceToNat, pm_kill_i, pm_kill_r, pm_kill_n, pm_kill_j, pm_kill_l, pm_kill_d, pm_cats_nil, pm_cats_i, pm_cats_r, pm_cats_n, pm_cats_l, pm_cats_d, sz_1, sz_2, sl_1, sl_2, lc_0, lc_lt, lc_le, li_ne, va_rf, wr_m1, we_m1, pm_kill_w, Int32.reduceOfInt, Int64.reduceOfInt, Int32.reduceOfNat, Int32.reduceLT, Int32.reduceLE, Prod.mk.injEq, Nat.reduceEqDiff, reduceCtorEq, and_true, true_and, and_false, false_and, and_self, ite_true, ite_false, ↓reduceIte, not_true_eq_false, not_false_eq_true, pe_ri, pe_rz, pe_rc, Cr_g12_0 hP hA, Cr_g12_1 hP hA, Cr_g12_2 hP hA, Cr_g12_3 hP hA, Cr_g12_4 hP hA, Cr_r13 hP hA, Cr_r14 hP hA, Cr_r15 hP hA, Cr_r16 hP hA, Cr_r17 hP hA, Cr_w13 hP hA, Cr_w14 hP hA, Cr_w15 hP hA, Cr_w16 hP hA, Cr_w17 hP hA]
    · rw [if_neg k4] at e; cases e
  · rw [if_neg k3] at e; cases e
/-- TimberHouse$FaultRips$Plan.copy(LTimberHouse$FaultRips$Plan;)V -/
theorem c451 {d : Nat} {h : pm_H} {a : Nat} {r0 : Nat} (hc : pm_cls h a = some 7) : pm_call pm_prog (d + 1) 451 [.ref a, .ref r0] h = pm_ev pm_prog (pm_call pm_prog d) 451 0 b451_0 [.ref a, .ref r0, pm_junk] [] h := pm_cal (pm_rc1 hc rfl) rfl rfl rfl
theorem g451_1 {cl : pm_C} {ls st : List Value} {h : pm_H} : pm_go pm_prog cl 451 1 ls st h = pm_ev pm_prog cl 451 1 b451_1 ls st h := pm_go_eq pm_prog cl 451 1 ls st h
theorem g451_2 {cl : pm_C} {ls st : List Value} {h : pm_H} : pm_go pm_prog cl 451 2 ls st h = pm_ev pm_prog cl 451 2 b451_2 ls st h := pm_go_eq pm_prog cl 451 2 ls st h
noncomputable def f451_b1 (fc : Int32) (pc : Int32) : Int32 × Int32 × Int32 × wS → Option ((Int32 × Int32 × Int32 × wS) ⊕ ((wS))) := fun (x0i, x1i, x2, S) =>
  if 0 ≤ x0i ∧ x0i < 2 then
    if 0 ≤ x1i ∧ x1i < 2 then
      if x2 < (S.1 (12, x0i, 0) 5) then
        (f452 fc pc S x0i x1i x2 x2).bind fun S1 =>
        some (.inl (x0i, x1i, (x2 + 1), S1))
      else
        some (.inr S)
    else none
  else none
/-- TimberHouse$FaultRips$Plan.copy(LTimberHouse$FaultRips$Plan;)V -/
noncomputable def f451 (fc : Int32) (pc : Int32) (S : wS) (x0i : Int32) (x1i : Int32) : Option (wS) :=
  if 0 ≤ x0i ∧ x0i < 2 then
    if 0 ≤ x1i ∧ x1i < 2 then
      (lp (f451_b1 fc pc) FU (x0i, x1i, 0, (sl (sz S (12, x0i, 0) 5 (S.1 (12, x1i, 0) 5)) (12, x0i, 0) 6 (S.2 (12, x1i, 0) 6)))).bind fun S2 =>
      some S2
    else none
  else none
def go451_1 (fc : Int32) (pc : Int32) (A : wK → Nat) (h : pm_H) (D : Nat) (R : Outcome × pm_H) : Int32 × Int32 × Int32 × wS → Prop := fun (x0i, x1i, x2, S) => pm_go pm_prog (pm_call pm_prog D) 451 1 [.ref (A (12, x0i, 0)), .ref (A (12, x1i, 0)), .int x2] [] (wput A (Cr_d fc pc) S h) = some R
def ex451_1 (fc : Int32) (pc : Int32) (A : wK → Nat) (h : pm_H) (D : Nat) (R : Outcome × pm_H) : (wS) → Prop := fun S => ∀ q0 q1 q2 : Value, pm_go pm_prog (pm_call pm_prog D) 451 2 [q0, q1, q2] [] (wput A (Cr_d fc pc) S h) = some R
theorem y451_b1 {fc : Int32} {pc : Int32} {A : wK → Nat} {h : pm_H} {D : Nat} {R : Outcome × pm_H} (hP : Cr_P fc pc) (hA : wok A (Cr_d fc pc) h.1) (hD : 1 ≤ D) (a : Int32 × Int32 × Int32 × wS) (r : (Int32 × Int32 × Int32 × wS) ⊕ ((wS))) (e : f451_b1 fc pc a = some r) (hc : Sum.elim (go451_1 fc pc A h D R) (ex451_1 fc pc A h D R) r) : go451_1 fc pc A h D R a := by
  obtain ⟨x0i, x1i, x2, S⟩ := a
  dsimp only [go451_1]
  simp only [f451_b1] at e
  rw [g451_1, b451_1]
  by_cases k1 : 0 ≤ x0i ∧ x0i < 2
  · rw [if_pos k1] at e
    by_cases k2 : 0 ≤ x1i ∧ x1i < 2
    · rw [if_pos k2] at e
      by_cases k3 : x2 < (S.1 (12, x0i, 0) 5)
      · rw [if_pos k3] at e
        obtain ⟨S1, k4, e⟩ := Option.bind_eq_some_iff.mp e
        try dsimp only at e
        have z4 := x452 (D := D) (h := h) hP hA (by omega) k4
        have e := Option.some.inj e; subst e
        dsimp only [Sum.elim_inl, go451_1] at hc
        simp -implicitDefEqProofs (disch := first | assumption | exact Nat.le_of_ble_eq_true rfl | decide) only [b451_0, g451_2, b451_2, pe_aload0, pe_aload1, pe_getfield, pe_putfield, pe_sipush, pe_istore2, pe_goto_w, pe_iload2, pe_icmp_ge, pe_call4, pm_af_ret, pm_af_void, pm_af_thr, pe_iinc2, pe_goto, pe_return, pm_prog_1, pm_ob_some, Nat.reduceDiv, Nat.reduceMod, Nat.reduceMul, Nat.reduceAdd, Int.reduceToNat, pm_kill_i, pm_kill_r, pm_kill_n, pm_kill_j, pm_kill_l, pm_kill_d, pm_cats_nil, pm_cats_i, pm_cats_r, pm_cats_n, pm_cats_l, pm_cats_d, sz_1, sz_2, sl_1, sl_2, lc_0, lc_lt, lc_le, li_ne, va_rf, wr_m1, we_m1, pm_kill_w, Int32.reduceOfInt, Int64.reduceOfInt, Int32.reduceOfNat, Int32.reduceLT, Int32.reduceLE, Prod.mk.injEq, Nat.reduceEqDiff, reduceCtorEq, and_true, true_and, and_false, false_and, and_self, ite_true, ite_false, ↓reduceIte, not_true_eq_false, not_false_eq_true, pe_ri, pe_rz, pe_rc, Cr_g12_5 hP hA, Cr_g12_6 hP hA, Cr_p12_5 hP hA, Cr_p12_6 hP hA, eq_true k3, z4, hc]
      · rw [if_neg k3] at e
        have e := Option.some.inj e; subst e
        dsimp only [Sum.elim_inr, ex451_1] at hc
        simp -implicitDefEqProofs (disch := first | assumption | exact Nat.le_of_ble_eq_true rfl | decide) only [b451_0, g451_2, b451_2, pe_aload0, pe_aload1, pe_getfield, pe_putfield, pe_sipush, pe_istore2, pe_goto_w, pe_iload2, pe_icmp_ge, pe_call4, pm_af_ret, pm_af_void, pm_af_thr, pe_iinc2, pe_goto, pe_return, pm_prog_1, pm_ob_some, Nat.reduceDiv, Nat.reduceMod, Nat.reduceMul, Nat.reduceAdd, Int.reduceToNat, pm_kill_i, pm_kill_r, pm_kill_n, pm_kill_j, pm_kill_l, pm_kill_d, pm_cats_nil, pm_cats_i, pm_cats_r, pm_cats_n, pm_cats_l, pm_cats_d, sz_1, sz_2, sl_1, sl_2, lc_0, lc_lt, lc_le, li_ne, va_rf, wr_m1, we_m1, pm_kill_w, Int32.reduceOfInt, Int64.reduceOfInt, Int32.reduceOfNat, Int32.reduceLT, Int32.reduceLE, Prod.mk.injEq, Nat.reduceEqDiff, reduceCtorEq, and_true, true_and, and_false, false_and, and_self, ite_true, ite_false, ↓reduceIte, not_true_eq_false, not_false_eq_true, pe_ri, pe_rz, pe_rc, Cr_g12_5 hP hA, Cr_g12_6 hP hA, Cr_p12_5 hP hA, Cr_p12_6 hP hA, eq_false k3, hc]
    · rw [if_neg k2] at e; cases e
  · rw [if_neg k1] at e; cases e
theorem z451_1 {fc : Int32} {pc : Int32} {A : wK → Nat} {h : pm_H} {D : Nat} {R : Outcome × pm_H} (hP : Cr_P fc pc) (hA : wok A (Cr_d fc pc) h.1) (hD : 1 ≤ D) {n : Nat} {a : Int32 × Int32 × Int32 × wS} {b : (wS)} (e : lp (f451_b1 fc pc) n a = some b) (hx : ex451_1 fc pc A h D R b) : go451_1 fc pc A h D R a := lp_run (fun a r => y451_b1 hP hA hD a r) n a b e hx
theorem x451 {fc : Int32} {pc : Int32} {A : wK → Nat} {h : pm_H} {D : Nat} {S : wS} {x0i : Int32} {x1i : Int32} {r : wS} (hP : Cr_P fc pc) (hA : wok A (Cr_d fc pc) h.1) (hD : 2 ≤ D) (e : f451 fc pc S x0i x1i = some r) : pm_call pm_prog D 451 [.ref (A (12, x0i, 0)), .ref (A (12, x1i, 0))] (wput A (Cr_d fc pc) S h) = some (Outcome.returned none, (wput A (Cr_d fc pc) r h)) := by
  obtain ⟨D, rfl⟩ : ∃ D', D = D' + 1 := ⟨D - 1, by omega⟩
  have hD : 1 ≤ D := by omega
  simp only [f451] at e
  have k1 : 0 ≤ x0i ∧ x0i < 2 := by
    by_cases q : 0 ≤ x0i ∧ x0i < 2
    · exact q
    · rw [if_neg q] at e; cases e
  rw [if_pos k1] at e
  have k2 : 0 ≤ x1i ∧ x1i < 2 := by
    by_cases q : 0 ≤ x1i ∧ x1i < 2
    · exact q
    · rw [if_neg q] at e; cases e
  rw [if_pos k2] at e
  rw [c451 (Cr_c12 hP hA k1), b451_0]
  obtain ⟨S2, k3, e⟩ := Option.bind_eq_some_iff.mp e
  try dsimp only at e
  try simp -implicitDefEqProofs (disch := first | assumption | exact Nat.le_of_ble_eq_true rfl | decide) only [b451_0, g451_2, b451_2, pe_aload0, pe_aload1, pe_getfield, pe_putfield, pe_sipush, pe_istore2, pe_goto_w, pe_iload2, pe_icmp_ge, pe_call4, pm_af_ret, pm_af_void, pm_af_thr, pe_iinc2, pe_goto, pe_return, pm_prog_1, pm_ob_some, Nat.reduceDiv, Nat.reduceMod, Nat.reduceMul, Nat.reduceAdd, Int.reduceToNat, pm_kill_i, pm_kill_r, pm_kill_n, pm_kill_j, pm_kill_l, pm_kill_d, pm_cats_nil, pm_cats_i, pm_cats_r, pm_cats_n, pm_cats_l, pm_cats_d, sz_1, sz_2, sl_1, sl_2, lc_0, lc_lt, lc_le, li_ne, va_rf, wr_m1, we_m1, pm_kill_w, Int32.reduceOfInt, Int64.reduceOfInt, Int32.reduceOfNat, Int32.reduceLT, Int32.reduceLE, Prod.mk.injEq, Nat.reduceEqDiff, reduceCtorEq, and_true, true_and, and_false, false_and, and_self, ite_true, ite_false, ↓reduceIte, not_true_eq_false, not_false_eq_true, pe_ri, pe_rz, pe_rc, Cr_g12_5 hP hA, Cr_g12_6 hP hA, Cr_p12_5 hP hA, Cr_p12_6 hP hA]
  refine z451_1 hP hA hD k3 ?_
  dsimp only [ex451_1]
  intro q0 q1 q2
  have e := Option.some.inj e; subst e
  simp -implicitDefEqProofs (disch := first | assumption | exact Nat.le_of_ble_eq_true rfl | decide) only [b451_0, g451_2, b451_2, pe_aload0, pe_aload1, pe_getfield, pe_putfield, pe_sipush, pe_istore2, pe_goto_w, pe_iload2, pe_icmp_ge, pe_call4, pm_af_ret, pm_af_void, pm_af_thr, pe_iinc2, pe_goto, pe_return, pm_prog_1, pm_ob_some, Nat.reduceDiv, Nat.reduceMod, Nat.reduceMul, Nat.reduceAdd, Int.reduceToNat, pm_kill_i, pm_kill_r, pm_kill_n, pm_kill_j, pm_kill_l, pm_kill_d, pm_cats_nil, pm_cats_i, pm_cats_r, pm_cats_n, pm_cats_l, pm_cats_d, sz_1, sz_2, sl_1, sl_2, lc_0, lc_lt, lc_le, li_ne, va_rf, wr_m1, we_m1, pm_kill_w, Int32.reduceOfInt, Int64.reduceOfInt, Int32.reduceOfNat, Int32.reduceLT, Int32.reduceLE, Prod.mk.injEq, Nat.reduceEqDiff, reduceCtorEq, and_true, true_and, and_false, false_and, and_self, ite_true, ite_false, ↓reduceIte, not_true_eq_false, not_false_eq_true, pe_ri, pe_rz, pe_rc, Cr_g12_5 hP hA, Cr_g12_6 hP hA, Cr_p12_5 hP hA, Cr_p12_6 hP hA]
/-- TimberHouse$FaultRips$Plan.drop(I)V -/
theorem c453 {d : Nat} {h : pm_H} {a : Nat} {x0 : Int32} (hc : pm_cls h a = some 7) : pm_call pm_prog (d + 1) 453 [.ref a, .int x0] h = pm_ev pm_prog (pm_call pm_prog d) 453 0 b453_0 [.ref a, .int x0, pm_junk, pm_junk] [] h := pm_cal (pm_rc1 hc rfl) rfl rfl rfl
theorem g453_1 {cl : pm_C} {ls st : List Value} {h : pm_H} : pm_go pm_prog cl 453 1 ls st h = pm_ev pm_prog cl 453 1 b453_1 ls st h := pm_go_eq pm_prog cl 453 1 ls st h
theorem g453_2 {cl : pm_C} {ls st : List Value} {h : pm_H} : pm_go pm_prog cl 453 2 ls st h = pm_ev pm_prog cl 453 2 b453_2 ls st h := pm_go_eq pm_prog cl 453 2 ls st h
theorem g453_3 {cl : pm_C} {ls st : List Value} {h : pm_H} : pm_go pm_prog cl 453 3 ls st h = pm_ev pm_prog cl 453 3 b453_3 ls st h := pm_go_eq pm_prog cl 453 3 ls st h
theorem g453_4 {cl : pm_C} {ls st : List Value} {h : pm_H} : pm_go pm_prog cl 453 4 ls st h = pm_ev pm_prog cl 453 4 b453_4 ls st h := pm_go_eq pm_prog cl 453 4 ls st h
noncomputable def f453_b1 (fc : Int32) (pc : Int32) (S : wS) : Int32 × Int32 × Int32 → Option ((Int32 × Int32 × Int32) ⊕ ((Int32 × Int32))) := fun (x0i, x1, x2) =>
  if 0 ≤ x0i ∧ x0i < 2 then
    if 0 ≤ x2 ∧ x2 < 240 then
      if (S.1 (17, x0i, 0) x2) = x1 then
        some (.inr (x0i, x2))
      else
        some (.inl (x0i, x1, (x2 + (-1))))
    else none
  else none
noncomputable def f453_b3 (fc : Int32) (pc : Int32) : Int32 × Int32 × wS → Option ((Int32 × Int32 × wS) ⊕ ((wS))) := fun (x0i, x3, S) =>
  if 0 ≤ x0i ∧ x0i < 2 then
    if x3 < (S.1 (12, x0i, 0) 5) then
      (f452 fc pc S x0i x0i (x3 + 1) x3).bind fun S3 =>
      some (.inl (x0i, (x3 + 1), S3))
    else
      some (.inr S)
  else none
/-- TimberHouse$FaultRips$Plan.drop(I)V -/
noncomputable def f453 (fc : Int32) (pc : Int32) (S : wS) (x0i : Int32) (x1 : Int32) : Option (wS) :=
  if 0 ≤ x0i ∧ x0i < 2 then
    (lp (f453_b1 fc pc S) FU (x0i, x1, ((S.1 (12, x0i, 0) 5) - 1))).bind fun (v1i, v2) =>
    if 0 ≤ v1i ∧ v1i < 2 then
      (lp (f453_b3 fc pc) FU (v1i, v2, (sz S (12, v1i, 0) 5 ((S.1 (12, v1i, 0) 5) - 1)))).bind fun S4 =>
      some S4
    else none
  else none
def go453_1 (fc : Int32) (pc : Int32) (A : wK → Nat) (h : pm_H) (D : Nat) (R : Outcome × pm_H) (S : wS) : Int32 × Int32 × Int32 → Prop := fun (x0i, x1, x2) => ∀ q3 : Value, pm_go pm_prog (pm_call pm_prog D) 453 1 [.ref (A (12, x0i, 0)), .int x1, .int x2, q3] [] (wput A (Cr_d fc pc) S h) = some R
def ex453_1 (fc : Int32) (pc : Int32) (A : wK → Nat) (h : pm_H) (D : Nat) (R : Outcome × pm_H) (S : wS) : (Int32 × Int32) → Prop := fun (x0i, x2) => ∀ q1 q3 : Value, pm_go pm_prog (pm_call pm_prog D) 453 2 [.ref (A (12, x0i, 0)), q1, .int x2, q3] [] (wput A (Cr_d fc pc) S h) = some R
theorem y453_b1 {fc : Int32} {pc : Int32} {A : wK → Nat} {h : pm_H} {D : Nat} {R : Outcome × pm_H} {S : wS} (hP : Cr_P fc pc) (hA : wok A (Cr_d fc pc) h.1) (hD : 1 ≤ D) (a : Int32 × Int32 × Int32) (r : (Int32 × Int32 × Int32) ⊕ ((Int32 × Int32))) (e : f453_b1 fc pc S a = some r) (hc : Sum.elim (go453_1 fc pc A h D R S) (ex453_1 fc pc A h D R S) r) : go453_1 fc pc A h D R S a := by
  obtain ⟨x0i, x1, x2⟩ := a
  dsimp only [go453_1]
  intro q3
  simp only [f453_b1] at e
  rw [g453_1, b453_1]
  by_cases k1 : 0 ≤ x0i ∧ x0i < 2
  · rw [if_pos k1] at e
    by_cases k2 : 0 ≤ x2 ∧ x2 < 240
    · rw [if_pos k2] at e
      by_cases k3 : (S.1 (17, x0i, 0) x2) = x1
      · rw [if_pos k3] at e
        have e := Option.some.inj e; subst e
        dsimp only [Sum.elim_inr, ex453_1] at hc
        simp -implicitDefEqProofs (disch := first | assumption | exact Nat.le_of_ble_eq_true rfl | decide) only [b453_0, g453_2, b453_2, g453_4, b453_4, pe_aload0, pe_getfield, pe_sipush, pe_isub, pe_istore2, pe_goto_w, pe_iload2, pe_baload, pe_iload1, pe_icmp_eq, pe_iinc2, pe_goto, pe_dup_i, pe_dup_r, pe_putfield, pe_istore3, pe_iload3, pe_icmp_ge, pe_iadd, pe_call4, pm_af_ret, pm_af_void, pm_af_thr, pe_iinc3, pe_return, pm_prog_1, pm_ob_some, Nat.reduceDiv, Nat.reduceMod, Nat.reduceMul, Nat.reduceAdd, Int.reduceToNat, pm_kill_i, pm_kill_r, pm_kill_n, pm_kill_j, pm_kill_l, pm_kill_d, pm_cats_nil, pm_cats_i, pm_cats_r, pm_cats_n, pm_cats_l, pm_cats_d, sz_1, sz_2, sl_1, sl_2, lc_0, lc_lt, lc_le, li_ne, va_rf, wr_m1, we_m1, pm_kill_w, Int32.reduceOfInt, Int64.reduceOfInt, Int32.reduceOfNat, Int32.reduceLT, Int32.reduceLE, Prod.mk.injEq, Nat.reduceEqDiff, reduceCtorEq, and_true, true_and, and_false, false_and, and_self, ite_true, ite_false, ↓reduceIte, not_true_eq_false, not_false_eq_true, pe_ri, pe_rz, pe_rc, Cr_g12_4 hP hA, Cr_g12_5 hP hA, Cr_p12_5 hP hA, Cr_r17 hP hA, eq_true k3, hc]
      · rw [if_neg k3] at e
        have e := Option.some.inj e; subst e
        dsimp only [Sum.elim_inl, go453_1] at hc
        simp -implicitDefEqProofs (disch := first | assumption | exact Nat.le_of_ble_eq_true rfl | decide) only [b453_0, g453_2, b453_2, g453_4, b453_4, pe_aload0, pe_getfield, pe_sipush, pe_isub, pe_istore2, pe_goto_w, pe_iload2, pe_baload, pe_iload1, pe_icmp_eq, pe_iinc2, pe_goto, pe_dup_i, pe_dup_r, pe_putfield, pe_istore3, pe_iload3, pe_icmp_ge, pe_iadd, pe_call4, pm_af_ret, pm_af_void, pm_af_thr, pe_iinc3, pe_return, pm_prog_1, pm_ob_some, Nat.reduceDiv, Nat.reduceMod, Nat.reduceMul, Nat.reduceAdd, Int.reduceToNat, pm_kill_i, pm_kill_r, pm_kill_n, pm_kill_j, pm_kill_l, pm_kill_d, pm_cats_nil, pm_cats_i, pm_cats_r, pm_cats_n, pm_cats_l, pm_cats_d, sz_1, sz_2, sl_1, sl_2, lc_0, lc_lt, lc_le, li_ne, va_rf, wr_m1, we_m1, pm_kill_w, Int32.reduceOfInt, Int64.reduceOfInt, Int32.reduceOfNat, Int32.reduceLT, Int32.reduceLE, Prod.mk.injEq, Nat.reduceEqDiff, reduceCtorEq, and_true, true_and, and_false, false_and, and_self, ite_true, ite_false, ↓reduceIte, not_true_eq_false, not_false_eq_true, pe_ri, pe_rz, pe_rc, Cr_g12_4 hP hA, Cr_g12_5 hP hA, Cr_p12_5 hP hA, Cr_r17 hP hA, eq_false k3, hc]
    · rw [if_neg k2] at e; cases e
  · rw [if_neg k1] at e; cases e
theorem z453_1 {fc : Int32} {pc : Int32} {A : wK → Nat} {h : pm_H} {D : Nat} {R : Outcome × pm_H} {S : wS} (hP : Cr_P fc pc) (hA : wok A (Cr_d fc pc) h.1) (hD : 1 ≤ D) {n : Nat} {a : Int32 × Int32 × Int32} {b : (Int32 × Int32)} (e : lp (f453_b1 fc pc S) n a = some b) (hx : ex453_1 fc pc A h D R S b) : go453_1 fc pc A h D R S a := lp_run (fun a r => y453_b1 hP hA hD a r) n a b e hx
def go453_3 (fc : Int32) (pc : Int32) (A : wK → Nat) (h : pm_H) (D : Nat) (R : Outcome × pm_H) : Int32 × Int32 × wS → Prop := fun (x0i, x3, S) => ∀ q1 q2 : Value, pm_go pm_prog (pm_call pm_prog D) 453 3 [.ref (A (12, x0i, 0)), q1, q2, .int x3] [] (wput A (Cr_d fc pc) S h) = some R
def ex453_3 (fc : Int32) (pc : Int32) (A : wK → Nat) (h : pm_H) (D : Nat) (R : Outcome × pm_H) : (wS) → Prop := fun S => ∀ q0 q1 q2 q3 : Value, pm_go pm_prog (pm_call pm_prog D) 453 4 [q0, q1, q2, q3] [] (wput A (Cr_d fc pc) S h) = some R
theorem y453_b3 {fc : Int32} {pc : Int32} {A : wK → Nat} {h : pm_H} {D : Nat} {R : Outcome × pm_H} (hP : Cr_P fc pc) (hA : wok A (Cr_d fc pc) h.1) (hD : 1 ≤ D) (a : Int32 × Int32 × wS) (r : (Int32 × Int32 × wS) ⊕ ((wS))) (e : f453_b3 fc pc a = some r) (hc : Sum.elim (go453_3 fc pc A h D R) (ex453_3 fc pc A h D R) r) : go453_3 fc pc A h D R a := by
  obtain ⟨x0i, x3, S⟩ := a
  dsimp only [go453_3]
  intro q1 q2
  simp only [f453_b3] at e
  rw [g453_3, b453_3]
  by_cases k1 : 0 ≤ x0i ∧ x0i < 2
  · rw [if_pos k1] at e
    by_cases k2 : x3 < (S.1 (12, x0i, 0) 5)
    · rw [if_pos k2] at e
      obtain ⟨S3, k3, e⟩ := Option.bind_eq_some_iff.mp e
      try dsimp only at e
      have z3 := x452 (D := D) (h := h) hP hA (by omega) k3
      have e := Option.some.inj e; subst e
      dsimp only [Sum.elim_inl, go453_3] at hc
      simp -implicitDefEqProofs (disch := first | assumption | exact Nat.le_of_ble_eq_true rfl | decide) only [b453_0, g453_2, b453_2, g453_4, b453_4, pe_aload0, pe_getfield, pe_sipush, pe_isub, pe_istore2, pe_goto_w, pe_iload2, pe_baload, pe_iload1, pe_icmp_eq, pe_iinc2, pe_goto, pe_dup_i, pe_dup_r, pe_putfield, pe_istore3, pe_iload3, pe_icmp_ge, pe_iadd, pe_call4, pm_af_ret, pm_af_void, pm_af_thr, pe_iinc3, pe_return, pm_prog_1, pm_ob_some, Nat.reduceDiv, Nat.reduceMod, Nat.reduceMul, Nat.reduceAdd, Int.reduceToNat, pm_kill_i, pm_kill_r, pm_kill_n, pm_kill_j, pm_kill_l, pm_kill_d, pm_cats_nil, pm_cats_i, pm_cats_r, pm_cats_n, pm_cats_l, pm_cats_d, sz_1, sz_2, sl_1, sl_2, lc_0, lc_lt, lc_le, li_ne, va_rf, wr_m1, we_m1, pm_kill_w, Int32.reduceOfInt, Int64.reduceOfInt, Int32.reduceOfNat, Int32.reduceLT, Int32.reduceLE, Prod.mk.injEq, Nat.reduceEqDiff, reduceCtorEq, and_true, true_and, and_false, false_and, and_self, ite_true, ite_false, ↓reduceIte, not_true_eq_false, not_false_eq_true, pe_ri, pe_rz, pe_rc, Cr_g12_4 hP hA, Cr_g12_5 hP hA, Cr_p12_5 hP hA, Cr_r17 hP hA, eq_true k2, z3, hc]
    · rw [if_neg k2] at e
      have e := Option.some.inj e; subst e
      dsimp only [Sum.elim_inr, ex453_3] at hc
      simp -implicitDefEqProofs (disch := first | assumption | exact Nat.le_of_ble_eq_true rfl | decide) only [b453_0, g453_2, b453_2, g453_4, b453_4, pe_aload0, pe_getfield, pe_sipush, pe_isub, pe_istore2, pe_goto_w, pe_iload2, pe_baload, pe_iload1, pe_icmp_eq, pe_iinc2, pe_goto, pe_dup_i, pe_dup_r, pe_putfield, pe_istore3, pe_iload3, pe_icmp_ge, pe_iadd, pe_call4, pm_af_ret, pm_af_void, pm_af_thr, pe_iinc3, pe_return, pm_prog_1, pm_ob_some, Nat.reduceDiv, Nat.reduceMod, Nat.reduceMul, Nat.reduceAdd, Int.reduceToNat, pm_kill_i, pm_kill_r, pm_kill_n, pm_kill_j, pm_kill_l, pm_kill_d, pm_cats_nil, pm_cats_i, pm_cats_r, pm_cats_n, pm_cats_l, pm_cats_d, sz_1, sz_2, sl_1, sl_2, lc_0, lc_lt, lc_le, li_ne, va_rf, wr_m1, we_m1, pm_kill_w, Int32.reduceOfInt, Int64.reduceOfInt, Int32.reduceOfNat, Int32.reduceLT, Int32.reduceLE, Prod.mk.injEq, Nat.reduceEqDiff, reduceCtorEq, and_true, true_and, and_false, false_and, and_self, ite_true, ite_false, ↓reduceIte, not_true_eq_false, not_false_eq_true, pe_ri, pe_rz, pe_rc, Cr_g12_4 hP hA, Cr_g12_5 hP hA, Cr_p12_5 hP hA, Cr_r17 hP hA, eq_false k2, hc]
  · rw [if_neg k1] at e; cases e
theorem z453_3 {fc : Int32} {pc : Int32} {A : wK → Nat} {h : pm_H} {D : Nat} {R : Outcome × pm_H} (hP : Cr_P fc pc) (hA : wok A (Cr_d fc pc) h.1) (hD : 1 ≤ D) {n : Nat} {a : Int32 × Int32 × wS} {b : (wS)} (e : lp (f453_b3 fc pc) n a = some b) (hx : ex453_3 fc pc A h D R b) : go453_3 fc pc A h D R a := lp_run (fun a r => y453_b3 hP hA hD a r) n a b e hx
theorem x453 {fc : Int32} {pc : Int32} {A : wK → Nat} {h : pm_H} {D : Nat} {S : wS} {x0i : Int32} {x1 : Int32} {r : wS} (hP : Cr_P fc pc) (hA : wok A (Cr_d fc pc) h.1) (hD : 2 ≤ D) (e : f453 fc pc S x0i x1 = some r) : pm_call pm_prog D 453 [.ref (A (12, x0i, 0)), .int x1] (wput A (Cr_d fc pc) S h) = some (Outcome.returned none, (wput A (Cr_d fc pc) r h)) := by
  obtain ⟨D, rfl⟩ : ∃ D', D = D' + 1 := ⟨D - 1, by omega⟩
  have hD : 1 ≤ D := by omega
  simp only [f453] at e
  have k1 : 0 ≤ x0i ∧ x0i < 2 := by
    by_cases q : 0 ≤ x0i ∧ x0i < 2
    · exact q
    · rw [if_neg q] at e; cases e
  rw [if_pos k1] at e
  rw [c453 (Cr_c12 hP hA k1), b453_0]
  obtain ⟨⟨v1i, v2⟩, k2, e⟩ := Option.bind_eq_some_iff.mp e
  try dsimp only at e
  try simp -implicitDefEqProofs (disch := first | assumption | exact Nat.le_of_ble_eq_true rfl | decide) only [b453_0, g453_2, b453_2, g453_4, b453_4, pe_aload0, pe_getfield, pe_sipush, pe_isub, pe_istore2, pe_goto_w, pe_iload2, pe_baload, pe_iload1, pe_icmp_eq, pe_iinc2, pe_goto, pe_dup_i, pe_dup_r, pe_putfield, pe_istore3, pe_iload3, pe_icmp_ge, pe_iadd, pe_call4, pm_af_ret, pm_af_void, pm_af_thr, pe_iinc3, pe_return, pm_prog_1, pm_ob_some, Nat.reduceDiv, Nat.reduceMod, Nat.reduceMul, Nat.reduceAdd, Int.reduceToNat, pm_kill_i, pm_kill_r, pm_kill_n, pm_kill_j, pm_kill_l, pm_kill_d, pm_cats_nil, pm_cats_i, pm_cats_r, pm_cats_n, pm_cats_l, pm_cats_d, sz_1, sz_2, sl_1, sl_2, lc_0, lc_lt, lc_le, li_ne, va_rf, wr_m1, we_m1, pm_kill_w, Int32.reduceOfInt, Int64.reduceOfInt, Int32.reduceOfNat, Int32.reduceLT, Int32.reduceLE, Prod.mk.injEq, Nat.reduceEqDiff, reduceCtorEq, and_true, true_and, and_false, false_and, and_self, ite_true, ite_false, ↓reduceIte, not_true_eq_false, not_false_eq_true, pe_ri, pe_rz, pe_rc, Cr_g12_4 hP hA, Cr_g12_5 hP hA, Cr_p12_5 hP hA, Cr_r17 hP hA]
  refine z453_1 hP hA hD k2 ?_ _
  dsimp only [ex453_1]
  intro q1 q3
  by_cases k3 : 0 ≤ v1i ∧ v1i < 2
  · rw [if_pos k3] at e
    obtain ⟨S4, k4, e⟩ := Option.bind_eq_some_iff.mp e
    try dsimp only at e
    try simp -implicitDefEqProofs (disch := first | assumption | exact Nat.le_of_ble_eq_true rfl | decide) only [b453_0, g453_2, b453_2, g453_4, b453_4, pe_aload0, pe_getfield, pe_sipush, pe_isub, pe_istore2, pe_goto_w, pe_iload2, pe_baload, pe_iload1, pe_icmp_eq, pe_iinc2, pe_goto, pe_dup_i, pe_dup_r, pe_putfield, pe_istore3, pe_iload3, pe_icmp_ge, pe_iadd, pe_call4, pm_af_ret, pm_af_void, pm_af_thr, pe_iinc3, pe_return, pm_prog_1, pm_ob_some, Nat.reduceDiv, Nat.reduceMod, Nat.reduceMul, Nat.reduceAdd, Int.reduceToNat, pm_kill_i, pm_kill_r, pm_kill_n, pm_kill_j, pm_kill_l, pm_kill_d, pm_cats_nil, pm_cats_i, pm_cats_r, pm_cats_n, pm_cats_l, pm_cats_d, sz_1, sz_2, sl_1, sl_2, lc_0, lc_lt, lc_le, li_ne, va_rf, wr_m1, we_m1, pm_kill_w, Int32.reduceOfInt, Int64.reduceOfInt, Int32.reduceOfNat, Int32.reduceLT, Int32.reduceLE, Prod.mk.injEq, Nat.reduceEqDiff, reduceCtorEq, and_true, true_and, and_false, false_and, and_self, ite_true, ite_false, ↓reduceIte, not_true_eq_false, not_false_eq_true, pe_ri, pe_rz, pe_rc, Cr_g12_4 hP hA, Cr_g12_5 hP hA, Cr_p12_5 hP hA, Cr_r17 hP hA]
    refine z453_3 hP hA hD k4 ?_ _ _
    dsimp only [ex453_3]
    intro q0 q1 q2 q3
    have e := Option.some.inj e; subst e
    simp -implicitDefEqProofs (disch := first | assumption | exact Nat.le_of_ble_eq_true rfl | decide) only [b453_0, g453_2, b453_2, g453_4, b453_4, pe_aload0, pe_getfield, pe_sipush, pe_isub, pe_istore2, pe_goto_w, pe_iload2, pe_baload, pe_iload1, pe_icmp_eq, pe_iinc2, pe_goto, pe_dup_i, pe_dup_r, pe_putfield, pe_istore3, pe_iload3, pe_icmp_ge, pe_iadd, pe_call4, pm_af_ret, pm_af_void, pm_af_thr, pe_iinc3, pe_return, pm_prog_1, pm_ob_some, Nat.reduceDiv, Nat.reduceMod, Nat.reduceMul, Nat.reduceAdd, Int.reduceToNat, pm_kill_i, pm_kill_r, pm_kill_n, pm_kill_j, pm_kill_l, pm_kill_d, pm_cats_nil, pm_cats_i, pm_cats_r, pm_cats_n, pm_cats_l, pm_cats_d, sz_1, sz_2, sl_1, sl_2, lc_0, lc_lt, lc_le, li_ne, va_rf, wr_m1, we_m1, pm_kill_w, Int32.reduceOfInt, Int64.reduceOfInt, Int32.reduceOfNat, Int32.reduceLT, Int32.reduceLE, Prod.mk.injEq, Nat.reduceEqDiff, reduceCtorEq, and_true, true_and, and_false, false_and, and_self, ite_true, ite_false, ↓reduceIte, not_true_eq_false, not_false_eq_true, pe_ri, pe_rz, pe_rc, Cr_g12_4 hP hA, Cr_g12_5 hP hA, Cr_p12_5 hP hA, Cr_r17 hP hA]
  · rw [if_neg k3] at e; cases e
/-- TimberHouse$FaultRips.cutBack()V -/
theorem c284 {d : Nat} {h : pm_H} {a : Nat} (hc : pm_cls h a = some 4) : pm_call pm_prog (d + 1) 284 [.ref a] h = pm_ev pm_prog (pm_call pm_prog d) 284 0 b284_0 [.ref a, pm_junk] [] h := pm_cal (pm_rc1 hc rfl) rfl rfl rfl
theorem g284_1 {cl : pm_C} {ls st : List Value} {h : pm_H} : pm_go pm_prog cl 284 1 ls st h = pm_ev pm_prog cl 284 1 b284_1 ls st h := pm_go_eq pm_prog cl 284 1 ls st h
theorem g284_2 {cl : pm_C} {ls st : List Value} {h : pm_H} : pm_go pm_prog cl 284 2 ls st h = pm_ev pm_prog cl 284 2 b284_2 ls st h := pm_go_eq pm_prog cl 284 2 ls st h
theorem g284_3 {cl : pm_C} {ls st : List Value} {h : pm_H} : pm_go pm_prog cl 284 3 ls st h = pm_ev pm_prog cl 284 3 b284_3 ls st h := pm_go_eq pm_prog cl 284 3 ls st h
theorem g284_4 {cl : pm_C} {ls st : List Value} {h : pm_H} : pm_go pm_prog cl 284 4 ls st h = pm_ev pm_prog cl 284 4 b284_4 ls st h := pm_go_eq pm_prog cl 284 4 ls st h
noncomputable def f284_b2 (fc : Int32) (pc : Int32) : Int32 × wS → Option ((Int32 × wS) ⊕ ((Int32 × wS))) := fun (x1, S) =>
  if 0 ≤ x1 ∧ x1 < 8 then
    if x1 < pc then
      if 0 ≤ x1 ∧ x1 < pc then
        if (S.1 (4, x1, 0) 5) = (-1) then
          some (.inr (x1, S))
        else
          (f450 fc pc S 0 x1).bind fun v2 =>
          if v2 ≤ (S.1 (4, x1, 0) 5) then
            some (.inr (x1, S))
          else
            (f453 fc pc S 0 x1).bind fun S3 =>
            some (.inl (x1, S3))
      else none
    else none
  else none
noncomputable def f284_b1 (fc : Int32) (pc : Int32) : Int32 × wS → Option ((Int32 × wS) ⊕ ((wS))) := fun (x1, S) =>
  if x1 < (S.1 (0, 0, 0) 6) then
    (lp (f284_b2 fc pc) FU (x1, S)).bind fun (v6, S4) =>
    some (.inl ((v6 + 1), S4))
  else
    some (.inr S)
/-- TimberHouse$FaultRips.cutBack()V -/
noncomputable def f284 (fc : Int32) (pc : Int32) (S : wS) : Option (wS) :=
  (f451 fc pc S 0 1).bind fun S1 =>
  (lp (f284_b1 fc pc) FU (0, S1)).bind fun S7 =>
  (f278 fc pc S7 0).bind fun v9 =>
  some (sl S7 (12, 0, 0) 6 v9)
def go284_2 (fc : Int32) (pc : Int32) (A : wK → Nat) (h : pm_H) (D : Nat) (R : Outcome × pm_H) : Int32 × wS → Prop := fun (x1, S) => pm_go pm_prog (pm_call pm_prog D) 284 2 [.ref (A (0, 0, 0)), .int x1] [] (wput A (Cr_d fc pc) S h) = some R
def ex284_2 (fc : Int32) (pc : Int32) (A : wK → Nat) (h : pm_H) (D : Nat) (R : Outcome × pm_H) : (Int32 × wS) → Prop := fun (x1, S) => pm_go pm_prog (pm_call pm_prog D) 284 3 [.ref (A (0, 0, 0)), .int x1] [] (wput A (Cr_d fc pc) S h) = some R
theorem y284_b2 {fc : Int32} {pc : Int32} {A : wK → Nat} {h : pm_H} {D : Nat} {R : Outcome × pm_H} (hP : Cr_P fc pc) (hA : wok A (Cr_d fc pc) h.1) (hD : 2 ≤ D) (a : Int32 × wS) (r : (Int32 × wS) ⊕ ((Int32 × wS))) (e : f284_b2 fc pc a = some r) (hc : Sum.elim (go284_2 fc pc A h D R) (ex284_2 fc pc A h D R) r) : go284_2 fc pc A h D R a := by
  obtain ⟨x1, S⟩ := a
  dsimp only [go284_2]
  simp only [f284_b2] at e
  rw [g284_2, b284_2]
  by_cases k1 : 0 ≤ x1 ∧ x1 < 8
  · rw [if_pos k1] at e
    by_cases k2 : x1 < pc
    · rw [if_pos k2] at e
      by_cases k3 : 0 ≤ x1 ∧ x1 < pc
      · rw [if_pos k3] at e
        by_cases k4 : (S.1 (4, x1, 0) 5) = (-1)
        · rw [if_pos k4] at e
          have e := Option.some.inj e; subst e
          dsimp only [Sum.elim_inr, ex284_2] at hc
          simp -implicitDefEqProofs (disch := first | assumption | exact Nat.le_of_ble_eq_true rfl | decide) only [b284_0, g284_3, b284_3, g284_4, b284_4, pe_aload0, pe_getfield, pe_call2, pm_af_ret, pm_af_void, pm_af_thr, pe_sipush, pe_istore1, pe_goto_w, pe_iload1, pe_icmp_ge, pe_aaload, pe_icmp_eq, pe_icmp_le, pe_goto, pe_iinc1, pe_putfield, pe_return, pm_prog_1, pm_ob_some, Nat.reduceDiv, Nat.reduceMod, Nat.reduceMul, Nat.reduceAdd, Int.reduceToNat, pm_kill_i, pm_kill_r, pm_kill_n, pm_kill_j, pm_kill_l, pm_kill_d, pm_cats_nil, pm_cats_i, pm_cats_r, pm_cats_n, pm_cats_l, pm_cats_d, sz_1, sz_2, sl_1, sl_2, lc_0, lc_lt, lc_le, li_ne, va_rf, wr_m1, we_m1, pm_kill_w, Int32.reduceOfInt, Int64.reduceOfInt, Int32.reduceOfNat, Int32.reduceLT, Int32.reduceLE, Prod.mk.injEq, Nat.reduceEqDiff, reduceCtorEq, and_true, true_and, and_false, false_and, and_self, ite_true, ite_false, ↓reduceIte, not_true_eq_false, not_false_eq_true, pe_ri, pe_rz, pe_rc, Cr_g0_12 hP hA, Cr_g0_13 hP hA, Cr_g0_5 hP hA, Cr_g0_6 hP hA, Cr_g4_5 hP hA, Cr_p12_6 hP hA, Cr_r3 hP hA, eq_true k4, hc]
        · rw [if_neg k4] at e
          obtain ⟨v2, k5, e⟩ := Option.bind_eq_some_iff.mp e
          try dsimp only at e
          have z5 := x450 (D := D) (h := h) hP hA (by omega) k5
          by_cases k6 : v2 ≤ (S.1 (4, x1, 0) 5)
          · rw [if_pos k6] at e
            have e := Option.some.inj e; subst e
            dsimp only [Sum.elim_inr, ex284_2] at hc
            simp -implicitDefEqProofs (disch := first | assumption | exact Nat.le_of_ble_eq_true rfl | decide) only [b284_0, g284_3, b284_3, g284_4, b284_4, pe_aload0, pe_getfield, pe_call2, pm_af_ret, pm_af_void, pm_af_thr, pe_sipush, pe_istore1, pe_goto_w, pe_iload1, pe_icmp_ge, pe_aaload, pe_icmp_eq, pe_icmp_le, pe_goto, pe_iinc1, pe_putfield, pe_return, pm_prog_1, pm_ob_some, Nat.reduceDiv, Nat.reduceMod, Nat.reduceMul, Nat.reduceAdd, Int.reduceToNat, pm_kill_i, pm_kill_r, pm_kill_n, pm_kill_j, pm_kill_l, pm_kill_d, pm_cats_nil, pm_cats_i, pm_cats_r, pm_cats_n, pm_cats_l, pm_cats_d, sz_1, sz_2, sl_1, sl_2, lc_0, lc_lt, lc_le, li_ne, va_rf, wr_m1, we_m1, pm_kill_w, Int32.reduceOfInt, Int64.reduceOfInt, Int32.reduceOfNat, Int32.reduceLT, Int32.reduceLE, Prod.mk.injEq, Nat.reduceEqDiff, reduceCtorEq, and_true, true_and, and_false, false_and, and_self, ite_true, ite_false, ↓reduceIte, not_true_eq_false, not_false_eq_true, pe_ri, pe_rz, pe_rc, Cr_g0_12 hP hA, Cr_g0_13 hP hA, Cr_g0_5 hP hA, Cr_g0_6 hP hA, Cr_g4_5 hP hA, Cr_p12_6 hP hA, Cr_r3 hP hA, eq_false k4, z5, eq_true k6, hc]
          · rw [if_neg k6] at e
            obtain ⟨S3, k7, e⟩ := Option.bind_eq_some_iff.mp e
            try dsimp only at e
            have z7 := x453 (D := D) (h := h) hP hA (by omega) k7
            have e := Option.some.inj e; subst e
            dsimp only [Sum.elim_inl, go284_2] at hc
            simp -implicitDefEqProofs (disch := first | assumption | exact Nat.le_of_ble_eq_true rfl | decide) only [b284_0, g284_3, b284_3, g284_4, b284_4, pe_aload0, pe_getfield, pe_call2, pm_af_ret, pm_af_void, pm_af_thr, pe_sipush, pe_istore1, pe_goto_w, pe_iload1, pe_icmp_ge, pe_aaload, pe_icmp_eq, pe_icmp_le, pe_goto, pe_iinc1, pe_putfield, pe_return, pm_prog_1, pm_ob_some, Nat.reduceDiv, Nat.reduceMod, Nat.reduceMul, Nat.reduceAdd, Int.reduceToNat, pm_kill_i, pm_kill_r, pm_kill_n, pm_kill_j, pm_kill_l, pm_kill_d, pm_cats_nil, pm_cats_i, pm_cats_r, pm_cats_n, pm_cats_l, pm_cats_d, sz_1, sz_2, sl_1, sl_2, lc_0, lc_lt, lc_le, li_ne, va_rf, wr_m1, we_m1, pm_kill_w, Int32.reduceOfInt, Int64.reduceOfInt, Int32.reduceOfNat, Int32.reduceLT, Int32.reduceLE, Prod.mk.injEq, Nat.reduceEqDiff, reduceCtorEq, and_true, true_and, and_false, false_and, and_self, ite_true, ite_false, ↓reduceIte, not_true_eq_false, not_false_eq_true, pe_ri, pe_rz, pe_rc, Cr_g0_12 hP hA, Cr_g0_13 hP hA, Cr_g0_5 hP hA, Cr_g0_6 hP hA, Cr_g4_5 hP hA, Cr_p12_6 hP hA, Cr_r3 hP hA, eq_false k4, z5, eq_false k6, z7, hc]
      · rw [if_neg k3] at e; cases e
    · rw [if_neg k2] at e; cases e
  · rw [if_neg k1] at e; cases e
theorem z284_2 {fc : Int32} {pc : Int32} {A : wK → Nat} {h : pm_H} {D : Nat} {R : Outcome × pm_H} (hP : Cr_P fc pc) (hA : wok A (Cr_d fc pc) h.1) (hD : 2 ≤ D) {n : Nat} {a : Int32 × wS} {b : (Int32 × wS)} (e : lp (f284_b2 fc pc) n a = some b) (hx : ex284_2 fc pc A h D R b) : go284_2 fc pc A h D R a := lp_run (fun a r => y284_b2 hP hA hD a r) n a b e hx
def go284_1 (fc : Int32) (pc : Int32) (A : wK → Nat) (h : pm_H) (D : Nat) (R : Outcome × pm_H) : Int32 × wS → Prop := fun (x1, S) => pm_go pm_prog (pm_call pm_prog D) 284 1 [.ref (A (0, 0, 0)), .int x1] [] (wput A (Cr_d fc pc) S h) = some R
def ex284_1 (fc : Int32) (pc : Int32) (A : wK → Nat) (h : pm_H) (D : Nat) (R : Outcome × pm_H) : (wS) → Prop := fun S => ∀ q1 : Value, pm_go pm_prog (pm_call pm_prog D) 284 4 [.ref (A (0, 0, 0)), q1] [] (wput A (Cr_d fc pc) S h) = some R
theorem y284_b1 {fc : Int32} {pc : Int32} {A : wK → Nat} {h : pm_H} {D : Nat} {R : Outcome × pm_H} (hP : Cr_P fc pc) (hA : wok A (Cr_d fc pc) h.1) (hD : 2 ≤ D) (a : Int32 × wS) (r : (Int32 × wS) ⊕ ((wS))) (e : f284_b1 fc pc a = some r) (hc : Sum.elim (go284_1 fc pc A h D R) (ex284_1 fc pc A h D R) r) : go284_1 fc pc A h D R a := by
  obtain ⟨x1, S⟩ := a
  dsimp only [go284_1]
  simp only [f284_b1] at e
  rw [g284_1, b284_1]
  by_cases k1 : x1 < (S.1 (0, 0, 0) 6)
  · rw [if_pos k1] at e
    obtain ⟨⟨v6, S4⟩, k2, e⟩ := Option.bind_eq_some_iff.mp e
    try dsimp only at e
    try simp -implicitDefEqProofs (disch := first | assumption | exact Nat.le_of_ble_eq_true rfl | decide) only [b284_0, g284_3, b284_3, g284_4, b284_4, pe_aload0, pe_getfield, pe_call2, pm_af_ret, pm_af_void, pm_af_thr, pe_sipush, pe_istore1, pe_goto_w, pe_iload1, pe_icmp_ge, pe_aaload, pe_icmp_eq, pe_icmp_le, pe_goto, pe_iinc1, pe_putfield, pe_return, pm_prog_1, pm_ob_some, Nat.reduceDiv, Nat.reduceMod, Nat.reduceMul, Nat.reduceAdd, Int.reduceToNat, pm_kill_i, pm_kill_r, pm_kill_n, pm_kill_j, pm_kill_l, pm_kill_d, pm_cats_nil, pm_cats_i, pm_cats_r, pm_cats_n, pm_cats_l, pm_cats_d, sz_1, sz_2, sl_1, sl_2, lc_0, lc_lt, lc_le, li_ne, va_rf, wr_m1, we_m1, pm_kill_w, Int32.reduceOfInt, Int64.reduceOfInt, Int32.reduceOfNat, Int32.reduceLT, Int32.reduceLE, Prod.mk.injEq, Nat.reduceEqDiff, reduceCtorEq, and_true, true_and, and_false, false_and, and_self, ite_true, ite_false, ↓reduceIte, not_true_eq_false, not_false_eq_true, pe_ri, pe_rz, pe_rc, Cr_g0_12 hP hA, Cr_g0_13 hP hA, Cr_g0_5 hP hA, Cr_g0_6 hP hA, Cr_g4_5 hP hA, Cr_p12_6 hP hA, Cr_r3 hP hA, eq_true k1]
    refine z284_2 hP hA hD k2 ?_
    dsimp only [ex284_2]
    have e := Option.some.inj e; subst e
    dsimp only [Sum.elim_inl, go284_1] at hc
    simp -implicitDefEqProofs (disch := first | assumption | exact Nat.le_of_ble_eq_true rfl | decide) only [b284_0, g284_3, b284_3, g284_4, b284_4, pe_aload0, pe_getfield, pe_call2, pm_af_ret, pm_af_void, pm_af_thr, pe_sipush, pe_istore1, pe_goto_w, pe_iload1, pe_icmp_ge, pe_aaload, pe_icmp_eq, pe_icmp_le, pe_goto, pe_iinc1, pe_putfield, pe_return, pm_prog_1, pm_ob_some, Nat.reduceDiv, Nat.reduceMod, Nat.reduceMul, Nat.reduceAdd, Int.reduceToNat, pm_kill_i, pm_kill_r, pm_kill_n, pm_kill_j, pm_kill_l, pm_kill_d, pm_cats_nil, pm_cats_i, pm_cats_r, pm_cats_n, pm_cats_l, pm_cats_d, sz_1, sz_2, sl_1, sl_2, lc_0, lc_lt, lc_le, li_ne, va_rf, wr_m1, we_m1, pm_kill_w, Int32.reduceOfInt, Int64.reduceOfInt, Int32.reduceOfNat, Int32.reduceLT, Int32.reduceLE, Prod.mk.injEq, Nat.reduceEqDiff, reduceCtorEq, and_true, true_and, and_false, false_and, and_self, ite_true, ite_false, ↓reduceIte, not_true_eq_false, not_false_eq_true, pe_ri, pe_rz, pe_rc, Cr_g0_12 hP hA, Cr_g0_13 hP hA, Cr_g0_5 hP hA, Cr_g0_6 hP hA, Cr_g4_5 hP hA, Cr_p12_6 hP hA, Cr_r3 hP hA, eq_true k1, hc]
  · rw [if_neg k1] at e
    have e := Option.some.inj e; subst e
    dsimp only [Sum.elim_inr, ex284_1] at hc
    simp -implicitDefEqProofs (disch := first | assumption | exact Nat.le_of_ble_eq_true rfl | decide) only [b284_0, g284_3, b284_3, g284_4, b284_4, pe_aload0, pe_getfield, pe_call2, pm_af_ret, pm_af_void, pm_af_thr, pe_sipush, pe_istore1, pe_goto_w, pe_iload1, pe_icmp_ge, pe_aaload, pe_icmp_eq, pe_icmp_le, pe_goto, pe_iinc1, pe_putfield, pe_return, pm_prog_1, pm_ob_some, Nat.reduceDiv, Nat.reduceMod, Nat.reduceMul, Nat.reduceAdd, Int.reduceToNat, pm_kill_i, pm_kill_r, pm_kill_n, pm_kill_j, pm_kill_l, pm_kill_d, pm_cats_nil, pm_cats_i, pm_cats_r, pm_cats_n, pm_cats_l, pm_cats_d, sz_1, sz_2, sl_1, sl_2, lc_0, lc_lt, lc_le, li_ne, va_rf, wr_m1, we_m1, pm_kill_w, Int32.reduceOfInt, Int64.reduceOfInt, Int32.reduceOfNat, Int32.reduceLT, Int32.reduceLE, Prod.mk.injEq, Nat.reduceEqDiff, reduceCtorEq, and_true, true_and, and_false, false_and, and_self, ite_true, ite_false, ↓reduceIte, not_true_eq_false, not_false_eq_true, pe_ri, pe_rz, pe_rc, Cr_g0_12 hP hA, Cr_g0_13 hP hA, Cr_g0_5 hP hA, Cr_g0_6 hP hA, Cr_g4_5 hP hA, Cr_p12_6 hP hA, Cr_r3 hP hA, eq_false k1, hc]
theorem z284_1 {fc : Int32} {pc : Int32} {A : wK → Nat} {h : pm_H} {D : Nat} {R : Outcome × pm_H} (hP : Cr_P fc pc) (hA : wok A (Cr_d fc pc) h.1) (hD : 2 ≤ D) {n : Nat} {a : Int32 × wS} {b : (wS)} (e : lp (f284_b1 fc pc) n a = some b) (hx : ex284_1 fc pc A h D R b) : go284_1 fc pc A h D R a := lp_run (fun a r => y284_b1 hP hA hD a r) n a b e hx
theorem x284 {fc : Int32} {pc : Int32} {A : wK → Nat} {h : pm_H} {D : Nat} {S : wS} {r : wS} (hP : Cr_P fc pc) (hA : wok A (Cr_d fc pc) h.1) (hD : 3 ≤ D) (e : f284 fc pc S = some r) : pm_call pm_prog D 284 [.ref (A (0, 0, 0))] (wput A (Cr_d fc pc) S h) = some (Outcome.returned none, (wput A (Cr_d fc pc) r h)) := by
  obtain ⟨D, rfl⟩ : ∃ D', D = D' + 1 := ⟨D - 1, by omega⟩
  have hD : 2 ≤ D := by omega
  simp only [f284] at e
  rw [c284 (Cr_c0 hP hA), b284_0]
  obtain ⟨S1, k1, e⟩ := Option.bind_eq_some_iff.mp e
  try dsimp only at e
  have z1 := x451 (D := D) (h := h) hP hA (by omega) k1
  obtain ⟨S7, k2, e⟩ := Option.bind_eq_some_iff.mp e
  try dsimp only at e
  try simp -implicitDefEqProofs (disch := first | assumption | exact Nat.le_of_ble_eq_true rfl | decide) only [b284_0, g284_3, b284_3, g284_4, b284_4, pe_aload0, pe_getfield, pe_call2, pm_af_ret, pm_af_void, pm_af_thr, pe_sipush, pe_istore1, pe_goto_w, pe_iload1, pe_icmp_ge, pe_aaload, pe_icmp_eq, pe_icmp_le, pe_goto, pe_iinc1, pe_putfield, pe_return, pm_prog_1, pm_ob_some, Nat.reduceDiv, Nat.reduceMod, Nat.reduceMul, Nat.reduceAdd, Int.reduceToNat, pm_kill_i, pm_kill_r, pm_kill_n, pm_kill_j, pm_kill_l, pm_kill_d, pm_cats_nil, pm_cats_i, pm_cats_r, pm_cats_n, pm_cats_l, pm_cats_d, sz_1, sz_2, sl_1, sl_2, lc_0, lc_lt, lc_le, li_ne, va_rf, wr_m1, we_m1, pm_kill_w, Int32.reduceOfInt, Int64.reduceOfInt, Int32.reduceOfNat, Int32.reduceLT, Int32.reduceLE, Prod.mk.injEq, Nat.reduceEqDiff, reduceCtorEq, and_true, true_and, and_false, false_and, and_self, ite_true, ite_false, ↓reduceIte, not_true_eq_false, not_false_eq_true, pe_ri, pe_rz, pe_rc, Cr_g0_12 hP hA, Cr_g0_13 hP hA, Cr_g0_5 hP hA, Cr_g0_6 hP hA, Cr_g4_5 hP hA, Cr_p12_6 hP hA, Cr_r3 hP hA, z1]
  refine z284_1 hP hA hD k2 ?_
  dsimp only [ex284_1]
  intro q1
  obtain ⟨v9, k3, e⟩ := Option.bind_eq_some_iff.mp e
  try dsimp only at e
  have z3 := x278 (D := D) (h := h) hP hA (by omega) k3
  have e := Option.some.inj e; subst e
  simp -implicitDefEqProofs (disch := first | assumption | exact Nat.le_of_ble_eq_true rfl | decide) only [b284_0, g284_3, b284_3, g284_4, b284_4, pe_aload0, pe_getfield, pe_call2, pm_af_ret, pm_af_void, pm_af_thr, pe_sipush, pe_istore1, pe_goto_w, pe_iload1, pe_icmp_ge, pe_aaload, pe_icmp_eq, pe_icmp_le, pe_goto, pe_iinc1, pe_putfield, pe_return, pm_prog_1, pm_ob_some, Nat.reduceDiv, Nat.reduceMod, Nat.reduceMul, Nat.reduceAdd, Int.reduceToNat, pm_kill_i, pm_kill_r, pm_kill_n, pm_kill_j, pm_kill_l, pm_kill_d, pm_cats_nil, pm_cats_i, pm_cats_r, pm_cats_n, pm_cats_l, pm_cats_d, sz_1, sz_2, sl_1, sl_2, lc_0, lc_lt, lc_le, li_ne, va_rf, wr_m1, we_m1, pm_kill_w, Int32.reduceOfInt, Int64.reduceOfInt, Int32.reduceOfNat, Int32.reduceLT, Int32.reduceLE, Prod.mk.injEq, Nat.reduceEqDiff, reduceCtorEq, and_true, true_and, and_false, false_and, and_self, ite_true, ite_false, ↓reduceIte, not_true_eq_false, not_false_eq_true, pe_ri, pe_rz, pe_rc, Cr_g0_12 hP hA, Cr_g0_13 hP hA, Cr_g0_5 hP hA, Cr_g0_6 hP hA, Cr_g4_5 hP hA, Cr_p12_6 hP hA, Cr_r3 hP hA, z1, z3]
/-- TimberHouse$FaultRips.isTight(LTimberHouse$FaultRips$Plan;)Z -/
theorem c282 {d : Nat} {h : pm_H} {a : Nat} {r0 : Nat} (hc : pm_cls h a = some 4) : pm_call pm_prog (d + 1) 282 [.ref a, .ref r0] h = pm_ev pm_prog (pm_call pm_prog d) 282 0 b282_0 [.ref a, .ref r0, pm_junk, pm_junk] [] h := pm_cal (pm_rc1 hc rfl) rfl rfl rfl
theorem g282_1 {cl : pm_C} {ls st : List Value} {h : pm_H} : pm_go pm_prog cl 282 1 ls st h = pm_ev pm_prog cl 282 1 b282_1 ls st h := pm_go_eq pm_prog cl 282 1 ls st h
theorem g282_2 {cl : pm_C} {ls st : List Value} {h : pm_H} : pm_go pm_prog cl 282 2 ls st h = pm_ev pm_prog cl 282 2 b282_2 ls st h := pm_go_eq pm_prog cl 282 2 ls st h
theorem g282_3 {cl : pm_C} {ls st : List Value} {h : pm_H} : pm_go pm_prog cl 282 3 ls st h = pm_ev pm_prog cl 282 3 b282_3 ls st h := pm_go_eq pm_prog cl 282 3 ls st h
theorem g282_4 {cl : pm_C} {ls st : List Value} {h : pm_H} : pm_go pm_prog cl 282 4 ls st h = pm_ev pm_prog cl 282 4 b282_4 ls st h := pm_go_eq pm_prog cl 282 4 ls st h
theorem g282_5 {cl : pm_C} {ls st : List Value} {h : pm_H} : pm_go pm_prog cl 282 5 ls st h = pm_ev pm_prog cl 282 5 b282_5 ls st h := pm_go_eq pm_prog cl 282 5 ls st h
noncomputable def f282_b1 (fc : Int32) (pc : Int32) (S : wS) : Int32 × Int32 × Int32 → Option ((Int32 × Int32 × Int32) ⊕ ((Int32))) := fun (x1i, x2, x3) =>
  if 0 ≤ x1i ∧ x1i < 2 then
    if x3 < (S.1 (0, 0, 0) 6) then
      if 0 ≤ x3 ∧ x3 < 8 then
        if x3 < pc then
          if 0 ≤ x3 ∧ x3 < pc then
            if (S.2 (4, x3, 0) 6) = 0 then
              some (.inl (x1i, (x2 &&& 1), (x3 + 1)))
            else
              (f450 fc pc S x1i x3).bind fun v1 =>
              if v1 = (S.1 (4, x3, 0) 5) then
                some (.inl (x1i, (x2 &&& 1), (x3 + 1)))
              else
                some (.inl (x1i, (x2 &&& 0), (x3 + 1)))
          else none
        else none
      else none
    else
      some (.inr x2)
  else none
/-- TimberHouse$FaultRips.isTight(LTimberHouse$FaultRips$Plan;)Z -/
noncomputable def f282 (fc : Int32) (pc : Int32) (S : wS) (x1i : Int32) : Option (Int32) :=
  if 0 ≤ x1i ∧ x1i < 2 then
    (lp (f282_b1 fc pc S) FU (x1i, 1, 0)).bind fun v2 =>
    if v2 = 0 ∨ v2 = 1 then
      some v2
    else none
  else none
def go282_1 (fc : Int32) (pc : Int32) (A : wK → Nat) (h : pm_H) (D : Nat) (R : Outcome × pm_H) (S : wS) : Int32 × Int32 × Int32 → Prop := fun (x1i, x2, x3) => pm_go pm_prog (pm_call pm_prog D) 282 1 [.ref (A (0, 0, 0)), .ref (A (12, x1i, 0)), .int x2, .int x3] [] (wput A (Cr_d fc pc) S h) = some R
def ex282_1 (fc : Int32) (pc : Int32) (A : wK → Nat) (h : pm_H) (D : Nat) (R : Outcome × pm_H) (S : wS) : (Int32) → Prop := fun x2 => ∀ q0 q1 q3 : Value, pm_go pm_prog (pm_call pm_prog D) 282 5 [q0, q1, .int x2, q3] [] (wput A (Cr_d fc pc) S h) = some R
theorem y282_b1 {fc : Int32} {pc : Int32} {A : wK → Nat} {h : pm_H} {D : Nat} {R : Outcome × pm_H} {S : wS} (hP : Cr_P fc pc) (hA : wok A (Cr_d fc pc) h.1) (hD : 1 ≤ D) (a : Int32 × Int32 × Int32) (r : (Int32 × Int32 × Int32) ⊕ ((Int32))) (e : f282_b1 fc pc S a = some r) (hc : Sum.elim (go282_1 fc pc A h D R S) (ex282_1 fc pc A h D R S) r) : go282_1 fc pc A h D R S a := by
  obtain ⟨x1i, x2, x3⟩ := a
  dsimp only [go282_1]
  simp only [f282_b1] at e
  rw [g282_1, b282_1]
  by_cases k1 : 0 ≤ x1i ∧ x1i < 2
  · rw [if_pos k1] at e
    by_cases k2 : x3 < (S.1 (0, 0, 0) 6)
    · rw [if_pos k2] at e
      by_cases k3 : 0 ≤ x3 ∧ x3 < 8
      · rw [if_pos k3] at e
        by_cases k4 : x3 < pc
        · rw [if_pos k4] at e
          by_cases k5 : 0 ≤ x3 ∧ x3 < pc
          · rw [if_pos k5] at e
            by_cases k6 : (S.2 (4, x3, 0) 6) = 0
            · rw [if_pos k6] at e
              have e := Option.some.inj e; subst e
              dsimp only [Sum.elim_inl, go282_1] at hc
              simp -implicitDefEqProofs (disch := first | assumption | exact Nat.le_of_ble_eq_true rfl | decide) only [b282_0, g282_2, b282_2, g282_3, b282_3, g282_4, b282_4, g282_5, b282_5, pe_sipush, pe_istore2, pe_istore3, pe_goto_w, pe_iload3, pe_aload0, pe_getfield, pe_icmp_ge, pe_iload2, pe_aaload, pe_bipush, pe_lcmp, pe_if_eq, pe_aload1, pe_call2, pm_af_ret, pm_af_void, pm_af_thr, pe_icmp_ne, pe_goto, pe_iand, pe_iinc3, pm_prog_1, pm_ob_some, Nat.reduceDiv, Nat.reduceMod, Nat.reduceMul, Nat.reduceAdd, Int.reduceToNat, pm_kill_i, pm_kill_r, pm_kill_n, pm_kill_j, pm_kill_l, pm_kill_d, pm_cats_nil, pm_cats_i, pm_cats_r, pm_cats_n, pm_cats_l, pm_cats_d, sz_1, sz_2, sl_1, sl_2, lc_0, lc_lt, lc_le, li_ne, va_rf, wr_m1, we_m1, pm_kill_w, Int32.reduceOfInt, Int64.reduceOfInt, Int32.reduceOfNat, Int32.reduceLT, Int32.reduceLE, Prod.mk.injEq, Nat.reduceEqDiff, reduceCtorEq, and_true, true_and, and_false, false_and, and_self, ite_true, ite_false, ↓reduceIte, not_true_eq_false, not_false_eq_true, pe_ri, pe_rz, pe_rc, Cr_g0_5 hP hA, Cr_g0_6 hP hA, Cr_g4_5 hP hA, Cr_g4_6 hP hA, Cr_r3 hP hA, eq_true k2, eq_true k6, hc]
            · rw [if_neg k6] at e
              obtain ⟨v1, k7, e⟩ := Option.bind_eq_some_iff.mp e
              try dsimp only at e
              have z7 := x450 (D := D) (h := h) hP hA (by omega) k7
              by_cases k8 : v1 = (S.1 (4, x3, 0) 5)
              · rw [if_pos k8] at e
                have e := Option.some.inj e; subst e
                dsimp only [Sum.elim_inl, go282_1] at hc
                simp -implicitDefEqProofs (disch := first | assumption | exact Nat.le_of_ble_eq_true rfl | decide) only [b282_0, g282_2, b282_2, g282_3, b282_3, g282_4, b282_4, g282_5, b282_5, pe_sipush, pe_istore2, pe_istore3, pe_goto_w, pe_iload3, pe_aload0, pe_getfield, pe_icmp_ge, pe_iload2, pe_aaload, pe_bipush, pe_lcmp, pe_if_eq, pe_aload1, pe_call2, pm_af_ret, pm_af_void, pm_af_thr, pe_icmp_ne, pe_goto, pe_iand, pe_iinc3, pm_prog_1, pm_ob_some, Nat.reduceDiv, Nat.reduceMod, Nat.reduceMul, Nat.reduceAdd, Int.reduceToNat, pm_kill_i, pm_kill_r, pm_kill_n, pm_kill_j, pm_kill_l, pm_kill_d, pm_cats_nil, pm_cats_i, pm_cats_r, pm_cats_n, pm_cats_l, pm_cats_d, sz_1, sz_2, sl_1, sl_2, lc_0, lc_lt, lc_le, li_ne, va_rf, wr_m1, we_m1, pm_kill_w, Int32.reduceOfInt, Int64.reduceOfInt, Int32.reduceOfNat, Int32.reduceLT, Int32.reduceLE, Prod.mk.injEq, Nat.reduceEqDiff, reduceCtorEq, and_true, true_and, and_false, false_and, and_self, ite_true, ite_false, ↓reduceIte, not_true_eq_false, not_false_eq_true, pe_ri, pe_rz, pe_rc, Cr_g0_5 hP hA, Cr_g0_6 hP hA, Cr_g4_5 hP hA, Cr_g4_6 hP hA, Cr_r3 hP hA, eq_true k2, eq_false k6, z7, eq_true k8, hc]
              · rw [if_neg k8] at e
                have e := Option.some.inj e; subst e
                dsimp only [Sum.elim_inl, go282_1] at hc
                simp -implicitDefEqProofs (disch := first | assumption | exact Nat.le_of_ble_eq_true rfl | decide) only [b282_0, g282_2, b282_2, g282_3, b282_3, g282_4, b282_4, g282_5, b282_5, pe_sipush, pe_istore2, pe_istore3, pe_goto_w, pe_iload3, pe_aload0, pe_getfield, pe_icmp_ge, pe_iload2, pe_aaload, pe_bipush, pe_lcmp, pe_if_eq, pe_aload1, pe_call2, pm_af_ret, pm_af_void, pm_af_thr, pe_icmp_ne, pe_goto, pe_iand, pe_iinc3, pm_prog_1, pm_ob_some, Nat.reduceDiv, Nat.reduceMod, Nat.reduceMul, Nat.reduceAdd, Int.reduceToNat, pm_kill_i, pm_kill_r, pm_kill_n, pm_kill_j, pm_kill_l, pm_kill_d, pm_cats_nil, pm_cats_i, pm_cats_r, pm_cats_n, pm_cats_l, pm_cats_d, sz_1, sz_2, sl_1, sl_2, lc_0, lc_lt, lc_le, li_ne, va_rf, wr_m1, we_m1, pm_kill_w, Int32.reduceOfInt, Int64.reduceOfInt, Int32.reduceOfNat, Int32.reduceLT, Int32.reduceLE, Prod.mk.injEq, Nat.reduceEqDiff, reduceCtorEq, and_true, true_and, and_false, false_and, and_self, ite_true, ite_false, ↓reduceIte, not_true_eq_false, not_false_eq_true, pe_ri, pe_rz, pe_rc, Cr_g0_5 hP hA, Cr_g0_6 hP hA, Cr_g4_5 hP hA, Cr_g4_6 hP hA, Cr_r3 hP hA, eq_true k2, eq_false k6, z7, eq_false k8, hc]
          · rw [if_neg k5] at e; cases e
        · rw [if_neg k4] at e; cases e
      · rw [if_neg k3] at e; cases e
    · rw [if_neg k2] at e
      have e := Option.some.inj e; subst e
      dsimp only [Sum.elim_inr, ex282_1] at hc
      simp -implicitDefEqProofs (disch := first | assumption | exact Nat.le_of_ble_eq_true rfl | decide) only [b282_0, g282_2, b282_2, g282_3, b282_3, g282_4, b282_4, g282_5, b282_5, pe_sipush, pe_istore2, pe_istore3, pe_goto_w, pe_iload3, pe_aload0, pe_getfield, pe_icmp_ge, pe_iload2, pe_aaload, pe_bipush, pe_lcmp, pe_if_eq, pe_aload1, pe_call2, pm_af_ret, pm_af_void, pm_af_thr, pe_icmp_ne, pe_goto, pe_iand, pe_iinc3, pm_prog_1, pm_ob_some, Nat.reduceDiv, Nat.reduceMod, Nat.reduceMul, Nat.reduceAdd, Int.reduceToNat, pm_kill_i, pm_kill_r, pm_kill_n, pm_kill_j, pm_kill_l, pm_kill_d, pm_cats_nil, pm_cats_i, pm_cats_r, pm_cats_n, pm_cats_l, pm_cats_d, sz_1, sz_2, sl_1, sl_2, lc_0, lc_lt, lc_le, li_ne, va_rf, wr_m1, we_m1, pm_kill_w, Int32.reduceOfInt, Int64.reduceOfInt, Int32.reduceOfNat, Int32.reduceLT, Int32.reduceLE, Prod.mk.injEq, Nat.reduceEqDiff, reduceCtorEq, and_true, true_and, and_false, false_and, and_self, ite_true, ite_false, ↓reduceIte, not_true_eq_false, not_false_eq_true, pe_ri, pe_rz, pe_rc, Cr_g0_5 hP hA, Cr_g0_6 hP hA, Cr_g4_5 hP hA, Cr_g4_6 hP hA, Cr_r3 hP hA, eq_false k2, hc]
  · rw [if_neg k1] at e; cases e
theorem z282_1 {fc : Int32} {pc : Int32} {A : wK → Nat} {h : pm_H} {D : Nat} {R : Outcome × pm_H} {S : wS} (hP : Cr_P fc pc) (hA : wok A (Cr_d fc pc) h.1) (hD : 1 ≤ D) {n : Nat} {a : Int32 × Int32 × Int32} {b : (Int32)} (e : lp (f282_b1 fc pc S) n a = some b) (hx : ex282_1 fc pc A h D R S b) : go282_1 fc pc A h D R S a := lp_run (fun a r => y282_b1 hP hA hD a r) n a b e hx
theorem x282 {fc : Int32} {pc : Int32} {A : wK → Nat} {h : pm_H} {D : Nat} {S : wS} {x1i : Int32} {r : Int32} (hP : Cr_P fc pc) (hA : wok A (Cr_d fc pc) h.1) (hD : 2 ≤ D) (e : f282 fc pc S x1i = some r) : pm_call pm_prog D 282 [.ref (A (0, 0, 0)), .ref (A (12, x1i, 0))] (wput A (Cr_d fc pc) S h) = some (Outcome.returned (some (.int r)), (wput A (Cr_d fc pc) S h)) := by
  obtain ⟨D, rfl⟩ : ∃ D', D = D' + 1 := ⟨D - 1, by omega⟩
  have hD : 1 ≤ D := by omega
  simp only [f282] at e
  have k1 : 0 ≤ x1i ∧ x1i < 2 := by
    by_cases q : 0 ≤ x1i ∧ x1i < 2
    · exact q
    · rw [if_neg q] at e; cases e
  rw [if_pos k1] at e
  rw [c282 (Cr_c0 hP hA), b282_0]
  obtain ⟨v2, k2, e⟩ := Option.bind_eq_some_iff.mp e
  try dsimp only at e
  try simp -implicitDefEqProofs (disch := first | assumption | exact Nat.le_of_ble_eq_true rfl | decide) only [b282_0, g282_2, b282_2, g282_3, b282_3, g282_4, b282_4, g282_5, b282_5, pe_sipush, pe_istore2, pe_istore3, pe_goto_w, pe_iload3, pe_aload0, pe_getfield, pe_icmp_ge, pe_iload2, pe_aaload, pe_bipush, pe_lcmp, pe_if_eq, pe_aload1, pe_call2, pm_af_ret, pm_af_void, pm_af_thr, pe_icmp_ne, pe_goto, pe_iand, pe_iinc3, pm_prog_1, pm_ob_some, Nat.reduceDiv, Nat.reduceMod, Nat.reduceMul, Nat.reduceAdd, Int.reduceToNat, pm_kill_i, pm_kill_r, pm_kill_n, pm_kill_j, pm_kill_l, pm_kill_d, pm_cats_nil, pm_cats_i, pm_cats_r, pm_cats_n, pm_cats_l, pm_cats_d, sz_1, sz_2, sl_1, sl_2, lc_0, lc_lt, lc_le, li_ne, va_rf, wr_m1, we_m1, pm_kill_w, Int32.reduceOfInt, Int64.reduceOfInt, Int32.reduceOfNat, Int32.reduceLT, Int32.reduceLE, Prod.mk.injEq, Nat.reduceEqDiff, reduceCtorEq, and_true, true_and, and_false, false_and, and_self, ite_true, ite_false, ↓reduceIte, not_true_eq_false, not_false_eq_true, pe_ri, pe_rz, pe_rc, Cr_g0_5 hP hA, Cr_g0_6 hP hA, Cr_g4_5 hP hA, Cr_g4_6 hP hA, Cr_r3 hP hA]
  refine z282_1 hP hA hD k2 ?_
  dsimp only [ex282_1]
  intro q0 q1 q3
  by_cases k3 : v2 = 0 ∨ v2 = 1
  · rw [if_pos k3] at e
    have e := Option.some.inj e; subst e
    simp -implicitDefEqProofs (disch := first | assumption | exact Nat.le_of_ble_eq_true rfl | decide) only [b282_0, g282_2, b282_2, g282_3, b282_3, g282_4, b282_4, g282_5, b282_5, pe_sipush, pe_istore2, pe_istore3, pe_goto_w, pe_iload3, pe_aload0, pe_getfield, pe_icmp_ge, pe_iload2, pe_aaload, pe_bipush, pe_lcmp, pe_if_eq, pe_aload1, pe_call2, pm_af_ret, pm_af_void, pm_af_thr, pe_icmp_ne, pe_goto, pe_iand, pe_iinc3, pm_prog_1, pm_ob_some, Nat.reduceDiv, Nat.reduceMod, Nat.reduceMul, Nat.reduceAdd, Int.reduceToNat, pm_kill_i, pm_kill_r, pm_kill_n, pm_kill_j, pm_kill_l, pm_kill_d, pm_cats_nil, pm_cats_i, pm_cats_r, pm_cats_n, pm_cats_l, pm_cats_d, sz_1, sz_2, sl_1, sl_2, lc_0, lc_lt, lc_le, li_ne, va_rf, wr_m1, we_m1, pm_kill_w, Int32.reduceOfInt, Int64.reduceOfInt, Int32.reduceOfNat, Int32.reduceLT, Int32.reduceLE, Prod.mk.injEq, Nat.reduceEqDiff, reduceCtorEq, and_true, true_and, and_false, false_and, and_self, ite_true, ite_false, ↓reduceIte, not_true_eq_false, not_false_eq_true, pe_ri, pe_rz, pe_rc, Cr_g0_5 hP hA, Cr_g0_6 hP hA, Cr_g4_5 hP hA, Cr_g4_6 hP hA, Cr_r3 hP hA]
  · rw [if_neg k3] at e; cases e
/-- TimberHouse$FaultRips.prices(I)I -/
theorem c279 {d : Nat} {h : pm_H} {a : Nat} {x0 : Int32} (hc : pm_cls h a = some 4) : pm_call pm_prog (d + 1) 279 [.ref a, .int x0] h = pm_ev pm_prog (pm_call pm_prog d) 279 0 b279_0 [.ref a, .int x0, pm_junk, pm_junk, pm_junk, pm_junk, pm_junk, pm_junk] [] h := pm_cal (pm_rc1 hc rfl) rfl rfl rfl
theorem g279_1 {cl : pm_C} {ls st : List Value} {h : pm_H} : pm_go pm_prog cl 279 1 ls st h = pm_ev pm_prog cl 279 1 b279_1 ls st h := pm_go_eq pm_prog cl 279 1 ls st h
theorem g279_2 {cl : pm_C} {ls st : List Value} {h : pm_H} : pm_go pm_prog cl 279 2 ls st h = pm_ev pm_prog cl 279 2 b279_2 ls st h := pm_go_eq pm_prog cl 279 2 ls st h
theorem g279_3 {cl : pm_C} {ls st : List Value} {h : pm_H} : pm_go pm_prog cl 279 3 ls st h = pm_ev pm_prog cl 279 3 b279_3 ls st h := pm_go_eq pm_prog cl 279 3 ls st h
theorem g279_4 {cl : pm_C} {ls st : List Value} {h : pm_H} : pm_go pm_prog cl 279 4 ls st h = pm_ev pm_prog cl 279 4 b279_4 ls st h := pm_go_eq pm_prog cl 279 4 ls st h
theorem g279_5 {cl : pm_C} {ls st : List Value} {h : pm_H} : pm_go pm_prog cl 279 5 ls st h = pm_ev pm_prog cl 279 5 b279_5 ls st h := pm_go_eq pm_prog cl 279 5 ls st h
theorem g279_6 {cl : pm_C} {ls st : List Value} {h : pm_H} : pm_go pm_prog cl 279 6 ls st h = pm_ev pm_prog cl 279 6 b279_6 ls st h := pm_go_eq pm_prog cl 279 6 ls st h
theorem g279_7 {cl : pm_C} {ls st : List Value} {h : pm_H} : pm_go pm_prog cl 279 7 ls st h = pm_ev pm_prog cl 279 7 b279_7 ls st h := pm_go_eq pm_prog cl 279 7 ls st h
theorem g279_8 {cl : pm_C} {ls st : List Value} {h : pm_H} : pm_go pm_prog cl 279 8 ls st h = pm_ev pm_prog cl 279 8 b279_8 ls st h := pm_go_eq pm_prog cl 279 8 ls st h
theorem g279_9 {cl : pm_C} {ls st : List Value} {h : pm_H} : pm_go pm_prog cl 279 9 ls st h = pm_ev pm_prog cl 279 9 b279_9 ls st h := pm_go_eq pm_prog cl 279 9 ls st h
theorem g279_10 {cl : pm_C} {ls st : List Value} {h : pm_H} : pm_go pm_prog cl 279 10 ls st h = pm_ev pm_prog cl 279 10 b279_10 ls st h := pm_go_eq pm_prog cl 279 10 ls st h
theorem t279 {cl : pm_C} {j : Nat} {ls : List Value} {c : Nat} {h : pm_H} : pm_thr pm_prog cl 279 j ls c h = some (.threw c, h) := rfl
noncomputable def f279_9_1 (fc : Int32) (pc : Int32) (S : wS) (x1 : Int32) (x2 : Int32) (x3 : Int32) (x4 : Int32) : Option ((Int32 × Int32 × Int32 × wS) ⊕ ((Int32 × wS))) :=
  if x4 = 0 then
    some (.inl (x1, x2, x3, S))
  else
    if x2 = 0 then
      (f284 fc pc S).bind fun S8 =>
      some (.inr (x3, S8))
    else
      some (.inr (x3, S))
noncomputable def f279_8_1 (fc : Int32) (pc : Int32) (S : wS) (x1 : Int32) (x2 : Int32) (x3 : Int32) (y0 : Int32) : Option ((Int32 × Int32 × Int32 × wS) ⊕ ((Int32 × wS))) :=
  if y0 = 0 then
    (f283 fc pc S 1 x3).bind fun S7 =>
    f279_9_1 fc pc S7 x1 x2 x3 y0
  else
    f279_9_1 fc pc S x1 x2 x3 y0
noncomputable def f279_5_1 (fc : Int32) (pc : Int32) (S : wS) (x1 : Int32) (x2 : Int32) (x3 : Int32) (x7 : Int32) : Option ((Int32 × Int32 × Int32 × wS) ⊕ ((Int32 × wS))) :=
  if x3 = x1 then
    f279_8_1 fc pc S x1 x2 x3 1
  else
    if x7 = 0 then
      f279_8_1 fc pc S x1 x2 x3 0
    else
      (f282 fc pc S 1).bind fun v9 =>
      if v9 = 0 then
        f279_8_1 fc pc S x1 x2 x3 0
      else
        f279_8_1 fc pc S x1 x2 x3 1
noncomputable def f279_4_1 (fc : Int32) (pc : Int32) (S : wS) (x1 : Int32) (x3 : Int32) (x7 : Int32) : Option ((Int32 × Int32 × Int32 × wS) ⊕ ((Int32 × wS))) :=
  (f451 fc pc S 0 1).bind fun S10 =>
  f279_5_1 fc pc S10 x1 1 x3 x7
noncomputable def f279_3_1 (fc : Int32) (pc : Int32) (S : wS) (x1 : Int32) (x2 : Int32) (x3 : Int32) (y1 : Int64) : Option ((Int32 × Int32 × Int32 × wS) ⊕ ((Int32 × wS))) :=
  (f281 fc pc (sl S (0, 0, 0) 17 y1) 1).bind fun v6 =>
  if v6 = 0 then
    f279_5_1 fc pc (sl S (0, 0, 0) 17 y1) x1 x2 x3 v6
  else
    if x2 = 0 then
      f279_4_1 fc pc (sl S (0, 0, 0) 17 y1) x1 x3 v6
    else
      if (S.2 (12, 1, 0) 6) ≤ (S.2 (12, 0, 0) 6) then
        f279_5_1 fc pc (sl S (0, 0, 0) 17 y1) x1 x2 x3 v6
      else
        f279_4_1 fc pc (sl S (0, 0, 0) 17 y1) x1 x3 v6
noncomputable def f279_b1 (fc : Int32) (pc : Int32) : Int32 × Int32 × Int32 × wS → Option ((Int32 × Int32 × Int32 × wS) ⊕ ((Int32 × wS))) := fun (x1, x2, x3, S) =>
  (f277 fc pc S 1).bind fun (v3, S4) =>
  (f280 fc pc S4).bind fun v5 =>
  if (x3 + 1) = 1 then
    f279_3_1 fc pc S4 x1 x2 (x3 + 1) (v3 + v5)
  else
    (f3842 (S4.2 (0, 0, 0) 17) (v3 + v5)).bind fun v11 =>
    f279_3_1 fc pc S4 x1 x2 (x3 + 1) v11
/-- TimberHouse$FaultRips.prices(I)I -/
noncomputable def f279 (fc : Int32) (pc : Int32) (S : wS) (x1 : Int32) : Option ((Nat × wS) ⊕ (Int32 × wS)) :=
  (f260 (Int32.toInt64 x1) 1 6).bind fun v1 =>
  (f262 v1).bind fun r => match r with
  | .inl c15 =>
    some (.inl (c15, S))
  | .inr _ =>
  (f275 fc pc S).bind fun S2 =>
  (lp (f279_b1 fc pc) FU (x1, 0, 0, S2)).bind fun (v14, S12) =>
  some (.inr (v14, (sz S12 (0, 0, 0) 16 1)))
def go279_1 (fc : Int32) (pc : Int32) (A : wK → Nat) (h : pm_H) (D : Nat) (R : Outcome × pm_H) : Int32 × Int32 × Int32 × wS → Prop := fun (x1, x2, x3, S) => ∀ q4 q5 q6 q7 : Value, pm_go pm_prog (pm_call pm_prog D) 279 1 [.ref (A (0, 0, 0)), .int x1, .int x2, .int x3, q4, q5, q6, q7] [] (wput A (Cr_d fc pc) S h) = some R
def ex279_1 (fc : Int32) (pc : Int32) (A : wK → Nat) (h : pm_H) (D : Nat) (R : Outcome × pm_H) : (Int32 × wS) → Prop := fun (x3, S) => ∀ q1 q2 q4 q5 q6 q7 : Value, pm_go pm_prog (pm_call pm_prog D) 279 10 [.ref (A (0, 0, 0)), q1, q2, .int x3, q4, q5, q6, q7] [] (wput A (Cr_d fc pc) S h) = some R
theorem y279_9_1 {fc : Int32} {pc : Int32} {A : wK → Nat} {h : pm_H} {D : Nat} {R : Outcome × pm_H} {S : wS} {x1 : Int32} {x2 : Int32} {x3 : Int32} {x4 : Int32} {r : (Int32 × Int32 × Int32 × wS) ⊕ ((Int32 × wS))} (hP : Cr_P fc pc) (hA : wok A (Cr_d fc pc) h.1) (hD : 56 ≤ D) (e : f279_9_1 fc pc S x1 x2 x3 x4 = some r) (hc : Sum.elim (go279_1 fc pc A h D R) (ex279_1 fc pc A h D R) r) : ∀ q5 q6 q7 : Value, pm_go pm_prog (pm_call pm_prog D) 279 9 [.ref (A (0, 0, 0)), .int x1, .int x2, .int x3, .int x4, q5, q6, q7] [] (wput A (Cr_d fc pc) S h) = some R := by
  intro q5 q6 q7
  simp only [f279_9_1] at e
  rw [g279_9, b279_9]
  by_cases k1 : x4 = 0
  · rw [if_pos k1] at e
    have e := Option.some.inj e; subst e
    dsimp only [Sum.elim_inl, go279_1] at hc
    simp -implicitDefEqProofs (disch := first | assumption | exact Nat.le_of_ble_eq_true rfl | decide) only [b279_0, g279_2, b279_2, g279_6, b279_6, g279_7, b279_7, g279_10, b279_10, pe_iload1, pe_i2l, pe_bipush, pe_call3, pm_af_ret, pm_af_void, pm_af_thr, pe_call1, pe_aload0, pe_sipush, pe_istore2, pe_istore3, pe_goto_w, pe_iinc3, pe_getfield, pe_call2, pe_ladd, pe_lstore5, pe_iload3, pe_icmp_ne, pe_lload5, pe_goto, pe_putfield, pe_istore7, pe_iload7, pe_if_eq, pe_iload2, pe_lcmp, pe_if_le, pe_icmp_eq, pe_istore4, pe_iload4, pe_if_ne, pm_prog_1, pm_ob_some, Nat.reduceDiv, Nat.reduceMod, Nat.reduceMul, Nat.reduceAdd, Int.reduceToNat, pm_kill_i, pm_kill_r, pm_kill_n, pm_kill_j, pm_kill_l, pm_kill_d, pm_cats_nil, pm_cats_i, pm_cats_r, pm_cats_n, pm_cats_l, pm_cats_d, sz_1, sz_2, sl_1, sl_2, lc_0, lc_lt, lc_le, li_ne, va_rf, wr_m1, we_m1, pm_kill_w, Int32.reduceOfInt, Int64.reduceOfInt, Int32.reduceOfNat, Int32.reduceLT, Int32.reduceLE, Prod.mk.injEq, Nat.reduceEqDiff, reduceCtorEq, and_true, true_and, and_false, false_and, and_self, ite_true, ite_false, ↓reduceIte, not_true_eq_false, not_false_eq_true, pe_ri, pe_rz, pe_rc, p_throw, t279, w_junk hA, Cr_g0_12 hP hA, Cr_g0_13 hP hA, Cr_g0_17 hP hA, Cr_g12_6 hP hA, Cr_p0_16 hP hA, Cr_p0_17 hP hA, eq_true k1, hc]
  · rw [if_neg k1] at e
    by_cases k2 : x2 = 0
    · rw [if_pos k2] at e
      obtain ⟨S8, k3, e⟩ := Option.bind_eq_some_iff.mp e
      try dsimp only at e
      have z3 := x284 (D := D) (h := h) hP hA (by omega) k3
      have e := Option.some.inj e; subst e
      dsimp only [Sum.elim_inr, ex279_1] at hc
      simp -implicitDefEqProofs (disch := first | assumption | exact Nat.le_of_ble_eq_true rfl | decide) only [b279_0, g279_2, b279_2, g279_6, b279_6, g279_7, b279_7, g279_10, b279_10, pe_iload1, pe_i2l, pe_bipush, pe_call3, pm_af_ret, pm_af_void, pm_af_thr, pe_call1, pe_aload0, pe_sipush, pe_istore2, pe_istore3, pe_goto_w, pe_iinc3, pe_getfield, pe_call2, pe_ladd, pe_lstore5, pe_iload3, pe_icmp_ne, pe_lload5, pe_goto, pe_putfield, pe_istore7, pe_iload7, pe_if_eq, pe_iload2, pe_lcmp, pe_if_le, pe_icmp_eq, pe_istore4, pe_iload4, pe_if_ne, pm_prog_1, pm_ob_some, Nat.reduceDiv, Nat.reduceMod, Nat.reduceMul, Nat.reduceAdd, Int.reduceToNat, pm_kill_i, pm_kill_r, pm_kill_n, pm_kill_j, pm_kill_l, pm_kill_d, pm_cats_nil, pm_cats_i, pm_cats_r, pm_cats_n, pm_cats_l, pm_cats_d, sz_1, sz_2, sl_1, sl_2, lc_0, lc_lt, lc_le, li_ne, va_rf, wr_m1, we_m1, pm_kill_w, Int32.reduceOfInt, Int64.reduceOfInt, Int32.reduceOfNat, Int32.reduceLT, Int32.reduceLE, Prod.mk.injEq, Nat.reduceEqDiff, reduceCtorEq, and_true, true_and, and_false, false_and, and_self, ite_true, ite_false, ↓reduceIte, not_true_eq_false, not_false_eq_true, pe_ri, pe_rz, pe_rc, p_throw, t279, w_junk hA, Cr_g0_12 hP hA, Cr_g0_13 hP hA, Cr_g0_17 hP hA, Cr_g12_6 hP hA, Cr_p0_16 hP hA, Cr_p0_17 hP hA, eq_false k1, eq_true k2, z3, hc]
    · rw [if_neg k2] at e
      have e := Option.some.inj e; subst e
      dsimp only [Sum.elim_inr, ex279_1] at hc
      simp -implicitDefEqProofs (disch := first | assumption | exact Nat.le_of_ble_eq_true rfl | decide) only [b279_0, g279_2, b279_2, g279_6, b279_6, g279_7, b279_7, g279_10, b279_10, pe_iload1, pe_i2l, pe_bipush, pe_call3, pm_af_ret, pm_af_void, pm_af_thr, pe_call1, pe_aload0, pe_sipush, pe_istore2, pe_istore3, pe_goto_w, pe_iinc3, pe_getfield, pe_call2, pe_ladd, pe_lstore5, pe_iload3, pe_icmp_ne, pe_lload5, pe_goto, pe_putfield, pe_istore7, pe_iload7, pe_if_eq, pe_iload2, pe_lcmp, pe_if_le, pe_icmp_eq, pe_istore4, pe_iload4, pe_if_ne, pm_prog_1, pm_ob_some, Nat.reduceDiv, Nat.reduceMod, Nat.reduceMul, Nat.reduceAdd, Int.reduceToNat, pm_kill_i, pm_kill_r, pm_kill_n, pm_kill_j, pm_kill_l, pm_kill_d, pm_cats_nil, pm_cats_i, pm_cats_r, pm_cats_n, pm_cats_l, pm_cats_d, sz_1, sz_2, sl_1, sl_2, lc_0, lc_lt, lc_le, li_ne, va_rf, wr_m1, we_m1, pm_kill_w, Int32.reduceOfInt, Int64.reduceOfInt, Int32.reduceOfNat, Int32.reduceLT, Int32.reduceLE, Prod.mk.injEq, Nat.reduceEqDiff, reduceCtorEq, and_true, true_and, and_false, false_and, and_self, ite_true, ite_false, ↓reduceIte, not_true_eq_false, not_false_eq_true, pe_ri, pe_rz, pe_rc, p_throw, t279, w_junk hA, Cr_g0_12 hP hA, Cr_g0_13 hP hA, Cr_g0_17 hP hA, Cr_g12_6 hP hA, Cr_p0_16 hP hA, Cr_p0_17 hP hA, eq_false k1, eq_false k2, hc]
theorem y279_8_1 {fc : Int32} {pc : Int32} {A : wK → Nat} {h : pm_H} {D : Nat} {R : Outcome × pm_H} {S : wS} {x1 : Int32} {x2 : Int32} {x3 : Int32} {y0 : Int32} {r : (Int32 × Int32 × Int32 × wS) ⊕ ((Int32 × wS))} (hP : Cr_P fc pc) (hA : wok A (Cr_d fc pc) h.1) (hD : 56 ≤ D) (e : f279_8_1 fc pc S x1 x2 x3 y0 = some r) (hc : Sum.elim (go279_1 fc pc A h D R) (ex279_1 fc pc A h D R) r) : ∀ q4 q5 q6 q7 : Value, pm_go pm_prog (pm_call pm_prog D) 279 8 [.ref (A (0, 0, 0)), .int x1, .int x2, .int x3, q4, q5, q6, q7] [.int y0] (wput A (Cr_d fc pc) S h) = some R := by
  intro q4 q5 q6 q7
  simp only [f279_8_1] at e
  rw [g279_8, b279_8]
  by_cases k1 : y0 = 0
  · rw [if_pos k1] at e
    obtain ⟨S7, k2, e⟩ := Option.bind_eq_some_iff.mp e
    try dsimp only at e
    have z2 := x283 (D := D) (h := h) hP hA (by omega) k2
    have k3 := y279_9_1 (h := h) hP hA hD e hc
    simp -implicitDefEqProofs (disch := first | assumption | exact Nat.le_of_ble_eq_true rfl | decide) only [b279_0, g279_2, b279_2, g279_6, b279_6, g279_7, b279_7, g279_10, b279_10, pe_iload1, pe_i2l, pe_bipush, pe_call3, pm_af_ret, pm_af_void, pm_af_thr, pe_call1, pe_aload0, pe_sipush, pe_istore2, pe_istore3, pe_goto_w, pe_iinc3, pe_getfield, pe_call2, pe_ladd, pe_lstore5, pe_iload3, pe_icmp_ne, pe_lload5, pe_goto, pe_putfield, pe_istore7, pe_iload7, pe_if_eq, pe_iload2, pe_lcmp, pe_if_le, pe_icmp_eq, pe_istore4, pe_iload4, pe_if_ne, pm_prog_1, pm_ob_some, Nat.reduceDiv, Nat.reduceMod, Nat.reduceMul, Nat.reduceAdd, Int.reduceToNat, pm_kill_i, pm_kill_r, pm_kill_n, pm_kill_j, pm_kill_l, pm_kill_d, pm_cats_nil, pm_cats_i, pm_cats_r, pm_cats_n, pm_cats_l, pm_cats_d, sz_1, sz_2, sl_1, sl_2, lc_0, lc_lt, lc_le, li_ne, va_rf, wr_m1, we_m1, pm_kill_w, Int32.reduceOfInt, Int64.reduceOfInt, Int32.reduceOfNat, Int32.reduceLT, Int32.reduceLE, Prod.mk.injEq, Nat.reduceEqDiff, reduceCtorEq, and_true, true_and, and_false, false_and, and_self, ite_true, ite_false, ↓reduceIte, not_true_eq_false, not_false_eq_true, pe_ri, pe_rz, pe_rc, p_throw, t279, w_junk hA, Cr_g0_12 hP hA, Cr_g0_13 hP hA, Cr_g0_17 hP hA, Cr_g12_6 hP hA, Cr_p0_16 hP hA, Cr_p0_17 hP hA, eq_true k1, z2, k3]
  · rw [if_neg k1] at e
    have k4 := y279_9_1 (h := h) hP hA hD e hc
    simp -implicitDefEqProofs (disch := first | assumption | exact Nat.le_of_ble_eq_true rfl | decide) only [b279_0, g279_2, b279_2, g279_6, b279_6, g279_7, b279_7, g279_10, b279_10, pe_iload1, pe_i2l, pe_bipush, pe_call3, pm_af_ret, pm_af_void, pm_af_thr, pe_call1, pe_aload0, pe_sipush, pe_istore2, pe_istore3, pe_goto_w, pe_iinc3, pe_getfield, pe_call2, pe_ladd, pe_lstore5, pe_iload3, pe_icmp_ne, pe_lload5, pe_goto, pe_putfield, pe_istore7, pe_iload7, pe_if_eq, pe_iload2, pe_lcmp, pe_if_le, pe_icmp_eq, pe_istore4, pe_iload4, pe_if_ne, pm_prog_1, pm_ob_some, Nat.reduceDiv, Nat.reduceMod, Nat.reduceMul, Nat.reduceAdd, Int.reduceToNat, pm_kill_i, pm_kill_r, pm_kill_n, pm_kill_j, pm_kill_l, pm_kill_d, pm_cats_nil, pm_cats_i, pm_cats_r, pm_cats_n, pm_cats_l, pm_cats_d, sz_1, sz_2, sl_1, sl_2, lc_0, lc_lt, lc_le, li_ne, va_rf, wr_m1, we_m1, pm_kill_w, Int32.reduceOfInt, Int64.reduceOfInt, Int32.reduceOfNat, Int32.reduceLT, Int32.reduceLE, Prod.mk.injEq, Nat.reduceEqDiff, reduceCtorEq, and_true, true_and, and_false, false_and, and_self, ite_true, ite_false, ↓reduceIte, not_true_eq_false, not_false_eq_true, pe_ri, pe_rz, pe_rc, p_throw, t279, w_junk hA, Cr_g0_12 hP hA, Cr_g0_13 hP hA, Cr_g0_17 hP hA, Cr_g12_6 hP hA, Cr_p0_16 hP hA, Cr_p0_17 hP hA, eq_false k1, k4]
theorem y279_5_1 {fc : Int32} {pc : Int32} {A : wK → Nat} {h : pm_H} {D : Nat} {R : Outcome × pm_H} {S : wS} {x1 : Int32} {x2 : Int32} {x3 : Int32} {x7 : Int32} {r : (Int32 × Int32 × Int32 × wS) ⊕ ((Int32 × wS))} (hP : Cr_P fc pc) (hA : wok A (Cr_d fc pc) h.1) (hD : 56 ≤ D) (e : f279_5_1 fc pc S x1 x2 x3 x7 = some r) (hc : Sum.elim (go279_1 fc pc A h D R) (ex279_1 fc pc A h D R) r) : ∀ q4 q5 q6 : Value, pm_go pm_prog (pm_call pm_prog D) 279 5 [.ref (A (0, 0, 0)), .int x1, .int x2, .int x3, q4, q5, q6, .int x7] [] (wput A (Cr_d fc pc) S h) = some R := by
  intro q4 q5 q6
  simp only [f279_5_1] at e
  rw [g279_5, b279_5]
  by_cases k1 : x3 = x1
  · rw [if_pos k1] at e
    have k2 := y279_8_1 (h := h) hP hA hD e hc
    simp -implicitDefEqProofs (disch := first | assumption | exact Nat.le_of_ble_eq_true rfl | decide) only [b279_0, g279_2, b279_2, g279_6, b279_6, g279_7, b279_7, g279_10, b279_10, pe_iload1, pe_i2l, pe_bipush, pe_call3, pm_af_ret, pm_af_void, pm_af_thr, pe_call1, pe_aload0, pe_sipush, pe_istore2, pe_istore3, pe_goto_w, pe_iinc3, pe_getfield, pe_call2, pe_ladd, pe_lstore5, pe_iload3, pe_icmp_ne, pe_lload5, pe_goto, pe_putfield, pe_istore7, pe_iload7, pe_if_eq, pe_iload2, pe_lcmp, pe_if_le, pe_icmp_eq, pe_istore4, pe_iload4, pe_if_ne, pm_prog_1, pm_ob_some, Nat.reduceDiv, Nat.reduceMod, Nat.reduceMul, Nat.reduceAdd, Int.reduceToNat, pm_kill_i, pm_kill_r, pm_kill_n, pm_kill_j, pm_kill_l, pm_kill_d, pm_cats_nil, pm_cats_i, pm_cats_r, pm_cats_n, pm_cats_l, pm_cats_d, sz_1, sz_2, sl_1, sl_2, lc_0, lc_lt, lc_le, li_ne, va_rf, wr_m1, we_m1, pm_kill_w, Int32.reduceOfInt, Int64.reduceOfInt, Int32.reduceOfNat, Int32.reduceLT, Int32.reduceLE, Prod.mk.injEq, Nat.reduceEqDiff, reduceCtorEq, and_true, true_and, and_false, false_and, and_self, ite_true, ite_false, ↓reduceIte, not_true_eq_false, not_false_eq_true, pe_ri, pe_rz, pe_rc, p_throw, t279, w_junk hA, Cr_g0_12 hP hA, Cr_g0_13 hP hA, Cr_g0_17 hP hA, Cr_g12_6 hP hA, Cr_p0_16 hP hA, Cr_p0_17 hP hA, eq_true k1, k2]
  · rw [if_neg k1] at e
    by_cases k3 : x7 = 0
    · rw [if_pos k3] at e
      have k4 := y279_8_1 (h := h) hP hA hD e hc
      simp -implicitDefEqProofs (disch := first | assumption | exact Nat.le_of_ble_eq_true rfl | decide) only [b279_0, g279_2, b279_2, g279_6, b279_6, g279_7, b279_7, g279_10, b279_10, pe_iload1, pe_i2l, pe_bipush, pe_call3, pm_af_ret, pm_af_void, pm_af_thr, pe_call1, pe_aload0, pe_sipush, pe_istore2, pe_istore3, pe_goto_w, pe_iinc3, pe_getfield, pe_call2, pe_ladd, pe_lstore5, pe_iload3, pe_icmp_ne, pe_lload5, pe_goto, pe_putfield, pe_istore7, pe_iload7, pe_if_eq, pe_iload2, pe_lcmp, pe_if_le, pe_icmp_eq, pe_istore4, pe_iload4, pe_if_ne, pm_prog_1, pm_ob_some, Nat.reduceDiv, Nat.reduceMod, Nat.reduceMul, Nat.reduceAdd, Int.reduceToNat, pm_kill_i, pm_kill_r, pm_kill_n, pm_kill_j, pm_kill_l, pm_kill_d, pm_cats_nil, pm_cats_i, pm_cats_r, pm_cats_n, pm_cats_l, pm_cats_d, sz_1, sz_2, sl_1, sl_2, lc_0, lc_lt, lc_le, li_ne, va_rf, wr_m1, we_m1, pm_kill_w, Int32.reduceOfInt, Int64.reduceOfInt, Int32.reduceOfNat, Int32.reduceLT, Int32.reduceLE, Prod.mk.injEq, Nat.reduceEqDiff, reduceCtorEq, and_true, true_and, and_false, false_and, and_self, ite_true, ite_false, ↓reduceIte, not_true_eq_false, not_false_eq_true, pe_ri, pe_rz, pe_rc, p_throw, t279, w_junk hA, Cr_g0_12 hP hA, Cr_g0_13 hP hA, Cr_g0_17 hP hA, Cr_g12_6 hP hA, Cr_p0_16 hP hA, Cr_p0_17 hP hA, eq_false k1, eq_true k3, k4]
    · rw [if_neg k3] at e
      obtain ⟨v9, k5, e⟩ := Option.bind_eq_some_iff.mp e
      try dsimp only at e
      have z5 := x282 (D := D) (h := h) hP hA (by omega) k5
      by_cases k6 : v9 = 0
      · rw [if_pos k6] at e
        have k7 := y279_8_1 (h := h) hP hA hD e hc
        simp -implicitDefEqProofs (disch := first | assumption | exact Nat.le_of_ble_eq_true rfl | decide) only [b279_0, g279_2, b279_2, g279_6, b279_6, g279_7, b279_7, g279_10, b279_10, pe_iload1, pe_i2l, pe_bipush, pe_call3, pm_af_ret, pm_af_void, pm_af_thr, pe_call1, pe_aload0, pe_sipush, pe_istore2, pe_istore3, pe_goto_w, pe_iinc3, pe_getfield, pe_call2, pe_ladd, pe_lstore5, pe_iload3, pe_icmp_ne, pe_lload5, pe_goto, pe_putfield, pe_istore7, pe_iload7, pe_if_eq, pe_iload2, pe_lcmp, pe_if_le, pe_icmp_eq, pe_istore4, pe_iload4, pe_if_ne, pm_prog_1, pm_ob_some, Nat.reduceDiv, Nat.reduceMod, Nat.reduceMul, Nat.reduceAdd, Int.reduceToNat, pm_kill_i, pm_kill_r, pm_kill_n, pm_kill_j, pm_kill_l, pm_kill_d, pm_cats_nil, pm_cats_i, pm_cats_r, pm_cats_n, pm_cats_l, pm_cats_d, sz_1, sz_2, sl_1, sl_2, lc_0, lc_lt, lc_le, li_ne, va_rf, wr_m1, we_m1, pm_kill_w, Int32.reduceOfInt, Int64.reduceOfInt, Int32.reduceOfNat, Int32.reduceLT, Int32.reduceLE, Prod.mk.injEq, Nat.reduceEqDiff, reduceCtorEq, and_true, true_and, and_false, false_and, and_self, ite_true, ite_false, ↓reduceIte, not_true_eq_false, not_false_eq_true, pe_ri, pe_rz, pe_rc, p_throw, t279, w_junk hA, Cr_g0_12 hP hA, Cr_g0_13 hP hA, Cr_g0_17 hP hA, Cr_g12_6 hP hA, Cr_p0_16 hP hA, Cr_p0_17 hP hA, eq_false k1, eq_false k3, z5, eq_true k6, k7]
      · rw [if_neg k6] at e
        have k8 := y279_8_1 (h := h) hP hA hD e hc
        simp -implicitDefEqProofs (disch := first | assumption | exact Nat.le_of_ble_eq_true rfl | decide) only [b279_0, g279_2, b279_2, g279_6, b279_6, g279_7, b279_7, g279_10, b279_10, pe_iload1, pe_i2l, pe_bipush, pe_call3, pm_af_ret, pm_af_void, pm_af_thr, pe_call1, pe_aload0, pe_sipush, pe_istore2, pe_istore3, pe_goto_w, pe_iinc3, pe_getfield, pe_call2, pe_ladd, pe_lstore5, pe_iload3, pe_icmp_ne, pe_lload5, pe_goto, pe_putfield, pe_istore7, pe_iload7, pe_if_eq, pe_iload2, pe_lcmp, pe_if_le, pe_icmp_eq, pe_istore4, pe_iload4, pe_if_ne, pm_prog_1, pm_ob_some, Nat.reduceDiv, Nat.reduceMod, Nat.reduceMul, Nat.reduceAdd, Int.reduceToNat, pm_kill_i, pm_kill_r, pm_kill_n, pm_kill_j, pm_kill_l, pm_kill_d, pm_cats_nil, pm_cats_i, pm_cats_r, pm_cats_n, pm_cats_l, pm_cats_d, sz_1, sz_2, sl_1, sl_2, lc_0, lc_lt, lc_le, li_ne, va_rf, wr_m1, we_m1, pm_kill_w, Int32.reduceOfInt, Int64.reduceOfInt, Int32.reduceOfNat, Int32.reduceLT, Int32.reduceLE, Prod.mk.injEq, Nat.reduceEqDiff, reduceCtorEq, and_true, true_and, and_false, false_and, and_self, ite_true, ite_false, ↓reduceIte, not_true_eq_false, not_false_eq_true, pe_ri, pe_rz, pe_rc, p_throw, t279, w_junk hA, Cr_g0_12 hP hA, Cr_g0_13 hP hA, Cr_g0_17 hP hA, Cr_g12_6 hP hA, Cr_p0_16 hP hA, Cr_p0_17 hP hA, eq_false k1, eq_false k3, z5, eq_false k6, k8]
theorem y279_4_1 {fc : Int32} {pc : Int32} {A : wK → Nat} {h : pm_H} {D : Nat} {R : Outcome × pm_H} {S : wS} {x1 : Int32} {x3 : Int32} {x7 : Int32} {r : (Int32 × Int32 × Int32 × wS) ⊕ ((Int32 × wS))} (hP : Cr_P fc pc) (hA : wok A (Cr_d fc pc) h.1) (hD : 56 ≤ D) (e : f279_4_1 fc pc S x1 x3 x7 = some r) (hc : Sum.elim (go279_1 fc pc A h D R) (ex279_1 fc pc A h D R) r) : ∀ q2 q4 q5 q6 : Value, pm_go pm_prog (pm_call pm_prog D) 279 4 [.ref (A (0, 0, 0)), .int x1, q2, .int x3, q4, q5, q6, .int x7] [] (wput A (Cr_d fc pc) S h) = some R := by
  intro q2 q4 q5 q6
  simp only [f279_4_1] at e
  rw [g279_4, b279_4]
  obtain ⟨S10, k1, e⟩ := Option.bind_eq_some_iff.mp e
  try dsimp only at e
  have z1 := x451 (D := D) (h := h) hP hA (by omega) k1
  have k2 := y279_5_1 (h := h) hP hA hD e hc
  simp -implicitDefEqProofs (disch := first | assumption | exact Nat.le_of_ble_eq_true rfl | decide) only [b279_0, g279_2, b279_2, g279_6, b279_6, g279_7, b279_7, g279_10, b279_10, pe_iload1, pe_i2l, pe_bipush, pe_call3, pm_af_ret, pm_af_void, pm_af_thr, pe_call1, pe_aload0, pe_sipush, pe_istore2, pe_istore3, pe_goto_w, pe_iinc3, pe_getfield, pe_call2, pe_ladd, pe_lstore5, pe_iload3, pe_icmp_ne, pe_lload5, pe_goto, pe_putfield, pe_istore7, pe_iload7, pe_if_eq, pe_iload2, pe_lcmp, pe_if_le, pe_icmp_eq, pe_istore4, pe_iload4, pe_if_ne, pm_prog_1, pm_ob_some, Nat.reduceDiv, Nat.reduceMod, Nat.reduceMul, Nat.reduceAdd, Int.reduceToNat, pm_kill_i, pm_kill_r, pm_kill_n, pm_kill_j, pm_kill_l, pm_kill_d, pm_cats_nil, pm_cats_i, pm_cats_r, pm_cats_n, pm_cats_l, pm_cats_d, sz_1, sz_2, sl_1, sl_2, lc_0, lc_lt, lc_le, li_ne, va_rf, wr_m1, we_m1, pm_kill_w, Int32.reduceOfInt, Int64.reduceOfInt, Int32.reduceOfNat, Int32.reduceLT, Int32.reduceLE, Prod.mk.injEq, Nat.reduceEqDiff, reduceCtorEq, and_true, true_and, and_false, false_and, and_self, ite_true, ite_false, ↓reduceIte, not_true_eq_false, not_false_eq_true, pe_ri, pe_rz, pe_rc, p_throw, t279, w_junk hA, Cr_g0_12 hP hA, Cr_g0_13 hP hA, Cr_g0_17 hP hA, Cr_g12_6 hP hA, Cr_p0_16 hP hA, Cr_p0_17 hP hA, z1, k2]
theorem y279_3_1 {fc : Int32} {pc : Int32} {A : wK → Nat} {h : pm_H} {D : Nat} {R : Outcome × pm_H} {S : wS} {x1 : Int32} {x2 : Int32} {x3 : Int32} {y1 : Int64} {r : (Int32 × Int32 × Int32 × wS) ⊕ ((Int32 × wS))} (hP : Cr_P fc pc) (hA : wok A (Cr_d fc pc) h.1) (hD : 56 ≤ D) (e : f279_3_1 fc pc S x1 x2 x3 y1 = some r) (hc : Sum.elim (go279_1 fc pc A h D R) (ex279_1 fc pc A h D R) r) : ∀ q4 q5 q6 q7 : Value, pm_go pm_prog (pm_call pm_prog D) 279 3 [.ref (A (0, 0, 0)), .int x1, .int x2, .int x3, q4, q5, q6, q7] [.long y1, .ref (A (0, 0, 0))] (wput A (Cr_d fc pc) S h) = some R := by
  intro q4 q5 q6 q7
  simp only [f279_3_1] at e
  rw [g279_3, b279_3]
  obtain ⟨v6, k1, e⟩ := Option.bind_eq_some_iff.mp e
  try dsimp only at e
  have z1 := x281 (D := D) (h := h) hP hA (by omega) k1
  by_cases k2 : v6 = 0
  · rw [if_pos k2] at e
    have k3 := y279_5_1 (h := h) hP hA hD e hc
    simp -implicitDefEqProofs (disch := first | assumption | exact Nat.le_of_ble_eq_true rfl | decide) only [b279_0, g279_2, b279_2, g279_6, b279_6, g279_7, b279_7, g279_10, b279_10, pe_iload1, pe_i2l, pe_bipush, pe_call3, pm_af_ret, pm_af_void, pm_af_thr, pe_call1, pe_aload0, pe_sipush, pe_istore2, pe_istore3, pe_goto_w, pe_iinc3, pe_getfield, pe_call2, pe_ladd, pe_lstore5, pe_iload3, pe_icmp_ne, pe_lload5, pe_goto, pe_putfield, pe_istore7, pe_iload7, pe_if_eq, pe_iload2, pe_lcmp, pe_if_le, pe_icmp_eq, pe_istore4, pe_iload4, pe_if_ne, pm_prog_1, pm_ob_some, Nat.reduceDiv, Nat.reduceMod, Nat.reduceMul, Nat.reduceAdd, Int.reduceToNat, pm_kill_i, pm_kill_r, pm_kill_n, pm_kill_j, pm_kill_l, pm_kill_d, pm_cats_nil, pm_cats_i, pm_cats_r, pm_cats_n, pm_cats_l, pm_cats_d, sz_1, sz_2, sl_1, sl_2, lc_0, lc_lt, lc_le, li_ne, va_rf, wr_m1, we_m1, pm_kill_w, Int32.reduceOfInt, Int64.reduceOfInt, Int32.reduceOfNat, Int32.reduceLT, Int32.reduceLE, Prod.mk.injEq, Nat.reduceEqDiff, reduceCtorEq, and_true, true_and, and_false, false_and, and_self, ite_true, ite_false, ↓reduceIte, not_true_eq_false, not_false_eq_true, pe_ri, pe_rz, pe_rc, p_throw, t279, w_junk hA, Cr_g0_12 hP hA, Cr_g0_13 hP hA, Cr_g0_17 hP hA, Cr_g12_6 hP hA, Cr_p0_16 hP hA, Cr_p0_17 hP hA, z1, eq_true k2, k3]
  · rw [if_neg k2] at e
    by_cases k4 : x2 = 0
    · rw [if_pos k4] at e
      have k5 := y279_4_1 (h := h) hP hA hD e hc
      simp -implicitDefEqProofs (disch := first | assumption | exact Nat.le_of_ble_eq_true rfl | decide) only [b279_0, g279_2, b279_2, g279_6, b279_6, g279_7, b279_7, g279_10, b279_10, pe_iload1, pe_i2l, pe_bipush, pe_call3, pm_af_ret, pm_af_void, pm_af_thr, pe_call1, pe_aload0, pe_sipush, pe_istore2, pe_istore3, pe_goto_w, pe_iinc3, pe_getfield, pe_call2, pe_ladd, pe_lstore5, pe_iload3, pe_icmp_ne, pe_lload5, pe_goto, pe_putfield, pe_istore7, pe_iload7, pe_if_eq, pe_iload2, pe_lcmp, pe_if_le, pe_icmp_eq, pe_istore4, pe_iload4, pe_if_ne, pm_prog_1, pm_ob_some, Nat.reduceDiv, Nat.reduceMod, Nat.reduceMul, Nat.reduceAdd, Int.reduceToNat, pm_kill_i, pm_kill_r, pm_kill_n, pm_kill_j, pm_kill_l, pm_kill_d, pm_cats_nil, pm_cats_i, pm_cats_r, pm_cats_n, pm_cats_l, pm_cats_d, sz_1, sz_2, sl_1, sl_2, lc_0, lc_lt, lc_le, li_ne, va_rf, wr_m1, we_m1, pm_kill_w, Int32.reduceOfInt, Int64.reduceOfInt, Int32.reduceOfNat, Int32.reduceLT, Int32.reduceLE, Prod.mk.injEq, Nat.reduceEqDiff, reduceCtorEq, and_true, true_and, and_false, false_and, and_self, ite_true, ite_false, ↓reduceIte, not_true_eq_false, not_false_eq_true, pe_ri, pe_rz, pe_rc, p_throw, t279, w_junk hA, Cr_g0_12 hP hA, Cr_g0_13 hP hA, Cr_g0_17 hP hA, Cr_g12_6 hP hA, Cr_p0_16 hP hA, Cr_p0_17 hP hA, z1, eq_false k2, eq_true k4, k5]
    · rw [if_neg k4] at e
      by_cases k6 : (S.2 (12, 1, 0) 6) ≤ (S.2 (12, 0, 0) 6)
      · rw [if_pos k6] at e
        have k7 := y279_5_1 (h := h) hP hA hD e hc
        simp -implicitDefEqProofs (disch := first | assumption | exact Nat.le_of_ble_eq_true rfl | decide) only [b279_0, g279_2, b279_2, g279_6, b279_6, g279_7, b279_7, g279_10, b279_10, pe_iload1, pe_i2l, pe_bipush, pe_call3, pm_af_ret, pm_af_void, pm_af_thr, pe_call1, pe_aload0, pe_sipush, pe_istore2, pe_istore3, pe_goto_w, pe_iinc3, pe_getfield, pe_call2, pe_ladd, pe_lstore5, pe_iload3, pe_icmp_ne, pe_lload5, pe_goto, pe_putfield, pe_istore7, pe_iload7, pe_if_eq, pe_iload2, pe_lcmp, pe_if_le, pe_icmp_eq, pe_istore4, pe_iload4, pe_if_ne, pm_prog_1, pm_ob_some, Nat.reduceDiv, Nat.reduceMod, Nat.reduceMul, Nat.reduceAdd, Int.reduceToNat, pm_kill_i, pm_kill_r, pm_kill_n, pm_kill_j, pm_kill_l, pm_kill_d, pm_cats_nil, pm_cats_i, pm_cats_r, pm_cats_n, pm_cats_l, pm_cats_d, sz_1, sz_2, sl_1, sl_2, lc_0, lc_lt, lc_le, li_ne, va_rf, wr_m1, we_m1, pm_kill_w, Int32.reduceOfInt, Int64.reduceOfInt, Int32.reduceOfNat, Int32.reduceLT, Int32.reduceLE, Prod.mk.injEq, Nat.reduceEqDiff, reduceCtorEq, and_true, true_and, and_false, false_and, and_self, ite_true, ite_false, ↓reduceIte, not_true_eq_false, not_false_eq_true, pe_ri, pe_rz, pe_rc, p_throw, t279, w_junk hA, Cr_g0_12 hP hA, Cr_g0_13 hP hA, Cr_g0_17 hP hA, Cr_g12_6 hP hA, Cr_p0_16 hP hA, Cr_p0_17 hP hA, z1, eq_false k2, eq_false k4, eq_true k6, k7]
      · rw [if_neg k6] at e
        have k8 := y279_4_1 (h := h) hP hA hD e hc
        simp -implicitDefEqProofs (disch := first | assumption | exact Nat.le_of_ble_eq_true rfl | decide) only [b279_0, g279_2, b279_2, g279_6, b279_6, g279_7, b279_7, g279_10, b279_10, pe_iload1, pe_i2l, pe_bipush, pe_call3, pm_af_ret, pm_af_void, pm_af_thr, pe_call1, pe_aload0, pe_sipush, pe_istore2, pe_istore3, pe_goto_w, pe_iinc3, pe_getfield, pe_call2, pe_ladd, pe_lstore5, pe_iload3, pe_icmp_ne, pe_lload5, pe_goto, pe_putfield, pe_istore7, pe_iload7, pe_if_eq, pe_iload2, pe_lcmp, pe_if_le, pe_icmp_eq, pe_istore4, pe_iload4, pe_if_ne, pm_prog_1, pm_ob_some, Nat.reduceDiv, Nat.reduceMod, Nat.reduceMul, Nat.reduceAdd, Int.reduceToNat, pm_kill_i, pm_kill_r, pm_kill_n, pm_kill_j, pm_kill_l, pm_kill_d, pm_cats_nil, pm_cats_i, pm_cats_r, pm_cats_n, pm_cats_l, pm_cats_d, sz_1, sz_2, sl_1, sl_2, lc_0, lc_lt, lc_le, li_ne, va_rf, wr_m1, we_m1, pm_kill_w, Int32.reduceOfInt, Int64.reduceOfInt, Int32.reduceOfNat, Int32.reduceLT, Int32.reduceLE, Prod.mk.injEq, Nat.reduceEqDiff, reduceCtorEq, and_true, true_and, and_false, false_and, and_self, ite_true, ite_false, ↓reduceIte, not_true_eq_false, not_false_eq_true, pe_ri, pe_rz, pe_rc, p_throw, t279, w_junk hA, Cr_g0_12 hP hA, Cr_g0_13 hP hA, Cr_g0_17 hP hA, Cr_g12_6 hP hA, Cr_p0_16 hP hA, Cr_p0_17 hP hA, z1, eq_false k2, eq_false k4, eq_false k6, k8]
theorem y279_b1 {fc : Int32} {pc : Int32} {A : wK → Nat} {h : pm_H} {D : Nat} {R : Outcome × pm_H} (hP : Cr_P fc pc) (hA : wok A (Cr_d fc pc) h.1) (hD : 56 ≤ D) (a : Int32 × Int32 × Int32 × wS) (r : (Int32 × Int32 × Int32 × wS) ⊕ ((Int32 × wS))) (e : f279_b1 fc pc a = some r) (hc : Sum.elim (go279_1 fc pc A h D R) (ex279_1 fc pc A h D R) r) : go279_1 fc pc A h D R a := by
  obtain ⟨x1, x2, x3, S⟩ := a
  dsimp only [go279_1]
  intro q4 q5 q6 q7
  simp only [f279_b1] at e
  rw [g279_1, b279_1]
  obtain ⟨⟨v3, S4⟩, k1, e⟩ := Option.bind_eq_some_iff.mp e
  try dsimp only at e
  have z1 := x277 (D := D) (h := h) hP hA (by omega) k1
  dsimp only at z1
  obtain ⟨v5, k2, e⟩ := Option.bind_eq_some_iff.mp e
  try dsimp only at e
  have z2 := x280 (D := D) (h := h) hP hA (by omega) k2
  by_cases k3 : (x3 + 1) = 1
  · rw [if_pos k3] at e
    have k4 := y279_3_1 (h := h) hP hA hD e hc
    simp -implicitDefEqProofs (disch := first | assumption | exact Nat.le_of_ble_eq_true rfl | decide) only [b279_0, g279_2, b279_2, g279_6, b279_6, g279_7, b279_7, g279_10, b279_10, pe_iload1, pe_i2l, pe_bipush, pe_call3, pm_af_ret, pm_af_void, pm_af_thr, pe_call1, pe_aload0, pe_sipush, pe_istore2, pe_istore3, pe_goto_w, pe_iinc3, pe_getfield, pe_call2, pe_ladd, pe_lstore5, pe_iload3, pe_icmp_ne, pe_lload5, pe_goto, pe_putfield, pe_istore7, pe_iload7, pe_if_eq, pe_iload2, pe_lcmp, pe_if_le, pe_icmp_eq, pe_istore4, pe_iload4, pe_if_ne, pm_prog_1, pm_ob_some, Nat.reduceDiv, Nat.reduceMod, Nat.reduceMul, Nat.reduceAdd, Int.reduceToNat, pm_kill_i, pm_kill_r, pm_kill_n, pm_kill_j, pm_kill_l, pm_kill_d, pm_cats_nil, pm_cats_i, pm_cats_r, pm_cats_n, pm_cats_l, pm_cats_d, sz_1, sz_2, sl_1, sl_2, lc_0, lc_lt, lc_le, li_ne, va_rf, wr_m1, we_m1, pm_kill_w, Int32.reduceOfInt, Int64.reduceOfInt, Int32.reduceOfNat, Int32.reduceLT, Int32.reduceLE, Prod.mk.injEq, Nat.reduceEqDiff, reduceCtorEq, and_true, true_and, and_false, false_and, and_self, ite_true, ite_false, ↓reduceIte, not_true_eq_false, not_false_eq_true, pe_ri, pe_rz, pe_rc, p_throw, t279, w_junk hA, Cr_g0_12 hP hA, Cr_g0_13 hP hA, Cr_g0_17 hP hA, Cr_g12_6 hP hA, Cr_p0_16 hP hA, Cr_p0_17 hP hA, z1, z2, eq_true k3, k4]
  · rw [if_neg k3] at e
    obtain ⟨v11, k5, e⟩ := Option.bind_eq_some_iff.mp e
    try dsimp only at e
    have z5 := fun h => x3842 (D := D) (h := h) (by omega) k5
    have k6 := y279_3_1 (h := h) hP hA hD e hc
    simp -implicitDefEqProofs (disch := first | assumption | exact Nat.le_of_ble_eq_true rfl | decide) only [b279_0, g279_2, b279_2, g279_6, b279_6, g279_7, b279_7, g279_10, b279_10, pe_iload1, pe_i2l, pe_bipush, pe_call3, pm_af_ret, pm_af_void, pm_af_thr, pe_call1, pe_aload0, pe_sipush, pe_istore2, pe_istore3, pe_goto_w, pe_iinc3, pe_getfield, pe_call2, pe_ladd, pe_lstore5, pe_iload3, pe_icmp_ne, pe_lload5, pe_goto, pe_putfield, pe_istore7, pe_iload7, pe_if_eq, pe_iload2, pe_lcmp, pe_if_le, pe_icmp_eq, pe_istore4, pe_iload4, pe_if_ne, pm_prog_1, pm_ob_some, Nat.reduceDiv, Nat.reduceMod, Nat.reduceMul, Nat.reduceAdd, Int.reduceToNat, pm_kill_i, pm_kill_r, pm_kill_n, pm_kill_j, pm_kill_l, pm_kill_d, pm_cats_nil, pm_cats_i, pm_cats_r, pm_cats_n, pm_cats_l, pm_cats_d, sz_1, sz_2, sl_1, sl_2, lc_0, lc_lt, lc_le, li_ne, va_rf, wr_m1, we_m1, pm_kill_w, Int32.reduceOfInt, Int64.reduceOfInt, Int32.reduceOfNat, Int32.reduceLT, Int32.reduceLE, Prod.mk.injEq, Nat.reduceEqDiff, reduceCtorEq, and_true, true_and, and_false, false_and, and_self, ite_true, ite_false, ↓reduceIte, not_true_eq_false, not_false_eq_true, pe_ri, pe_rz, pe_rc, p_throw, t279, w_junk hA, Cr_g0_12 hP hA, Cr_g0_13 hP hA, Cr_g0_17 hP hA, Cr_g12_6 hP hA, Cr_p0_16 hP hA, Cr_p0_17 hP hA, z1, z2, eq_false k3, z5, k6]
theorem z279_1 {fc : Int32} {pc : Int32} {A : wK → Nat} {h : pm_H} {D : Nat} {R : Outcome × pm_H} (hP : Cr_P fc pc) (hA : wok A (Cr_d fc pc) h.1) (hD : 56 ≤ D) {n : Nat} {a : Int32 × Int32 × Int32 × wS} {b : (Int32 × wS)} (e : lp (f279_b1 fc pc) n a = some b) (hx : ex279_1 fc pc A h D R b) : go279_1 fc pc A h D R a := lp_run (fun a r => y279_b1 hP hA hD a r) n a b e hx
theorem x279 {fc : Int32} {pc : Int32} {A : wK → Nat} {h : pm_H} {D : Nat} {S : wS} {x1 : Int32} {r : (Nat × wS) ⊕ (Int32 × wS)} (hP : Cr_P fc pc) (hA : wok A (Cr_d fc pc) h.1) (hD : 57 ≤ D) (e : f279 fc pc S x1 = some r) : pm_call pm_prog D 279 [.ref (A (0, 0, 0)), .int x1] (wput A (Cr_d fc pc) S h) = some (match (generalizing := false) r with | .inl (c, S1) => (Outcome.threw c, (wput A (Cr_d fc pc) S1 (pm_new h 6 (.inr (c, []))))) | .inr (w0, S1) => (Outcome.returned (some (.int w0)), (wput A (Cr_d fc pc) S1 h))) := by
  obtain ⟨D, rfl⟩ : ∃ D', D = D' + 1 := ⟨D - 1, by omega⟩
  have hD : 56 ≤ D := by omega
  simp only [f279] at e
  rw [c279 (Cr_c0 hP hA), b279_0]
  obtain ⟨v1, k1, e⟩ := Option.bind_eq_some_iff.mp e
  try dsimp only at e
  have z1 := fun h => x260 (D := D) (h := h) (by omega) k1
  obtain ⟨r, k2, e⟩ := Option.bind_eq_some_iff.mp e
  have z2 := fun h => x262 (D := D) (h := h) (by omega) k2
  rcases r with c15 | _
  · dsimp only at e z2
    have e := Option.some.inj e; subst e
    simp -implicitDefEqProofs (disch := first | assumption | exact Nat.le_of_ble_eq_true rfl | decide) only [b279_0, g279_2, b279_2, g279_6, b279_6, g279_7, b279_7, g279_10, b279_10, pe_iload1, pe_i2l, pe_bipush, pe_call3, pm_af_ret, pm_af_void, pm_af_thr, pe_call1, pe_aload0, pe_sipush, pe_istore2, pe_istore3, pe_goto_w, pe_iinc3, pe_getfield, pe_call2, pe_ladd, pe_lstore5, pe_iload3, pe_icmp_ne, pe_lload5, pe_goto, pe_putfield, pe_istore7, pe_iload7, pe_if_eq, pe_iload2, pe_lcmp, pe_if_le, pe_icmp_eq, pe_istore4, pe_iload4, pe_if_ne, pm_prog_1, pm_ob_some, Nat.reduceDiv, Nat.reduceMod, Nat.reduceMul, Nat.reduceAdd, Int.reduceToNat, pm_kill_i, pm_kill_r, pm_kill_n, pm_kill_j, pm_kill_l, pm_kill_d, pm_cats_nil, pm_cats_i, pm_cats_r, pm_cats_n, pm_cats_l, pm_cats_d, sz_1, sz_2, sl_1, sl_2, lc_0, lc_lt, lc_le, li_ne, va_rf, wr_m1, we_m1, pm_kill_w, Int32.reduceOfInt, Int64.reduceOfInt, Int32.reduceOfNat, Int32.reduceLT, Int32.reduceLE, Prod.mk.injEq, Nat.reduceEqDiff, reduceCtorEq, and_true, true_and, and_false, false_and, and_self, ite_true, ite_false, ↓reduceIte, not_true_eq_false, not_false_eq_true, pe_ri, pe_rz, pe_rc, p_throw, t279, w_junk hA, Cr_g0_12 hP hA, Cr_g0_13 hP hA, Cr_g0_17 hP hA, Cr_g12_6 hP hA, Cr_p0_16 hP hA, Cr_p0_17 hP hA, z1, z2]
  · dsimp only at e z2
    obtain ⟨S2, k3, e⟩ := Option.bind_eq_some_iff.mp e
    try dsimp only at e
    have z3 := x275 (D := D) (h := h) hP hA (by omega) k3
    obtain ⟨⟨v14, S12⟩, k4, e⟩ := Option.bind_eq_some_iff.mp e
    try dsimp only at e
    try simp -implicitDefEqProofs (disch := first | assumption | exact Nat.le_of_ble_eq_true rfl | decide) only [b279_0, g279_2, b279_2, g279_6, b279_6, g279_7, b279_7, g279_10, b279_10, pe_iload1, pe_i2l, pe_bipush, pe_call3, pm_af_ret, pm_af_void, pm_af_thr, pe_call1, pe_aload0, pe_sipush, pe_istore2, pe_istore3, pe_goto_w, pe_iinc3, pe_getfield, pe_call2, pe_ladd, pe_lstore5, pe_iload3, pe_icmp_ne, pe_lload5, pe_goto, pe_putfield, pe_istore7, pe_iload7, pe_if_eq, pe_iload2, pe_lcmp, pe_if_le, pe_icmp_eq, pe_istore4, pe_iload4, pe_if_ne, pm_prog_1, pm_ob_some, Nat.reduceDiv, Nat.reduceMod, Nat.reduceMul, Nat.reduceAdd, Int.reduceToNat, pm_kill_i, pm_kill_r, pm_kill_n, pm_kill_j, pm_kill_l, pm_kill_d, pm_cats_nil, pm_cats_i, pm_cats_r, pm_cats_n, pm_cats_l, pm_cats_d, sz_1, sz_2, sl_1, sl_2, lc_0, lc_lt, lc_le, li_ne, va_rf, wr_m1, we_m1, pm_kill_w, Int32.reduceOfInt, Int64.reduceOfInt, Int32.reduceOfNat, Int32.reduceLT, Int32.reduceLE, Prod.mk.injEq, Nat.reduceEqDiff, reduceCtorEq, and_true, true_and, and_false, false_and, and_self, ite_true, ite_false, ↓reduceIte, not_true_eq_false, not_false_eq_true, pe_ri, pe_rz, pe_rc, p_throw, t279, w_junk hA, Cr_g0_12 hP hA, Cr_g0_13 hP hA, Cr_g0_17 hP hA, Cr_g12_6 hP hA, Cr_p0_16 hP hA, Cr_p0_17 hP hA, z1, z2, z3]
    refine z279_1 hP hA hD k4 ?_ _ _ _ _
    dsimp only [ex279_1]
    intro q1 q2 q4 q5 q6 q7
    have e := Option.some.inj e; subst e
    simp -implicitDefEqProofs (disch := first | assumption | exact Nat.le_of_ble_eq_true rfl | decide) only [b279_0, g279_2, b279_2, g279_6, b279_6, g279_7, b279_7, g279_10, b279_10, pe_iload1, pe_i2l, pe_bipush, pe_call3, pm_af_ret, pm_af_void, pm_af_thr, pe_call1, pe_aload0, pe_sipush, pe_istore2, pe_istore3, pe_goto_w, pe_iinc3, pe_getfield, pe_call2, pe_ladd, pe_lstore5, pe_iload3, pe_icmp_ne, pe_lload5, pe_goto, pe_putfield, pe_istore7, pe_iload7, pe_if_eq, pe_iload2, pe_lcmp, pe_if_le, pe_icmp_eq, pe_istore4, pe_iload4, pe_if_ne, pm_prog_1, pm_ob_some, Nat.reduceDiv, Nat.reduceMod, Nat.reduceMul, Nat.reduceAdd, Int.reduceToNat, pm_kill_i, pm_kill_r, pm_kill_n, pm_kill_j, pm_kill_l, pm_kill_d, pm_cats_nil, pm_cats_i, pm_cats_r, pm_cats_n, pm_cats_l, pm_cats_d, sz_1, sz_2, sl_1, sl_2, lc_0, lc_lt, lc_le, li_ne, va_rf, wr_m1, we_m1, pm_kill_w, Int32.reduceOfInt, Int64.reduceOfInt, Int32.reduceOfNat, Int32.reduceLT, Int32.reduceLE, Prod.mk.injEq, Nat.reduceEqDiff, reduceCtorEq, and_true, true_and, and_false, false_and, and_self, ite_true, ite_false, ↓reduceIte, not_true_eq_false, not_false_eq_true, pe_ri, pe_rz, pe_rc, p_throw, t279, w_junk hA, Cr_g0_12 hP hA, Cr_g0_13 hP hA, Cr_g0_17 hP hA, Cr_g12_6 hP hA, Cr_p0_16 hP hA, Cr_p0_17 hP hA, z1, z2, z3]
/-- TimberHouse$FaultRips.clear2(I)Z -/
theorem c285 {d : Nat} {h : pm_H} {a : Nat} {x0 : Int32} (hc : pm_cls h a = some 4) : pm_call pm_prog (d + 1) 285 [.ref a, .int x0] h = pm_ev pm_prog (pm_call pm_prog d) 285 0 b285_0 [.ref a, .int x0] [] h := pm_cal (pm_rc1 hc rfl) rfl rfl rfl
theorem g285_1 {cl : pm_C} {ls st : List Value} {h : pm_H} : pm_go pm_prog cl 285 1 ls st h = pm_ev pm_prog cl 285 1 b285_1 ls st h := pm_go_eq pm_prog cl 285 1 ls st h
theorem g285_2 {cl : pm_C} {ls st : List Value} {h : pm_H} : pm_go pm_prog cl 285 2 ls st h = pm_ev pm_prog cl 285 2 b285_2 ls st h := pm_go_eq pm_prog cl 285 2 ls st h
theorem t285 {cl : pm_C} {j : Nat} {ls : List Value} {c : Nat} {h : pm_H} : pm_thr pm_prog cl 285 j ls c h = some (.threw c, h) := rfl
/-- TimberHouse$FaultRips.clear2(I)Z -/
noncomputable def f285 (fc : Int32) (pc : Int32) (S : wS) (x1 : Int32) : Option (Nat ⊕ (Int32)) :=
  (f259 (S.1 (0, 0, 0) 16)).bind fun r => match r with
  | .inl c4 =>
    some (.inl c4)
  | .inr _ =>
  (f260 (Int32.toInt64 x1) 0 (Int32.toInt64 ((S.1 (12, 0, 0) 5) - 1))).bind fun v1 =>
  (f261 v1).bind fun r => match r with
  | .inl c3 =>
    some (.inl c3)
  | .inr _ =>
  if 0 ≤ x1 ∧ x1 < 240 then
    (f276 fc pc S (S.1 (13, 0, 0) x1) (S.1 (15, 0, 0) x1) (S.1 (14, 0, 0) x1) (S.1 (16, 0, 0) x1)).bind fun v2 =>
    if v2 = 0 then
      some (.inr 1)
    else
      some (.inr 0)
  else none
theorem x285 {fc : Int32} {pc : Int32} {A : wK → Nat} {h : pm_H} {D : Nat} {S : wS} {x1 : Int32} {r : Nat ⊕ (Int32)} (hP : Cr_P fc pc) (hA : wok A (Cr_d fc pc) h.1) (hD : 3 ≤ D) (e : f285 fc pc S x1 = some r) : pm_call pm_prog D 285 [.ref (A (0, 0, 0)), .int x1] (wput A (Cr_d fc pc) S h) = some (match (generalizing := false) r with | .inl c => (Outcome.threw c, (wput A (Cr_d fc pc) S (pm_new h 6 (.inr (c, []))))) | .inr w0 => (Outcome.returned (some (.int w0)), (wput A (Cr_d fc pc) S h))) := by
  obtain ⟨D, rfl⟩ : ∃ D', D = D' + 1 := ⟨D - 1, by omega⟩
  have hD : 2 ≤ D := by omega
  simp only [f285] at e
  rw [c285 (Cr_c0 hP hA), b285_0]
  obtain ⟨r, k1, e⟩ := Option.bind_eq_some_iff.mp e
  have z1 := fun h => x259 (D := D) (h := h) (by omega) k1
  rcases r with c4 | _
  · dsimp only at e z1
    have e := Option.some.inj e; subst e
    simp -implicitDefEqProofs (disch := first | assumption | exact Nat.le_of_ble_eq_true rfl | decide) only [b285_0, g285_1, b285_1, g285_2, b285_2, pe_aload0, pe_getfield, pe_call1, pm_af_ret, pm_af_void, pm_af_thr, pe_iload1, pe_i2l, pe_bipush, pe_sipush, pe_isub, pe_call3, pe_baload, pe_call5, pe_if_ne, pe_goto, pe_goto_w, pm_prog_1, pm_ob_some, Nat.reduceDiv, Nat.reduceMod, Nat.reduceMul, Nat.reduceAdd, Int.reduceToNat, pm_kill_i, pm_kill_r, pm_kill_n, pm_kill_j, pm_kill_l, pm_kill_d, pm_cats_nil, pm_cats_i, pm_cats_r, pm_cats_n, pm_cats_l, pm_cats_d, sz_1, sz_2, sl_1, sl_2, lc_0, lc_lt, lc_le, li_ne, va_rf, wr_m1, we_m1, pm_kill_w, Int32.reduceOfInt, Int64.reduceOfInt, Int32.reduceOfNat, Int32.reduceLT, Int32.reduceLE, Prod.mk.injEq, Nat.reduceEqDiff, reduceCtorEq, and_true, true_and, and_false, false_and, and_self, ite_true, ite_false, ↓reduceIte, not_true_eq_false, not_false_eq_true, pe_ri, pe_rz, pe_rc, p_throw, t285, w_junk hA, Cr_g0_12 hP hA, Cr_g0_16 hP hA, Cr_g12_0 hP hA, Cr_g12_1 hP hA, Cr_g12_2 hP hA, Cr_g12_3 hP hA, Cr_g12_5 hP hA, Cr_r13 hP hA, Cr_r14 hP hA, Cr_r15 hP hA, Cr_r16 hP hA, z1]
  · dsimp only at e z1
    obtain ⟨v1, k2, e⟩ := Option.bind_eq_some_iff.mp e
    try dsimp only at e
    have z2 := fun h => x260 (D := D) (h := h) (by omega) k2
    obtain ⟨r, k3, e⟩ := Option.bind_eq_some_iff.mp e
    have z3 := fun h => x261 (D := D) (h := h) (by omega) k3
    rcases r with c3 | _
    · dsimp only at e z3
      have e := Option.some.inj e; subst e
      simp -implicitDefEqProofs (disch := first | assumption | exact Nat.le_of_ble_eq_true rfl | decide) only [b285_0, g285_1, b285_1, g285_2, b285_2, pe_aload0, pe_getfield, pe_call1, pm_af_ret, pm_af_void, pm_af_thr, pe_iload1, pe_i2l, pe_bipush, pe_sipush, pe_isub, pe_call3, pe_baload, pe_call5, pe_if_ne, pe_goto, pe_goto_w, pm_prog_1, pm_ob_some, Nat.reduceDiv, Nat.reduceMod, Nat.reduceMul, Nat.reduceAdd, Int.reduceToNat, pm_kill_i, pm_kill_r, pm_kill_n, pm_kill_j, pm_kill_l, pm_kill_d, pm_cats_nil, pm_cats_i, pm_cats_r, pm_cats_n, pm_cats_l, pm_cats_d, sz_1, sz_2, sl_1, sl_2, lc_0, lc_lt, lc_le, li_ne, va_rf, wr_m1, we_m1, pm_kill_w, Int32.reduceOfInt, Int64.reduceOfInt, Int32.reduceOfNat, Int32.reduceLT, Int32.reduceLE, Prod.mk.injEq, Nat.reduceEqDiff, reduceCtorEq, and_true, true_and, and_false, false_and, and_self, ite_true, ite_false, ↓reduceIte, not_true_eq_false, not_false_eq_true, pe_ri, pe_rz, pe_rc, p_throw, t285, w_junk hA, Cr_g0_12 hP hA, Cr_g0_16 hP hA, Cr_g12_0 hP hA, Cr_g12_1 hP hA, Cr_g12_2 hP hA, Cr_g12_3 hP hA, Cr_g12_5 hP hA, Cr_r13 hP hA, Cr_r14 hP hA, Cr_r15 hP hA, Cr_r16 hP hA, z1, z2, z3]
    · dsimp only at e z3
      by_cases k4 : 0 ≤ x1 ∧ x1 < 240
      · rw [if_pos k4] at e
        obtain ⟨v2, k5, e⟩ := Option.bind_eq_some_iff.mp e
        try dsimp only at e
        have z5 := x276 (D := D) (h := h) hP hA (by omega) k5
        by_cases k6 : v2 = 0
        · rw [if_pos k6] at e
          have e := Option.some.inj e; subst e
          simp -implicitDefEqProofs (disch := first | assumption | exact Nat.le_of_ble_eq_true rfl | decide) only [b285_0, g285_1, b285_1, g285_2, b285_2, pe_aload0, pe_getfield, pe_call1, pm_af_ret, pm_af_void, pm_af_thr, pe_iload1, pe_i2l, pe_bipush, pe_sipush, pe_isub, pe_call3, pe_baload, pe_call5, pe_if_ne, pe_goto, pe_goto_w, pm_prog_1, pm_ob_some, Nat.reduceDiv, Nat.reduceMod, Nat.reduceMul, Nat.reduceAdd, Int.reduceToNat, pm_kill_i, pm_kill_r, pm_kill_n, pm_kill_j, pm_kill_l, pm_kill_d, pm_cats_nil, pm_cats_i, pm_cats_r, pm_cats_n, pm_cats_l, pm_cats_d, sz_1, sz_2, sl_1, sl_2, lc_0, lc_lt, lc_le, li_ne, va_rf, wr_m1, we_m1, pm_kill_w, Int32.reduceOfInt, Int64.reduceOfInt, Int32.reduceOfNat, Int32.reduceLT, Int32.reduceLE, Prod.mk.injEq, Nat.reduceEqDiff, reduceCtorEq, and_true, true_and, and_false, false_and, and_self, ite_true, ite_false, ↓reduceIte, not_true_eq_false, not_false_eq_true, pe_ri, pe_rz, pe_rc, p_throw, t285, w_junk hA, Cr_g0_12 hP hA, Cr_g0_16 hP hA, Cr_g12_0 hP hA, Cr_g12_1 hP hA, Cr_g12_2 hP hA, Cr_g12_3 hP hA, Cr_g12_5 hP hA, Cr_r13 hP hA, Cr_r14 hP hA, Cr_r15 hP hA, Cr_r16 hP hA, z1, z2, z3, z5, eq_true k6]
        · rw [if_neg k6] at e
          have e := Option.some.inj e; subst e
          simp -implicitDefEqProofs (disch := first | assumption | exact Nat.le_of_ble_eq_true rfl | decide) only [b285_0, g285_1, b285_1, g285_2, b285_2, pe_aload0, pe_getfield, pe_call1, pm_af_ret, pm_af_void, pm_af_thr, pe_iload1, pe_i2l, pe_bipush, pe_sipush, pe_isub, pe_call3, pe_baload, pe_call5, pe_if_ne, pe_goto, pe_goto_w, pm_prog_1, pm_ob_some, Nat.reduceDiv, Nat.reduceMod, Nat.reduceMul, Nat.reduceAdd, Int.reduceToNat, pm_kill_i, pm_kill_r, pm_kill_n, pm_kill_j, pm_kill_l, pm_kill_d, pm_cats_nil, pm_cats_i, pm_cats_r, pm_cats_n, pm_cats_l, pm_cats_d, sz_1, sz_2, sl_1, sl_2, lc_0, lc_lt, lc_le, li_ne, va_rf, wr_m1, we_m1, pm_kill_w, Int32.reduceOfInt, Int64.reduceOfInt, Int32.reduceOfNat, Int32.reduceLT, Int32.reduceLE, Prod.mk.injEq, Nat.reduceEqDiff, reduceCtorEq, and_true, true_and, and_false, false_and, and_self, ite_true, ite_false, ↓reduceIte, not_true_eq_false, not_false_eq_true, pe_ri, pe_rz, pe_rc, p_throw, t285, w_junk hA, Cr_g0_12 hP hA, Cr_g0_16 hP hA, Cr_g12_0 hP hA, Cr_g12_1 hP hA, Cr_g12_2 hP hA, Cr_g12_3 hP hA, Cr_g12_5 hP hA, Cr_r13 hP hA, Cr_r14 hP hA, Cr_r15 hP hA, Cr_r16 hP hA, z1, z2, z3, z5, eq_false k6]
      · rw [if_neg k4] at e; cases e
/-- TimberHouse$FaultRips.bound()J -/
theorem c286 {d : Nat} {h : pm_H} {a : Nat} (hc : pm_cls h a = some 4) : pm_call pm_prog (d + 1) 286 [.ref a] h = pm_ev pm_prog (pm_call pm_prog d) 286 0 b286_0 [.ref a] [] h := pm_cal (pm_rc1 hc rfl) rfl rfl rfl
theorem t286 {cl : pm_C} {j : Nat} {ls : List Value} {c : Nat} {h : pm_H} : pm_thr pm_prog cl 286 j ls c h = some (.threw c, h) := rfl
/-- TimberHouse$FaultRips.bound()J -/
noncomputable def f286 (fc : Int32) (pc : Int32) (S : wS) : Option (Nat ⊕ (Int64)) :=
  (f259 (S.1 (0, 0, 0) 16)).bind fun r => match r with
  | .inl c1 =>
    some (.inl c1)
  | .inr _ =>
  some (.inr (S.2 (0, 0, 0) 17))
theorem x286 {fc : Int32} {pc : Int32} {A : wK → Nat} {h : pm_H} {D : Nat} {S : wS} {r : Nat ⊕ (Int64)} (hP : Cr_P fc pc) (hA : wok A (Cr_d fc pc) h.1) (hD : 2 ≤ D) (e : f286 fc pc S = some r) : pm_call pm_prog D 286 [.ref (A (0, 0, 0))] (wput A (Cr_d fc pc) S h) = some (match (generalizing := false) r with | .inl c => (Outcome.threw c, (wput A (Cr_d fc pc) S (pm_new h 6 (.inr (c, []))))) | .inr w0 => (Outcome.returned (some (.long w0)), (wput A (Cr_d fc pc) S h))) := by
  obtain ⟨D, rfl⟩ : ∃ D', D = D' + 1 := ⟨D - 1, by omega⟩
  have hD : 1 ≤ D := by omega
  simp only [f286] at e
  rw [c286 (Cr_c0 hP hA), b286_0]
  obtain ⟨r, k1, e⟩ := Option.bind_eq_some_iff.mp e
  have z1 := fun h => x259 (D := D) (h := h) (by omega) k1
  rcases r with c1 | _
  · dsimp only at e z1
    have e := Option.some.inj e; subst e
    simp -implicitDefEqProofs (disch := first | assumption | exact Nat.le_of_ble_eq_true rfl | decide) only [b286_0, pe_aload0, pe_getfield, pe_call1, pm_af_ret, pm_af_void, pm_af_thr, pe_lreturn, pm_prog_1, pm_ob_some, Nat.reduceDiv, Nat.reduceMod, Nat.reduceMul, Nat.reduceAdd, Int.reduceToNat, pm_kill_i, pm_kill_r, pm_kill_n, pm_kill_j, pm_kill_l, pm_kill_d, pm_cats_nil, pm_cats_i, pm_cats_r, pm_cats_n, pm_cats_l, pm_cats_d, sz_1, sz_2, sl_1, sl_2, lc_0, lc_lt, lc_le, li_ne, va_rf, wr_m1, we_m1, pm_kill_w, Int32.reduceOfInt, Int64.reduceOfInt, Int32.reduceOfNat, Int32.reduceLT, Int32.reduceLE, Prod.mk.injEq, Nat.reduceEqDiff, reduceCtorEq, and_true, true_and, and_false, false_and, and_self, ite_true, ite_false, ↓reduceIte, not_true_eq_false, not_false_eq_true, pe_ri, pe_rz, pe_rc, p_throw, t286, w_junk hA, Cr_g0_16 hP hA, Cr_g0_17 hP hA, z1]
  · dsimp only at e z1
    have e := Option.some.inj e; subst e
    simp -implicitDefEqProofs (disch := first | assumption | exact Nat.le_of_ble_eq_true rfl | decide) only [b286_0, pe_aload0, pe_getfield, pe_call1, pm_af_ret, pm_af_void, pm_af_thr, pe_lreturn, pm_prog_1, pm_ob_some, Nat.reduceDiv, Nat.reduceMod, Nat.reduceMul, Nat.reduceAdd, Int.reduceToNat, pm_kill_i, pm_kill_r, pm_kill_n, pm_kill_j, pm_kill_l, pm_kill_d, pm_cats_nil, pm_cats_i, pm_cats_r, pm_cats_n, pm_cats_l, pm_cats_d, sz_1, sz_2, sl_1, sl_2, lc_0, lc_lt, lc_le, li_ne, va_rf, wr_m1, we_m1, pm_kill_w, Int32.reduceOfInt, Int64.reduceOfInt, Int32.reduceOfNat, Int32.reduceLT, Int32.reduceLE, Prod.mk.injEq, Nat.reduceEqDiff, reduceCtorEq, and_true, true_and, and_false, false_and, and_self, ite_true, ite_false, ↓reduceIte, not_true_eq_false, not_false_eq_true, pe_ri, pe_rz, pe_rc, p_throw, t286, w_junk hA, Cr_g0_16 hP hA, Cr_g0_17 hP hA, z1]
/-- TimberHouse$FaultRips.price(II)J -/
theorem c287 {d : Nat} {h : pm_H} {a : Nat} {x0 : Int32} {x1 : Int32} (hc : pm_cls h a = some 4) : pm_call pm_prog (d + 1) 287 [.ref a, .int x0, .int x1] h = pm_ev pm_prog (pm_call pm_prog d) 287 0 b287_0 [.ref a, .int x0, .int x1, pm_junk] [] h := pm_cal (pm_rc1 hc rfl) rfl rfl rfl
theorem g287_1 {cl : pm_C} {ls st : List Value} {h : pm_H} : pm_go pm_prog cl 287 1 ls st h = pm_ev pm_prog cl 287 1 b287_1 ls st h := pm_go_eq pm_prog cl 287 1 ls st h
theorem g287_2 {cl : pm_C} {ls st : List Value} {h : pm_H} : pm_go pm_prog cl 287 2 ls st h = pm_ev pm_prog cl 287 2 b287_2 ls st h := pm_go_eq pm_prog cl 287 2 ls st h
theorem g287_3 {cl : pm_C} {ls st : List Value} {h : pm_H} : pm_go pm_prog cl 287 3 ls st h = pm_ev pm_prog cl 287 3 b287_3 ls st h := pm_go_eq pm_prog cl 287 3 ls st h
theorem t287 {cl : pm_C} {j : Nat} {ls : List Value} {c : Nat} {h : pm_H} : pm_thr pm_prog cl 287 j ls c h = some (.threw c, h) := rfl
/-- TimberHouse$FaultRips.price(II)J -/
noncomputable def f287 (fc : Int32) (pc : Int32) (S : wS) (x1 : Int32) (x2 : Int32) : Option (Nat ⊕ (Int64)) :=
  (f259 (S.1 (0, 0, 0) 16)).bind fun r => match r with
  | .inl c6 =>
    some (.inl c6)
  | .inr _ =>
  (f269 fc pc S x1).bind fun r => match r with
  | .inl c5 =>
    some (.inl c5)
  | .inr v1i =>
  if 0 ≤ v1i ∧ v1i < pc then
    (f260 (Int32.toInt64 x2) 0 2).bind fun v2 =>
    (f261 v2).bind fun r => match r with
    | .inl c4 =>
      some (.inl c4)
    | .inr _ =>
    if x2 = 0 then
      some (.inr (S.2 (4, v1i, 0) 6))
    else
      if x2 = 1 then
        (f450 fc pc S 0 x1).bind fun v3 =>
        some (.inr (Int32.toInt64 v3))
      else
        some (.inr (Int32.toInt64 (S.1 (4, v1i, 0) 5)))
  else none
theorem x287 {fc : Int32} {pc : Int32} {A : wK → Nat} {h : pm_H} {D : Nat} {S : wS} {x1 : Int32} {x2 : Int32} {r : Nat ⊕ (Int64)} (hP : Cr_P fc pc) (hA : wok A (Cr_d fc pc) h.1) (hD : 3 ≤ D) (e : f287 fc pc S x1 x2 = some r) : pm_call pm_prog D 287 [.ref (A (0, 0, 0)), .int x1, .int x2] (wput A (Cr_d fc pc) S h) = some (match (generalizing := false) r with | .inl c => (Outcome.threw c, (wput A (Cr_d fc pc) S (pm_new h 6 (.inr (c, []))))) | .inr w0 => (Outcome.returned (some (.long w0)), (wput A (Cr_d fc pc) S h))) := by
  obtain ⟨D, rfl⟩ : ∃ D', D = D' + 1 := ⟨D - 1, by omega⟩
  have hD : 2 ≤ D := by omega
  simp only [f287] at e
  rw [c287 (Cr_c0 hP hA), b287_0]
  obtain ⟨r, k1, e⟩ := Option.bind_eq_some_iff.mp e
  have z1 := fun h => x259 (D := D) (h := h) (by omega) k1
  rcases r with c6 | _
  · dsimp only at e z1
    have e := Option.some.inj e; subst e
    simp -implicitDefEqProofs (disch := first | assumption | exact Nat.le_of_ble_eq_true rfl | decide) only [b287_0, g287_1, b287_1, g287_2, b287_2, g287_3, b287_3, pe_aload0, pe_getfield, pe_call1, pm_af_ret, pm_af_void, pm_af_thr, pe_iload1, pe_call2, pe_astore3, pe_iload2, pe_i2l, pe_bipush, pe_call3, pe_if_ne, pe_aload3, pe_goto, pe_sipush, pe_icmp_ne, pe_goto_w, pe_lreturn, pm_prog_1, pm_ob_some, Nat.reduceDiv, Nat.reduceMod, Nat.reduceMul, Nat.reduceAdd, Int.reduceToNat, pm_kill_i, pm_kill_r, pm_kill_n, pm_kill_j, pm_kill_l, pm_kill_d, pm_cats_nil, pm_cats_i, pm_cats_r, pm_cats_n, pm_cats_l, pm_cats_d, sz_1, sz_2, sl_1, sl_2, lc_0, lc_lt, lc_le, li_ne, va_rf, wr_m1, we_m1, pm_kill_w, Int32.reduceOfInt, Int64.reduceOfInt, Int32.reduceOfNat, Int32.reduceLT, Int32.reduceLE, Prod.mk.injEq, Nat.reduceEqDiff, reduceCtorEq, and_true, true_and, and_false, false_and, and_self, ite_true, ite_false, ↓reduceIte, not_true_eq_false, not_false_eq_true, pe_ri, pe_rz, pe_rc, p_throw, t287, w_junk hA, Cr_g0_12 hP hA, Cr_g0_16 hP hA, Cr_g4_5 hP hA, Cr_g4_6 hP hA, z1]
  · dsimp only at e z1
    obtain ⟨r, k2, e⟩ := Option.bind_eq_some_iff.mp e
    have z2 := x269 (D := D) (h := h) hP hA (by omega) k2
    rcases r with c5 | v1i
    · dsimp only at e z2
      have e := Option.some.inj e; subst e
      simp -implicitDefEqProofs (disch := first | assumption | exact Nat.le_of_ble_eq_true rfl | decide) only [b287_0, g287_1, b287_1, g287_2, b287_2, g287_3, b287_3, pe_aload0, pe_getfield, pe_call1, pm_af_ret, pm_af_void, pm_af_thr, pe_iload1, pe_call2, pe_astore3, pe_iload2, pe_i2l, pe_bipush, pe_call3, pe_if_ne, pe_aload3, pe_goto, pe_sipush, pe_icmp_ne, pe_goto_w, pe_lreturn, pm_prog_1, pm_ob_some, Nat.reduceDiv, Nat.reduceMod, Nat.reduceMul, Nat.reduceAdd, Int.reduceToNat, pm_kill_i, pm_kill_r, pm_kill_n, pm_kill_j, pm_kill_l, pm_kill_d, pm_cats_nil, pm_cats_i, pm_cats_r, pm_cats_n, pm_cats_l, pm_cats_d, sz_1, sz_2, sl_1, sl_2, lc_0, lc_lt, lc_le, li_ne, va_rf, wr_m1, we_m1, pm_kill_w, Int32.reduceOfInt, Int64.reduceOfInt, Int32.reduceOfNat, Int32.reduceLT, Int32.reduceLE, Prod.mk.injEq, Nat.reduceEqDiff, reduceCtorEq, and_true, true_and, and_false, false_and, and_self, ite_true, ite_false, ↓reduceIte, not_true_eq_false, not_false_eq_true, pe_ri, pe_rz, pe_rc, p_throw, t287, w_junk hA, Cr_g0_12 hP hA, Cr_g0_16 hP hA, Cr_g4_5 hP hA, Cr_g4_6 hP hA, z1, z2]
    · dsimp only at e z2
      by_cases k3 : 0 ≤ v1i ∧ v1i < pc
      · rw [if_pos k3] at e
        obtain ⟨v2, k4, e⟩ := Option.bind_eq_some_iff.mp e
        try dsimp only at e
        have z4 := fun h => x260 (D := D) (h := h) (by omega) k4
        obtain ⟨r, k5, e⟩ := Option.bind_eq_some_iff.mp e
        have z5 := fun h => x261 (D := D) (h := h) (by omega) k5
        rcases r with c4 | _
        · dsimp only at e z5
          have e := Option.some.inj e; subst e
          simp -implicitDefEqProofs (disch := first | assumption | exact Nat.le_of_ble_eq_true rfl | decide) only [b287_0, g287_1, b287_1, g287_2, b287_2, g287_3, b287_3, pe_aload0, pe_getfield, pe_call1, pm_af_ret, pm_af_void, pm_af_thr, pe_iload1, pe_call2, pe_astore3, pe_iload2, pe_i2l, pe_bipush, pe_call3, pe_if_ne, pe_aload3, pe_goto, pe_sipush, pe_icmp_ne, pe_goto_w, pe_lreturn, pm_prog_1, pm_ob_some, Nat.reduceDiv, Nat.reduceMod, Nat.reduceMul, Nat.reduceAdd, Int.reduceToNat, pm_kill_i, pm_kill_r, pm_kill_n, pm_kill_j, pm_kill_l, pm_kill_d, pm_cats_nil, pm_cats_i, pm_cats_r, pm_cats_n, pm_cats_l, pm_cats_d, sz_1, sz_2, sl_1, sl_2, lc_0, lc_lt, lc_le, li_ne, va_rf, wr_m1, we_m1, pm_kill_w, Int32.reduceOfInt, Int64.reduceOfInt, Int32.reduceOfNat, Int32.reduceLT, Int32.reduceLE, Prod.mk.injEq, Nat.reduceEqDiff, reduceCtorEq, and_true, true_and, and_false, false_and, and_self, ite_true, ite_false, ↓reduceIte, not_true_eq_false, not_false_eq_true, pe_ri, pe_rz, pe_rc, p_throw, t287, w_junk hA, Cr_g0_12 hP hA, Cr_g0_16 hP hA, Cr_g4_5 hP hA, Cr_g4_6 hP hA, z1, z2, z4, z5]
        · dsimp only at e z5
          by_cases k6 : x2 = 0
          · rw [if_pos k6] at e
            have e := Option.some.inj e; subst e
            simp -implicitDefEqProofs (disch := first | assumption | exact Nat.le_of_ble_eq_true rfl | decide) only [b287_0, g287_1, b287_1, g287_2, b287_2, g287_3, b287_3, pe_aload0, pe_getfield, pe_call1, pm_af_ret, pm_af_void, pm_af_thr, pe_iload1, pe_call2, pe_astore3, pe_iload2, pe_i2l, pe_bipush, pe_call3, pe_if_ne, pe_aload3, pe_goto, pe_sipush, pe_icmp_ne, pe_goto_w, pe_lreturn, pm_prog_1, pm_ob_some, Nat.reduceDiv, Nat.reduceMod, Nat.reduceMul, Nat.reduceAdd, Int.reduceToNat, pm_kill_i, pm_kill_r, pm_kill_n, pm_kill_j, pm_kill_l, pm_kill_d, pm_cats_nil, pm_cats_i, pm_cats_r, pm_cats_n, pm_cats_l, pm_cats_d, sz_1, sz_2, sl_1, sl_2, lc_0, lc_lt, lc_le, li_ne, va_rf, wr_m1, we_m1, pm_kill_w, Int32.reduceOfInt, Int64.reduceOfInt, Int32.reduceOfNat, Int32.reduceLT, Int32.reduceLE, Prod.mk.injEq, Nat.reduceEqDiff, reduceCtorEq, and_true, true_and, and_false, false_and, and_self, ite_true, ite_false, ↓reduceIte, not_true_eq_false, not_false_eq_true, pe_ri, pe_rz, pe_rc, p_throw, t287, w_junk hA, Cr_g0_12 hP hA, Cr_g0_16 hP hA, Cr_g4_5 hP hA, Cr_g4_6 hP hA, z1, z2, z4, z5, eq_true k6]
          · rw [if_neg k6] at e
            by_cases k7 : x2 = 1
            · rw [if_pos k7] at e
              obtain ⟨v3, k8, e⟩ := Option.bind_eq_some_iff.mp e
              try dsimp only at e
              have z8 := x450 (D := D) (h := h) hP hA (by omega) k8
              have e := Option.some.inj e; subst e
              simp -implicitDefEqProofs (disch := first | assumption | exact Nat.le_of_ble_eq_true rfl | decide) only [b287_0, g287_1, b287_1, g287_2, b287_2, g287_3, b287_3, pe_aload0, pe_getfield, pe_call1, pm_af_ret, pm_af_void, pm_af_thr, pe_iload1, pe_call2, pe_astore3, pe_iload2, pe_i2l, pe_bipush, pe_call3, pe_if_ne, pe_aload3, pe_goto, pe_sipush, pe_icmp_ne, pe_goto_w, pe_lreturn, pm_prog_1, pm_ob_some, Nat.reduceDiv, Nat.reduceMod, Nat.reduceMul, Nat.reduceAdd, Int.reduceToNat, pm_kill_i, pm_kill_r, pm_kill_n, pm_kill_j, pm_kill_l, pm_kill_d, pm_cats_nil, pm_cats_i, pm_cats_r, pm_cats_n, pm_cats_l, pm_cats_d, sz_1, sz_2, sl_1, sl_2, lc_0, lc_lt, lc_le, li_ne, va_rf, wr_m1, we_m1, pm_kill_w, Int32.reduceOfInt, Int64.reduceOfInt, Int32.reduceOfNat, Int32.reduceLT, Int32.reduceLE, Prod.mk.injEq, Nat.reduceEqDiff, reduceCtorEq, and_true, true_and, and_false, false_and, and_self, ite_true, ite_false, ↓reduceIte, not_true_eq_false, not_false_eq_true, pe_ri, pe_rz, pe_rc, p_throw, t287, w_junk hA, Cr_g0_12 hP hA, Cr_g0_16 hP hA, Cr_g4_5 hP hA, Cr_g4_6 hP hA, z1, z2, z4, z5, eq_false k6, eq_true k7, z8]
            · rw [if_neg k7] at e
              have e := Option.some.inj e; subst e
              simp -implicitDefEqProofs (disch := first | assumption | exact Nat.le_of_ble_eq_true rfl | decide) only [b287_0, g287_1, b287_1, g287_2, b287_2, g287_3, b287_3, pe_aload0, pe_getfield, pe_call1, pm_af_ret, pm_af_void, pm_af_thr, pe_iload1, pe_call2, pe_astore3, pe_iload2, pe_i2l, pe_bipush, pe_call3, pe_if_ne, pe_aload3, pe_goto, pe_sipush, pe_icmp_ne, pe_goto_w, pe_lreturn, pm_prog_1, pm_ob_some, Nat.reduceDiv, Nat.reduceMod, Nat.reduceMul, Nat.reduceAdd, Int.reduceToNat, pm_kill_i, pm_kill_r, pm_kill_n, pm_kill_j, pm_kill_l, pm_kill_d, pm_cats_nil, pm_cats_i, pm_cats_r, pm_cats_n, pm_cats_l, pm_cats_d, sz_1, sz_2, sl_1, sl_2, lc_0, lc_lt, lc_le, li_ne, va_rf, wr_m1, we_m1, pm_kill_w, Int32.reduceOfInt, Int64.reduceOfInt, Int32.reduceOfNat, Int32.reduceLT, Int32.reduceLE, Prod.mk.injEq, Nat.reduceEqDiff, reduceCtorEq, and_true, true_and, and_false, false_and, and_self, ite_true, ite_false, ↓reduceIte, not_true_eq_false, not_false_eq_true, pe_ri, pe_rz, pe_rc, p_throw, t287, w_junk hA, Cr_g0_12 hP hA, Cr_g0_16 hP hA, Cr_g4_5 hP hA, Cr_g4_6 hP hA, z1, z2, z4, z5, eq_false k6, eq_false k7]
      · rw [if_neg k3] at e; cases e
/-- TimberHouse$FaultRips.cover()V -/
theorem c289 {d : Nat} {h : pm_H} {a : Nat} (hc : pm_cls h a = some 4) : pm_call pm_prog (d + 1) 289 [.ref a] h = pm_ev pm_prog (pm_call pm_prog d) 289 0 b289_0 [.ref a, pm_junk, pm_junk, pm_junk] [] h := pm_cal (pm_rc1 hc rfl) rfl rfl rfl
theorem g289_1 {cl : pm_C} {ls st : List Value} {h : pm_H} : pm_go pm_prog cl 289 1 ls st h = pm_ev pm_prog cl 289 1 b289_1 ls st h := pm_go_eq pm_prog cl 289 1 ls st h
theorem g289_2 {cl : pm_C} {ls st : List Value} {h : pm_H} : pm_go pm_prog cl 289 2 ls st h = pm_ev pm_prog cl 289 2 b289_2 ls st h := pm_go_eq pm_prog cl 289 2 ls st h
theorem g289_3 {cl : pm_C} {ls st : List Value} {h : pm_H} : pm_go pm_prog cl 289 3 ls st h = pm_ev pm_prog cl 289 3 b289_3 ls st h := pm_go_eq pm_prog cl 289 3 ls st h
theorem g289_4 {cl : pm_C} {ls st : List Value} {h : pm_H} : pm_go pm_prog cl 289 4 ls st h = pm_ev pm_prog cl 289 4 b289_4 ls st h := pm_go_eq pm_prog cl 289 4 ls st h
theorem g289_5 {cl : pm_C} {ls st : List Value} {h : pm_H} : pm_go pm_prog cl 289 5 ls st h = pm_ev pm_prog cl 289 5 b289_5 ls st h := pm_go_eq pm_prog cl 289 5 ls st h
theorem g289_6 {cl : pm_C} {ls st : List Value} {h : pm_H} : pm_go pm_prog cl 289 6 ls st h = pm_ev pm_prog cl 289 6 b289_6 ls st h := pm_go_eq pm_prog cl 289 6 ls st h
theorem g289_7 {cl : pm_C} {ls st : List Value} {h : pm_H} : pm_go pm_prog cl 289 7 ls st h = pm_ev pm_prog cl 289 7 b289_7 ls st h := pm_go_eq pm_prog cl 289 7 ls st h
theorem g289_8 {cl : pm_C} {ls st : List Value} {h : pm_H} : pm_go pm_prog cl 289 8 ls st h = pm_ev pm_prog cl 289 8 b289_8 ls st h := pm_go_eq pm_prog cl 289 8 ls st h
noncomputable def f289_b1 (fc : Int32) (pc : Int32) : Int32 × wS → Option ((Int32 × wS) ⊕ ((wS))) := fun (x1, S) =>
  if x1 < 240 then
    if 0 ≤ x1 ∧ x1 < 240 then
      some (.inl ((x1 + 1), (sz S (18, 0, 0) x1 (vp_nar .boolean 0))))
    else none
  else
    some (.inr S)
noncomputable def f289_b5 (fc : Int32) (pc : Int32) : Int32 × Int32 × Int32 × wS → Option ((Int32 × Int32 × Int32 × wS) ⊕ ((Int32 × Int32 × wS))) := fun (x1, x2, x3, S) =>
  if 0 ≤ x1 ∧ x1 < 240 then
    if x3 < ((S.1 (13, 0, 0) x1) + (S.1 (15, 0, 0) x1)) then
      if 0 ≤ ((24 * x2) + x3) ∧ ((24 * x2) + x3) < 240 then
        some (.inl (x1, x2, (x3 + 1), (sz S (18, 0, 0) ((24 * x2) + x3) (vp_nar .boolean 1))))
      else none
    else
      some (.inr (x1, x2, S))
  else none
noncomputable def f289_b4 (fc : Int32) (pc : Int32) : Int32 × Int32 × wS → Option ((Int32 × Int32 × wS) ⊕ ((Int32 × wS))) := fun (x1, x2, S) =>
  if 0 ≤ x1 ∧ x1 < 240 then
    if x2 < ((S.1 (14, 0, 0) x1) + (S.1 (16, 0, 0) x1)) then
      (lp (f289_b5 fc pc) FU (x1, x2, (S.1 (13, 0, 0) x1), S)).bind fun (v5, v6, S3) =>
      some (.inl (v5, (v6 + 1), S3))
    else
      some (.inr (x1, S))
  else none
noncomputable def f289_b3 (fc : Int32) (pc : Int32) : Int32 × wS → Option ((Int32 × wS) ⊕ ((wS))) := fun (x1, S) =>
  if x1 < (S.1 (12, 0, 0) 5) then
    if 0 ≤ x1 ∧ x1 < 240 then
      (lp (f289_b4 fc pc) FU (x1, (S.1 (14, 0, 0) x1), S)).bind fun (v9, S7) =>
      some (.inl ((v9 + 1), S7))
    else none
  else
    some (.inr S)
/-- TimberHouse$FaultRips.cover()V -/
noncomputable def f289 (fc : Int32) (pc : Int32) (S : wS) : Option (wS) :=
  (lp (f289_b1 fc pc) FU (0, S)).bind fun S1 =>
  (lp (f289_b3 fc pc) FU (0, S1)).bind fun S10 =>
  some S10
def go289_1 (fc : Int32) (pc : Int32) (A : wK → Nat) (h : pm_H) (D : Nat) (R : Outcome × pm_H) : Int32 × wS → Prop := fun (x1, S) => ∀ q2 q3 : Value, pm_go pm_prog (pm_call pm_prog D) 289 1 [.ref (A (0, 0, 0)), .int x1, q2, q3] [] (wput A (Cr_d fc pc) S h) = some R
def ex289_1 (fc : Int32) (pc : Int32) (A : wK → Nat) (h : pm_H) (D : Nat) (R : Outcome × pm_H) : (wS) → Prop := fun S => ∀ q1 q2 q3 : Value, pm_go pm_prog (pm_call pm_prog D) 289 2 [.ref (A (0, 0, 0)), q1, q2, q3] [] (wput A (Cr_d fc pc) S h) = some R
theorem y289_b1 {fc : Int32} {pc : Int32} {A : wK → Nat} {h : pm_H} {D : Nat} {R : Outcome × pm_H} (hP : Cr_P fc pc) (hA : wok A (Cr_d fc pc) h.1) (hD : 0 ≤ D) (a : Int32 × wS) (r : (Int32 × wS) ⊕ ((wS))) (e : f289_b1 fc pc a = some r) (hc : Sum.elim (go289_1 fc pc A h D R) (ex289_1 fc pc A h D R) r) : go289_1 fc pc A h D R a := by
  obtain ⟨x1, S⟩ := a
  dsimp only [go289_1]
  intro q2 q3
  simp only [f289_b1] at e
  rw [g289_1, b289_1]
  by_cases k1 : x1 < 240
  · rw [if_pos k1] at e
    by_cases k2 : 0 ≤ x1 ∧ x1 < 240
    · rw [if_pos k2] at e
      have e := Option.some.inj e; subst e
      dsimp only [Sum.elim_inl, go289_1] at hc
      simp -implicitDefEqProofs (disch := first | assumption | exact Nat.le_of_ble_eq_true rfl | decide) only [b289_0, g289_2, b289_2, g289_6, b289_6, g289_7, b289_7, g289_8, b289_8, pe_sipush, pe_istore1, pe_goto_w, pe_iload1, pe_icmp_ge, pe_aload0, pe_getfield, pe_bastore, pe_iinc1, pe_goto, pe_baload, pe_istore2, pe_iload2, pe_iadd, pe_istore3, pe_iload3, pe_imul, pe_iinc3, pe_iinc2, pe_return, pm_prog_1, pm_ob_some, Nat.reduceDiv, Nat.reduceMod, Nat.reduceMul, Nat.reduceAdd, Int.reduceToNat, pm_kill_i, pm_kill_r, pm_kill_n, pm_kill_j, pm_kill_l, pm_kill_d, pm_cats_nil, pm_cats_i, pm_cats_r, pm_cats_n, pm_cats_l, pm_cats_d, sz_1, sz_2, sl_1, sl_2, lc_0, lc_lt, lc_le, li_ne, va_rf, wr_m1, we_m1, pm_kill_w, Int32.reduceOfInt, Int64.reduceOfInt, Int32.reduceOfNat, Int32.reduceLT, Int32.reduceLE, Prod.mk.injEq, Nat.reduceEqDiff, reduceCtorEq, and_true, true_and, and_false, false_and, and_self, ite_true, ite_false, ↓reduceIte, not_true_eq_false, not_false_eq_true, pe_ri, pe_rz, pe_rc, Cr_g0_12 hP hA, Cr_g0_18 hP hA, Cr_g12_0 hP hA, Cr_g12_1 hP hA, Cr_g12_2 hP hA, Cr_g12_3 hP hA, Cr_g12_5 hP hA, Cr_r13 hP hA, Cr_r14 hP hA, Cr_r15 hP hA, Cr_r16 hP hA, Cr_w18 hP hA, eq_true k1, hc]
    · rw [if_neg k2] at e; cases e
  · rw [if_neg k1] at e
    have e := Option.some.inj e; subst e
    dsimp only [Sum.elim_inr, ex289_1] at hc
    simp -implicitDefEqProofs (disch := first | assumption | exact Nat.le_of_ble_eq_true rfl | decide) only [b289_0, g289_2, b289_2, g289_6, b289_6, g289_7, b289_7, g289_8, b289_8, pe_sipush, pe_istore1, pe_goto_w, pe_iload1, pe_icmp_ge, pe_aload0, pe_getfield, pe_bastore, pe_iinc1, pe_goto, pe_baload, pe_istore2, pe_iload2, pe_iadd, pe_istore3, pe_iload3, pe_imul, pe_iinc3, pe_iinc2, pe_return, pm_prog_1, pm_ob_some, Nat.reduceDiv, Nat.reduceMod, Nat.reduceMul, Nat.reduceAdd, Int.reduceToNat, pm_kill_i, pm_kill_r, pm_kill_n, pm_kill_j, pm_kill_l, pm_kill_d, pm_cats_nil, pm_cats_i, pm_cats_r, pm_cats_n, pm_cats_l, pm_cats_d, sz_1, sz_2, sl_1, sl_2, lc_0, lc_lt, lc_le, li_ne, va_rf, wr_m1, we_m1, pm_kill_w, Int32.reduceOfInt, Int64.reduceOfInt, Int32.reduceOfNat, Int32.reduceLT, Int32.reduceLE, Prod.mk.injEq, Nat.reduceEqDiff, reduceCtorEq, and_true, true_and, and_false, false_and, and_self, ite_true, ite_false, ↓reduceIte, not_true_eq_false, not_false_eq_true, pe_ri, pe_rz, pe_rc, Cr_g0_12 hP hA, Cr_g0_18 hP hA, Cr_g12_0 hP hA, Cr_g12_1 hP hA, Cr_g12_2 hP hA, Cr_g12_3 hP hA, Cr_g12_5 hP hA, Cr_r13 hP hA, Cr_r14 hP hA, Cr_r15 hP hA, Cr_r16 hP hA, Cr_w18 hP hA, eq_false k1, hc]
theorem z289_1 {fc : Int32} {pc : Int32} {A : wK → Nat} {h : pm_H} {D : Nat} {R : Outcome × pm_H} (hP : Cr_P fc pc) (hA : wok A (Cr_d fc pc) h.1) (hD : 0 ≤ D) {n : Nat} {a : Int32 × wS} {b : (wS)} (e : lp (f289_b1 fc pc) n a = some b) (hx : ex289_1 fc pc A h D R b) : go289_1 fc pc A h D R a := lp_run (fun a r => y289_b1 hP hA hD a r) n a b e hx
def go289_5 (fc : Int32) (pc : Int32) (A : wK → Nat) (h : pm_H) (D : Nat) (R : Outcome × pm_H) : Int32 × Int32 × Int32 × wS → Prop := fun (x1, x2, x3, S) => pm_go pm_prog (pm_call pm_prog D) 289 5 [.ref (A (0, 0, 0)), .int x1, .int x2, .int x3] [] (wput A (Cr_d fc pc) S h) = some R
def ex289_5 (fc : Int32) (pc : Int32) (A : wK → Nat) (h : pm_H) (D : Nat) (R : Outcome × pm_H) : (Int32 × Int32 × wS) → Prop := fun (x1, x2, S) => ∀ q3 : Value, pm_go pm_prog (pm_call pm_prog D) 289 6 [.ref (A (0, 0, 0)), .int x1, .int x2, q3] [] (wput A (Cr_d fc pc) S h) = some R
theorem y289_b5 {fc : Int32} {pc : Int32} {A : wK → Nat} {h : pm_H} {D : Nat} {R : Outcome × pm_H} (hP : Cr_P fc pc) (hA : wok A (Cr_d fc pc) h.1) (hD : 0 ≤ D) (a : Int32 × Int32 × Int32 × wS) (r : (Int32 × Int32 × Int32 × wS) ⊕ ((Int32 × Int32 × wS))) (e : f289_b5 fc pc a = some r) (hc : Sum.elim (go289_5 fc pc A h D R) (ex289_5 fc pc A h D R) r) : go289_5 fc pc A h D R a := by
  obtain ⟨x1, x2, x3, S⟩ := a
  dsimp only [go289_5]
  simp only [f289_b5] at e
  rw [g289_5, b289_5]
  by_cases k1 : 0 ≤ x1 ∧ x1 < 240
  · rw [if_pos k1] at e
    by_cases k2 : x3 < ((S.1 (13, 0, 0) x1) + (S.1 (15, 0, 0) x1))
    · rw [if_pos k2] at e
      by_cases k3 : 0 ≤ ((24 * x2) + x3) ∧ ((24 * x2) + x3) < 240
      · rw [if_pos k3] at e
        have e := Option.some.inj e; subst e
        dsimp only [Sum.elim_inl, go289_5] at hc
        simp -implicitDefEqProofs (disch := first | assumption | exact Nat.le_of_ble_eq_true rfl | decide) only [b289_0, g289_2, b289_2, g289_6, b289_6, g289_7, b289_7, g289_8, b289_8, pe_sipush, pe_istore1, pe_goto_w, pe_iload1, pe_icmp_ge, pe_aload0, pe_getfield, pe_bastore, pe_iinc1, pe_goto, pe_baload, pe_istore2, pe_iload2, pe_iadd, pe_istore3, pe_iload3, pe_imul, pe_iinc3, pe_iinc2, pe_return, pm_prog_1, pm_ob_some, Nat.reduceDiv, Nat.reduceMod, Nat.reduceMul, Nat.reduceAdd, Int.reduceToNat, pm_kill_i, pm_kill_r, pm_kill_n, pm_kill_j, pm_kill_l, pm_kill_d, pm_cats_nil, pm_cats_i, pm_cats_r, pm_cats_n, pm_cats_l, pm_cats_d, sz_1, sz_2, sl_1, sl_2, lc_0, lc_lt, lc_le, li_ne, va_rf, wr_m1, we_m1, pm_kill_w, Int32.reduceOfInt, Int64.reduceOfInt, Int32.reduceOfNat, Int32.reduceLT, Int32.reduceLE, Prod.mk.injEq, Nat.reduceEqDiff, reduceCtorEq, and_true, true_and, and_false, false_and, and_self, ite_true, ite_false, ↓reduceIte, not_true_eq_false, not_false_eq_true, pe_ri, pe_rz, pe_rc, Cr_g0_12 hP hA, Cr_g0_18 hP hA, Cr_g12_0 hP hA, Cr_g12_1 hP hA, Cr_g12_2 hP hA, Cr_g12_3 hP hA, Cr_g12_5 hP hA, Cr_r13 hP hA, Cr_r14 hP hA, Cr_r15 hP hA, Cr_r16 hP hA, Cr_w18 hP hA, eq_true k2, hc]
      · rw [if_neg k3] at e; cases e
    · rw [if_neg k2] at e
      have e := Option.some.inj e; subst e
      dsimp only [Sum.elim_inr, ex289_5] at hc
      simp -implicitDefEqProofs (disch := first | assumption | exact Nat.le_of_ble_eq_true rfl | decide) only [b289_0, g289_2, b289_2, g289_6, b289_6, g289_7, b289_7, g289_8, b289_8, pe_sipush, pe_istore1, pe_goto_w, pe_iload1, pe_icmp_ge, pe_aload0, pe_getfield, pe_bastore, pe_iinc1, pe_goto, pe_baload, pe_istore2, pe_iload2, pe_iadd, pe_istore3, pe_iload3, pe_imul, pe_iinc3, pe_iinc2, pe_return, pm_prog_1, pm_ob_some, Nat.reduceDiv, Nat.reduceMod, Nat.reduceMul, Nat.reduceAdd, Int.reduceToNat, pm_kill_i, pm_kill_r, pm_kill_n, pm_kill_j, pm_kill_l, pm_kill_d, pm_cats_nil, pm_cats_i, pm_cats_r, pm_cats_n, pm_cats_l, pm_cats_d, sz_1, sz_2, sl_1, sl_2, lc_0, lc_lt, lc_le, li_ne, va_rf, wr_m1, we_m1, pm_kill_w, Int32.reduceOfInt, Int64.reduceOfInt, Int32.reduceOfNat, Int32.reduceLT, Int32.reduceLE, Prod.mk.injEq, Nat.reduceEqDiff, reduceCtorEq, and_true, true_and, and_false, false_and, and_self, ite_true, ite_false, ↓reduceIte, not_true_eq_false, not_false_eq_true, pe_ri, pe_rz, pe_rc, Cr_g0_12 hP hA, Cr_g0_18 hP hA, Cr_g12_0 hP hA, Cr_g12_1 hP hA, Cr_g12_2 hP hA, Cr_g12_3 hP hA, Cr_g12_5 hP hA, Cr_r13 hP hA, Cr_r14 hP hA, Cr_r15 hP hA, Cr_r16 hP hA, Cr_w18 hP hA, eq_false k2, hc]
  · rw [if_neg k1] at e; cases e
theorem z289_5 {fc : Int32} {pc : Int32} {A : wK → Nat} {h : pm_H} {D : Nat} {R : Outcome × pm_H} (hP : Cr_P fc pc) (hA : wok A (Cr_d fc pc) h.1) (hD : 0 ≤ D) {n : Nat} {a : Int32 × Int32 × Int32 × wS} {b : (Int32 × Int32 × wS)} (e : lp (f289_b5 fc pc) n a = some b) (hx : ex289_5 fc pc A h D R b) : go289_5 fc pc A h D R a := lp_run (fun a r => y289_b5 hP hA hD a r) n a b e hx
def go289_4 (fc : Int32) (pc : Int32) (A : wK → Nat) (h : pm_H) (D : Nat) (R : Outcome × pm_H) : Int32 × Int32 × wS → Prop := fun (x1, x2, S) => ∀ q3 : Value, pm_go pm_prog (pm_call pm_prog D) 289 4 [.ref (A (0, 0, 0)), .int x1, .int x2, q3] [] (wput A (Cr_d fc pc) S h) = some R
def ex289_4 (fc : Int32) (pc : Int32) (A : wK → Nat) (h : pm_H) (D : Nat) (R : Outcome × pm_H) : (Int32 × wS) → Prop := fun (x1, S) => ∀ q2 q3 : Value, pm_go pm_prog (pm_call pm_prog D) 289 7 [.ref (A (0, 0, 0)), .int x1, q2, q3] [] (wput A (Cr_d fc pc) S h) = some R
theorem y289_b4 {fc : Int32} {pc : Int32} {A : wK → Nat} {h : pm_H} {D : Nat} {R : Outcome × pm_H} (hP : Cr_P fc pc) (hA : wok A (Cr_d fc pc) h.1) (hD : 0 ≤ D) (a : Int32 × Int32 × wS) (r : (Int32 × Int32 × wS) ⊕ ((Int32 × wS))) (e : f289_b4 fc pc a = some r) (hc : Sum.elim (go289_4 fc pc A h D R) (ex289_4 fc pc A h D R) r) : go289_4 fc pc A h D R a := by
  obtain ⟨x1, x2, S⟩ := a
  dsimp only [go289_4]
  intro q3
  simp only [f289_b4] at e
  rw [g289_4, b289_4]
  by_cases k1 : 0 ≤ x1 ∧ x1 < 240
  · rw [if_pos k1] at e
    by_cases k2 : x2 < ((S.1 (14, 0, 0) x1) + (S.1 (16, 0, 0) x1))
    · rw [if_pos k2] at e
      obtain ⟨⟨v5, v6, S3⟩, k3, e⟩ := Option.bind_eq_some_iff.mp e
      try dsimp only at e
      try simp -implicitDefEqProofs (disch := first | assumption | exact Nat.le_of_ble_eq_true rfl | decide) only [b289_0, g289_2, b289_2, g289_6, b289_6, g289_7, b289_7, g289_8, b289_8, pe_sipush, pe_istore1, pe_goto_w, pe_iload1, pe_icmp_ge, pe_aload0, pe_getfield, pe_bastore, pe_iinc1, pe_goto, pe_baload, pe_istore2, pe_iload2, pe_iadd, pe_istore3, pe_iload3, pe_imul, pe_iinc3, pe_iinc2, pe_return, pm_prog_1, pm_ob_some, Nat.reduceDiv, Nat.reduceMod, Nat.reduceMul, Nat.reduceAdd, Int.reduceToNat, pm_kill_i, pm_kill_r, pm_kill_n, pm_kill_j, pm_kill_l, pm_kill_d, pm_cats_nil, pm_cats_i, pm_cats_r, pm_cats_n, pm_cats_l, pm_cats_d, sz_1, sz_2, sl_1, sl_2, lc_0, lc_lt, lc_le, li_ne, va_rf, wr_m1, we_m1, pm_kill_w, Int32.reduceOfInt, Int64.reduceOfInt, Int32.reduceOfNat, Int32.reduceLT, Int32.reduceLE, Prod.mk.injEq, Nat.reduceEqDiff, reduceCtorEq, and_true, true_and, and_false, false_and, and_self, ite_true, ite_false, ↓reduceIte, not_true_eq_false, not_false_eq_true, pe_ri, pe_rz, pe_rc, Cr_g0_12 hP hA, Cr_g0_18 hP hA, Cr_g12_0 hP hA, Cr_g12_1 hP hA, Cr_g12_2 hP hA, Cr_g12_3 hP hA, Cr_g12_5 hP hA, Cr_r13 hP hA, Cr_r14 hP hA, Cr_r15 hP hA, Cr_r16 hP hA, Cr_w18 hP hA, eq_true k2]
      refine z289_5 hP hA hD k3 ?_
      dsimp only [ex289_5]
      intro q3
      have e := Option.some.inj e; subst e
      dsimp only [Sum.elim_inl, go289_4] at hc
      simp -implicitDefEqProofs (disch := first | assumption | exact Nat.le_of_ble_eq_true rfl | decide) only [b289_0, g289_2, b289_2, g289_6, b289_6, g289_7, b289_7, g289_8, b289_8, pe_sipush, pe_istore1, pe_goto_w, pe_iload1, pe_icmp_ge, pe_aload0, pe_getfield, pe_bastore, pe_iinc1, pe_goto, pe_baload, pe_istore2, pe_iload2, pe_iadd, pe_istore3, pe_iload3, pe_imul, pe_iinc3, pe_iinc2, pe_return, pm_prog_1, pm_ob_some, Nat.reduceDiv, Nat.reduceMod, Nat.reduceMul, Nat.reduceAdd, Int.reduceToNat, pm_kill_i, pm_kill_r, pm_kill_n, pm_kill_j, pm_kill_l, pm_kill_d, pm_cats_nil, pm_cats_i, pm_cats_r, pm_cats_n, pm_cats_l, pm_cats_d, sz_1, sz_2, sl_1, sl_2, lc_0, lc_lt, lc_le, li_ne, va_rf, wr_m1, we_m1, pm_kill_w, Int32.reduceOfInt, Int64.reduceOfInt, Int32.reduceOfNat, Int32.reduceLT, Int32.reduceLE, Prod.mk.injEq, Nat.reduceEqDiff, reduceCtorEq, and_true, true_and, and_false, false_and, and_self, ite_true, ite_false, ↓reduceIte, not_true_eq_false, not_false_eq_true, pe_ri, pe_rz, pe_rc, Cr_g0_12 hP hA, Cr_g0_18 hP hA, Cr_g12_0 hP hA, Cr_g12_1 hP hA, Cr_g12_2 hP hA, Cr_g12_3 hP hA, Cr_g12_5 hP hA, Cr_r13 hP hA, Cr_r14 hP hA, Cr_r15 hP hA, Cr_r16 hP hA, Cr_w18 hP hA, eq_true k2, hc]
    · rw [if_neg k2] at e
      have e := Option.some.inj e; subst e
      dsimp only [Sum.elim_inr, ex289_4] at hc
      simp -implicitDefEqProofs (disch := first | assumption | exact Nat.le_of_ble_eq_true rfl | decide) only [b289_0, g289_2, b289_2, g289_6, b289_6, g289_7, b289_7, g289_8, b289_8, pe_sipush, pe_istore1, pe_goto_w, pe_iload1, pe_icmp_ge, pe_aload0, pe_getfield, pe_bastore, pe_iinc1, pe_goto, pe_baload, pe_istore2, pe_iload2, pe_iadd, pe_istore3, pe_iload3, pe_imul, pe_iinc3, pe_iinc2, pe_return, pm_prog_1, pm_ob_some, Nat.reduceDiv, Nat.reduceMod, Nat.reduceMul, Nat.reduceAdd, Int.reduceToNat, pm_kill_i, pm_kill_r, pm_kill_n, pm_kill_j, pm_kill_l, pm_kill_d, pm_cats_nil, pm_cats_i, pm_cats_r, pm_cats_n, pm_cats_l, pm_cats_d, sz_1, sz_2, sl_1, sl_2, lc_0, lc_lt, lc_le, li_ne, va_rf, wr_m1, we_m1, pm_kill_w, Int32.reduceOfInt, Int64.reduceOfInt, Int32.reduceOfNat, Int32.reduceLT, Int32.reduceLE, Prod.mk.injEq, Nat.reduceEqDiff, reduceCtorEq, and_true, true_and, and_false, false_and, and_self, ite_true, ite_false, ↓reduceIte, not_true_eq_false, not_false_eq_true, pe_ri, pe_rz, pe_rc, Cr_g0_12 hP hA, Cr_g0_18 hP hA, Cr_g12_0 hP hA, Cr_g12_1 hP hA, Cr_g12_2 hP hA, Cr_g12_3 hP hA, Cr_g12_5 hP hA, Cr_r13 hP hA, Cr_r14 hP hA, Cr_r15 hP hA, Cr_r16 hP hA, Cr_w18 hP hA, eq_false k2, hc]
  · rw [if_neg k1] at e; cases e
theorem z289_4 {fc : Int32} {pc : Int32} {A : wK → Nat} {h : pm_H} {D : Nat} {R : Outcome × pm_H} (hP : Cr_P fc pc) (hA : wok A (Cr_d fc pc) h.1) (hD : 0 ≤ D) {n : Nat} {a : Int32 × Int32 × wS} {b : (Int32 × wS)} (e : lp (f289_b4 fc pc) n a = some b) (hx : ex289_4 fc pc A h D R b) : go289_4 fc pc A h D R a := lp_run (fun a r => y289_b4 hP hA hD a r) n a b e hx
def go289_3 (fc : Int32) (pc : Int32) (A : wK → Nat) (h : pm_H) (D : Nat) (R : Outcome × pm_H) : Int32 × wS → Prop := fun (x1, S) => ∀ q2 q3 : Value, pm_go pm_prog (pm_call pm_prog D) 289 3 [.ref (A (0, 0, 0)), .int x1, q2, q3] [] (wput A (Cr_d fc pc) S h) = some R
def ex289_3 (fc : Int32) (pc : Int32) (A : wK → Nat) (h : pm_H) (D : Nat) (R : Outcome × pm_H) : (wS) → Prop := fun S => ∀ q0 q1 q2 q3 : Value, pm_go pm_prog (pm_call pm_prog D) 289 8 [q0, q1, q2, q3] [] (wput A (Cr_d fc pc) S h) = some R
theorem y289_b3 {fc : Int32} {pc : Int32} {A : wK → Nat} {h : pm_H} {D : Nat} {R : Outcome × pm_H} (hP : Cr_P fc pc) (hA : wok A (Cr_d fc pc) h.1) (hD : 0 ≤ D) (a : Int32 × wS) (r : (Int32 × wS) ⊕ ((wS))) (e : f289_b3 fc pc a = some r) (hc : Sum.elim (go289_3 fc pc A h D R) (ex289_3 fc pc A h D R) r) : go289_3 fc pc A h D R a := by
  obtain ⟨x1, S⟩ := a
  dsimp only [go289_3]
  intro q2 q3
  simp only [f289_b3] at e
  rw [g289_3, b289_3]
  by_cases k1 : x1 < (S.1 (12, 0, 0) 5)
  · rw [if_pos k1] at e
    by_cases k2 : 0 ≤ x1 ∧ x1 < 240
    · rw [if_pos k2] at e
      obtain ⟨⟨v9, S7⟩, k3, e⟩ := Option.bind_eq_some_iff.mp e
      try dsimp only at e
      try simp -implicitDefEqProofs (disch := first | assumption | exact Nat.le_of_ble_eq_true rfl | decide) only [b289_0, g289_2, b289_2, g289_6, b289_6, g289_7, b289_7, g289_8, b289_8, pe_sipush, pe_istore1, pe_goto_w, pe_iload1, pe_icmp_ge, pe_aload0, pe_getfield, pe_bastore, pe_iinc1, pe_goto, pe_baload, pe_istore2, pe_iload2, pe_iadd, pe_istore3, pe_iload3, pe_imul, pe_iinc3, pe_iinc2, pe_return, pm_prog_1, pm_ob_some, Nat.reduceDiv, Nat.reduceMod, Nat.reduceMul, Nat.reduceAdd, Int.reduceToNat, pm_kill_i, pm_kill_r, pm_kill_n, pm_kill_j, pm_kill_l, pm_kill_d, pm_cats_nil, pm_cats_i, pm_cats_r, pm_cats_n, pm_cats_l, pm_cats_d, sz_1, sz_2, sl_1, sl_2, lc_0, lc_lt, lc_le, li_ne, va_rf, wr_m1, we_m1, pm_kill_w, Int32.reduceOfInt, Int64.reduceOfInt, Int32.reduceOfNat, Int32.reduceLT, Int32.reduceLE, Prod.mk.injEq, Nat.reduceEqDiff, reduceCtorEq, and_true, true_and, and_false, false_and, and_self, ite_true, ite_false, ↓reduceIte, not_true_eq_false, not_false_eq_true, pe_ri, pe_rz, pe_rc, Cr_g0_12 hP hA, Cr_g0_18 hP hA, Cr_g12_0 hP hA, Cr_g12_1 hP hA, Cr_g12_2 hP hA, Cr_g12_3 hP hA, Cr_g12_5 hP hA, Cr_r13 hP hA, Cr_r14 hP hA, Cr_r15 hP hA, Cr_r16 hP hA, Cr_w18 hP hA, eq_true k1]
      refine z289_4 hP hA hD k3 ?_ _
      dsimp only [ex289_4]
      intro q2 q3
      have e := Option.some.inj e; subst e
      dsimp only [Sum.elim_inl, go289_3] at hc
      simp -implicitDefEqProofs (disch := first | assumption | exact Nat.le_of_ble_eq_true rfl | decide) only [b289_0, g289_2, b289_2, g289_6, b289_6, g289_7, b289_7, g289_8, b289_8, pe_sipush, pe_istore1, pe_goto_w, pe_iload1, pe_icmp_ge, pe_aload0, pe_getfield, pe_bastore, pe_iinc1, pe_goto, pe_baload, pe_istore2, pe_iload2, pe_iadd, pe_istore3, pe_iload3, pe_imul, pe_iinc3, pe_iinc2, pe_return, pm_prog_1, pm_ob_some, Nat.reduceDiv, Nat.reduceMod, Nat.reduceMul, Nat.reduceAdd, Int.reduceToNat, pm_kill_i, pm_kill_r, pm_kill_n, pm_kill_j, pm_kill_l, pm_kill_d, pm_cats_nil, pm_cats_i, pm_cats_r, pm_cats_n, pm_cats_l, pm_cats_d, sz_1, sz_2, sl_1, sl_2, lc_0, lc_lt, lc_le, li_ne, va_rf, wr_m1, we_m1, pm_kill_w, Int32.reduceOfInt, Int64.reduceOfInt, Int32.reduceOfNat, Int32.reduceLT, Int32.reduceLE, Prod.mk.injEq, Nat.reduceEqDiff, reduceCtorEq, and_true, true_and, and_false, false_and, and_self, ite_true, ite_false, ↓reduceIte, not_true_eq_false, not_false_eq_true, pe_ri, pe_rz, pe_rc, Cr_g0_12 hP hA, Cr_g0_18 hP hA, Cr_g12_0 hP hA, Cr_g12_1 hP hA, Cr_g12_2 hP hA, Cr_g12_3 hP hA, Cr_g12_5 hP hA, Cr_r13 hP hA, Cr_r14 hP hA, Cr_r15 hP hA, Cr_r16 hP hA, Cr_w18 hP hA, eq_true k1, hc]
    · rw [if_neg k2] at e; cases e
  · rw [if_neg k1] at e
    have e := Option.some.inj e; subst e
    dsimp only [Sum.elim_inr, ex289_3] at hc
    simp -implicitDefEqProofs (disch := first | assumption | exact Nat.le_of_ble_eq_true rfl | decide) only [b289_0, g289_2, b289_2, g289_6, b289_6, g289_7, b289_7, g289_8, b289_8, pe_sipush, pe_istore1, pe_goto_w, pe_iload1, pe_icmp_ge, pe_aload0, pe_getfield, pe_bastore, pe_iinc1, pe_goto, pe_baload, pe_istore2, pe_iload2, pe_iadd, pe_istore3, pe_iload3, pe_imul, pe_iinc3, pe_iinc2, pe_return, pm_prog_1, pm_ob_some, Nat.reduceDiv, Nat.reduceMod, Nat.reduceMul, Nat.reduceAdd, Int.reduceToNat, pm_kill_i, pm_kill_r, pm_kill_n, pm_kill_j, pm_kill_l, pm_kill_d, pm_cats_nil, pm_cats_i, pm_cats_r, pm_cats_n, pm_cats_l, pm_cats_d, sz_1, sz_2, sl_1, sl_2, lc_0, lc_lt, lc_le, li_ne, va_rf, wr_m1, we_m1, pm_kill_w, Int32.reduceOfInt, Int64.reduceOfInt, Int32.reduceOfNat, Int32.reduceLT, Int32.reduceLE, Prod.mk.injEq, Nat.reduceEqDiff, reduceCtorEq, and_true, true_and, and_false, false_and, and_self, ite_true, ite_false, ↓reduceIte, not_true_eq_false, not_false_eq_true, pe_ri, pe_rz, pe_rc, Cr_g0_12 hP hA, Cr_g0_18 hP hA, Cr_g12_0 hP hA, Cr_g12_1 hP hA, Cr_g12_2 hP hA, Cr_g12_3 hP hA, Cr_g12_5 hP hA, Cr_r13 hP hA, Cr_r14 hP hA, Cr_r15 hP hA, Cr_r16 hP hA, Cr_w18 hP hA, eq_false k1, hc]
theorem z289_3 {fc : Int32} {pc : Int32} {A : wK → Nat} {h : pm_H} {D : Nat} {R : Outcome × pm_H} (hP : Cr_P fc pc) (hA : wok A (Cr_d fc pc) h.1) (hD : 0 ≤ D) {n : Nat} {a : Int32 × wS} {b : (wS)} (e : lp (f289_b3 fc pc) n a = some b) (hx : ex289_3 fc pc A h D R b) : go289_3 fc pc A h D R a := lp_run (fun a r => y289_b3 hP hA hD a r) n a b e hx
theorem x289 {fc : Int32} {pc : Int32} {A : wK → Nat} {h : pm_H} {D : Nat} {S : wS} {r : wS} (hP : Cr_P fc pc) (hA : wok A (Cr_d fc pc) h.1) (hD : 1 ≤ D) (e : f289 fc pc S = some r) : pm_call pm_prog D 289 [.ref (A (0, 0, 0))] (wput A (Cr_d fc pc) S h) = some (Outcome.returned none, (wput A (Cr_d fc pc) r h)) := by
  obtain ⟨D, rfl⟩ : ∃ D', D = D' + 1 := ⟨D - 1, by omega⟩
  have hD : 0 ≤ D := by omega
  simp only [f289] at e
  rw [c289 (Cr_c0 hP hA), b289_0]
  obtain ⟨S1, k1, e⟩ := Option.bind_eq_some_iff.mp e
  try dsimp only at e
  try simp -implicitDefEqProofs (disch := first | assumption | exact Nat.le_of_ble_eq_true rfl | decide) only [b289_0, g289_2, b289_2, g289_6, b289_6, g289_7, b289_7, g289_8, b289_8, pe_sipush, pe_istore1, pe_goto_w, pe_iload1, pe_icmp_ge, pe_aload0, pe_getfield, pe_bastore, pe_iinc1, pe_goto, pe_baload, pe_istore2, pe_iload2, pe_iadd, pe_istore3, pe_iload3, pe_imul, pe_iinc3, pe_iinc2, pe_return, pm_prog_1, pm_ob_some, Nat.reduceDiv, Nat.reduceMod, Nat.reduceMul, Nat.reduceAdd, Int.reduceToNat, pm_kill_i, pm_kill_r, pm_kill_n, pm_kill_j, pm_kill_l, pm_kill_d, pm_cats_nil, pm_cats_i, pm_cats_r, pm_cats_n, pm_cats_l, pm_cats_d, sz_1, sz_2, sl_1, sl_2, lc_0, lc_lt, lc_le, li_ne, va_rf, wr_m1, we_m1, pm_kill_w, Int32.reduceOfInt, Int64.reduceOfInt, Int32.reduceOfNat, Int32.reduceLT, Int32.reduceLE, Prod.mk.injEq, Nat.reduceEqDiff, reduceCtorEq, and_true, true_and, and_false, false_and, and_self, ite_true, ite_false, ↓reduceIte, not_true_eq_false, not_false_eq_true, pe_ri, pe_rz, pe_rc, Cr_g0_12 hP hA, Cr_g0_18 hP hA, Cr_g12_0 hP hA, Cr_g12_1 hP hA, Cr_g12_2 hP hA, Cr_g12_3 hP hA, Cr_g12_5 hP hA, Cr_r13 hP hA, Cr_r14 hP hA, Cr_r15 hP hA, Cr_r16 hP hA, Cr_w18 hP hA]
  refine z289_1 hP hA hD k1 ?_ _ _
  dsimp only [ex289_1]
  intro q1 q2 q3
  obtain ⟨S10, k2, e⟩ := Option.bind_eq_some_iff.mp e
  try dsimp only at e
  try simp -implicitDefEqProofs (disch := first | assumption | exact Nat.le_of_ble_eq_true rfl | decide) only [b289_0, g289_2, b289_2, g289_6, b289_6, g289_7, b289_7, g289_8, b289_8, pe_sipush, pe_istore1, pe_goto_w, pe_iload1, pe_icmp_ge, pe_aload0, pe_getfield, pe_bastore, pe_iinc1, pe_goto, pe_baload, pe_istore2, pe_iload2, pe_iadd, pe_istore3, pe_iload3, pe_imul, pe_iinc3, pe_iinc2, pe_return, pm_prog_1, pm_ob_some, Nat.reduceDiv, Nat.reduceMod, Nat.reduceMul, Nat.reduceAdd, Int.reduceToNat, pm_kill_i, pm_kill_r, pm_kill_n, pm_kill_j, pm_kill_l, pm_kill_d, pm_cats_nil, pm_cats_i, pm_cats_r, pm_cats_n, pm_cats_l, pm_cats_d, sz_1, sz_2, sl_1, sl_2, lc_0, lc_lt, lc_le, li_ne, va_rf, wr_m1, we_m1, pm_kill_w, Int32.reduceOfInt, Int64.reduceOfInt, Int32.reduceOfNat, Int32.reduceLT, Int32.reduceLE, Prod.mk.injEq, Nat.reduceEqDiff, reduceCtorEq, and_true, true_and, and_false, false_and, and_self, ite_true, ite_false, ↓reduceIte, not_true_eq_false, not_false_eq_true, pe_ri, pe_rz, pe_rc, Cr_g0_12 hP hA, Cr_g0_18 hP hA, Cr_g12_0 hP hA, Cr_g12_1 hP hA, Cr_g12_2 hP hA, Cr_g12_3 hP hA, Cr_g12_5 hP hA, Cr_r13 hP hA, Cr_r14 hP hA, Cr_r15 hP hA, Cr_r16 hP hA, Cr_w18 hP hA]
  refine z289_3 hP hA hD k2 ?_ _ _
  dsimp only [ex289_3]
  intro q0 q1 q2 q3
  have e := Option.some.inj e; subst e
  simp -implicitDefEqProofs (disch := first | assumption | exact Nat.le_of_ble_eq_true rfl | decide) only [b289_0, g289_2, b289_2, g289_6, b289_6, g289_7, b289_7, g289_8, b289_8, pe_sipush, pe_istore1, pe_goto_w, pe_iload1, pe_icmp_ge, pe_aload0, pe_getfield, pe_bastore, pe_iinc1, pe_goto, pe_baload, pe_istore2, pe_iload2, pe_iadd, pe_istore3, pe_iload3, pe_imul, pe_iinc3, pe_iinc2, pe_return, pm_prog_1, pm_ob_some, Nat.reduceDiv, Nat.reduceMod, Nat.reduceMul, Nat.reduceAdd, Int.reduceToNat, pm_kill_i, pm_kill_r, pm_kill_n, pm_kill_j, pm_kill_l, pm_kill_d, pm_cats_nil, pm_cats_i, pm_cats_r, pm_cats_n, pm_cats_l, pm_cats_d, sz_1, sz_2, sl_1, sl_2, lc_0, lc_lt, lc_le, li_ne, va_rf, wr_m1, we_m1, pm_kill_w, Int32.reduceOfInt, Int64.reduceOfInt, Int32.reduceOfNat, Int32.reduceLT, Int32.reduceLE, Prod.mk.injEq, Nat.reduceEqDiff, reduceCtorEq, and_true, true_and, and_false, false_and, and_self, ite_true, ite_false, ↓reduceIte, not_true_eq_false, not_false_eq_true, pe_ri, pe_rz, pe_rc, Cr_g0_12 hP hA, Cr_g0_18 hP hA, Cr_g12_0 hP hA, Cr_g12_1 hP hA, Cr_g12_2 hP hA, Cr_g12_3 hP hA, Cr_g12_5 hP hA, Cr_r13 hP hA, Cr_r14 hP hA, Cr_r15 hP hA, Cr_r16 hP hA, Cr_w18 hP hA]
/-- TimberHouse$FaultRips.rest(II)I -/
theorem c290 {d : Nat} {h : pm_H} {a : Nat} {x0 : Int32} {x1 : Int32} (hc : pm_cls h a = some 4) : pm_call pm_prog (d + 1) 290 [.ref a, .int x0, .int x1] h = pm_ev pm_prog (pm_call pm_prog d) 290 0 b290_0 [.ref a, .int x0, .int x1, pm_junk, pm_junk, pm_junk, pm_junk, pm_junk] [] h := pm_cal (pm_rc1 hc rfl) rfl rfl rfl
theorem g290_1 {cl : pm_C} {ls st : List Value} {h : pm_H} : pm_go pm_prog cl 290 1 ls st h = pm_ev pm_prog cl 290 1 b290_1 ls st h := pm_go_eq pm_prog cl 290 1 ls st h
theorem g290_2 {cl : pm_C} {ls st : List Value} {h : pm_H} : pm_go pm_prog cl 290 2 ls st h = pm_ev pm_prog cl 290 2 b290_2 ls st h := pm_go_eq pm_prog cl 290 2 ls st h
theorem g290_3 {cl : pm_C} {ls st : List Value} {h : pm_H} : pm_go pm_prog cl 290 3 ls st h = pm_ev pm_prog cl 290 3 b290_3 ls st h := pm_go_eq pm_prog cl 290 3 ls st h
theorem g290_4 {cl : pm_C} {ls st : List Value} {h : pm_H} : pm_go pm_prog cl 290 4 ls st h = pm_ev pm_prog cl 290 4 b290_4 ls st h := pm_go_eq pm_prog cl 290 4 ls st h
theorem g290_5 {cl : pm_C} {ls st : List Value} {h : pm_H} : pm_go pm_prog cl 290 5 ls st h = pm_ev pm_prog cl 290 5 b290_5 ls st h := pm_go_eq pm_prog cl 290 5 ls st h
theorem g290_6 {cl : pm_C} {ls st : List Value} {h : pm_H} : pm_go pm_prog cl 290 6 ls st h = pm_ev pm_prog cl 290 6 b290_6 ls st h := pm_go_eq pm_prog cl 290 6 ls st h
theorem g290_7 {cl : pm_C} {ls st : List Value} {h : pm_H} : pm_go pm_prog cl 290 7 ls st h = pm_ev pm_prog cl 290 7 b290_7 ls st h := pm_go_eq pm_prog cl 290 7 ls st h
theorem g290_8 {cl : pm_C} {ls st : List Value} {h : pm_H} : pm_go pm_prog cl 290 8 ls st h = pm_ev pm_prog cl 290 8 b290_8 ls st h := pm_go_eq pm_prog cl 290 8 ls st h
theorem g290_9 {cl : pm_C} {ls st : List Value} {h : pm_H} : pm_go pm_prog cl 290 9 ls st h = pm_ev pm_prog cl 290 9 b290_9 ls st h := pm_go_eq pm_prog cl 290 9 ls st h
theorem g290_10 {cl : pm_C} {ls st : List Value} {h : pm_H} : pm_go pm_prog cl 290 10 ls st h = pm_ev pm_prog cl 290 10 b290_10 ls st h := pm_go_eq pm_prog cl 290 10 ls st h
theorem g290_11 {cl : pm_C} {ls st : List Value} {h : pm_H} : pm_go pm_prog cl 290 11 ls st h = pm_ev pm_prog cl 290 11 b290_11 ls st h := pm_go_eq pm_prog cl 290 11 ls st h
theorem g290_12 {cl : pm_C} {ls st : List Value} {h : pm_H} : pm_go pm_prog cl 290 12 ls st h = pm_ev pm_prog cl 290 12 b290_12 ls st h := pm_go_eq pm_prog cl 290 12 ls st h
noncomputable def f290_5_2 (fc : Int32) (pc : Int32) (S : wS) (x1 : Int32) (x2 : Int32) (x3 : Int32) (x4 : Int32) (x5 : Int32) (x6 : Int32) (x7 : Int32) : Option ((Int32 × Int32 × Int32 × Int32 × Int32 × Int32) ⊕ ((Int32) ⊕ (Int32 × Int32 × Int32 × Int32) ⊕ (Int32 × Int32 × Int32 × Int32))) :=
  if x7 = 0 then
    if x5 = (-1) then
      some (.inl (x1, x2, x3, x4, x5, (x6 + 1)))
    else
      if x3 = x1 then
        if x2 = 0 then
          some (.inr (.inl x5))
        else
          some (.inr (.inr (.inl (x2, x4, x5, x6))))
      else
        some (.inl (x1, x2, (x3 + 1), x4, (-1), (x6 + 1)))
  else
    some (.inl (x1, x2, x3, x4, x5, (x6 + 1)))
noncomputable def f290_4_2 (fc : Int32) (pc : Int32) (S : wS) (x1 : Int32) (x2 : Int32) (x3 : Int32) (x4 : Int32) (x5 : Int32) (x6 : Int32) (y0 : Int32) : Option ((Int32 × Int32 × Int32 × Int32 × Int32 × Int32) ⊕ ((Int32) ⊕ (Int32 × Int32 × Int32 × Int32) ⊕ (Int32 × Int32 × Int32 × Int32))) :=
  if y0 = 0 then
    f290_5_2 fc pc S x1 x2 x3 x4 x5 x6 y0
  else
    if x5 = (-1) then
      some (.inl (x1, x2, x3, x4, x6, (x6 + 1)))
    else
      f290_5_2 fc pc S x1 x2 x3 x4 x5 x6 y0
noncomputable def f290_b2 (fc : Int32) (pc : Int32) (S : wS) : Int32 × Int32 × Int32 × Int32 × Int32 × Int32 → Option ((Int32 × Int32 × Int32 × Int32 × Int32 × Int32) ⊕ ((Int32) ⊕ (Int32 × Int32 × Int32 × Int32) ⊕ (Int32 × Int32 × Int32 × Int32))) := fun (x1, x2, x3, x4, x5, x6) =>
  if x6 ≤ (S.1 (0, 0, 0) 1) then
    if x6 < (S.1 (0, 0, 0) 1) then
      if 0 ≤ ((24 * x4) + x6) ∧ ((24 * x4) + x6) < 240 then
        if (S.1 (18, 0, 0) ((24 * x4) + x6)) = 0 then
          f290_4_2 fc pc S x1 x2 x3 x4 x5 x6 1
        else
          f290_4_2 fc pc S x1 x2 x3 x4 x5 x6 0
      else none
    else
      f290_4_2 fc pc S x1 x2 x3 x4 x5 x6 0
  else
    some (.inr (.inr (.inr ((x1, x2, x3, x4)))))
noncomputable def f290_b1 (fc : Int32) (pc : Int32) (S : wS) : Int32 × Int32 × Int32 × Int32 → Option ((Int32 × Int32 × Int32 × Int32) ⊕ ((Int32) ⊕ (Int32 × Int32 × Int32 × Int32) ⊕ (Int32))) := fun (x1, x2, x3, x4) =>
  if x4 < (S.1 (0, 0, 0) 2) then
    (lp (f290_b2 fc pc S) FU (x1, x2, x3, x4, (-1), 0)).bind fun b => match b with
    | (.inl v1) =>
      some (.inr (.inl v1))
    | (.inr (.inl (v2, v3, v4, v5))) =>
      some (.inr (.inr (.inl (v2, v3, v4, v5))))
    | (.inr (.inr ((v7, v8, v9, v10)))) =>
      some (.inl (v7, v8, v9, (v10 + 1)))
  else
    some (.inr (.inr (.inr (x3))))
/-- TimberHouse$FaultRips.rest(II)I -/
noncomputable def f290 (fc : Int32) (pc : Int32) (S : wS) (x1 : Int32) (x2 : Int32) : Option (Int32) :=
  (lp (f290_b1 fc pc S) FU (x1, x2, 0, 0)).bind fun b => match b with
  | (.inl v11) =>
    some v11
  | (.inr (.inl (v12, v13, v14, v15))) =>
    if v12 = 1 then
      some v13
    else
      some (v15 - v14)
  | (.inr (.inr (v16))) =>
    some v16
def go290_2 (fc : Int32) (pc : Int32) (A : wK → Nat) (h : pm_H) (D : Nat) (R : Outcome × pm_H) (S : wS) : Int32 × Int32 × Int32 × Int32 × Int32 × Int32 → Prop := fun (x1, x2, x3, x4, x5, x6) => ∀ q7 : Value, pm_go pm_prog (pm_call pm_prog D) 290 2 [.ref (A (0, 0, 0)), .int x1, .int x2, .int x3, .int x4, .int x5, .int x6, q7] [] (wput A (Cr_d fc pc) S h) = some R
def ex290_2 (fc : Int32) (pc : Int32) (A : wK → Nat) (h : pm_H) (D : Nat) (R : Outcome × pm_H) (S : wS) : (Int32) ⊕ (Int32 × Int32 × Int32 × Int32) ⊕ (Int32 × Int32 × Int32 × Int32) → Prop := fun b => match b with
  | (.inl y0) => ∀ q0 q1 q2 q3 q4 q5 q6 q7 : Value, pm_go pm_prog (pm_call pm_prog D) 290 8 [q0, q1, q2, q3, q4, q5, q6, q7] [.int y0] (wput A (Cr_d fc pc) S h) = some R
  | (.inr (.inl (x2, x4, x5, x6))) => ∀ q0 q1 q3 q7 : Value, pm_go pm_prog (pm_call pm_prog D) 290 6 [q0, q1, .int x2, q3, .int x4, .int x5, .int x6, q7] [] (wput A (Cr_d fc pc) S h) = some R
  | (.inr (.inr ((x1, x2, x3, x4)))) => ∀ q5 q6 q7 : Value, pm_go pm_prog (pm_call pm_prog D) 290 11 [.ref (A (0, 0, 0)), .int x1, .int x2, .int x3, .int x4, q5, q6, q7] [] (wput A (Cr_d fc pc) S h) = some R
theorem y290_5_2 {fc : Int32} {pc : Int32} {A : wK → Nat} {h : pm_H} {D : Nat} {R : Outcome × pm_H} {S : wS} {x1 : Int32} {x2 : Int32} {x3 : Int32} {x4 : Int32} {x5 : Int32} {x6 : Int32} {x7 : Int32} {r : (Int32 × Int32 × Int32 × Int32 × Int32 × Int32) ⊕ ((Int32) ⊕ (Int32 × Int32 × Int32 × Int32) ⊕ (Int32 × Int32 × Int32 × Int32))} (hP : Cr_P fc pc) (hA : wok A (Cr_d fc pc) h.1) (hD : 0 ≤ D) (e : f290_5_2 fc pc S x1 x2 x3 x4 x5 x6 x7 = some r) (hc : Sum.elim (go290_2 fc pc A h D R S) (ex290_2 fc pc A h D R S) r) : pm_go pm_prog (pm_call pm_prog D) 290 5 [.ref (A (0, 0, 0)), .int x1, .int x2, .int x3, .int x4, .int x5, .int x6, .int x7] [] (wput A (Cr_d fc pc) S h) = some R := by
  simp only [f290_5_2] at e
  rw [g290_5, b290_5]
  by_cases k1 : x7 = 0
  · rw [if_pos k1] at e
    by_cases k2 : x5 = (-1)
    · rw [if_pos k2] at e
      have e := Option.some.inj e; subst e
      dsimp only [Sum.elim_inl, go290_2] at hc
      simp -implicitDefEqProofs (disch := first | assumption | exact Nat.le_of_ble_eq_true rfl | decide) only [b290_0, g290_3, b290_3, g290_6, b290_6, g290_7, b290_7, g290_8, b290_8, g290_9, b290_9, g290_10, b290_10, g290_11, b290_11, g290_12, b290_12, pe_sipush, pe_istore3, pe_istore4, pe_goto_w, pe_iload4, pe_aload0, pe_getfield, pe_icmp_ge, pe_istore5, pe_istore6, pe_iload6, pe_icmp_gt, pe_imul, pe_iadd, pe_baload, pe_if_ne, pe_goto, pe_istore7, pe_iload7, pe_if_eq, pe_iload5, pe_icmp_ne, pe_icmp_eq, pe_iload3, pe_iinc3, pe_iload1, pe_iload2, pe_isub, pe_iinc6, pe_iinc4, pm_prog_1, pm_ob_some, Nat.reduceDiv, Nat.reduceMod, Nat.reduceMul, Nat.reduceAdd, Int.reduceToNat, pm_kill_i, pm_kill_r, pm_kill_n, pm_kill_j, pm_kill_l, pm_kill_d, pm_cats_nil, pm_cats_i, pm_cats_r, pm_cats_n, pm_cats_l, pm_cats_d, sz_1, sz_2, sl_1, sl_2, lc_0, lc_lt, lc_le, li_ne, va_rf, wr_m1, we_m1, pm_kill_w, Int32.reduceOfInt, Int64.reduceOfInt, Int32.reduceOfNat, Int32.reduceLT, Int32.reduceLE, Prod.mk.injEq, Nat.reduceEqDiff, reduceCtorEq, and_true, true_and, and_false, false_and, and_self, ite_true, ite_false, ↓reduceIte, not_true_eq_false, not_false_eq_true, pe_ri, pe_rz, pe_rc, Cr_g0_1 hP hA, Cr_g0_18 hP hA, Cr_g0_2 hP hA, Cr_r18 hP hA, eq_true k1, eq_true k2, hc]
    · rw [if_neg k2] at e
      by_cases k3 : x3 = x1
      · rw [if_pos k3] at e
        by_cases k4 : x2 = 0
        · rw [if_pos k4] at e
          have e := Option.some.inj e; subst e
          dsimp only [Sum.elim_inr, ex290_2] at hc
          simp -implicitDefEqProofs (disch := first | assumption | exact Nat.le_of_ble_eq_true rfl | decide) only [b290_0, g290_3, b290_3, g290_6, b290_6, g290_7, b290_7, g290_8, b290_8, g290_9, b290_9, g290_10, b290_10, g290_11, b290_11, g290_12, b290_12, pe_sipush, pe_istore3, pe_istore4, pe_goto_w, pe_iload4, pe_aload0, pe_getfield, pe_icmp_ge, pe_istore5, pe_istore6, pe_iload6, pe_icmp_gt, pe_imul, pe_iadd, pe_baload, pe_if_ne, pe_goto, pe_istore7, pe_iload7, pe_if_eq, pe_iload5, pe_icmp_ne, pe_icmp_eq, pe_iload3, pe_iinc3, pe_iload1, pe_iload2, pe_isub, pe_iinc6, pe_iinc4, pm_prog_1, pm_ob_some, Nat.reduceDiv, Nat.reduceMod, Nat.reduceMul, Nat.reduceAdd, Int.reduceToNat, pm_kill_i, pm_kill_r, pm_kill_n, pm_kill_j, pm_kill_l, pm_kill_d, pm_cats_nil, pm_cats_i, pm_cats_r, pm_cats_n, pm_cats_l, pm_cats_d, sz_1, sz_2, sl_1, sl_2, lc_0, lc_lt, lc_le, li_ne, va_rf, wr_m1, we_m1, pm_kill_w, Int32.reduceOfInt, Int64.reduceOfInt, Int32.reduceOfNat, Int32.reduceLT, Int32.reduceLE, Prod.mk.injEq, Nat.reduceEqDiff, reduceCtorEq, and_true, true_and, and_false, false_and, and_self, ite_true, ite_false, ↓reduceIte, not_true_eq_false, not_false_eq_true, pe_ri, pe_rz, pe_rc, Cr_g0_1 hP hA, Cr_g0_18 hP hA, Cr_g0_2 hP hA, Cr_r18 hP hA, eq_true k1, eq_false k2, eq_true k3, eq_true k4, hc]
        · rw [if_neg k4] at e
          have e := Option.some.inj e; subst e
          dsimp only [Sum.elim_inr, ex290_2] at hc
          simp -implicitDefEqProofs (disch := first | assumption | exact Nat.le_of_ble_eq_true rfl | decide) only [b290_0, g290_3, b290_3, g290_6, b290_6, g290_7, b290_7, g290_8, b290_8, g290_9, b290_9, g290_10, b290_10, g290_11, b290_11, g290_12, b290_12, pe_sipush, pe_istore3, pe_istore4, pe_goto_w, pe_iload4, pe_aload0, pe_getfield, pe_icmp_ge, pe_istore5, pe_istore6, pe_iload6, pe_icmp_gt, pe_imul, pe_iadd, pe_baload, pe_if_ne, pe_goto, pe_istore7, pe_iload7, pe_if_eq, pe_iload5, pe_icmp_ne, pe_icmp_eq, pe_iload3, pe_iinc3, pe_iload1, pe_iload2, pe_isub, pe_iinc6, pe_iinc4, pm_prog_1, pm_ob_some, Nat.reduceDiv, Nat.reduceMod, Nat.reduceMul, Nat.reduceAdd, Int.reduceToNat, pm_kill_i, pm_kill_r, pm_kill_n, pm_kill_j, pm_kill_l, pm_kill_d, pm_cats_nil, pm_cats_i, pm_cats_r, pm_cats_n, pm_cats_l, pm_cats_d, sz_1, sz_2, sl_1, sl_2, lc_0, lc_lt, lc_le, li_ne, va_rf, wr_m1, we_m1, pm_kill_w, Int32.reduceOfInt, Int64.reduceOfInt, Int32.reduceOfNat, Int32.reduceLT, Int32.reduceLE, Prod.mk.injEq, Nat.reduceEqDiff, reduceCtorEq, and_true, true_and, and_false, false_and, and_self, ite_true, ite_false, ↓reduceIte, not_true_eq_false, not_false_eq_true, pe_ri, pe_rz, pe_rc, Cr_g0_1 hP hA, Cr_g0_18 hP hA, Cr_g0_2 hP hA, Cr_r18 hP hA, eq_true k1, eq_false k2, eq_true k3, eq_false k4, hc]
      · rw [if_neg k3] at e
        have e := Option.some.inj e; subst e
        dsimp only [Sum.elim_inl, go290_2] at hc
        simp -implicitDefEqProofs (disch := first | assumption | exact Nat.le_of_ble_eq_true rfl | decide) only [b290_0, g290_3, b290_3, g290_6, b290_6, g290_7, b290_7, g290_8, b290_8, g290_9, b290_9, g290_10, b290_10, g290_11, b290_11, g290_12, b290_12, pe_sipush, pe_istore3, pe_istore4, pe_goto_w, pe_iload4, pe_aload0, pe_getfield, pe_icmp_ge, pe_istore5, pe_istore6, pe_iload6, pe_icmp_gt, pe_imul, pe_iadd, pe_baload, pe_if_ne, pe_goto, pe_istore7, pe_iload7, pe_if_eq, pe_iload5, pe_icmp_ne, pe_icmp_eq, pe_iload3, pe_iinc3, pe_iload1, pe_iload2, pe_isub, pe_iinc6, pe_iinc4, pm_prog_1, pm_ob_some, Nat.reduceDiv, Nat.reduceMod, Nat.reduceMul, Nat.reduceAdd, Int.reduceToNat, pm_kill_i, pm_kill_r, pm_kill_n, pm_kill_j, pm_kill_l, pm_kill_d, pm_cats_nil, pm_cats_i, pm_cats_r, pm_cats_n, pm_cats_l, pm_cats_d, sz_1, sz_2, sl_1, sl_2, lc_0, lc_lt, lc_le, li_ne, va_rf, wr_m1, we_m1, pm_kill_w, Int32.reduceOfInt, Int64.reduceOfInt, Int32.reduceOfNat, Int32.reduceLT, Int32.reduceLE, Prod.mk.injEq, Nat.reduceEqDiff, reduceCtorEq, and_true, true_and, and_false, false_and, and_self, ite_true, ite_false, ↓reduceIte, not_true_eq_false, not_false_eq_true, pe_ri, pe_rz, pe_rc, Cr_g0_1 hP hA, Cr_g0_18 hP hA, Cr_g0_2 hP hA, Cr_r18 hP hA, eq_true k1, eq_false k2, eq_false k3, hc]
  · rw [if_neg k1] at e
    have e := Option.some.inj e; subst e
    dsimp only [Sum.elim_inl, go290_2] at hc
    simp -implicitDefEqProofs (disch := first | assumption | exact Nat.le_of_ble_eq_true rfl | decide) only [b290_0, g290_3, b290_3, g290_6, b290_6, g290_7, b290_7, g290_8, b290_8, g290_9, b290_9, g290_10, b290_10, g290_11, b290_11, g290_12, b290_12, pe_sipush, pe_istore3, pe_istore4, pe_goto_w, pe_iload4, pe_aload0, pe_getfield, pe_icmp_ge, pe_istore5, pe_istore6, pe_iload6, pe_icmp_gt, pe_imul, pe_iadd, pe_baload, pe_if_ne, pe_goto, pe_istore7, pe_iload7, pe_if_eq, pe_iload5, pe_icmp_ne, pe_icmp_eq, pe_iload3, pe_iinc3, pe_iload1, pe_iload2, pe_isub, pe_iinc6, pe_iinc4, pm_prog_1, pm_ob_some, Nat.reduceDiv, Nat.reduceMod, Nat.reduceMul, Nat.reduceAdd, Int.reduceToNat, pm_kill_i, pm_kill_r, pm_kill_n, pm_kill_j, pm_kill_l, pm_kill_d, pm_cats_nil, pm_cats_i, pm_cats_r, pm_cats_n, pm_cats_l, pm_cats_d, sz_1, sz_2, sl_1, sl_2, lc_0, lc_lt, lc_le, li_ne, va_rf, wr_m1, we_m1, pm_kill_w, Int32.reduceOfInt, Int64.reduceOfInt, Int32.reduceOfNat, Int32.reduceLT, Int32.reduceLE, Prod.mk.injEq, Nat.reduceEqDiff, reduceCtorEq, and_true, true_and, and_false, false_and, and_self, ite_true, ite_false, ↓reduceIte, not_true_eq_false, not_false_eq_true, pe_ri, pe_rz, pe_rc, Cr_g0_1 hP hA, Cr_g0_18 hP hA, Cr_g0_2 hP hA, Cr_r18 hP hA, eq_false k1, hc]
theorem y290_4_2 {fc : Int32} {pc : Int32} {A : wK → Nat} {h : pm_H} {D : Nat} {R : Outcome × pm_H} {S : wS} {x1 : Int32} {x2 : Int32} {x3 : Int32} {x4 : Int32} {x5 : Int32} {x6 : Int32} {y0 : Int32} {r : (Int32 × Int32 × Int32 × Int32 × Int32 × Int32) ⊕ ((Int32) ⊕ (Int32 × Int32 × Int32 × Int32) ⊕ (Int32 × Int32 × Int32 × Int32))} (hP : Cr_P fc pc) (hA : wok A (Cr_d fc pc) h.1) (hD : 0 ≤ D) (e : f290_4_2 fc pc S x1 x2 x3 x4 x5 x6 y0 = some r) (hc : Sum.elim (go290_2 fc pc A h D R S) (ex290_2 fc pc A h D R S) r) : ∀ q7 : Value, pm_go pm_prog (pm_call pm_prog D) 290 4 [.ref (A (0, 0, 0)), .int x1, .int x2, .int x3, .int x4, .int x5, .int x6, q7] [.int y0] (wput A (Cr_d fc pc) S h) = some R := by
  intro q7
  simp only [f290_4_2] at e
  rw [g290_4, b290_4]
  by_cases k1 : y0 = 0
  · rw [if_pos k1] at e
    have k2 := y290_5_2 (h := h) hP hA hD e hc
    simp -implicitDefEqProofs (disch := first | assumption | exact Nat.le_of_ble_eq_true rfl | decide) only [b290_0, g290_3, b290_3, g290_6, b290_6, g290_7, b290_7, g290_8, b290_8, g290_9, b290_9, g290_10, b290_10, g290_11, b290_11, g290_12, b290_12, pe_sipush, pe_istore3, pe_istore4, pe_goto_w, pe_iload4, pe_aload0, pe_getfield, pe_icmp_ge, pe_istore5, pe_istore6, pe_iload6, pe_icmp_gt, pe_imul, pe_iadd, pe_baload, pe_if_ne, pe_goto, pe_istore7, pe_iload7, pe_if_eq, pe_iload5, pe_icmp_ne, pe_icmp_eq, pe_iload3, pe_iinc3, pe_iload1, pe_iload2, pe_isub, pe_iinc6, pe_iinc4, pm_prog_1, pm_ob_some, Nat.reduceDiv, Nat.reduceMod, Nat.reduceMul, Nat.reduceAdd, Int.reduceToNat, pm_kill_i, pm_kill_r, pm_kill_n, pm_kill_j, pm_kill_l, pm_kill_d, pm_cats_nil, pm_cats_i, pm_cats_r, pm_cats_n, pm_cats_l, pm_cats_d, sz_1, sz_2, sl_1, sl_2, lc_0, lc_lt, lc_le, li_ne, va_rf, wr_m1, we_m1, pm_kill_w, Int32.reduceOfInt, Int64.reduceOfInt, Int32.reduceOfNat, Int32.reduceLT, Int32.reduceLE, Prod.mk.injEq, Nat.reduceEqDiff, reduceCtorEq, and_true, true_and, and_false, false_and, and_self, ite_true, ite_false, ↓reduceIte, not_true_eq_false, not_false_eq_true, pe_ri, pe_rz, pe_rc, Cr_g0_1 hP hA, Cr_g0_18 hP hA, Cr_g0_2 hP hA, Cr_r18 hP hA, eq_true k1, k2]
  · rw [if_neg k1] at e
    by_cases k3 : x5 = (-1)
    · rw [if_pos k3] at e
      have e := Option.some.inj e; subst e
      dsimp only [Sum.elim_inl, go290_2] at hc
      simp -implicitDefEqProofs (disch := first | assumption | exact Nat.le_of_ble_eq_true rfl | decide) only [b290_0, g290_3, b290_3, g290_6, b290_6, g290_7, b290_7, g290_8, b290_8, g290_9, b290_9, g290_10, b290_10, g290_11, b290_11, g290_12, b290_12, pe_sipush, pe_istore3, pe_istore4, pe_goto_w, pe_iload4, pe_aload0, pe_getfield, pe_icmp_ge, pe_istore5, pe_istore6, pe_iload6, pe_icmp_gt, pe_imul, pe_iadd, pe_baload, pe_if_ne, pe_goto, pe_istore7, pe_iload7, pe_if_eq, pe_iload5, pe_icmp_ne, pe_icmp_eq, pe_iload3, pe_iinc3, pe_iload1, pe_iload2, pe_isub, pe_iinc6, pe_iinc4, pm_prog_1, pm_ob_some, Nat.reduceDiv, Nat.reduceMod, Nat.reduceMul, Nat.reduceAdd, Int.reduceToNat, pm_kill_i, pm_kill_r, pm_kill_n, pm_kill_j, pm_kill_l, pm_kill_d, pm_cats_nil, pm_cats_i, pm_cats_r, pm_cats_n, pm_cats_l, pm_cats_d, sz_1, sz_2, sl_1, sl_2, lc_0, lc_lt, lc_le, li_ne, va_rf, wr_m1, we_m1, pm_kill_w, Int32.reduceOfInt, Int64.reduceOfInt, Int32.reduceOfNat, Int32.reduceLT, Int32.reduceLE, Prod.mk.injEq, Nat.reduceEqDiff, reduceCtorEq, and_true, true_and, and_false, false_and, and_self, ite_true, ite_false, ↓reduceIte, not_true_eq_false, not_false_eq_true, pe_ri, pe_rz, pe_rc, Cr_g0_1 hP hA, Cr_g0_18 hP hA, Cr_g0_2 hP hA, Cr_r18 hP hA, eq_false k1, eq_true k3, hc]
    · rw [if_neg k3] at e
      have k4 := y290_5_2 (h := h) hP hA hD e hc
      simp -implicitDefEqProofs (disch := first | assumption | exact Nat.le_of_ble_eq_true rfl | decide) only [b290_0, g290_3, b290_3, g290_6, b290_6, g290_7, b290_7, g290_8, b290_8, g290_9, b290_9, g290_10, b290_10, g290_11, b290_11, g290_12, b290_12, pe_sipush, pe_istore3, pe_istore4, pe_goto_w, pe_iload4, pe_aload0, pe_getfield, pe_icmp_ge, pe_istore5, pe_istore6, pe_iload6, pe_icmp_gt, pe_imul, pe_iadd, pe_baload, pe_if_ne, pe_goto, pe_istore7, pe_iload7, pe_if_eq, pe_iload5, pe_icmp_ne, pe_icmp_eq, pe_iload3, pe_iinc3, pe_iload1, pe_iload2, pe_isub, pe_iinc6, pe_iinc4, pm_prog_1, pm_ob_some, Nat.reduceDiv, Nat.reduceMod, Nat.reduceMul, Nat.reduceAdd, Int.reduceToNat, pm_kill_i, pm_kill_r, pm_kill_n, pm_kill_j, pm_kill_l, pm_kill_d, pm_cats_nil, pm_cats_i, pm_cats_r, pm_cats_n, pm_cats_l, pm_cats_d, sz_1, sz_2, sl_1, sl_2, lc_0, lc_lt, lc_le, li_ne, va_rf, wr_m1, we_m1, pm_kill_w, Int32.reduceOfInt, Int64.reduceOfInt, Int32.reduceOfNat, Int32.reduceLT, Int32.reduceLE, Prod.mk.injEq, Nat.reduceEqDiff, reduceCtorEq, and_true, true_and, and_false, false_and, and_self, ite_true, ite_false, ↓reduceIte, not_true_eq_false, not_false_eq_true, pe_ri, pe_rz, pe_rc, Cr_g0_1 hP hA, Cr_g0_18 hP hA, Cr_g0_2 hP hA, Cr_r18 hP hA, eq_false k1, eq_false k3, k4]
theorem y290_b2 {fc : Int32} {pc : Int32} {A : wK → Nat} {h : pm_H} {D : Nat} {R : Outcome × pm_H} {S : wS} (hP : Cr_P fc pc) (hA : wok A (Cr_d fc pc) h.1) (hD : 0 ≤ D) (a : Int32 × Int32 × Int32 × Int32 × Int32 × Int32) (r : (Int32 × Int32 × Int32 × Int32 × Int32 × Int32) ⊕ ((Int32) ⊕ (Int32 × Int32 × Int32 × Int32) ⊕ (Int32 × Int32 × Int32 × Int32))) (e : f290_b2 fc pc S a = some r) (hc : Sum.elim (go290_2 fc pc A h D R S) (ex290_2 fc pc A h D R S) r) : go290_2 fc pc A h D R S a := by
  obtain ⟨x1, x2, x3, x4, x5, x6⟩ := a
  dsimp only [go290_2]
  intro q7
  simp only [f290_b2] at e
  rw [g290_2, b290_2]
  by_cases k1 : x6 ≤ (S.1 (0, 0, 0) 1)
  · rw [if_pos k1] at e
    by_cases k2 : x6 < (S.1 (0, 0, 0) 1)
    · rw [if_pos k2] at e
      by_cases k3 : 0 ≤ ((24 * x4) + x6) ∧ ((24 * x4) + x6) < 240
      · rw [if_pos k3] at e
        by_cases k4 : (S.1 (18, 0, 0) ((24 * x4) + x6)) = 0
        · rw [if_pos k4] at e
          have k5 := y290_4_2 (h := h) hP hA hD e hc
          simp -implicitDefEqProofs (disch := first | assumption | exact Nat.le_of_ble_eq_true rfl | decide) only [b290_0, g290_3, b290_3, g290_6, b290_6, g290_7, b290_7, g290_8, b290_8, g290_9, b290_9, g290_10, b290_10, g290_11, b290_11, g290_12, b290_12, pe_sipush, pe_istore3, pe_istore4, pe_goto_w, pe_iload4, pe_aload0, pe_getfield, pe_icmp_ge, pe_istore5, pe_istore6, pe_iload6, pe_icmp_gt, pe_imul, pe_iadd, pe_baload, pe_if_ne, pe_goto, pe_istore7, pe_iload7, pe_if_eq, pe_iload5, pe_icmp_ne, pe_icmp_eq, pe_iload3, pe_iinc3, pe_iload1, pe_iload2, pe_isub, pe_iinc6, pe_iinc4, pm_prog_1, pm_ob_some, Nat.reduceDiv, Nat.reduceMod, Nat.reduceMul, Nat.reduceAdd, Int.reduceToNat, pm_kill_i, pm_kill_r, pm_kill_n, pm_kill_j, pm_kill_l, pm_kill_d, pm_cats_nil, pm_cats_i, pm_cats_r, pm_cats_n, pm_cats_l, pm_cats_d, sz_1, sz_2, sl_1, sl_2, lc_0, lc_lt, lc_le, li_ne, va_rf, wr_m1, we_m1, pm_kill_w, Int32.reduceOfInt, Int64.reduceOfInt, Int32.reduceOfNat, Int32.reduceLT, Int32.reduceLE, Prod.mk.injEq, Nat.reduceEqDiff, reduceCtorEq, and_true, true_and, and_false, false_and, and_self, ite_true, ite_false, ↓reduceIte, not_true_eq_false, not_false_eq_true, pe_ri, pe_rz, pe_rc, Cr_g0_1 hP hA, Cr_g0_18 hP hA, Cr_g0_2 hP hA, Cr_r18 hP hA, eq_true k1, eq_true k2, eq_true k4, k5]
        · rw [if_neg k4] at e
          have k6 := y290_4_2 (h := h) hP hA hD e hc
          simp -implicitDefEqProofs (disch := first | assumption | exact Nat.le_of_ble_eq_true rfl | decide) only [b290_0, g290_3, b290_3, g290_6, b290_6, g290_7, b290_7, g290_8, b290_8, g290_9, b290_9, g290_10, b290_10, g290_11, b290_11, g290_12, b290_12, pe_sipush, pe_istore3, pe_istore4, pe_goto_w, pe_iload4, pe_aload0, pe_getfield, pe_icmp_ge, pe_istore5, pe_istore6, pe_iload6, pe_icmp_gt, pe_imul, pe_iadd, pe_baload, pe_if_ne, pe_goto, pe_istore7, pe_iload7, pe_if_eq, pe_iload5, pe_icmp_ne, pe_icmp_eq, pe_iload3, pe_iinc3, pe_iload1, pe_iload2, pe_isub, pe_iinc6, pe_iinc4, pm_prog_1, pm_ob_some, Nat.reduceDiv, Nat.reduceMod, Nat.reduceMul, Nat.reduceAdd, Int.reduceToNat, pm_kill_i, pm_kill_r, pm_kill_n, pm_kill_j, pm_kill_l, pm_kill_d, pm_cats_nil, pm_cats_i, pm_cats_r, pm_cats_n, pm_cats_l, pm_cats_d, sz_1, sz_2, sl_1, sl_2, lc_0, lc_lt, lc_le, li_ne, va_rf, wr_m1, we_m1, pm_kill_w, Int32.reduceOfInt, Int64.reduceOfInt, Int32.reduceOfNat, Int32.reduceLT, Int32.reduceLE, Prod.mk.injEq, Nat.reduceEqDiff, reduceCtorEq, and_true, true_and, and_false, false_and, and_self, ite_true, ite_false, ↓reduceIte, not_true_eq_false, not_false_eq_true, pe_ri, pe_rz, pe_rc, Cr_g0_1 hP hA, Cr_g0_18 hP hA, Cr_g0_2 hP hA, Cr_r18 hP hA, eq_true k1, eq_true k2, eq_false k4, k6]
      · rw [if_neg k3] at e; cases e
    · rw [if_neg k2] at e
      have k7 := y290_4_2 (h := h) hP hA hD e hc
      simp -implicitDefEqProofs (disch := first | assumption | exact Nat.le_of_ble_eq_true rfl | decide) only [b290_0, g290_3, b290_3, g290_6, b290_6, g290_7, b290_7, g290_8, b290_8, g290_9, b290_9, g290_10, b290_10, g290_11, b290_11, g290_12, b290_12, pe_sipush, pe_istore3, pe_istore4, pe_goto_w, pe_iload4, pe_aload0, pe_getfield, pe_icmp_ge, pe_istore5, pe_istore6, pe_iload6, pe_icmp_gt, pe_imul, pe_iadd, pe_baload, pe_if_ne, pe_goto, pe_istore7, pe_iload7, pe_if_eq, pe_iload5, pe_icmp_ne, pe_icmp_eq, pe_iload3, pe_iinc3, pe_iload1, pe_iload2, pe_isub, pe_iinc6, pe_iinc4, pm_prog_1, pm_ob_some, Nat.reduceDiv, Nat.reduceMod, Nat.reduceMul, Nat.reduceAdd, Int.reduceToNat, pm_kill_i, pm_kill_r, pm_kill_n, pm_kill_j, pm_kill_l, pm_kill_d, pm_cats_nil, pm_cats_i, pm_cats_r, pm_cats_n, pm_cats_l, pm_cats_d, sz_1, sz_2, sl_1, sl_2, lc_0, lc_lt, lc_le, li_ne, va_rf, wr_m1, we_m1, pm_kill_w, Int32.reduceOfInt, Int64.reduceOfInt, Int32.reduceOfNat, Int32.reduceLT, Int32.reduceLE, Prod.mk.injEq, Nat.reduceEqDiff, reduceCtorEq, and_true, true_and, and_false, false_and, and_self, ite_true, ite_false, ↓reduceIte, not_true_eq_false, not_false_eq_true, pe_ri, pe_rz, pe_rc, Cr_g0_1 hP hA, Cr_g0_18 hP hA, Cr_g0_2 hP hA, Cr_r18 hP hA, eq_true k1, eq_false k2, k7]
  · rw [if_neg k1] at e
    have e := Option.some.inj e; subst e
    dsimp only [Sum.elim_inr, ex290_2] at hc
    simp -implicitDefEqProofs (disch := first | assumption | exact Nat.le_of_ble_eq_true rfl | decide) only [b290_0, g290_3, b290_3, g290_6, b290_6, g290_7, b290_7, g290_8, b290_8, g290_9, b290_9, g290_10, b290_10, g290_11, b290_11, g290_12, b290_12, pe_sipush, pe_istore3, pe_istore4, pe_goto_w, pe_iload4, pe_aload0, pe_getfield, pe_icmp_ge, pe_istore5, pe_istore6, pe_iload6, pe_icmp_gt, pe_imul, pe_iadd, pe_baload, pe_if_ne, pe_goto, pe_istore7, pe_iload7, pe_if_eq, pe_iload5, pe_icmp_ne, pe_icmp_eq, pe_iload3, pe_iinc3, pe_iload1, pe_iload2, pe_isub, pe_iinc6, pe_iinc4, pm_prog_1, pm_ob_some, Nat.reduceDiv, Nat.reduceMod, Nat.reduceMul, Nat.reduceAdd, Int.reduceToNat, pm_kill_i, pm_kill_r, pm_kill_n, pm_kill_j, pm_kill_l, pm_kill_d, pm_cats_nil, pm_cats_i, pm_cats_r, pm_cats_n, pm_cats_l, pm_cats_d, sz_1, sz_2, sl_1, sl_2, lc_0, lc_lt, lc_le, li_ne, va_rf, wr_m1, we_m1, pm_kill_w, Int32.reduceOfInt, Int64.reduceOfInt, Int32.reduceOfNat, Int32.reduceLT, Int32.reduceLE, Prod.mk.injEq, Nat.reduceEqDiff, reduceCtorEq, and_true, true_and, and_false, false_and, and_self, ite_true, ite_false, ↓reduceIte, not_true_eq_false, not_false_eq_true, pe_ri, pe_rz, pe_rc, Cr_g0_1 hP hA, Cr_g0_18 hP hA, Cr_g0_2 hP hA, Cr_r18 hP hA, eq_false k1, hc]
theorem z290_2 {fc : Int32} {pc : Int32} {A : wK → Nat} {h : pm_H} {D : Nat} {R : Outcome × pm_H} {S : wS} (hP : Cr_P fc pc) (hA : wok A (Cr_d fc pc) h.1) (hD : 0 ≤ D) {n : Nat} {a : Int32 × Int32 × Int32 × Int32 × Int32 × Int32} {b : (Int32) ⊕ (Int32 × Int32 × Int32 × Int32) ⊕ (Int32 × Int32 × Int32 × Int32)} (e : lp (f290_b2 fc pc S) n a = some b) (hx : ex290_2 fc pc A h D R S b) : go290_2 fc pc A h D R S a := lp_run (fun a r => y290_b2 hP hA hD a r) n a b e hx
def go290_1 (fc : Int32) (pc : Int32) (A : wK → Nat) (h : pm_H) (D : Nat) (R : Outcome × pm_H) (S : wS) : Int32 × Int32 × Int32 × Int32 → Prop := fun (x1, x2, x3, x4) => ∀ q5 q6 q7 : Value, pm_go pm_prog (pm_call pm_prog D) 290 1 [.ref (A (0, 0, 0)), .int x1, .int x2, .int x3, .int x4, q5, q6, q7] [] (wput A (Cr_d fc pc) S h) = some R
def ex290_1 (fc : Int32) (pc : Int32) (A : wK → Nat) (h : pm_H) (D : Nat) (R : Outcome × pm_H) (S : wS) : (Int32) ⊕ (Int32 × Int32 × Int32 × Int32) ⊕ (Int32) → Prop := fun b => match b with
  | (.inl y0) => ∀ q0 q1 q2 q3 q4 q5 q6 q7 : Value, pm_go pm_prog (pm_call pm_prog D) 290 8 [q0, q1, q2, q3, q4, q5, q6, q7] [.int y0] (wput A (Cr_d fc pc) S h) = some R
  | (.inr (.inl (x2, x4, x5, x6))) => ∀ q0 q1 q3 q7 : Value, pm_go pm_prog (pm_call pm_prog D) 290 6 [q0, q1, .int x2, q3, .int x4, .int x5, .int x6, q7] [] (wput A (Cr_d fc pc) S h) = some R
  | (.inr (.inr (x3))) => ∀ q0 q1 q2 q4 q5 q6 q7 : Value, pm_go pm_prog (pm_call pm_prog D) 290 12 [q0, q1, q2, .int x3, q4, q5, q6, q7] [] (wput A (Cr_d fc pc) S h) = some R
theorem y290_b1 {fc : Int32} {pc : Int32} {A : wK → Nat} {h : pm_H} {D : Nat} {R : Outcome × pm_H} {S : wS} (hP : Cr_P fc pc) (hA : wok A (Cr_d fc pc) h.1) (hD : 0 ≤ D) (a : Int32 × Int32 × Int32 × Int32) (r : (Int32 × Int32 × Int32 × Int32) ⊕ ((Int32) ⊕ (Int32 × Int32 × Int32 × Int32) ⊕ (Int32))) (e : f290_b1 fc pc S a = some r) (hc : Sum.elim (go290_1 fc pc A h D R S) (ex290_1 fc pc A h D R S) r) : go290_1 fc pc A h D R S a := by
  obtain ⟨x1, x2, x3, x4⟩ := a
  dsimp only [go290_1]
  intro q5 q6 q7
  simp only [f290_b1] at e
  rw [g290_1, b290_1]
  by_cases k1 : x4 < (S.1 (0, 0, 0) 2)
  · rw [if_pos k1] at e
    obtain ⟨b, k2, e⟩ := Option.bind_eq_some_iff.mp e
    rcases b with v1 | ⟨v2, v3, v4, v5⟩ | ⟨v7, v8, v9, v10⟩
    ·
      try dsimp only at e
      try simp -implicitDefEqProofs (disch := first | assumption | exact Nat.le_of_ble_eq_true rfl | decide) only [b290_0, g290_3, b290_3, g290_6, b290_6, g290_7, b290_7, g290_8, b290_8, g290_9, b290_9, g290_10, b290_10, g290_11, b290_11, g290_12, b290_12, pe_sipush, pe_istore3, pe_istore4, pe_goto_w, pe_iload4, pe_aload0, pe_getfield, pe_icmp_ge, pe_istore5, pe_istore6, pe_iload6, pe_icmp_gt, pe_imul, pe_iadd, pe_baload, pe_if_ne, pe_goto, pe_istore7, pe_iload7, pe_if_eq, pe_iload5, pe_icmp_ne, pe_icmp_eq, pe_iload3, pe_iinc3, pe_iload1, pe_iload2, pe_isub, pe_iinc6, pe_iinc4, pm_prog_1, pm_ob_some, Nat.reduceDiv, Nat.reduceMod, Nat.reduceMul, Nat.reduceAdd, Int.reduceToNat, pm_kill_i, pm_kill_r, pm_kill_n, pm_kill_j, pm_kill_l, pm_kill_d, pm_cats_nil, pm_cats_i, pm_cats_r, pm_cats_n, pm_cats_l, pm_cats_d, sz_1, sz_2, sl_1, sl_2, lc_0, lc_lt, lc_le, li_ne, va_rf, wr_m1, we_m1, pm_kill_w, Int32.reduceOfInt, Int64.reduceOfInt, Int32.reduceOfNat, Int32.reduceLT, Int32.reduceLE, Prod.mk.injEq, Nat.reduceEqDiff, reduceCtorEq, and_true, true_and, and_false, false_and, and_self, ite_true, ite_false, ↓reduceIte, not_true_eq_false, not_false_eq_true, pe_ri, pe_rz, pe_rc, Cr_g0_1 hP hA, Cr_g0_18 hP hA, Cr_g0_2 hP hA, Cr_r18 hP hA, eq_true k1]
      refine z290_2 hP hA hD k2 ?_ _
      dsimp only [ex290_2]
      intro q0 q1 q2 q3 q4 q5 q6 q7
      have e := Option.some.inj e; subst e
      dsimp only [Sum.elim_inr, ex290_1] at hc
      simp -implicitDefEqProofs (disch := first | assumption | exact Nat.le_of_ble_eq_true rfl | decide) only [b290_0, g290_3, b290_3, g290_6, b290_6, g290_7, b290_7, g290_8, b290_8, g290_9, b290_9, g290_10, b290_10, g290_11, b290_11, g290_12, b290_12, pe_sipush, pe_istore3, pe_istore4, pe_goto_w, pe_iload4, pe_aload0, pe_getfield, pe_icmp_ge, pe_istore5, pe_istore6, pe_iload6, pe_icmp_gt, pe_imul, pe_iadd, pe_baload, pe_if_ne, pe_goto, pe_istore7, pe_iload7, pe_if_eq, pe_iload5, pe_icmp_ne, pe_icmp_eq, pe_iload3, pe_iinc3, pe_iload1, pe_iload2, pe_isub, pe_iinc6, pe_iinc4, pm_prog_1, pm_ob_some, Nat.reduceDiv, Nat.reduceMod, Nat.reduceMul, Nat.reduceAdd, Int.reduceToNat, pm_kill_i, pm_kill_r, pm_kill_n, pm_kill_j, pm_kill_l, pm_kill_d, pm_cats_nil, pm_cats_i, pm_cats_r, pm_cats_n, pm_cats_l, pm_cats_d, sz_1, sz_2, sl_1, sl_2, lc_0, lc_lt, lc_le, li_ne, va_rf, wr_m1, we_m1, pm_kill_w, Int32.reduceOfInt, Int64.reduceOfInt, Int32.reduceOfNat, Int32.reduceLT, Int32.reduceLE, Prod.mk.injEq, Nat.reduceEqDiff, reduceCtorEq, and_true, true_and, and_false, false_and, and_self, ite_true, ite_false, ↓reduceIte, not_true_eq_false, not_false_eq_true, pe_ri, pe_rz, pe_rc, Cr_g0_1 hP hA, Cr_g0_18 hP hA, Cr_g0_2 hP hA, Cr_r18 hP hA, eq_true k1, hc]
    ·
      try dsimp only at e
      try simp -implicitDefEqProofs (disch := first | assumption | exact Nat.le_of_ble_eq_true rfl | decide) only [b290_0, g290_3, b290_3, g290_6, b290_6, g290_7, b290_7, g290_8, b290_8, g290_9, b290_9, g290_10, b290_10, g290_11, b290_11, g290_12, b290_12, pe_sipush, pe_istore3, pe_istore4, pe_goto_w, pe_iload4, pe_aload0, pe_getfield, pe_icmp_ge, pe_istore5, pe_istore6, pe_iload6, pe_icmp_gt, pe_imul, pe_iadd, pe_baload, pe_if_ne, pe_goto, pe_istore7, pe_iload7, pe_if_eq, pe_iload5, pe_icmp_ne, pe_icmp_eq, pe_iload3, pe_iinc3, pe_iload1, pe_iload2, pe_isub, pe_iinc6, pe_iinc4, pm_prog_1, pm_ob_some, Nat.reduceDiv, Nat.reduceMod, Nat.reduceMul, Nat.reduceAdd, Int.reduceToNat, pm_kill_i, pm_kill_r, pm_kill_n, pm_kill_j, pm_kill_l, pm_kill_d, pm_cats_nil, pm_cats_i, pm_cats_r, pm_cats_n, pm_cats_l, pm_cats_d, sz_1, sz_2, sl_1, sl_2, lc_0, lc_lt, lc_le, li_ne, va_rf, wr_m1, we_m1, pm_kill_w, Int32.reduceOfInt, Int64.reduceOfInt, Int32.reduceOfNat, Int32.reduceLT, Int32.reduceLE, Prod.mk.injEq, Nat.reduceEqDiff, reduceCtorEq, and_true, true_and, and_false, false_and, and_self, ite_true, ite_false, ↓reduceIte, not_true_eq_false, not_false_eq_true, pe_ri, pe_rz, pe_rc, Cr_g0_1 hP hA, Cr_g0_18 hP hA, Cr_g0_2 hP hA, Cr_r18 hP hA, eq_true k1]
      refine z290_2 hP hA hD k2 ?_ _
      dsimp only [ex290_2]
      intro q0 q1 q3 q7
      have e := Option.some.inj e; subst e
      dsimp only [Sum.elim_inr, ex290_1] at hc
      simp -implicitDefEqProofs (disch := first | assumption | exact Nat.le_of_ble_eq_true rfl | decide) only [b290_0, g290_3, b290_3, g290_6, b290_6, g290_7, b290_7, g290_8, b290_8, g290_9, b290_9, g290_10, b290_10, g290_11, b290_11, g290_12, b290_12, pe_sipush, pe_istore3, pe_istore4, pe_goto_w, pe_iload4, pe_aload0, pe_getfield, pe_icmp_ge, pe_istore5, pe_istore6, pe_iload6, pe_icmp_gt, pe_imul, pe_iadd, pe_baload, pe_if_ne, pe_goto, pe_istore7, pe_iload7, pe_if_eq, pe_iload5, pe_icmp_ne, pe_icmp_eq, pe_iload3, pe_iinc3, pe_iload1, pe_iload2, pe_isub, pe_iinc6, pe_iinc4, pm_prog_1, pm_ob_some, Nat.reduceDiv, Nat.reduceMod, Nat.reduceMul, Nat.reduceAdd, Int.reduceToNat, pm_kill_i, pm_kill_r, pm_kill_n, pm_kill_j, pm_kill_l, pm_kill_d, pm_cats_nil, pm_cats_i, pm_cats_r, pm_cats_n, pm_cats_l, pm_cats_d, sz_1, sz_2, sl_1, sl_2, lc_0, lc_lt, lc_le, li_ne, va_rf, wr_m1, we_m1, pm_kill_w, Int32.reduceOfInt, Int64.reduceOfInt, Int32.reduceOfNat, Int32.reduceLT, Int32.reduceLE, Prod.mk.injEq, Nat.reduceEqDiff, reduceCtorEq, and_true, true_and, and_false, false_and, and_self, ite_true, ite_false, ↓reduceIte, not_true_eq_false, not_false_eq_true, pe_ri, pe_rz, pe_rc, Cr_g0_1 hP hA, Cr_g0_18 hP hA, Cr_g0_2 hP hA, Cr_r18 hP hA, eq_true k1, hc]
    ·
      try dsimp only at e
      try simp -implicitDefEqProofs (disch := first | assumption | exact Nat.le_of_ble_eq_true rfl | decide) only [b290_0, g290_3, b290_3, g290_6, b290_6, g290_7, b290_7, g290_8, b290_8, g290_9, b290_9, g290_10, b290_10, g290_11, b290_11, g290_12, b290_12, pe_sipush, pe_istore3, pe_istore4, pe_goto_w, pe_iload4, pe_aload0, pe_getfield, pe_icmp_ge, pe_istore5, pe_istore6, pe_iload6, pe_icmp_gt, pe_imul, pe_iadd, pe_baload, pe_if_ne, pe_goto, pe_istore7, pe_iload7, pe_if_eq, pe_iload5, pe_icmp_ne, pe_icmp_eq, pe_iload3, pe_iinc3, pe_iload1, pe_iload2, pe_isub, pe_iinc6, pe_iinc4, pm_prog_1, pm_ob_some, Nat.reduceDiv, Nat.reduceMod, Nat.reduceMul, Nat.reduceAdd, Int.reduceToNat, pm_kill_i, pm_kill_r, pm_kill_n, pm_kill_j, pm_kill_l, pm_kill_d, pm_cats_nil, pm_cats_i, pm_cats_r, pm_cats_n, pm_cats_l, pm_cats_d, sz_1, sz_2, sl_1, sl_2, lc_0, lc_lt, lc_le, li_ne, va_rf, wr_m1, we_m1, pm_kill_w, Int32.reduceOfInt, Int64.reduceOfInt, Int32.reduceOfNat, Int32.reduceLT, Int32.reduceLE, Prod.mk.injEq, Nat.reduceEqDiff, reduceCtorEq, and_true, true_and, and_false, false_and, and_self, ite_true, ite_false, ↓reduceIte, not_true_eq_false, not_false_eq_true, pe_ri, pe_rz, pe_rc, Cr_g0_1 hP hA, Cr_g0_18 hP hA, Cr_g0_2 hP hA, Cr_r18 hP hA, eq_true k1]
      refine z290_2 hP hA hD k2 ?_ _
      dsimp only [ex290_2]
      intro q5 q6 q7
      have e := Option.some.inj e; subst e
      dsimp only [Sum.elim_inl, go290_1] at hc
      simp -implicitDefEqProofs (disch := first | assumption | exact Nat.le_of_ble_eq_true rfl | decide) only [b290_0, g290_3, b290_3, g290_6, b290_6, g290_7, b290_7, g290_8, b290_8, g290_9, b290_9, g290_10, b290_10, g290_11, b290_11, g290_12, b290_12, pe_sipush, pe_istore3, pe_istore4, pe_goto_w, pe_iload4, pe_aload0, pe_getfield, pe_icmp_ge, pe_istore5, pe_istore6, pe_iload6, pe_icmp_gt, pe_imul, pe_iadd, pe_baload, pe_if_ne, pe_goto, pe_istore7, pe_iload7, pe_if_eq, pe_iload5, pe_icmp_ne, pe_icmp_eq, pe_iload3, pe_iinc3, pe_iload1, pe_iload2, pe_isub, pe_iinc6, pe_iinc4, pm_prog_1, pm_ob_some, Nat.reduceDiv, Nat.reduceMod, Nat.reduceMul, Nat.reduceAdd, Int.reduceToNat, pm_kill_i, pm_kill_r, pm_kill_n, pm_kill_j, pm_kill_l, pm_kill_d, pm_cats_nil, pm_cats_i, pm_cats_r, pm_cats_n, pm_cats_l, pm_cats_d, sz_1, sz_2, sl_1, sl_2, lc_0, lc_lt, lc_le, li_ne, va_rf, wr_m1, we_m1, pm_kill_w, Int32.reduceOfInt, Int64.reduceOfInt, Int32.reduceOfNat, Int32.reduceLT, Int32.reduceLE, Prod.mk.injEq, Nat.reduceEqDiff, reduceCtorEq, and_true, true_and, and_false, false_and, and_self, ite_true, ite_false, ↓reduceIte, not_true_eq_false, not_false_eq_true, pe_ri, pe_rz, pe_rc, Cr_g0_1 hP hA, Cr_g0_18 hP hA, Cr_g0_2 hP hA, Cr_r18 hP hA, eq_true k1, hc]
  · rw [if_neg k1] at e
    have e := Option.some.inj e; subst e
    dsimp only [Sum.elim_inr, ex290_1] at hc
    simp -implicitDefEqProofs (disch := first | assumption | exact Nat.le_of_ble_eq_true rfl | decide) only [b290_0, g290_3, b290_3, g290_6, b290_6, g290_7, b290_7, g290_8, b290_8, g290_9, b290_9, g290_10, b290_10, g290_11, b290_11, g290_12, b290_12, pe_sipush, pe_istore3, pe_istore4, pe_goto_w, pe_iload4, pe_aload0, pe_getfield, pe_icmp_ge, pe_istore5, pe_istore6, pe_iload6, pe_icmp_gt, pe_imul, pe_iadd, pe_baload, pe_if_ne, pe_goto, pe_istore7, pe_iload7, pe_if_eq, pe_iload5, pe_icmp_ne, pe_icmp_eq, pe_iload3, pe_iinc3, pe_iload1, pe_iload2, pe_isub, pe_iinc6, pe_iinc4, pm_prog_1, pm_ob_some, Nat.reduceDiv, Nat.reduceMod, Nat.reduceMul, Nat.reduceAdd, Int.reduceToNat, pm_kill_i, pm_kill_r, pm_kill_n, pm_kill_j, pm_kill_l, pm_kill_d, pm_cats_nil, pm_cats_i, pm_cats_r, pm_cats_n, pm_cats_l, pm_cats_d, sz_1, sz_2, sl_1, sl_2, lc_0, lc_lt, lc_le, li_ne, va_rf, wr_m1, we_m1, pm_kill_w, Int32.reduceOfInt, Int64.reduceOfInt, Int32.reduceOfNat, Int32.reduceLT, Int32.reduceLE, Prod.mk.injEq, Nat.reduceEqDiff, reduceCtorEq, and_true, true_and, and_false, false_and, and_self, ite_true, ite_false, ↓reduceIte, not_true_eq_false, not_false_eq_true, pe_ri, pe_rz, pe_rc, Cr_g0_1 hP hA, Cr_g0_18 hP hA, Cr_g0_2 hP hA, Cr_r18 hP hA, eq_false k1, hc]
theorem z290_1 {fc : Int32} {pc : Int32} {A : wK → Nat} {h : pm_H} {D : Nat} {R : Outcome × pm_H} {S : wS} (hP : Cr_P fc pc) (hA : wok A (Cr_d fc pc) h.1) (hD : 0 ≤ D) {n : Nat} {a : Int32 × Int32 × Int32 × Int32} {b : (Int32) ⊕ (Int32 × Int32 × Int32 × Int32) ⊕ (Int32)} (e : lp (f290_b1 fc pc S) n a = some b) (hx : ex290_1 fc pc A h D R S b) : go290_1 fc pc A h D R S a := lp_run (fun a r => y290_b1 hP hA hD a r) n a b e hx
theorem x290 {fc : Int32} {pc : Int32} {A : wK → Nat} {h : pm_H} {D : Nat} {S : wS} {x1 : Int32} {x2 : Int32} {r : Int32} (hP : Cr_P fc pc) (hA : wok A (Cr_d fc pc) h.1) (hD : 1 ≤ D) (e : f290 fc pc S x1 x2 = some r) : pm_call pm_prog D 290 [.ref (A (0, 0, 0)), .int x1, .int x2] (wput A (Cr_d fc pc) S h) = some (Outcome.returned (some (.int r)), (wput A (Cr_d fc pc) S h)) := by
  obtain ⟨D, rfl⟩ : ∃ D', D = D' + 1 := ⟨D - 1, by omega⟩
  have hD : 0 ≤ D := by omega
  simp only [f290] at e
  rw [c290 (Cr_c0 hP hA), b290_0]
  obtain ⟨b, k1, e⟩ := Option.bind_eq_some_iff.mp e
  rcases b with v11 | ⟨v12, v13, v14, v15⟩ | v16
  ·
    try dsimp only at e
    try simp -implicitDefEqProofs (disch := first | assumption | exact Nat.le_of_ble_eq_true rfl | decide) only [b290_0, g290_3, b290_3, g290_6, b290_6, g290_7, b290_7, g290_8, b290_8, g290_9, b290_9, g290_10, b290_10, g290_11, b290_11, g290_12, b290_12, pe_sipush, pe_istore3, pe_istore4, pe_goto_w, pe_iload4, pe_aload0, pe_getfield, pe_icmp_ge, pe_istore5, pe_istore6, pe_iload6, pe_icmp_gt, pe_imul, pe_iadd, pe_baload, pe_if_ne, pe_goto, pe_istore7, pe_iload7, pe_if_eq, pe_iload5, pe_icmp_ne, pe_icmp_eq, pe_iload3, pe_iinc3, pe_iload1, pe_iload2, pe_isub, pe_iinc6, pe_iinc4, pm_prog_1, pm_ob_some, Nat.reduceDiv, Nat.reduceMod, Nat.reduceMul, Nat.reduceAdd, Int.reduceToNat, pm_kill_i, pm_kill_r, pm_kill_n, pm_kill_j, pm_kill_l, pm_kill_d, pm_cats_nil, pm_cats_i, pm_cats_r, pm_cats_n, pm_cats_l, pm_cats_d, sz_1, sz_2, sl_1, sl_2, lc_0, lc_lt, lc_le, li_ne, va_rf, wr_m1, we_m1, pm_kill_w, Int32.reduceOfInt, Int64.reduceOfInt, Int32.reduceOfNat, Int32.reduceLT, Int32.reduceLE, Prod.mk.injEq, Nat.reduceEqDiff, reduceCtorEq, and_true, true_and, and_false, false_and, and_self, ite_true, ite_false, ↓reduceIte, not_true_eq_false, not_false_eq_true, pe_ri, pe_rz, pe_rc, Cr_g0_1 hP hA, Cr_g0_18 hP hA, Cr_g0_2 hP hA, Cr_r18 hP hA]
    refine z290_1 hP hA hD k1 ?_ _ _ _
    dsimp only [ex290_1]
    intro q0 q1 q2 q3 q4 q5 q6 q7
    have e := Option.some.inj e; subst e
    simp -implicitDefEqProofs (disch := first | assumption | exact Nat.le_of_ble_eq_true rfl | decide) only [b290_0, g290_3, b290_3, g290_6, b290_6, g290_7, b290_7, g290_8, b290_8, g290_9, b290_9, g290_10, b290_10, g290_11, b290_11, g290_12, b290_12, pe_sipush, pe_istore3, pe_istore4, pe_goto_w, pe_iload4, pe_aload0, pe_getfield, pe_icmp_ge, pe_istore5, pe_istore6, pe_iload6, pe_icmp_gt, pe_imul, pe_iadd, pe_baload, pe_if_ne, pe_goto, pe_istore7, pe_iload7, pe_if_eq, pe_iload5, pe_icmp_ne, pe_icmp_eq, pe_iload3, pe_iinc3, pe_iload1, pe_iload2, pe_isub, pe_iinc6, pe_iinc4, pm_prog_1, pm_ob_some, Nat.reduceDiv, Nat.reduceMod, Nat.reduceMul, Nat.reduceAdd, Int.reduceToNat, pm_kill_i, pm_kill_r, pm_kill_n, pm_kill_j, pm_kill_l, pm_kill_d, pm_cats_nil, pm_cats_i, pm_cats_r, pm_cats_n, pm_cats_l, pm_cats_d, sz_1, sz_2, sl_1, sl_2, lc_0, lc_lt, lc_le, li_ne, va_rf, wr_m1, we_m1, pm_kill_w, Int32.reduceOfInt, Int64.reduceOfInt, Int32.reduceOfNat, Int32.reduceLT, Int32.reduceLE, Prod.mk.injEq, Nat.reduceEqDiff, reduceCtorEq, and_true, true_and, and_false, false_and, and_self, ite_true, ite_false, ↓reduceIte, not_true_eq_false, not_false_eq_true, pe_ri, pe_rz, pe_rc, Cr_g0_1 hP hA, Cr_g0_18 hP hA, Cr_g0_2 hP hA, Cr_r18 hP hA]
  ·
    try dsimp only at e
    try simp -implicitDefEqProofs (disch := first | assumption | exact Nat.le_of_ble_eq_true rfl | decide) only [b290_0, g290_3, b290_3, g290_6, b290_6, g290_7, b290_7, g290_8, b290_8, g290_9, b290_9, g290_10, b290_10, g290_11, b290_11, g290_12, b290_12, pe_sipush, pe_istore3, pe_istore4, pe_goto_w, pe_iload4, pe_aload0, pe_getfield, pe_icmp_ge, pe_istore5, pe_istore6, pe_iload6, pe_icmp_gt, pe_imul, pe_iadd, pe_baload, pe_if_ne, pe_goto, pe_istore7, pe_iload7, pe_if_eq, pe_iload5, pe_icmp_ne, pe_icmp_eq, pe_iload3, pe_iinc3, pe_iload1, pe_iload2, pe_isub, pe_iinc6, pe_iinc4, pm_prog_1, pm_ob_some, Nat.reduceDiv, Nat.reduceMod, Nat.reduceMul, Nat.reduceAdd, Int.reduceToNat, pm_kill_i, pm_kill_r, pm_kill_n, pm_kill_j, pm_kill_l, pm_kill_d, pm_cats_nil, pm_cats_i, pm_cats_r, pm_cats_n, pm_cats_l, pm_cats_d, sz_1, sz_2, sl_1, sl_2, lc_0, lc_lt, lc_le, li_ne, va_rf, wr_m1, we_m1, pm_kill_w, Int32.reduceOfInt, Int64.reduceOfInt, Int32.reduceOfNat, Int32.reduceLT, Int32.reduceLE, Prod.mk.injEq, Nat.reduceEqDiff, reduceCtorEq, and_true, true_and, and_false, false_and, and_self, ite_true, ite_false, ↓reduceIte, not_true_eq_false, not_false_eq_true, pe_ri, pe_rz, pe_rc, Cr_g0_1 hP hA, Cr_g0_18 hP hA, Cr_g0_2 hP hA, Cr_r18 hP hA]
    refine z290_1 hP hA hD k1 ?_ _ _ _
    dsimp only [ex290_1]
    intro q0 q1 q3 q7
    by_cases k2 : v12 = 1
    · rw [if_pos k2] at e
      have e := Option.some.inj e; subst e
      simp -implicitDefEqProofs (disch := first | assumption | exact Nat.le_of_ble_eq_true rfl | decide) only [b290_0, g290_3, b290_3, g290_6, b290_6, g290_7, b290_7, g290_8, b290_8, g290_9, b290_9, g290_10, b290_10, g290_11, b290_11, g290_12, b290_12, pe_sipush, pe_istore3, pe_istore4, pe_goto_w, pe_iload4, pe_aload0, pe_getfield, pe_icmp_ge, pe_istore5, pe_istore6, pe_iload6, pe_icmp_gt, pe_imul, pe_iadd, pe_baload, pe_if_ne, pe_goto, pe_istore7, pe_iload7, pe_if_eq, pe_iload5, pe_icmp_ne, pe_icmp_eq, pe_iload3, pe_iinc3, pe_iload1, pe_iload2, pe_isub, pe_iinc6, pe_iinc4, pm_prog_1, pm_ob_some, Nat.reduceDiv, Nat.reduceMod, Nat.reduceMul, Nat.reduceAdd, Int.reduceToNat, pm_kill_i, pm_kill_r, pm_kill_n, pm_kill_j, pm_kill_l, pm_kill_d, pm_cats_nil, pm_cats_i, pm_cats_r, pm_cats_n, pm_cats_l, pm_cats_d, sz_1, sz_2, sl_1, sl_2, lc_0, lc_lt, lc_le, li_ne, va_rf, wr_m1, we_m1, pm_kill_w, Int32.reduceOfInt, Int64.reduceOfInt, Int32.reduceOfNat, Int32.reduceLT, Int32.reduceLE, Prod.mk.injEq, Nat.reduceEqDiff, reduceCtorEq, and_true, true_and, and_false, false_and, and_self, ite_true, ite_false, ↓reduceIte, not_true_eq_false, not_false_eq_true, pe_ri, pe_rz, pe_rc, Cr_g0_1 hP hA, Cr_g0_18 hP hA, Cr_g0_2 hP hA, Cr_r18 hP hA, eq_true k2]
    · rw [if_neg k2] at e
      have e := Option.some.inj e; subst e
      simp -implicitDefEqProofs (disch := first | assumption | exact Nat.le_of_ble_eq_true rfl | decide) only [b290_0, g290_3, b290_3, g290_6, b290_6, g290_7, b290_7, g290_8, b290_8, g290_9, b290_9, g290_10, b290_10, g290_11, b290_11, g290_12, b290_12, pe_sipush, pe_istore3, pe_istore4, pe_goto_w, pe_iload4, pe_aload0, pe_getfield, pe_icmp_ge, pe_istore5, pe_istore6, pe_iload6, pe_icmp_gt, pe_imul, pe_iadd, pe_baload, pe_if_ne, pe_goto, pe_istore7, pe_iload7, pe_if_eq, pe_iload5, pe_icmp_ne, pe_icmp_eq, pe_iload3, pe_iinc3, pe_iload1, pe_iload2, pe_isub, pe_iinc6, pe_iinc4, pm_prog_1, pm_ob_some, Nat.reduceDiv, Nat.reduceMod, Nat.reduceMul, Nat.reduceAdd, Int.reduceToNat, pm_kill_i, pm_kill_r, pm_kill_n, pm_kill_j, pm_kill_l, pm_kill_d, pm_cats_nil, pm_cats_i, pm_cats_r, pm_cats_n, pm_cats_l, pm_cats_d, sz_1, sz_2, sl_1, sl_2, lc_0, lc_lt, lc_le, li_ne, va_rf, wr_m1, we_m1, pm_kill_w, Int32.reduceOfInt, Int64.reduceOfInt, Int32.reduceOfNat, Int32.reduceLT, Int32.reduceLE, Prod.mk.injEq, Nat.reduceEqDiff, reduceCtorEq, and_true, true_and, and_false, false_and, and_self, ite_true, ite_false, ↓reduceIte, not_true_eq_false, not_false_eq_true, pe_ri, pe_rz, pe_rc, Cr_g0_1 hP hA, Cr_g0_18 hP hA, Cr_g0_2 hP hA, Cr_r18 hP hA, eq_false k2]
  ·
    try dsimp only at e
    try simp -implicitDefEqProofs (disch := first | assumption | exact Nat.le_of_ble_eq_true rfl | decide) only [b290_0, g290_3, b290_3, g290_6, b290_6, g290_7, b290_7, g290_8, b290_8, g290_9, b290_9, g290_10, b290_10, g290_11, b290_11, g290_12, b290_12, pe_sipush, pe_istore3, pe_istore4, pe_goto_w, pe_iload4, pe_aload0, pe_getfield, pe_icmp_ge, pe_istore5, pe_istore6, pe_iload6, pe_icmp_gt, pe_imul, pe_iadd, pe_baload, pe_if_ne, pe_goto, pe_istore7, pe_iload7, pe_if_eq, pe_iload5, pe_icmp_ne, pe_icmp_eq, pe_iload3, pe_iinc3, pe_iload1, pe_iload2, pe_isub, pe_iinc6, pe_iinc4, pm_prog_1, pm_ob_some, Nat.reduceDiv, Nat.reduceMod, Nat.reduceMul, Nat.reduceAdd, Int.reduceToNat, pm_kill_i, pm_kill_r, pm_kill_n, pm_kill_j, pm_kill_l, pm_kill_d, pm_cats_nil, pm_cats_i, pm_cats_r, pm_cats_n, pm_cats_l, pm_cats_d, sz_1, sz_2, sl_1, sl_2, lc_0, lc_lt, lc_le, li_ne, va_rf, wr_m1, we_m1, pm_kill_w, Int32.reduceOfInt, Int64.reduceOfInt, Int32.reduceOfNat, Int32.reduceLT, Int32.reduceLE, Prod.mk.injEq, Nat.reduceEqDiff, reduceCtorEq, and_true, true_and, and_false, false_and, and_self, ite_true, ite_false, ↓reduceIte, not_true_eq_false, not_false_eq_true, pe_ri, pe_rz, pe_rc, Cr_g0_1 hP hA, Cr_g0_18 hP hA, Cr_g0_2 hP hA, Cr_r18 hP hA]
    refine z290_1 hP hA hD k1 ?_ _ _ _
    dsimp only [ex290_1]
    intro q0 q1 q2 q4 q5 q6 q7
    have e := Option.some.inj e; subst e
    simp -implicitDefEqProofs (disch := first | assumption | exact Nat.le_of_ble_eq_true rfl | decide) only [b290_0, g290_3, b290_3, g290_6, b290_6, g290_7, b290_7, g290_8, b290_8, g290_9, b290_9, g290_10, b290_10, g290_11, b290_11, g290_12, b290_12, pe_sipush, pe_istore3, pe_istore4, pe_goto_w, pe_iload4, pe_aload0, pe_getfield, pe_icmp_ge, pe_istore5, pe_istore6, pe_iload6, pe_icmp_gt, pe_imul, pe_iadd, pe_baload, pe_if_ne, pe_goto, pe_istore7, pe_iload7, pe_if_eq, pe_iload5, pe_icmp_ne, pe_icmp_eq, pe_iload3, pe_iinc3, pe_iload1, pe_iload2, pe_isub, pe_iinc6, pe_iinc4, pm_prog_1, pm_ob_some, Nat.reduceDiv, Nat.reduceMod, Nat.reduceMul, Nat.reduceAdd, Int.reduceToNat, pm_kill_i, pm_kill_r, pm_kill_n, pm_kill_j, pm_kill_l, pm_kill_d, pm_cats_nil, pm_cats_i, pm_cats_r, pm_cats_n, pm_cats_l, pm_cats_d, sz_1, sz_2, sl_1, sl_2, lc_0, lc_lt, lc_le, li_ne, va_rf, wr_m1, we_m1, pm_kill_w, Int32.reduceOfInt, Int64.reduceOfInt, Int32.reduceOfNat, Int32.reduceLT, Int32.reduceLE, Prod.mk.injEq, Nat.reduceEqDiff, reduceCtorEq, and_true, true_and, and_false, false_and, and_self, ite_true, ite_false, ↓reduceIte, not_true_eq_false, not_false_eq_true, pe_ri, pe_rz, pe_rc, Cr_g0_1 hP hA, Cr_g0_18 hP hA, Cr_g0_2 hP hA, Cr_r18 hP hA]
/-- TimberHouse$FaultRips.salvage(II)I -/
theorem c288 {d : Nat} {h : pm_H} {a : Nat} {x0 : Int32} {x1 : Int32} (hc : pm_cls h a = some 4) : pm_call pm_prog (d + 1) 288 [.ref a, .int x0, .int x1] h = pm_ev pm_prog (pm_call pm_prog d) 288 0 b288_0 [.ref a, .int x0, .int x1, pm_junk] [] h := pm_cal (pm_rc1 hc rfl) rfl rfl rfl
theorem g288_1 {cl : pm_C} {ls st : List Value} {h : pm_H} : pm_go pm_prog cl 288 1 ls st h = pm_ev pm_prog cl 288 1 b288_1 ls st h := pm_go_eq pm_prog cl 288 1 ls st h
theorem g288_2 {cl : pm_C} {ls st : List Value} {h : pm_H} : pm_go pm_prog cl 288 2 ls st h = pm_ev pm_prog cl 288 2 b288_2 ls st h := pm_go_eq pm_prog cl 288 2 ls st h
theorem t288 {cl : pm_C} {j : Nat} {ls : List Value} {c : Nat} {h : pm_H} : pm_thr pm_prog cl 288 j ls c h = some (.threw c, h) := rfl
/-- TimberHouse$FaultRips.salvage(II)I -/
noncomputable def f288 (fc : Int32) (pc : Int32) (S : wS) (x1 : Int32) (x2 : Int32) : Option ((Nat × wS) ⊕ (Int32 × wS)) :=
  (f259 (S.1 (0, 0, 0) 16)).bind fun r => match r with
  | .inl c8 =>
    some (.inl (c8, S))
  | .inr _ =>
  (f289 fc pc S).bind fun S1 =>
  (f290 fc pc S1 (-1) 0).bind fun v2 =>
  (f260 (Int32.toInt64 x1) (-1) (Int32.toInt64 (v2 - 1))).bind fun v3 =>
  (f261 v3).bind fun r => match r with
  | .inl c7 =>
    some (.inl (c7, S1))
  | .inr _ =>
  (f260 (Int32.toInt64 x2) 0 2).bind fun v4 =>
  (f262 v4).bind fun r => match r with
  | .inl c6 =>
    some (.inl (c6, S1))
  | .inr _ =>
  if x1 = (-1) then
    some (.inr (v2, S1))
  else
    (f290 fc pc S1 x1 x2).bind fun v5 =>
    some (.inr (v5, S1))
theorem x288 {fc : Int32} {pc : Int32} {A : wK → Nat} {h : pm_H} {D : Nat} {S : wS} {x1 : Int32} {x2 : Int32} {r : (Nat × wS) ⊕ (Int32 × wS)} (hP : Cr_P fc pc) (hA : wok A (Cr_d fc pc) h.1) (hD : 2 ≤ D) (e : f288 fc pc S x1 x2 = some r) : pm_call pm_prog D 288 [.ref (A (0, 0, 0)), .int x1, .int x2] (wput A (Cr_d fc pc) S h) = some (match (generalizing := false) r with | .inl (c, S1) => (Outcome.threw c, (wput A (Cr_d fc pc) S1 (pm_new h 6 (.inr (c, []))))) | .inr (w0, S1) => (Outcome.returned (some (.int w0)), (wput A (Cr_d fc pc) S1 h))) := by
  obtain ⟨D, rfl⟩ : ∃ D', D = D' + 1 := ⟨D - 1, by omega⟩
  have hD : 1 ≤ D := by omega
  simp only [f288] at e
  rw [c288 (Cr_c0 hP hA), b288_0]
  obtain ⟨r, k1, e⟩ := Option.bind_eq_some_iff.mp e
  have z1 := fun h => x259 (D := D) (h := h) (by omega) k1
  rcases r with c8 | _
  · dsimp only at e z1
    have e := Option.some.inj e; subst e
    simp -implicitDefEqProofs (disch := first | assumption | exact Nat.le_of_ble_eq_true rfl | decide) only [b288_0, g288_1, b288_1, g288_2, b288_2, pe_aload0, pe_getfield, pe_call1, pm_af_ret, pm_af_void, pm_af_thr, pe_sipush, pe_call3, pe_istore3, pe_iload1, pe_i2l, pe_bipush, pe_iload3, pe_isub, pe_iload2, pe_icmp_ne, pe_goto, pe_goto_w, pm_prog_1, pm_ob_some, Nat.reduceDiv, Nat.reduceMod, Nat.reduceMul, Nat.reduceAdd, Int.reduceToNat, pm_kill_i, pm_kill_r, pm_kill_n, pm_kill_j, pm_kill_l, pm_kill_d, pm_cats_nil, pm_cats_i, pm_cats_r, pm_cats_n, pm_cats_l, pm_cats_d, sz_1, sz_2, sl_1, sl_2, lc_0, lc_lt, lc_le, li_ne, va_rf, wr_m1, we_m1, pm_kill_w, Int32.reduceOfInt, Int64.reduceOfInt, Int32.reduceOfNat, Int32.reduceLT, Int32.reduceLE, Prod.mk.injEq, Nat.reduceEqDiff, reduceCtorEq, and_true, true_and, and_false, false_and, and_self, ite_true, ite_false, ↓reduceIte, not_true_eq_false, not_false_eq_true, pe_ri, pe_rz, pe_rc, p_throw, t288, w_junk hA, Cr_g0_16 hP hA, z1]
  · dsimp only at e z1
    obtain ⟨S1, k2, e⟩ := Option.bind_eq_some_iff.mp e
    try dsimp only at e
    have z2 := x289 (D := D) (h := h) hP hA (by omega) k2
    obtain ⟨v2, k3, e⟩ := Option.bind_eq_some_iff.mp e
    try dsimp only at e
    have z3 := x290 (D := D) (h := h) hP hA (by omega) k3
    obtain ⟨v3, k4, e⟩ := Option.bind_eq_some_iff.mp e
    try dsimp only at e
    have z4 := fun h => x260 (D := D) (h := h) (by omega) k4
    obtain ⟨r, k5, e⟩ := Option.bind_eq_some_iff.mp e
    have z5 := fun h => x261 (D := D) (h := h) (by omega) k5
    rcases r with c7 | _
    · dsimp only at e z5
      have e := Option.some.inj e; subst e
      simp -implicitDefEqProofs (disch := first | assumption | exact Nat.le_of_ble_eq_true rfl | decide) only [b288_0, g288_1, b288_1, g288_2, b288_2, pe_aload0, pe_getfield, pe_call1, pm_af_ret, pm_af_void, pm_af_thr, pe_sipush, pe_call3, pe_istore3, pe_iload1, pe_i2l, pe_bipush, pe_iload3, pe_isub, pe_iload2, pe_icmp_ne, pe_goto, pe_goto_w, pm_prog_1, pm_ob_some, Nat.reduceDiv, Nat.reduceMod, Nat.reduceMul, Nat.reduceAdd, Int.reduceToNat, pm_kill_i, pm_kill_r, pm_kill_n, pm_kill_j, pm_kill_l, pm_kill_d, pm_cats_nil, pm_cats_i, pm_cats_r, pm_cats_n, pm_cats_l, pm_cats_d, sz_1, sz_2, sl_1, sl_2, lc_0, lc_lt, lc_le, li_ne, va_rf, wr_m1, we_m1, pm_kill_w, Int32.reduceOfInt, Int64.reduceOfInt, Int32.reduceOfNat, Int32.reduceLT, Int32.reduceLE, Prod.mk.injEq, Nat.reduceEqDiff, reduceCtorEq, and_true, true_and, and_false, false_and, and_self, ite_true, ite_false, ↓reduceIte, not_true_eq_false, not_false_eq_true, pe_ri, pe_rz, pe_rc, p_throw, t288, w_junk hA, Cr_g0_16 hP hA, z1, z2, z3, z4, z5]
    · dsimp only at e z5
      obtain ⟨v4, k6, e⟩ := Option.bind_eq_some_iff.mp e
      try dsimp only at e
      have z6 := fun h => x260 (D := D) (h := h) (by omega) k6
      obtain ⟨r, k7, e⟩ := Option.bind_eq_some_iff.mp e
      have z7 := fun h => x262 (D := D) (h := h) (by omega) k7
      rcases r with c6 | _
      · dsimp only at e z7
        have e := Option.some.inj e; subst e
        simp -implicitDefEqProofs (disch := first | assumption | exact Nat.le_of_ble_eq_true rfl | decide) only [b288_0, g288_1, b288_1, g288_2, b288_2, pe_aload0, pe_getfield, pe_call1, pm_af_ret, pm_af_void, pm_af_thr, pe_sipush, pe_call3, pe_istore3, pe_iload1, pe_i2l, pe_bipush, pe_iload3, pe_isub, pe_iload2, pe_icmp_ne, pe_goto, pe_goto_w, pm_prog_1, pm_ob_some, Nat.reduceDiv, Nat.reduceMod, Nat.reduceMul, Nat.reduceAdd, Int.reduceToNat, pm_kill_i, pm_kill_r, pm_kill_n, pm_kill_j, pm_kill_l, pm_kill_d, pm_cats_nil, pm_cats_i, pm_cats_r, pm_cats_n, pm_cats_l, pm_cats_d, sz_1, sz_2, sl_1, sl_2, lc_0, lc_lt, lc_le, li_ne, va_rf, wr_m1, we_m1, pm_kill_w, Int32.reduceOfInt, Int64.reduceOfInt, Int32.reduceOfNat, Int32.reduceLT, Int32.reduceLE, Prod.mk.injEq, Nat.reduceEqDiff, reduceCtorEq, and_true, true_and, and_false, false_and, and_self, ite_true, ite_false, ↓reduceIte, not_true_eq_false, not_false_eq_true, pe_ri, pe_rz, pe_rc, p_throw, t288, w_junk hA, Cr_g0_16 hP hA, z1, z2, z3, z4, z5, z6, z7]
      · dsimp only at e z7
        by_cases k8 : x1 = (-1)
        · rw [if_pos k8] at e
          have e := Option.some.inj e; subst e
          simp -implicitDefEqProofs (disch := first | assumption | exact Nat.le_of_ble_eq_true rfl | decide) only [b288_0, g288_1, b288_1, g288_2, b288_2, pe_aload0, pe_getfield, pe_call1, pm_af_ret, pm_af_void, pm_af_thr, pe_sipush, pe_call3, pe_istore3, pe_iload1, pe_i2l, pe_bipush, pe_iload3, pe_isub, pe_iload2, pe_icmp_ne, pe_goto, pe_goto_w, pm_prog_1, pm_ob_some, Nat.reduceDiv, Nat.reduceMod, Nat.reduceMul, Nat.reduceAdd, Int.reduceToNat, pm_kill_i, pm_kill_r, pm_kill_n, pm_kill_j, pm_kill_l, pm_kill_d, pm_cats_nil, pm_cats_i, pm_cats_r, pm_cats_n, pm_cats_l, pm_cats_d, sz_1, sz_2, sl_1, sl_2, lc_0, lc_lt, lc_le, li_ne, va_rf, wr_m1, we_m1, pm_kill_w, Int32.reduceOfInt, Int64.reduceOfInt, Int32.reduceOfNat, Int32.reduceLT, Int32.reduceLE, Prod.mk.injEq, Nat.reduceEqDiff, reduceCtorEq, and_true, true_and, and_false, false_and, and_self, ite_true, ite_false, ↓reduceIte, not_true_eq_false, not_false_eq_true, pe_ri, pe_rz, pe_rc, p_throw, t288, w_junk hA, Cr_g0_16 hP hA, z1, z2, z3, z4, z5, z6, z7, eq_true k8]
        · rw [if_neg k8] at e
          obtain ⟨v5, k9, e⟩ := Option.bind_eq_some_iff.mp e
          try dsimp only at e
          have z9 := x290 (D := D) (h := h) hP hA (by omega) k9
          have e := Option.some.inj e; subst e
          simp -implicitDefEqProofs (disch := first | assumption | exact Nat.le_of_ble_eq_true rfl | decide) only [b288_0, g288_1, b288_1, g288_2, b288_2, pe_aload0, pe_getfield, pe_call1, pm_af_ret, pm_af_void, pm_af_thr, pe_sipush, pe_call3, pe_istore3, pe_iload1, pe_i2l, pe_bipush, pe_iload3, pe_isub, pe_iload2, pe_icmp_ne, pe_goto, pe_goto_w, pm_prog_1, pm_ob_some, Nat.reduceDiv, Nat.reduceMod, Nat.reduceMul, Nat.reduceAdd, Int.reduceToNat, pm_kill_i, pm_kill_r, pm_kill_n, pm_kill_j, pm_kill_l, pm_kill_d, pm_cats_nil, pm_cats_i, pm_cats_r, pm_cats_n, pm_cats_l, pm_cats_d, sz_1, sz_2, sl_1, sl_2, lc_0, lc_lt, lc_le, li_ne, va_rf, wr_m1, we_m1, pm_kill_w, Int32.reduceOfInt, Int64.reduceOfInt, Int32.reduceOfNat, Int32.reduceLT, Int32.reduceLE, Prod.mk.injEq, Nat.reduceEqDiff, reduceCtorEq, and_true, true_and, and_false, false_and, and_self, ite_true, ite_false, ↓reduceIte, not_true_eq_false, not_false_eq_true, pe_ri, pe_rz, pe_rc, p_throw, t288, w_junk hA, Cr_g0_16 hP hA, z1, z2, z3, z4, z5, z6, z7, eq_false k8, z9]
/-- TimberHouse$FaultRips.panel(II)I -/
theorem c291 {d : Nat} {h : pm_H} {a : Nat} {x0 : Int32} {x1 : Int32} (hc : pm_cls h a = some 4) : pm_call pm_prog (d + 1) 291 [.ref a, .int x0, .int x1] h = pm_ev pm_prog (pm_call pm_prog d) 291 0 b291_0 [.ref a, .int x0, .int x1, pm_junk, pm_junk, pm_junk, pm_junk, pm_junk, pm_junk] [] h := pm_cal (pm_rc1 hc rfl) rfl rfl rfl
theorem g291_1 {cl : pm_C} {ls st : List Value} {h : pm_H} : pm_go pm_prog cl 291 1 ls st h = pm_ev pm_prog cl 291 1 b291_1 ls st h := pm_go_eq pm_prog cl 291 1 ls st h
theorem g291_2 {cl : pm_C} {ls st : List Value} {h : pm_H} : pm_go pm_prog cl 291 2 ls st h = pm_ev pm_prog cl 291 2 b291_2 ls st h := pm_go_eq pm_prog cl 291 2 ls st h
theorem g291_3 {cl : pm_C} {ls st : List Value} {h : pm_H} : pm_go pm_prog cl 291 3 ls st h = pm_ev pm_prog cl 291 3 b291_3 ls st h := pm_go_eq pm_prog cl 291 3 ls st h
theorem g291_4 {cl : pm_C} {ls st : List Value} {h : pm_H} : pm_go pm_prog cl 291 4 ls st h = pm_ev pm_prog cl 291 4 b291_4 ls st h := pm_go_eq pm_prog cl 291 4 ls st h
theorem g291_5 {cl : pm_C} {ls st : List Value} {h : pm_H} : pm_go pm_prog cl 291 5 ls st h = pm_ev pm_prog cl 291 5 b291_5 ls st h := pm_go_eq pm_prog cl 291 5 ls st h
theorem g291_6 {cl : pm_C} {ls st : List Value} {h : pm_H} : pm_go pm_prog cl 291 6 ls st h = pm_ev pm_prog cl 291 6 b291_6 ls st h := pm_go_eq pm_prog cl 291 6 ls st h
theorem g291_7 {cl : pm_C} {ls st : List Value} {h : pm_H} : pm_go pm_prog cl 291 7 ls st h = pm_ev pm_prog cl 291 7 b291_7 ls st h := pm_go_eq pm_prog cl 291 7 ls st h
theorem g291_8 {cl : pm_C} {ls st : List Value} {h : pm_H} : pm_go pm_prog cl 291 8 ls st h = pm_ev pm_prog cl 291 8 b291_8 ls st h := pm_go_eq pm_prog cl 291 8 ls st h
theorem g291_9 {cl : pm_C} {ls st : List Value} {h : pm_H} : pm_go pm_prog cl 291 9 ls st h = pm_ev pm_prog cl 291 9 b291_9 ls st h := pm_go_eq pm_prog cl 291 9 ls st h
theorem g291_10 {cl : pm_C} {ls st : List Value} {h : pm_H} : pm_go pm_prog cl 291 10 ls st h = pm_ev pm_prog cl 291 10 b291_10 ls st h := pm_go_eq pm_prog cl 291 10 ls st h
theorem g291_11 {cl : pm_C} {ls st : List Value} {h : pm_H} : pm_go pm_prog cl 291 11 ls st h = pm_ev pm_prog cl 291 11 b291_11 ls st h := pm_go_eq pm_prog cl 291 11 ls st h
theorem g291_12 {cl : pm_C} {ls st : List Value} {h : pm_H} : pm_go pm_prog cl 291 12 ls st h = pm_ev pm_prog cl 291 12 b291_12 ls st h := pm_go_eq pm_prog cl 291 12 ls st h
theorem g291_13 {cl : pm_C} {ls st : List Value} {h : pm_H} : pm_go pm_prog cl 291 13 ls st h = pm_ev pm_prog cl 291 13 b291_13 ls st h := pm_go_eq pm_prog cl 291 13 ls st h
theorem g291_14 {cl : pm_C} {ls st : List Value} {h : pm_H} : pm_go pm_prog cl 291 14 ls st h = pm_ev pm_prog cl 291 14 b291_14 ls st h := pm_go_eq pm_prog cl 291 14 ls st h
theorem g291_15 {cl : pm_C} {ls st : List Value} {h : pm_H} : pm_go pm_prog cl 291 15 ls st h = pm_ev pm_prog cl 291 15 b291_15 ls st h := pm_go_eq pm_prog cl 291 15 ls st h
theorem g291_16 {cl : pm_C} {ls st : List Value} {h : pm_H} : pm_go pm_prog cl 291 16 ls st h = pm_ev pm_prog cl 291 16 b291_16 ls st h := pm_go_eq pm_prog cl 291 16 ls st h
theorem g291_17 {cl : pm_C} {ls st : List Value} {h : pm_H} : pm_go pm_prog cl 291 17 ls st h = pm_ev pm_prog cl 291 17 b291_17 ls st h := pm_go_eq pm_prog cl 291 17 ls st h
theorem g291_18 {cl : pm_C} {ls st : List Value} {h : pm_H} : pm_go pm_prog cl 291 18 ls st h = pm_ev pm_prog cl 291 18 b291_18 ls st h := pm_go_eq pm_prog cl 291 18 ls st h
theorem g291_19 {cl : pm_C} {ls st : List Value} {h : pm_H} : pm_go pm_prog cl 291 19 ls st h = pm_ev pm_prog cl 291 19 b291_19 ls st h := pm_go_eq pm_prog cl 291 19 ls st h
theorem g291_20 {cl : pm_C} {ls st : List Value} {h : pm_H} : pm_go pm_prog cl 291 20 ls st h = pm_ev pm_prog cl 291 20 b291_20 ls st h := pm_go_eq pm_prog cl 291 20 ls st h
theorem t291 {cl : pm_C} {j : Nat} {ls : List Value} {c : Nat} {h : pm_H} : pm_thr pm_prog cl 291 j ls c h = some (.threw c, h) := rfl
noncomputable def f291_b3 (fc : Int32) (pc : Int32) : Int32 × Int32 × Int32 × Int32 × Int32 × wS → Option ((Int32 × Int32 × Int32 × Int32 × Int32 × wS) ⊕ ((Int32 × Int32 × Int32 × Int32 × wS))) := fun (x1, x2, x3, x4, x5, S) =>
  if x5 ≤ x1 then
    if x5 = 0 then
      if 0 ≤ ((x4 * (S.1 (12, 0, 0) 5)) + x5) ∧ ((x4 * (S.1 (12, 0, 0) 5)) + x5) < 24341 then
        some (.inl (x1, x2, x3, x4, (x5 + 1), (sz S (19, 0, 0) ((x4 * (S.1 (12, 0, 0) 5)) + x5) 0)))
      else none
    else
      if 0 ≤ ((x4 * (S.1 (12, 0, 0) 5)) + x5) ∧ ((x4 * (S.1 (12, 0, 0) 5)) + x5) < 24341 then
        some (.inl (x1, x2, x3, x4, (x5 + 1), (sz S (19, 0, 0) ((x4 * (S.1 (12, 0, 0) 5)) + x5) x3)))
      else none
  else
    some (.inr (x1, x2, x3, x4, S))
noncomputable def f291_10_8 (fc : Int32) (pc : Int32) (S : wS) (x1 : Int32) (x2 : Int32) (x3 : Int32) (x4 : Int32) (x5 : Int32) (x6 : Int32) (x7 : Int32) (y0 : Int32) : Option ((Int32 × Int32 × Int32 × Int32 × Int32 × Int32 × wS) ⊕ ((Int32 × Int32 × Int32 × Int32 × Int32 × wS))) :=
  (f3840 x7 y0).bind fun v8 =>
  if 0 ≤ ((x4 * x5) + x6) ∧ ((x4 * x5) + x6) < 24341 then
    some (.inl (x1, x2, x3, x4, x5, (x6 + 1), (sz S (19, 0, 0) ((x4 * x5) + x6) v8)))
  else none
noncomputable def f291_b8 (fc : Int32) (pc : Int32) : Int32 × Int32 × Int32 × Int32 × Int32 × Int32 × wS → Option ((Int32 × Int32 × Int32 × Int32 × Int32 × Int32 × wS) ⊕ ((Int32 × Int32 × Int32 × Int32 × Int32 × wS))) := fun (x1, x2, x3, x4, x5, x6, S) =>
  if x6 ≤ x1 then
    if 0 ≤ ((x4 * (x5 + 1)) + x6) ∧ ((x4 * (x5 + 1)) + x6) < 24341 then
      if 0 ≤ x5 ∧ x5 < 240 then
        if x6 < (S.1 (16, 0, 0) x5) then
          f291_10_8 fc pc S x1 x2 x3 x4 x5 x6 (S.1 (19, 0, 0) ((x4 * (x5 + 1)) + x6)) x3
        else
          if 0 ≤ (((x4 * (x5 + 1)) + x6) - (S.1 (16, 0, 0) x5)) ∧ (((x4 * (x5 + 1)) + x6) - (S.1 (16, 0, 0) x5)) < 24341 then
            f291_10_8 fc pc S x1 x2 x3 x4 x5 x6 (S.1 (19, 0, 0) ((x4 * (x5 + 1)) + x6)) (1 + (S.1 (19, 0, 0) (((x4 * (x5 + 1)) + x6) - (S.1 (16, 0, 0) x5))))
          else none
      else none
    else none
  else
    some (.inr (x1, x2, x3, x4, x5, S))
noncomputable def f291_b7 (fc : Int32) (pc : Int32) : Int32 × Int32 × Int32 × Int32 × Int32 × wS → Option ((Int32 × Int32 × Int32 × Int32 × Int32 × wS) ⊕ ((Int32 × Int32 × Int32 × Int32 × wS))) := fun (x1, x2, x3, x4, x5, S) =>
  if x5 < 0 then
    some (.inr (x1, x2, x3, x4, S))
  else
    (lp (f291_b8 fc pc) FU (x1, x2, x3, x4, x5, 0, S)).bind fun (v11, v12, v13, v14, v15, S9) =>
    some (.inl (v11, v12, v13, v14, (v15 + (-1)), S9))
noncomputable def f291_17_14 (fc : Int32) (pc : Int32) (S : wS) (x2 : Int32) (x4 : Int32) (x5 : Int32) (x6 : Int32) (x7 : Int32) (x8 : Int32) : Option ((Int32 × Int32 × Int32 × Int32 × Int32) ⊕ ((Unit) ⊕ (Int32))) :=
  if x8 = 0 then
    some (.inl (x2, x4, (x5 - 0), x6, (x7 + 1)))
  else
    if 0 ≤ x7 ∧ x7 < 240 then
      some (.inl (x2, x4, (x5 - (S.1 (16, 0, 0) x7)), x6, (x7 + 1)))
    else none
noncomputable def f291_16_14 (fc : Int32) (pc : Int32) (S : wS) (x2 : Int32) (x4 : Int32) (x5 : Int32) (x6 : Int32) (x7 : Int32) (y0 : Int32) : Option ((Int32 × Int32 × Int32 × Int32 × Int32) ⊕ ((Unit) ⊕ (Int32))) :=
  if y0 = 0 then
    f291_17_14 fc pc S x2 x4 x5 x6 x7 y0
  else
    if x6 = x2 then
      some (.inr (.inr (x7)))
    else
      f291_17_14 fc pc S x2 x4 x5 (x6 + 1) x7 y0
noncomputable def f291_b14 (fc : Int32) (pc : Int32) (S : wS) : Int32 × Int32 × Int32 × Int32 × Int32 → Option ((Int32 × Int32 × Int32 × Int32 × Int32) ⊕ ((Unit) ⊕ (Int32))) := fun (x2, x4, x5, x6, x7) =>
  if x7 < (S.1 (12, 0, 0) 5) then
    if x5 ≤ 0 then
      some (.inr (.inl ()))
    else
      if 0 ≤ x7 ∧ x7 < 240 then
        if x5 < (S.1 (16, 0, 0) x7) then
          f291_16_14 fc pc S x2 x4 x5 x6 x7 0
        else
          if 0 ≤ (((x4 * (x7 + 1)) + x5) - (S.1 (16, 0, 0) x7)) ∧ (((x4 * (x7 + 1)) + x5) - (S.1 (16, 0, 0) x7)) < 24341 then
            if 0 ≤ ((x4 * x7) + x5) ∧ ((x4 * x7) + x5) < 24341 then
              if (1 + (S.1 (19, 0, 0) (((x4 * (x7 + 1)) + x5) - (S.1 (16, 0, 0) x7)))) = (S.1 (19, 0, 0) ((x4 * x7) + x5)) then
                f291_16_14 fc pc S x2 x4 x5 x6 x7 1
              else
                f291_16_14 fc pc S x2 x4 x5 x6 x7 0
            else none
          else none
      else none
  else
    some (.inr (.inl ()))
noncomputable def f291_2 (fc : Int32) (pc : Int32) (S : wS) (x1 : Int32) (x2 : Int32) (y0 : Int32) : Option ((Nat × wS) ⊕ (Int32 × wS)) :=
  (f262 y0).bind fun r => match r with
  | .inl c23 =>
    some (.inl (c23, S))
  | .inr _ =>
  (lp (f291_b3 fc pc) FU (x1, x2, 241, 101, 0, S)).bind fun (v4, v5, v6, v7, S2) =>
  (lp (f291_b7 fc pc) FU (v4, v5, v6, v7, ((S2.1 (12, 0, 0) 5) - 1), S2)).bind fun (v18, v19, v20, v21, S16) =>
  if 0 ≤ v18 ∧ v18 < 24341 then
    if (S16.1 (19, 0, 0) v18) < v20 then
      (lp (f291_b14 fc pc S16) FU (v19, v21, v18, 0, 0)).bind fun b => match b with
      | (.inl ()) =>
        some (.inr ((-1), S16))
      | (.inr (v22)) =>
        some (.inr (v22, S16))
    else
      some (.inr ((-1), S16))
  else none
/-- TimberHouse$FaultRips.panel(II)I -/
noncomputable def f291 (fc : Int32) (pc : Int32) (S : wS) (x1 : Int32) (x2 : Int32) : Option ((Nat × wS) ⊕ (Int32 × wS)) :=
  (f259 (S.1 (0, 0, 0) 16)).bind fun r => match r with
  | .inl c24 =>
    some (.inl (c24, S))
  | .inr _ =>
  (f260 (Int32.toInt64 x1) 1 100).bind fun v1 =>
  if v1 = 0 then
    f291_2 fc pc S x1 x2 0
  else
    if x2 < 0 then
      f291_2 fc pc S x1 x2 0
    else
      f291_2 fc pc S x1 x2 1
def go291_3 (fc : Int32) (pc : Int32) (A : wK → Nat) (h : pm_H) (D : Nat) (R : Outcome × pm_H) : Int32 × Int32 × Int32 × Int32 × Int32 × wS → Prop := fun (x1, x2, x3, x4, x5, S) => ∀ q6 q7 q8 : Value, pm_go pm_prog (pm_call pm_prog D) 291 3 [.ref (A (0, 0, 0)), .int x1, .int x2, .int x3, .int x4, .int x5, q6, q7, q8] [] (wput A (Cr_d fc pc) S h) = some R
def ex291_3 (fc : Int32) (pc : Int32) (A : wK → Nat) (h : pm_H) (D : Nat) (R : Outcome × pm_H) : (Int32 × Int32 × Int32 × Int32 × wS) → Prop := fun (x1, x2, x3, x4, S) => ∀ q5 q6 q7 q8 : Value, pm_go pm_prog (pm_call pm_prog D) 291 6 [.ref (A (0, 0, 0)), .int x1, .int x2, .int x3, .int x4, q5, q6, q7, q8] [] (wput A (Cr_d fc pc) S h) = some R
theorem y291_b3 {fc : Int32} {pc : Int32} {A : wK → Nat} {h : pm_H} {D : Nat} {R : Outcome × pm_H} (hP : Cr_P fc pc) (hA : wok A (Cr_d fc pc) h.1) (hD : 1 ≤ D) (a : Int32 × Int32 × Int32 × Int32 × Int32 × wS) (r : (Int32 × Int32 × Int32 × Int32 × Int32 × wS) ⊕ ((Int32 × Int32 × Int32 × Int32 × wS))) (e : f291_b3 fc pc a = some r) (hc : Sum.elim (go291_3 fc pc A h D R) (ex291_3 fc pc A h D R) r) : go291_3 fc pc A h D R a := by
  obtain ⟨x1, x2, x3, x4, x5, S⟩ := a
  dsimp only [go291_3]
  intro q6 q7 q8
  simp only [f291_b3] at e
  rw [g291_3, b291_3]
  by_cases k1 : x5 ≤ x1
  · rw [if_pos k1] at e
    by_cases k2 : x5 = 0
    · rw [if_pos k2] at e
      by_cases k3 : 0 ≤ ((x4 * (S.1 (12, 0, 0) 5)) + x5) ∧ ((x4 * (S.1 (12, 0, 0) 5)) + x5) < 24341
      · rw [if_pos k3] at e
        have e := Option.some.inj e; subst e
        dsimp only [Sum.elim_inl, go291_3] at hc
        simp -implicitDefEqProofs (disch := first | assumption | exact Nat.le_of_ble_eq_true rfl | decide) only [b291_0, g291_1, b291_1, g291_4, b291_4, g291_5, b291_5, g291_6, b291_6, g291_9, b291_9, g291_11, b291_11, g291_12, b291_12, g291_13, b291_13, g291_15, b291_15, g291_18, b291_18, g291_19, b291_19, g291_20, b291_20, pe_aload0, pe_getfield, pe_call1, pm_af_ret, pm_af_void, pm_af_thr, pe_iload1, pe_i2l, pe_bipush, pe_call3, pe_if_eq, pe_iload2, pe_if_lt, pe_sipush, pe_goto, pe_goto_w, pe_istore3, pe_istore4, pe_istore5, pe_iload5, pe_icmp_gt, pe_iload4, pe_imul, pe_iadd, pe_if_ne, pe_iload3, pe_iastore, pe_iinc5, pe_isub, pe_istore6, pe_iload6, pe_iaload, pe_istore7, pe_baload, pe_icmp_ge, pe_istore8, pe_iload7, pe_iload8, pe_call2, pe_iinc6, pe_icmp_lt, pe_if_le, pe_icmp_ne, pe_iinc7, pm_prog_1, pm_ob_some, Nat.reduceDiv, Nat.reduceMod, Nat.reduceMul, Nat.reduceAdd, Int.reduceToNat, pm_kill_i, pm_kill_r, pm_kill_n, pm_kill_j, pm_kill_l, pm_kill_d, pm_cats_nil, pm_cats_i, pm_cats_r, pm_cats_n, pm_cats_l, pm_cats_d, sz_1, sz_2, sl_1, sl_2, lc_0, lc_lt, lc_le, li_ne, va_rf, wr_m1, we_m1, pm_kill_w, Int32.reduceOfInt, Int64.reduceOfInt, Int32.reduceOfNat, Int32.reduceLT, Int32.reduceLE, Prod.mk.injEq, Nat.reduceEqDiff, reduceCtorEq, and_true, true_and, and_false, false_and, and_self, ite_true, ite_false, ↓reduceIte, not_true_eq_false, not_false_eq_true, pe_ri, pe_rz, pe_rc, p_throw, t291, w_junk hA, Cr_g0_12 hP hA, Cr_g0_16 hP hA, Cr_g0_19 hP hA, Cr_g12_3 hP hA, Cr_g12_5 hP hA, Cr_r16 hP hA, Cr_r19 hP hA, Cr_w19 hP hA, eq_true k1, eq_true k2, hc]
      · rw [if_neg k3] at e; cases e
    · rw [if_neg k2] at e
      by_cases k4 : 0 ≤ ((x4 * (S.1 (12, 0, 0) 5)) + x5) ∧ ((x4 * (S.1 (12, 0, 0) 5)) + x5) < 24341
      · rw [if_pos k4] at e
        have e := Option.some.inj e; subst e
        dsimp only [Sum.elim_inl, go291_3] at hc
        simp -implicitDefEqProofs (disch := first | assumption | exact Nat.le_of_ble_eq_true rfl | decide) only [b291_0, g291_1, b291_1, g291_4, b291_4, g291_5, b291_5, g291_6, b291_6, g291_9, b291_9, g291_11, b291_11, g291_12, b291_12, g291_13, b291_13, g291_15, b291_15, g291_18, b291_18, g291_19, b291_19, g291_20, b291_20, pe_aload0, pe_getfield, pe_call1, pm_af_ret, pm_af_void, pm_af_thr, pe_iload1, pe_i2l, pe_bipush, pe_call3, pe_if_eq, pe_iload2, pe_if_lt, pe_sipush, pe_goto, pe_goto_w, pe_istore3, pe_istore4, pe_istore5, pe_iload5, pe_icmp_gt, pe_iload4, pe_imul, pe_iadd, pe_if_ne, pe_iload3, pe_iastore, pe_iinc5, pe_isub, pe_istore6, pe_iload6, pe_iaload, pe_istore7, pe_baload, pe_icmp_ge, pe_istore8, pe_iload7, pe_iload8, pe_call2, pe_iinc6, pe_icmp_lt, pe_if_le, pe_icmp_ne, pe_iinc7, pm_prog_1, pm_ob_some, Nat.reduceDiv, Nat.reduceMod, Nat.reduceMul, Nat.reduceAdd, Int.reduceToNat, pm_kill_i, pm_kill_r, pm_kill_n, pm_kill_j, pm_kill_l, pm_kill_d, pm_cats_nil, pm_cats_i, pm_cats_r, pm_cats_n, pm_cats_l, pm_cats_d, sz_1, sz_2, sl_1, sl_2, lc_0, lc_lt, lc_le, li_ne, va_rf, wr_m1, we_m1, pm_kill_w, Int32.reduceOfInt, Int64.reduceOfInt, Int32.reduceOfNat, Int32.reduceLT, Int32.reduceLE, Prod.mk.injEq, Nat.reduceEqDiff, reduceCtorEq, and_true, true_and, and_false, false_and, and_self, ite_true, ite_false, ↓reduceIte, not_true_eq_false, not_false_eq_true, pe_ri, pe_rz, pe_rc, p_throw, t291, w_junk hA, Cr_g0_12 hP hA, Cr_g0_16 hP hA, Cr_g0_19 hP hA, Cr_g12_3 hP hA, Cr_g12_5 hP hA, Cr_r16 hP hA, Cr_r19 hP hA, Cr_w19 hP hA, eq_true k1, eq_false k2, hc]
      · rw [if_neg k4] at e; cases e
  · rw [if_neg k1] at e
    have e := Option.some.inj e; subst e
    dsimp only [Sum.elim_inr, ex291_3] at hc
    simp -implicitDefEqProofs (disch := first | assumption | exact Nat.le_of_ble_eq_true rfl | decide) only [b291_0, g291_1, b291_1, g291_4, b291_4, g291_5, b291_5, g291_6, b291_6, g291_9, b291_9, g291_11, b291_11, g291_12, b291_12, g291_13, b291_13, g291_15, b291_15, g291_18, b291_18, g291_19, b291_19, g291_20, b291_20, pe_aload0, pe_getfield, pe_call1, pm_af_ret, pm_af_void, pm_af_thr, pe_iload1, pe_i2l, pe_bipush, pe_call3, pe_if_eq, pe_iload2, pe_if_lt, pe_sipush, pe_goto, pe_goto_w, pe_istore3, pe_istore4, pe_istore5, pe_iload5, pe_icmp_gt, pe_iload4, pe_imul, pe_iadd, pe_if_ne, pe_iload3, pe_iastore, pe_iinc5, pe_isub, pe_istore6, pe_iload6, pe_iaload, pe_istore7, pe_baload, pe_icmp_ge, pe_istore8, pe_iload7, pe_iload8, pe_call2, pe_iinc6, pe_icmp_lt, pe_if_le, pe_icmp_ne, pe_iinc7, pm_prog_1, pm_ob_some, Nat.reduceDiv, Nat.reduceMod, Nat.reduceMul, Nat.reduceAdd, Int.reduceToNat, pm_kill_i, pm_kill_r, pm_kill_n, pm_kill_j, pm_kill_l, pm_kill_d, pm_cats_nil, pm_cats_i, pm_cats_r, pm_cats_n, pm_cats_l, pm_cats_d, sz_1, sz_2, sl_1, sl_2, lc_0, lc_lt, lc_le, li_ne, va_rf, wr_m1, we_m1, pm_kill_w, Int32.reduceOfInt, Int64.reduceOfInt, Int32.reduceOfNat, Int32.reduceLT, Int32.reduceLE, Prod.mk.injEq, Nat.reduceEqDiff, reduceCtorEq, and_true, true_and, and_false, false_and, and_self, ite_true, ite_false, ↓reduceIte, not_true_eq_false, not_false_eq_true, pe_ri, pe_rz, pe_rc, p_throw, t291, w_junk hA, Cr_g0_12 hP hA, Cr_g0_16 hP hA, Cr_g0_19 hP hA, Cr_g12_3 hP hA, Cr_g12_5 hP hA, Cr_r16 hP hA, Cr_r19 hP hA, Cr_w19 hP hA, eq_false k1, hc]
theorem z291_3 {fc : Int32} {pc : Int32} {A : wK → Nat} {h : pm_H} {D : Nat} {R : Outcome × pm_H} (hP : Cr_P fc pc) (hA : wok A (Cr_d fc pc) h.1) (hD : 1 ≤ D) {n : Nat} {a : Int32 × Int32 × Int32 × Int32 × Int32 × wS} {b : (Int32 × Int32 × Int32 × Int32 × wS)} (e : lp (f291_b3 fc pc) n a = some b) (hx : ex291_3 fc pc A h D R b) : go291_3 fc pc A h D R a := lp_run (fun a r => y291_b3 hP hA hD a r) n a b e hx
def go291_8 (fc : Int32) (pc : Int32) (A : wK → Nat) (h : pm_H) (D : Nat) (R : Outcome × pm_H) : Int32 × Int32 × Int32 × Int32 × Int32 × Int32 × wS → Prop := fun (x1, x2, x3, x4, x5, x6, S) => ∀ q7 q8 : Value, pm_go pm_prog (pm_call pm_prog D) 291 8 [.ref (A (0, 0, 0)), .int x1, .int x2, .int x3, .int x4, .int x5, .int x6, q7, q8] [] (wput A (Cr_d fc pc) S h) = some R
def ex291_8 (fc : Int32) (pc : Int32) (A : wK → Nat) (h : pm_H) (D : Nat) (R : Outcome × pm_H) : (Int32 × Int32 × Int32 × Int32 × Int32 × wS) → Prop := fun (x1, x2, x3, x4, x5, S) => ∀ q6 q7 q8 : Value, pm_go pm_prog (pm_call pm_prog D) 291 11 [.ref (A (0, 0, 0)), .int x1, .int x2, .int x3, .int x4, .int x5, q6, q7, q8] [] (wput A (Cr_d fc pc) S h) = some R
theorem y291_10_8 {fc : Int32} {pc : Int32} {A : wK → Nat} {h : pm_H} {D : Nat} {R : Outcome × pm_H} {S : wS} {x1 : Int32} {x2 : Int32} {x3 : Int32} {x4 : Int32} {x5 : Int32} {x6 : Int32} {x7 : Int32} {y0 : Int32} {r : (Int32 × Int32 × Int32 × Int32 × Int32 × Int32 × wS) ⊕ ((Int32 × Int32 × Int32 × Int32 × Int32 × wS))} (hP : Cr_P fc pc) (hA : wok A (Cr_d fc pc) h.1) (hD : 1 ≤ D) (e : f291_10_8 fc pc S x1 x2 x3 x4 x5 x6 x7 y0 = some r) (hc : Sum.elim (go291_8 fc pc A h D R) (ex291_8 fc pc A h D R) r) : ∀ q8 : Value, pm_go pm_prog (pm_call pm_prog D) 291 10 [.ref (A (0, 0, 0)), .int x1, .int x2, .int x3, .int x4, .int x5, .int x6, .int x7, q8] [.int y0] (wput A (Cr_d fc pc) S h) = some R := by
  intro q8
  simp only [f291_10_8] at e
  rw [g291_10, b291_10]
  obtain ⟨v8, k1, e⟩ := Option.bind_eq_some_iff.mp e
  try dsimp only at e
  have z1 := fun h => x3840 (D := D) (h := h) (by omega) k1
  by_cases k2 : 0 ≤ ((x4 * x5) + x6) ∧ ((x4 * x5) + x6) < 24341
  · rw [if_pos k2] at e
    have e := Option.some.inj e; subst e
    dsimp only [Sum.elim_inl, go291_8] at hc
    simp -implicitDefEqProofs (disch := first | assumption | exact Nat.le_of_ble_eq_true rfl | decide) only [b291_0, g291_1, b291_1, g291_4, b291_4, g291_5, b291_5, g291_6, b291_6, g291_9, b291_9, g291_11, b291_11, g291_12, b291_12, g291_13, b291_13, g291_15, b291_15, g291_18, b291_18, g291_19, b291_19, g291_20, b291_20, pe_aload0, pe_getfield, pe_call1, pm_af_ret, pm_af_void, pm_af_thr, pe_iload1, pe_i2l, pe_bipush, pe_call3, pe_if_eq, pe_iload2, pe_if_lt, pe_sipush, pe_goto, pe_goto_w, pe_istore3, pe_istore4, pe_istore5, pe_iload5, pe_icmp_gt, pe_iload4, pe_imul, pe_iadd, pe_if_ne, pe_iload3, pe_iastore, pe_iinc5, pe_isub, pe_istore6, pe_iload6, pe_iaload, pe_istore7, pe_baload, pe_icmp_ge, pe_istore8, pe_iload7, pe_iload8, pe_call2, pe_iinc6, pe_icmp_lt, pe_if_le, pe_icmp_ne, pe_iinc7, pm_prog_1, pm_ob_some, Nat.reduceDiv, Nat.reduceMod, Nat.reduceMul, Nat.reduceAdd, Int.reduceToNat, pm_kill_i, pm_kill_r, pm_kill_n, pm_kill_j, pm_kill_l, pm_kill_d, pm_cats_nil, pm_cats_i, pm_cats_r, pm_cats_n, pm_cats_l, pm_cats_d, sz_1, sz_2, sl_1, sl_2, lc_0, lc_lt, lc_le, li_ne, va_rf, wr_m1, we_m1, pm_kill_w, Int32.reduceOfInt, Int64.reduceOfInt, Int32.reduceOfNat, Int32.reduceLT, Int32.reduceLE, Prod.mk.injEq, Nat.reduceEqDiff, reduceCtorEq, and_true, true_and, and_false, false_and, and_self, ite_true, ite_false, ↓reduceIte, not_true_eq_false, not_false_eq_true, pe_ri, pe_rz, pe_rc, p_throw, t291, w_junk hA, Cr_g0_12 hP hA, Cr_g0_16 hP hA, Cr_g0_19 hP hA, Cr_g12_3 hP hA, Cr_g12_5 hP hA, Cr_r16 hP hA, Cr_r19 hP hA, Cr_w19 hP hA, z1, hc]
  · rw [if_neg k2] at e; cases e
theorem y291_b8 {fc : Int32} {pc : Int32} {A : wK → Nat} {h : pm_H} {D : Nat} {R : Outcome × pm_H} (hP : Cr_P fc pc) (hA : wok A (Cr_d fc pc) h.1) (hD : 1 ≤ D) (a : Int32 × Int32 × Int32 × Int32 × Int32 × Int32 × wS) (r : (Int32 × Int32 × Int32 × Int32 × Int32 × Int32 × wS) ⊕ ((Int32 × Int32 × Int32 × Int32 × Int32 × wS))) (e : f291_b8 fc pc a = some r) (hc : Sum.elim (go291_8 fc pc A h D R) (ex291_8 fc pc A h D R) r) : go291_8 fc pc A h D R a := by
  obtain ⟨x1, x2, x3, x4, x5, x6, S⟩ := a
  dsimp only [go291_8]
  intro q7 q8
  simp only [f291_b8] at e
  rw [g291_8, b291_8]
  by_cases k1 : x6 ≤ x1
  · rw [if_pos k1] at e
    by_cases k2 : 0 ≤ ((x4 * (x5 + 1)) + x6) ∧ ((x4 * (x5 + 1)) + x6) < 24341
    · rw [if_pos k2] at e
      by_cases k3 : 0 ≤ x5 ∧ x5 < 240
      · rw [if_pos k3] at e
        by_cases k4 : x6 < (S.1 (16, 0, 0) x5)
        · rw [if_pos k4] at e
          have k5 := y291_10_8 (h := h) hP hA hD e hc
          simp -implicitDefEqProofs (disch := first | assumption | exact Nat.le_of_ble_eq_true rfl | decide) only [b291_0, g291_1, b291_1, g291_4, b291_4, g291_5, b291_5, g291_6, b291_6, g291_9, b291_9, g291_11, b291_11, g291_12, b291_12, g291_13, b291_13, g291_15, b291_15, g291_18, b291_18, g291_19, b291_19, g291_20, b291_20, pe_aload0, pe_getfield, pe_call1, pm_af_ret, pm_af_void, pm_af_thr, pe_iload1, pe_i2l, pe_bipush, pe_call3, pe_if_eq, pe_iload2, pe_if_lt, pe_sipush, pe_goto, pe_goto_w, pe_istore3, pe_istore4, pe_istore5, pe_iload5, pe_icmp_gt, pe_iload4, pe_imul, pe_iadd, pe_if_ne, pe_iload3, pe_iastore, pe_iinc5, pe_isub, pe_istore6, pe_iload6, pe_iaload, pe_istore7, pe_baload, pe_icmp_ge, pe_istore8, pe_iload7, pe_iload8, pe_call2, pe_iinc6, pe_icmp_lt, pe_if_le, pe_icmp_ne, pe_iinc7, pm_prog_1, pm_ob_some, Nat.reduceDiv, Nat.reduceMod, Nat.reduceMul, Nat.reduceAdd, Int.reduceToNat, pm_kill_i, pm_kill_r, pm_kill_n, pm_kill_j, pm_kill_l, pm_kill_d, pm_cats_nil, pm_cats_i, pm_cats_r, pm_cats_n, pm_cats_l, pm_cats_d, sz_1, sz_2, sl_1, sl_2, lc_0, lc_lt, lc_le, li_ne, va_rf, wr_m1, we_m1, pm_kill_w, Int32.reduceOfInt, Int64.reduceOfInt, Int32.reduceOfNat, Int32.reduceLT, Int32.reduceLE, Prod.mk.injEq, Nat.reduceEqDiff, reduceCtorEq, and_true, true_and, and_false, false_and, and_self, ite_true, ite_false, ↓reduceIte, not_true_eq_false, not_false_eq_true, pe_ri, pe_rz, pe_rc, p_throw, t291, w_junk hA, Cr_g0_12 hP hA, Cr_g0_16 hP hA, Cr_g0_19 hP hA, Cr_g12_3 hP hA, Cr_g12_5 hP hA, Cr_r16 hP hA, Cr_r19 hP hA, Cr_w19 hP hA, eq_true k1, eq_true k4, k5]
        · rw [if_neg k4] at e
          by_cases k6 : 0 ≤ (((x4 * (x5 + 1)) + x6) - (S.1 (16, 0, 0) x5)) ∧ (((x4 * (x5 + 1)) + x6) - (S.1 (16, 0, 0) x5)) < 24341
          · rw [if_pos k6] at e
            have k7 := y291_10_8 (h := h) hP hA hD e hc
            simp -implicitDefEqProofs (disch := first | assumption | exact Nat.le_of_ble_eq_true rfl | decide) only [b291_0, g291_1, b291_1, g291_4, b291_4, g291_5, b291_5, g291_6, b291_6, g291_9, b291_9, g291_11, b291_11, g291_12, b291_12, g291_13, b291_13, g291_15, b291_15, g291_18, b291_18, g291_19, b291_19, g291_20, b291_20, pe_aload0, pe_getfield, pe_call1, pm_af_ret, pm_af_void, pm_af_thr, pe_iload1, pe_i2l, pe_bipush, pe_call3, pe_if_eq, pe_iload2, pe_if_lt, pe_sipush, pe_goto, pe_goto_w, pe_istore3, pe_istore4, pe_istore5, pe_iload5, pe_icmp_gt, pe_iload4, pe_imul, pe_iadd, pe_if_ne, pe_iload3, pe_iastore, pe_iinc5, pe_isub, pe_istore6, pe_iload6, pe_iaload, pe_istore7, pe_baload, pe_icmp_ge, pe_istore8, pe_iload7, pe_iload8, pe_call2, pe_iinc6, pe_icmp_lt, pe_if_le, pe_icmp_ne, pe_iinc7, pm_prog_1, pm_ob_some, Nat.reduceDiv, Nat.reduceMod, Nat.reduceMul, Nat.reduceAdd, Int.reduceToNat, pm_kill_i, pm_kill_r, pm_kill_n, pm_kill_j, pm_kill_l, pm_kill_d, pm_cats_nil, pm_cats_i, pm_cats_r, pm_cats_n, pm_cats_l, pm_cats_d, sz_1, sz_2, sl_1, sl_2, lc_0, lc_lt, lc_le, li_ne, va_rf, wr_m1, we_m1, pm_kill_w, Int32.reduceOfInt, Int64.reduceOfInt, Int32.reduceOfNat, Int32.reduceLT, Int32.reduceLE, Prod.mk.injEq, Nat.reduceEqDiff, reduceCtorEq, and_true, true_and, and_false, false_and, and_self, ite_true, ite_false, ↓reduceIte, not_true_eq_false, not_false_eq_true, pe_ri, pe_rz, pe_rc, p_throw, t291, w_junk hA, Cr_g0_12 hP hA, Cr_g0_16 hP hA, Cr_g0_19 hP hA, Cr_g12_3 hP hA, Cr_g12_5 hP hA, Cr_r16 hP hA, Cr_r19 hP hA, Cr_w19 hP hA, eq_true k1, eq_false k4, k7]
          · rw [if_neg k6] at e; cases e
      · rw [if_neg k3] at e; cases e
    · rw [if_neg k2] at e; cases e
  · rw [if_neg k1] at e
    have e := Option.some.inj e; subst e
    dsimp only [Sum.elim_inr, ex291_8] at hc
    simp -implicitDefEqProofs (disch := first | assumption | exact Nat.le_of_ble_eq_true rfl | decide) only [b291_0, g291_1, b291_1, g291_4, b291_4, g291_5, b291_5, g291_6, b291_6, g291_9, b291_9, g291_11, b291_11, g291_12, b291_12, g291_13, b291_13, g291_15, b291_15, g291_18, b291_18, g291_19, b291_19, g291_20, b291_20, pe_aload0, pe_getfield, pe_call1, pm_af_ret, pm_af_void, pm_af_thr, pe_iload1, pe_i2l, pe_bipush, pe_call3, pe_if_eq, pe_iload2, pe_if_lt, pe_sipush, pe_goto, pe_goto_w, pe_istore3, pe_istore4, pe_istore5, pe_iload5, pe_icmp_gt, pe_iload4, pe_imul, pe_iadd, pe_if_ne, pe_iload3, pe_iastore, pe_iinc5, pe_isub, pe_istore6, pe_iload6, pe_iaload, pe_istore7, pe_baload, pe_icmp_ge, pe_istore8, pe_iload7, pe_iload8, pe_call2, pe_iinc6, pe_icmp_lt, pe_if_le, pe_icmp_ne, pe_iinc7, pm_prog_1, pm_ob_some, Nat.reduceDiv, Nat.reduceMod, Nat.reduceMul, Nat.reduceAdd, Int.reduceToNat, pm_kill_i, pm_kill_r, pm_kill_n, pm_kill_j, pm_kill_l, pm_kill_d, pm_cats_nil, pm_cats_i, pm_cats_r, pm_cats_n, pm_cats_l, pm_cats_d, sz_1, sz_2, sl_1, sl_2, lc_0, lc_lt, lc_le, li_ne, va_rf, wr_m1, we_m1, pm_kill_w, Int32.reduceOfInt, Int64.reduceOfInt, Int32.reduceOfNat, Int32.reduceLT, Int32.reduceLE, Prod.mk.injEq, Nat.reduceEqDiff, reduceCtorEq, and_true, true_and, and_false, false_and, and_self, ite_true, ite_false, ↓reduceIte, not_true_eq_false, not_false_eq_true, pe_ri, pe_rz, pe_rc, p_throw, t291, w_junk hA, Cr_g0_12 hP hA, Cr_g0_16 hP hA, Cr_g0_19 hP hA, Cr_g12_3 hP hA, Cr_g12_5 hP hA, Cr_r16 hP hA, Cr_r19 hP hA, Cr_w19 hP hA, eq_false k1, hc]
theorem z291_8 {fc : Int32} {pc : Int32} {A : wK → Nat} {h : pm_H} {D : Nat} {R : Outcome × pm_H} (hP : Cr_P fc pc) (hA : wok A (Cr_d fc pc) h.1) (hD : 1 ≤ D) {n : Nat} {a : Int32 × Int32 × Int32 × Int32 × Int32 × Int32 × wS} {b : (Int32 × Int32 × Int32 × Int32 × Int32 × wS)} (e : lp (f291_b8 fc pc) n a = some b) (hx : ex291_8 fc pc A h D R b) : go291_8 fc pc A h D R a := lp_run (fun a r => y291_b8 hP hA hD a r) n a b e hx
def go291_7 (fc : Int32) (pc : Int32) (A : wK → Nat) (h : pm_H) (D : Nat) (R : Outcome × pm_H) : Int32 × Int32 × Int32 × Int32 × Int32 × wS → Prop := fun (x1, x2, x3, x4, x5, S) => ∀ q6 q7 q8 : Value, pm_go pm_prog (pm_call pm_prog D) 291 7 [.ref (A (0, 0, 0)), .int x1, .int x2, .int x3, .int x4, .int x5, q6, q7, q8] [] (wput A (Cr_d fc pc) S h) = some R
def ex291_7 (fc : Int32) (pc : Int32) (A : wK → Nat) (h : pm_H) (D : Nat) (R : Outcome × pm_H) : (Int32 × Int32 × Int32 × Int32 × wS) → Prop := fun (x1, x2, x3, x4, S) => ∀ q5 q6 q7 q8 : Value, pm_go pm_prog (pm_call pm_prog D) 291 12 [.ref (A (0, 0, 0)), .int x1, .int x2, .int x3, .int x4, q5, q6, q7, q8] [] (wput A (Cr_d fc pc) S h) = some R
theorem y291_b7 {fc : Int32} {pc : Int32} {A : wK → Nat} {h : pm_H} {D : Nat} {R : Outcome × pm_H} (hP : Cr_P fc pc) (hA : wok A (Cr_d fc pc) h.1) (hD : 1 ≤ D) (a : Int32 × Int32 × Int32 × Int32 × Int32 × wS) (r : (Int32 × Int32 × Int32 × Int32 × Int32 × wS) ⊕ ((Int32 × Int32 × Int32 × Int32 × wS))) (e : f291_b7 fc pc a = some r) (hc : Sum.elim (go291_7 fc pc A h D R) (ex291_7 fc pc A h D R) r) : go291_7 fc pc A h D R a := by
  obtain ⟨x1, x2, x3, x4, x5, S⟩ := a
  dsimp only [go291_7]
  intro q6 q7 q8
  simp only [f291_b7] at e
  rw [g291_7, b291_7]
  by_cases k1 : x5 < 0
  · rw [if_pos k1] at e
    have e := Option.some.inj e; subst e
    dsimp only [Sum.elim_inr, ex291_7] at hc
    simp -implicitDefEqProofs (disch := first | assumption | exact Nat.le_of_ble_eq_true rfl | decide) only [b291_0, g291_1, b291_1, g291_4, b291_4, g291_5, b291_5, g291_6, b291_6, g291_9, b291_9, g291_11, b291_11, g291_12, b291_12, g291_13, b291_13, g291_15, b291_15, g291_18, b291_18, g291_19, b291_19, g291_20, b291_20, pe_aload0, pe_getfield, pe_call1, pm_af_ret, pm_af_void, pm_af_thr, pe_iload1, pe_i2l, pe_bipush, pe_call3, pe_if_eq, pe_iload2, pe_if_lt, pe_sipush, pe_goto, pe_goto_w, pe_istore3, pe_istore4, pe_istore5, pe_iload5, pe_icmp_gt, pe_iload4, pe_imul, pe_iadd, pe_if_ne, pe_iload3, pe_iastore, pe_iinc5, pe_isub, pe_istore6, pe_iload6, pe_iaload, pe_istore7, pe_baload, pe_icmp_ge, pe_istore8, pe_iload7, pe_iload8, pe_call2, pe_iinc6, pe_icmp_lt, pe_if_le, pe_icmp_ne, pe_iinc7, pm_prog_1, pm_ob_some, Nat.reduceDiv, Nat.reduceMod, Nat.reduceMul, Nat.reduceAdd, Int.reduceToNat, pm_kill_i, pm_kill_r, pm_kill_n, pm_kill_j, pm_kill_l, pm_kill_d, pm_cats_nil, pm_cats_i, pm_cats_r, pm_cats_n, pm_cats_l, pm_cats_d, sz_1, sz_2, sl_1, sl_2, lc_0, lc_lt, lc_le, li_ne, va_rf, wr_m1, we_m1, pm_kill_w, Int32.reduceOfInt, Int64.reduceOfInt, Int32.reduceOfNat, Int32.reduceLT, Int32.reduceLE, Prod.mk.injEq, Nat.reduceEqDiff, reduceCtorEq, and_true, true_and, and_false, false_and, and_self, ite_true, ite_false, ↓reduceIte, not_true_eq_false, not_false_eq_true, pe_ri, pe_rz, pe_rc, p_throw, t291, w_junk hA, Cr_g0_12 hP hA, Cr_g0_16 hP hA, Cr_g0_19 hP hA, Cr_g12_3 hP hA, Cr_g12_5 hP hA, Cr_r16 hP hA, Cr_r19 hP hA, Cr_w19 hP hA, eq_true k1, hc]
  · rw [if_neg k1] at e
    obtain ⟨⟨v11, v12, v13, v14, v15, S9⟩, k2, e⟩ := Option.bind_eq_some_iff.mp e
    try dsimp only at e
    try simp -implicitDefEqProofs (disch := first | assumption | exact Nat.le_of_ble_eq_true rfl | decide) only [b291_0, g291_1, b291_1, g291_4, b291_4, g291_5, b291_5, g291_6, b291_6, g291_9, b291_9, g291_11, b291_11, g291_12, b291_12, g291_13, b291_13, g291_15, b291_15, g291_18, b291_18, g291_19, b291_19, g291_20, b291_20, pe_aload0, pe_getfield, pe_call1, pm_af_ret, pm_af_void, pm_af_thr, pe_iload1, pe_i2l, pe_bipush, pe_call3, pe_if_eq, pe_iload2, pe_if_lt, pe_sipush, pe_goto, pe_goto_w, pe_istore3, pe_istore4, pe_istore5, pe_iload5, pe_icmp_gt, pe_iload4, pe_imul, pe_iadd, pe_if_ne, pe_iload3, pe_iastore, pe_iinc5, pe_isub, pe_istore6, pe_iload6, pe_iaload, pe_istore7, pe_baload, pe_icmp_ge, pe_istore8, pe_iload7, pe_iload8, pe_call2, pe_iinc6, pe_icmp_lt, pe_if_le, pe_icmp_ne, pe_iinc7, pm_prog_1, pm_ob_some, Nat.reduceDiv, Nat.reduceMod, Nat.reduceMul, Nat.reduceAdd, Int.reduceToNat, pm_kill_i, pm_kill_r, pm_kill_n, pm_kill_j, pm_kill_l, pm_kill_d, pm_cats_nil, pm_cats_i, pm_cats_r, pm_cats_n, pm_cats_l, pm_cats_d, sz_1, sz_2, sl_1, sl_2, lc_0, lc_lt, lc_le, li_ne, va_rf, wr_m1, we_m1, pm_kill_w, Int32.reduceOfInt, Int64.reduceOfInt, Int32.reduceOfNat, Int32.reduceLT, Int32.reduceLE, Prod.mk.injEq, Nat.reduceEqDiff, reduceCtorEq, and_true, true_and, and_false, false_and, and_self, ite_true, ite_false, ↓reduceIte, not_true_eq_false, not_false_eq_true, pe_ri, pe_rz, pe_rc, p_throw, t291, w_junk hA, Cr_g0_12 hP hA, Cr_g0_16 hP hA, Cr_g0_19 hP hA, Cr_g12_3 hP hA, Cr_g12_5 hP hA, Cr_r16 hP hA, Cr_r19 hP hA, Cr_w19 hP hA, eq_false k1]
    refine z291_8 hP hA hD k2 ?_ _ _
    dsimp only [ex291_8]
    intro q6 q7 q8
    have e := Option.some.inj e; subst e
    dsimp only [Sum.elim_inl, go291_7] at hc
    simp -implicitDefEqProofs (disch := first | assumption | exact Nat.le_of_ble_eq_true rfl | decide) only [b291_0, g291_1, b291_1, g291_4, b291_4, g291_5, b291_5, g291_6, b291_6, g291_9, b291_9, g291_11, b291_11, g291_12, b291_12, g291_13, b291_13, g291_15, b291_15, g291_18, b291_18, g291_19, b291_19, g291_20, b291_20, pe_aload0, pe_getfield, pe_call1, pm_af_ret, pm_af_void, pm_af_thr, pe_iload1, pe_i2l, pe_bipush, pe_call3, pe_if_eq, pe_iload2, pe_if_lt, pe_sipush, pe_goto, pe_goto_w, pe_istore3, pe_istore4, pe_istore5, pe_iload5, pe_icmp_gt, pe_iload4, pe_imul, pe_iadd, pe_if_ne, pe_iload3, pe_iastore, pe_iinc5, pe_isub, pe_istore6, pe_iload6, pe_iaload, pe_istore7, pe_baload, pe_icmp_ge, pe_istore8, pe_iload7, pe_iload8, pe_call2, pe_iinc6, pe_icmp_lt, pe_if_le, pe_icmp_ne, pe_iinc7, pm_prog_1, pm_ob_some, Nat.reduceDiv, Nat.reduceMod, Nat.reduceMul, Nat.reduceAdd, Int.reduceToNat, pm_kill_i, pm_kill_r, pm_kill_n, pm_kill_j, pm_kill_l, pm_kill_d, pm_cats_nil, pm_cats_i, pm_cats_r, pm_cats_n, pm_cats_l, pm_cats_d, sz_1, sz_2, sl_1, sl_2, lc_0, lc_lt, lc_le, li_ne, va_rf, wr_m1, we_m1, pm_kill_w, Int32.reduceOfInt, Int64.reduceOfInt, Int32.reduceOfNat, Int32.reduceLT, Int32.reduceLE, Prod.mk.injEq, Nat.reduceEqDiff, reduceCtorEq, and_true, true_and, and_false, false_and, and_self, ite_true, ite_false, ↓reduceIte, not_true_eq_false, not_false_eq_true, pe_ri, pe_rz, pe_rc, p_throw, t291, w_junk hA, Cr_g0_12 hP hA, Cr_g0_16 hP hA, Cr_g0_19 hP hA, Cr_g12_3 hP hA, Cr_g12_5 hP hA, Cr_r16 hP hA, Cr_r19 hP hA, Cr_w19 hP hA, eq_false k1, hc]
theorem z291_7 {fc : Int32} {pc : Int32} {A : wK → Nat} {h : pm_H} {D : Nat} {R : Outcome × pm_H} (hP : Cr_P fc pc) (hA : wok A (Cr_d fc pc) h.1) (hD : 1 ≤ D) {n : Nat} {a : Int32 × Int32 × Int32 × Int32 × Int32 × wS} {b : (Int32 × Int32 × Int32 × Int32 × wS)} (e : lp (f291_b7 fc pc) n a = some b) (hx : ex291_7 fc pc A h D R b) : go291_7 fc pc A h D R a := lp_run (fun a r => y291_b7 hP hA hD a r) n a b e hx
def go291_14 (fc : Int32) (pc : Int32) (A : wK → Nat) (h : pm_H) (D : Nat) (R : Outcome × pm_H) (S : wS) : Int32 × Int32 × Int32 × Int32 × Int32 → Prop := fun (x2, x4, x5, x6, x7) => ∀ q1 q3 q8 : Value, pm_go pm_prog (pm_call pm_prog D) 291 14 [.ref (A (0, 0, 0)), q1, .int x2, q3, .int x4, .int x5, .int x6, .int x7, q8] [] (wput A (Cr_d fc pc) S h) = some R
def ex291_14 (fc : Int32) (pc : Int32) (A : wK → Nat) (h : pm_H) (D : Nat) (R : Outcome × pm_H) (S : wS) : (Unit) ⊕ (Int32) → Prop := fun b => match b with
  | (.inl _) => ∀ q0 q1 q2 q3 q4 q5 q6 q7 q8 : Value, pm_go pm_prog (pm_call pm_prog D) 291 20 [q0, q1, q2, q3, q4, q5, q6, q7, q8] [] (wput A (Cr_d fc pc) S h) = some R
  | (.inr (xr0)) => some (Outcome.returned (some (.int xr0)), (wput A (Cr_d fc pc) S h)) = some R
theorem y291_17_14 {fc : Int32} {pc : Int32} {A : wK → Nat} {h : pm_H} {D : Nat} {R : Outcome × pm_H} {S : wS} {x2 : Int32} {x4 : Int32} {x5 : Int32} {x6 : Int32} {x7 : Int32} {x8 : Int32} {r : (Int32 × Int32 × Int32 × Int32 × Int32) ⊕ ((Unit) ⊕ (Int32))} (hP : Cr_P fc pc) (hA : wok A (Cr_d fc pc) h.1) (hD : 1 ≤ D) (e : f291_17_14 fc pc S x2 x4 x5 x6 x7 x8 = some r) (hc : Sum.elim (go291_14 fc pc A h D R S) (ex291_14 fc pc A h D R S) r) : ∀ q1 q3 : Value, pm_go pm_prog (pm_call pm_prog D) 291 17 [.ref (A (0, 0, 0)), q1, .int x2, q3, .int x4, .int x5, .int x6, .int x7, .int x8] [] (wput A (Cr_d fc pc) S h) = some R := by
  intro q1 q3
  simp only [f291_17_14] at e
  rw [g291_17, b291_17]
  by_cases k1 : x8 = 0
  · rw [if_pos k1] at e
    have e := Option.some.inj e; subst e
    dsimp only [Sum.elim_inl, go291_14] at hc
    simp -implicitDefEqProofs (disch := first | assumption | exact Nat.le_of_ble_eq_true rfl | decide) only [b291_0, g291_1, b291_1, g291_4, b291_4, g291_5, b291_5, g291_6, b291_6, g291_9, b291_9, g291_11, b291_11, g291_12, b291_12, g291_13, b291_13, g291_15, b291_15, g291_18, b291_18, g291_19, b291_19, g291_20, b291_20, pe_aload0, pe_getfield, pe_call1, pm_af_ret, pm_af_void, pm_af_thr, pe_iload1, pe_i2l, pe_bipush, pe_call3, pe_if_eq, pe_iload2, pe_if_lt, pe_sipush, pe_goto, pe_goto_w, pe_istore3, pe_istore4, pe_istore5, pe_iload5, pe_icmp_gt, pe_iload4, pe_imul, pe_iadd, pe_if_ne, pe_iload3, pe_iastore, pe_iinc5, pe_isub, pe_istore6, pe_iload6, pe_iaload, pe_istore7, pe_baload, pe_icmp_ge, pe_istore8, pe_iload7, pe_iload8, pe_call2, pe_iinc6, pe_icmp_lt, pe_if_le, pe_icmp_ne, pe_iinc7, pm_prog_1, pm_ob_some, Nat.reduceDiv, Nat.reduceMod, Nat.reduceMul, Nat.reduceAdd, Int.reduceToNat, pm_kill_i, pm_kill_r, pm_kill_n, pm_kill_j, pm_kill_l, pm_kill_d, pm_cats_nil, pm_cats_i, pm_cats_r, pm_cats_n, pm_cats_l, pm_cats_d, sz_1, sz_2, sl_1, sl_2, lc_0, lc_lt, lc_le, li_ne, va_rf, wr_m1, we_m1, pm_kill_w, Int32.reduceOfInt, Int64.reduceOfInt, Int32.reduceOfNat, Int32.reduceLT, Int32.reduceLE, Prod.mk.injEq, Nat.reduceEqDiff, reduceCtorEq, and_true, true_and, and_false, false_and, and_self, ite_true, ite_false, ↓reduceIte, not_true_eq_false, not_false_eq_true, pe_ri, pe_rz, pe_rc, p_throw, t291, w_junk hA, Cr_g0_12 hP hA, Cr_g0_16 hP hA, Cr_g0_19 hP hA, Cr_g12_3 hP hA, Cr_g12_5 hP hA, Cr_r16 hP hA, Cr_r19 hP hA, Cr_w19 hP hA, eq_true k1, hc]
  · rw [if_neg k1] at e
    by_cases k2 : 0 ≤ x7 ∧ x7 < 240
    · rw [if_pos k2] at e
      have e := Option.some.inj e; subst e
      dsimp only [Sum.elim_inl, go291_14] at hc
      simp -implicitDefEqProofs (disch := first | assumption | exact Nat.le_of_ble_eq_true rfl | decide) only [b291_0, g291_1, b291_1, g291_4, b291_4, g291_5, b291_5, g291_6, b291_6, g291_9, b291_9, g291_11, b291_11, g291_12, b291_12, g291_13, b291_13, g291_15, b291_15, g291_18, b291_18, g291_19, b291_19, g291_20, b291_20, pe_aload0, pe_getfield, pe_call1, pm_af_ret, pm_af_void, pm_af_thr, pe_iload1, pe_i2l, pe_bipush, pe_call3, pe_if_eq, pe_iload2, pe_if_lt, pe_sipush, pe_goto, pe_goto_w, pe_istore3, pe_istore4, pe_istore5, pe_iload5, pe_icmp_gt, pe_iload4, pe_imul, pe_iadd, pe_if_ne, pe_iload3, pe_iastore, pe_iinc5, pe_isub, pe_istore6, pe_iload6, pe_iaload, pe_istore7, pe_baload, pe_icmp_ge, pe_istore8, pe_iload7, pe_iload8, pe_call2, pe_iinc6, pe_icmp_lt, pe_if_le, pe_icmp_ne, pe_iinc7, pm_prog_1, pm_ob_some, Nat.reduceDiv, Nat.reduceMod, Nat.reduceMul, Nat.reduceAdd, Int.reduceToNat, pm_kill_i, pm_kill_r, pm_kill_n, pm_kill_j, pm_kill_l, pm_kill_d, pm_cats_nil, pm_cats_i, pm_cats_r, pm_cats_n, pm_cats_l, pm_cats_d, sz_1, sz_2, sl_1, sl_2, lc_0, lc_lt, lc_le, li_ne, va_rf, wr_m1, we_m1, pm_kill_w, Int32.reduceOfInt, Int64.reduceOfInt, Int32.reduceOfNat, Int32.reduceLT, Int32.reduceLE, Prod.mk.injEq, Nat.reduceEqDiff, reduceCtorEq, and_true, true_and, and_false, false_and, and_self, ite_true, ite_false, ↓reduceIte, not_true_eq_false, not_false_eq_true, pe_ri, pe_rz, pe_rc, p_throw, t291, w_junk hA, Cr_g0_12 hP hA, Cr_g0_16 hP hA, Cr_g0_19 hP hA, Cr_g12_3 hP hA, Cr_g12_5 hP hA, Cr_r16 hP hA, Cr_r19 hP hA, Cr_w19 hP hA, eq_false k1, hc]
    · rw [if_neg k2] at e; cases e
theorem y291_16_14 {fc : Int32} {pc : Int32} {A : wK → Nat} {h : pm_H} {D : Nat} {R : Outcome × pm_H} {S : wS} {x2 : Int32} {x4 : Int32} {x5 : Int32} {x6 : Int32} {x7 : Int32} {y0 : Int32} {r : (Int32 × Int32 × Int32 × Int32 × Int32) ⊕ ((Unit) ⊕ (Int32))} (hP : Cr_P fc pc) (hA : wok A (Cr_d fc pc) h.1) (hD : 1 ≤ D) (e : f291_16_14 fc pc S x2 x4 x5 x6 x7 y0 = some r) (hc : Sum.elim (go291_14 fc pc A h D R S) (ex291_14 fc pc A h D R S) r) : ∀ q1 q3 q8 : Value, pm_go pm_prog (pm_call pm_prog D) 291 16 [.ref (A (0, 0, 0)), q1, .int x2, q3, .int x4, .int x5, .int x6, .int x7, q8] [.int y0] (wput A (Cr_d fc pc) S h) = some R := by
  intro q1 q3 q8
  simp only [f291_16_14] at e
  rw [g291_16, b291_16]
  by_cases k1 : y0 = 0
  · rw [if_pos k1] at e
    have k2 := y291_17_14 (h := h) hP hA hD e hc
    simp -implicitDefEqProofs (disch := first | assumption | exact Nat.le_of_ble_eq_true rfl | decide) only [b291_0, g291_1, b291_1, g291_4, b291_4, g291_5, b291_5, g291_6, b291_6, g291_9, b291_9, g291_11, b291_11, g291_12, b291_12, g291_13, b291_13, g291_15, b291_15, g291_18, b291_18, g291_19, b291_19, g291_20, b291_20, pe_aload0, pe_getfield, pe_call1, pm_af_ret, pm_af_void, pm_af_thr, pe_iload1, pe_i2l, pe_bipush, pe_call3, pe_if_eq, pe_iload2, pe_if_lt, pe_sipush, pe_goto, pe_goto_w, pe_istore3, pe_istore4, pe_istore5, pe_iload5, pe_icmp_gt, pe_iload4, pe_imul, pe_iadd, pe_if_ne, pe_iload3, pe_iastore, pe_iinc5, pe_isub, pe_istore6, pe_iload6, pe_iaload, pe_istore7, pe_baload, pe_icmp_ge, pe_istore8, pe_iload7, pe_iload8, pe_call2, pe_iinc6, pe_icmp_lt, pe_if_le, pe_icmp_ne, pe_iinc7, pm_prog_1, pm_ob_some, Nat.reduceDiv, Nat.reduceMod, Nat.reduceMul, Nat.reduceAdd, Int.reduceToNat, pm_kill_i, pm_kill_r, pm_kill_n, pm_kill_j, pm_kill_l, pm_kill_d, pm_cats_nil, pm_cats_i, pm_cats_r, pm_cats_n, pm_cats_l, pm_cats_d, sz_1, sz_2, sl_1, sl_2, lc_0, lc_lt, lc_le, li_ne, va_rf, wr_m1, we_m1, pm_kill_w, Int32.reduceOfInt, Int64.reduceOfInt, Int32.reduceOfNat, Int32.reduceLT, Int32.reduceLE, Prod.mk.injEq, Nat.reduceEqDiff, reduceCtorEq, and_true, true_and, and_false, false_and, and_self, ite_true, ite_false, ↓reduceIte, not_true_eq_false, not_false_eq_true, pe_ri, pe_rz, pe_rc, p_throw, t291, w_junk hA, Cr_g0_12 hP hA, Cr_g0_16 hP hA, Cr_g0_19 hP hA, Cr_g12_3 hP hA, Cr_g12_5 hP hA, Cr_r16 hP hA, Cr_r19 hP hA, Cr_w19 hP hA, eq_true k1, k2]
  · rw [if_neg k1] at e
    by_cases k3 : x6 = x2
    · rw [if_pos k3] at e
      have e := Option.some.inj e; subst e
      dsimp only [Sum.elim_inr, ex291_14] at hc
      have hc := Option.some.inj hc; subst hc
      simp -implicitDefEqProofs (disch := first | assumption | exact Nat.le_of_ble_eq_true rfl | decide) only [b291_0, g291_1, b291_1, g291_4, b291_4, g291_5, b291_5, g291_6, b291_6, g291_9, b291_9, g291_11, b291_11, g291_12, b291_12, g291_13, b291_13, g291_15, b291_15, g291_18, b291_18, g291_19, b291_19, g291_20, b291_20, pe_aload0, pe_getfield, pe_call1, pm_af_ret, pm_af_void, pm_af_thr, pe_iload1, pe_i2l, pe_bipush, pe_call3, pe_if_eq, pe_iload2, pe_if_lt, pe_sipush, pe_goto, pe_goto_w, pe_istore3, pe_istore4, pe_istore5, pe_iload5, pe_icmp_gt, pe_iload4, pe_imul, pe_iadd, pe_if_ne, pe_iload3, pe_iastore, pe_iinc5, pe_isub, pe_istore6, pe_iload6, pe_iaload, pe_istore7, pe_baload, pe_icmp_ge, pe_istore8, pe_iload7, pe_iload8, pe_call2, pe_iinc6, pe_icmp_lt, pe_if_le, pe_icmp_ne, pe_iinc7, pm_prog_1, pm_ob_some, Nat.reduceDiv, Nat.reduceMod, Nat.reduceMul, Nat.reduceAdd, Int.reduceToNat, pm_kill_i, pm_kill_r, pm_kill_n, pm_kill_j, pm_kill_l, pm_kill_d, pm_cats_nil, pm_cats_i, pm_cats_r, pm_cats_n, pm_cats_l, pm_cats_d, sz_1, sz_2, sl_1, sl_2, lc_0, lc_lt, lc_le, li_ne, va_rf, wr_m1, we_m1, pm_kill_w, Int32.reduceOfInt, Int64.reduceOfInt, Int32.reduceOfNat, Int32.reduceLT, Int32.reduceLE, Prod.mk.injEq, Nat.reduceEqDiff, reduceCtorEq, and_true, true_and, and_false, false_and, and_self, ite_true, ite_false, ↓reduceIte, not_true_eq_false, not_false_eq_true, pe_ri, pe_rz, pe_rc, p_throw, t291, w_junk hA, Cr_g0_12 hP hA, Cr_g0_16 hP hA, Cr_g0_19 hP hA, Cr_g12_3 hP hA, Cr_g12_5 hP hA, Cr_r16 hP hA, Cr_r19 hP hA, Cr_w19 hP hA, eq_false k1, eq_true k3]
    · rw [if_neg k3] at e
      have k4 := y291_17_14 (h := h) hP hA hD e hc
      simp -implicitDefEqProofs (disch := first | assumption | exact Nat.le_of_ble_eq_true rfl | decide) only [b291_0, g291_1, b291_1, g291_4, b291_4, g291_5, b291_5, g291_6, b291_6, g291_9, b291_9, g291_11, b291_11, g291_12, b291_12, g291_13, b291_13, g291_15, b291_15, g291_18, b291_18, g291_19, b291_19, g291_20, b291_20, pe_aload0, pe_getfield, pe_call1, pm_af_ret, pm_af_void, pm_af_thr, pe_iload1, pe_i2l, pe_bipush, pe_call3, pe_if_eq, pe_iload2, pe_if_lt, pe_sipush, pe_goto, pe_goto_w, pe_istore3, pe_istore4, pe_istore5, pe_iload5, pe_icmp_gt, pe_iload4, pe_imul, pe_iadd, pe_if_ne, pe_iload3, pe_iastore, pe_iinc5, pe_isub, pe_istore6, pe_iload6, pe_iaload, pe_istore7, pe_baload, pe_icmp_ge, pe_istore8, pe_iload7, pe_iload8, pe_call2, pe_iinc6, pe_icmp_lt, pe_if_le, pe_icmp_ne, pe_iinc7, pm_prog_1, pm_ob_some, Nat.reduceDiv, Nat.reduceMod, Nat.reduceMul, Nat.reduceAdd, Int.reduceToNat, pm_kill_i, pm_kill_r, pm_kill_n, pm_kill_j, pm_kill_l, pm_kill_d, pm_cats_nil, pm_cats_i, pm_cats_r, pm_cats_n, pm_cats_l, pm_cats_d, sz_1, sz_2, sl_1, sl_2, lc_0, lc_lt, lc_le, li_ne, va_rf, wr_m1, we_m1, pm_kill_w, Int32.reduceOfInt, Int64.reduceOfInt, Int32.reduceOfNat, Int32.reduceLT, Int32.reduceLE, Prod.mk.injEq, Nat.reduceEqDiff, reduceCtorEq, and_true, true_and, and_false, false_and, and_self, ite_true, ite_false, ↓reduceIte, not_true_eq_false, not_false_eq_true, pe_ri, pe_rz, pe_rc, p_throw, t291, w_junk hA, Cr_g0_12 hP hA, Cr_g0_16 hP hA, Cr_g0_19 hP hA, Cr_g12_3 hP hA, Cr_g12_5 hP hA, Cr_r16 hP hA, Cr_r19 hP hA, Cr_w19 hP hA, eq_false k1, eq_false k3, k4]
theorem y291_b14 {fc : Int32} {pc : Int32} {A : wK → Nat} {h : pm_H} {D : Nat} {R : Outcome × pm_H} {S : wS} (hP : Cr_P fc pc) (hA : wok A (Cr_d fc pc) h.1) (hD : 1 ≤ D) (a : Int32 × Int32 × Int32 × Int32 × Int32) (r : (Int32 × Int32 × Int32 × Int32 × Int32) ⊕ ((Unit) ⊕ (Int32))) (e : f291_b14 fc pc S a = some r) (hc : Sum.elim (go291_14 fc pc A h D R S) (ex291_14 fc pc A h D R S) r) : go291_14 fc pc A h D R S a := by
  obtain ⟨x2, x4, x5, x6, x7⟩ := a
  dsimp only [go291_14]
  intro q1 q3 q8
  simp only [f291_b14] at e
  rw [g291_14, b291_14]
  by_cases k1 : x7 < (S.1 (12, 0, 0) 5)
  · rw [if_pos k1] at e
    by_cases k2 : x5 ≤ 0
    · rw [if_pos k2] at e
      have e := Option.some.inj e; subst e
      dsimp only [Sum.elim_inr, ex291_14] at hc
      simp -implicitDefEqProofs (disch := first | assumption | exact Nat.le_of_ble_eq_true rfl | decide) only [b291_0, g291_1, b291_1, g291_4, b291_4, g291_5, b291_5, g291_6, b291_6, g291_9, b291_9, g291_11, b291_11, g291_12, b291_12, g291_13, b291_13, g291_15, b291_15, g291_18, b291_18, g291_19, b291_19, g291_20, b291_20, pe_aload0, pe_getfield, pe_call1, pm_af_ret, pm_af_void, pm_af_thr, pe_iload1, pe_i2l, pe_bipush, pe_call3, pe_if_eq, pe_iload2, pe_if_lt, pe_sipush, pe_goto, pe_goto_w, pe_istore3, pe_istore4, pe_istore5, pe_iload5, pe_icmp_gt, pe_iload4, pe_imul, pe_iadd, pe_if_ne, pe_iload3, pe_iastore, pe_iinc5, pe_isub, pe_istore6, pe_iload6, pe_iaload, pe_istore7, pe_baload, pe_icmp_ge, pe_istore8, pe_iload7, pe_iload8, pe_call2, pe_iinc6, pe_icmp_lt, pe_if_le, pe_icmp_ne, pe_iinc7, pm_prog_1, pm_ob_some, Nat.reduceDiv, Nat.reduceMod, Nat.reduceMul, Nat.reduceAdd, Int.reduceToNat, pm_kill_i, pm_kill_r, pm_kill_n, pm_kill_j, pm_kill_l, pm_kill_d, pm_cats_nil, pm_cats_i, pm_cats_r, pm_cats_n, pm_cats_l, pm_cats_d, sz_1, sz_2, sl_1, sl_2, lc_0, lc_lt, lc_le, li_ne, va_rf, wr_m1, we_m1, pm_kill_w, Int32.reduceOfInt, Int64.reduceOfInt, Int32.reduceOfNat, Int32.reduceLT, Int32.reduceLE, Prod.mk.injEq, Nat.reduceEqDiff, reduceCtorEq, and_true, true_and, and_false, false_and, and_self, ite_true, ite_false, ↓reduceIte, not_true_eq_false, not_false_eq_true, pe_ri, pe_rz, pe_rc, p_throw, t291, w_junk hA, Cr_g0_12 hP hA, Cr_g0_16 hP hA, Cr_g0_19 hP hA, Cr_g12_3 hP hA, Cr_g12_5 hP hA, Cr_r16 hP hA, Cr_r19 hP hA, Cr_w19 hP hA, eq_true k1, eq_true k2, hc]
    · rw [if_neg k2] at e
      by_cases k3 : 0 ≤ x7 ∧ x7 < 240
      · rw [if_pos k3] at e
        by_cases k4 : x5 < (S.1 (16, 0, 0) x7)
        · rw [if_pos k4] at e
          have k5 := y291_16_14 (h := h) hP hA hD e hc
          simp -implicitDefEqProofs (disch := first | assumption | exact Nat.le_of_ble_eq_true rfl | decide) only [b291_0, g291_1, b291_1, g291_4, b291_4, g291_5, b291_5, g291_6, b291_6, g291_9, b291_9, g291_11, b291_11, g291_12, b291_12, g291_13, b291_13, g291_15, b291_15, g291_18, b291_18, g291_19, b291_19, g291_20, b291_20, pe_aload0, pe_getfield, pe_call1, pm_af_ret, pm_af_void, pm_af_thr, pe_iload1, pe_i2l, pe_bipush, pe_call3, pe_if_eq, pe_iload2, pe_if_lt, pe_sipush, pe_goto, pe_goto_w, pe_istore3, pe_istore4, pe_istore5, pe_iload5, pe_icmp_gt, pe_iload4, pe_imul, pe_iadd, pe_if_ne, pe_iload3, pe_iastore, pe_iinc5, pe_isub, pe_istore6, pe_iload6, pe_iaload, pe_istore7, pe_baload, pe_icmp_ge, pe_istore8, pe_iload7, pe_iload8, pe_call2, pe_iinc6, pe_icmp_lt, pe_if_le, pe_icmp_ne, pe_iinc7, pm_prog_1, pm_ob_some, Nat.reduceDiv, Nat.reduceMod, Nat.reduceMul, Nat.reduceAdd, Int.reduceToNat, pm_kill_i, pm_kill_r, pm_kill_n, pm_kill_j, pm_kill_l, pm_kill_d, pm_cats_nil, pm_cats_i, pm_cats_r, pm_cats_n, pm_cats_l, pm_cats_d, sz_1, sz_2, sl_1, sl_2, lc_0, lc_lt, lc_le, li_ne, va_rf, wr_m1, we_m1, pm_kill_w, Int32.reduceOfInt, Int64.reduceOfInt, Int32.reduceOfNat, Int32.reduceLT, Int32.reduceLE, Prod.mk.injEq, Nat.reduceEqDiff, reduceCtorEq, and_true, true_and, and_false, false_and, and_self, ite_true, ite_false, ↓reduceIte, not_true_eq_false, not_false_eq_true, pe_ri, pe_rz, pe_rc, p_throw, t291, w_junk hA, Cr_g0_12 hP hA, Cr_g0_16 hP hA, Cr_g0_19 hP hA, Cr_g12_3 hP hA, Cr_g12_5 hP hA, Cr_r16 hP hA, Cr_r19 hP hA, Cr_w19 hP hA, eq_true k1, eq_false k2, eq_true k4, k5]
        · rw [if_neg k4] at e
          by_cases k6 : 0 ≤ (((x4 * (x7 + 1)) + x5) - (S.1 (16, 0, 0) x7)) ∧ (((x4 * (x7 + 1)) + x5) - (S.1 (16, 0, 0) x7)) < 24341
          · rw [if_pos k6] at e
            by_cases k7 : 0 ≤ ((x4 * x7) + x5) ∧ ((x4 * x7) + x5) < 24341
            · rw [if_pos k7] at e
              by_cases k8 : (1 + (S.1 (19, 0, 0) (((x4 * (x7 + 1)) + x5) - (S.1 (16, 0, 0) x7)))) = (S.1 (19, 0, 0) ((x4 * x7) + x5))
              · rw [if_pos k8] at e
                have k9 := y291_16_14 (h := h) hP hA hD e hc
                simp -implicitDefEqProofs (disch := first | assumption | exact Nat.le_of_ble_eq_true rfl | decide) only [b291_0, g291_1, b291_1, g291_4, b291_4, g291_5, b291_5, g291_6, b291_6, g291_9, b291_9, g291_11, b291_11, g291_12, b291_12, g291_13, b291_13, g291_15, b291_15, g291_18, b291_18, g291_19, b291_19, g291_20, b291_20, pe_aload0, pe_getfield, pe_call1, pm_af_ret, pm_af_void, pm_af_thr, pe_iload1, pe_i2l, pe_bipush, pe_call3, pe_if_eq, pe_iload2, pe_if_lt, pe_sipush, pe_goto, pe_goto_w, pe_istore3, pe_istore4, pe_istore5, pe_iload5, pe_icmp_gt, pe_iload4, pe_imul, pe_iadd, pe_if_ne, pe_iload3, pe_iastore, pe_iinc5, pe_isub, pe_istore6, pe_iload6, pe_iaload, pe_istore7, pe_baload, pe_icmp_ge, pe_istore8, pe_iload7, pe_iload8, pe_call2, pe_iinc6, pe_icmp_lt, pe_if_le, pe_icmp_ne, pe_iinc7, pm_prog_1, pm_ob_some, Nat.reduceDiv, Nat.reduceMod, Nat.reduceMul, Nat.reduceAdd, Int.reduceToNat, pm_kill_i, pm_kill_r, pm_kill_n, pm_kill_j, pm_kill_l, pm_kill_d, pm_cats_nil, pm_cats_i, pm_cats_r, pm_cats_n, pm_cats_l, pm_cats_d, sz_1, sz_2, sl_1, sl_2, lc_0, lc_lt, lc_le, li_ne, va_rf, wr_m1, we_m1, pm_kill_w, Int32.reduceOfInt, Int64.reduceOfInt, Int32.reduceOfNat, Int32.reduceLT, Int32.reduceLE, Prod.mk.injEq, Nat.reduceEqDiff, reduceCtorEq, and_true, true_and, and_false, false_and, and_self, ite_true, ite_false, ↓reduceIte, not_true_eq_false, not_false_eq_true, pe_ri, pe_rz, pe_rc, p_throw, t291, w_junk hA, Cr_g0_12 hP hA, Cr_g0_16 hP hA, Cr_g0_19 hP hA, Cr_g12_3 hP hA, Cr_g12_5 hP hA, Cr_r16 hP hA, Cr_r19 hP hA, Cr_w19 hP hA, eq_true k1, eq_false k2, eq_false k4, eq_true k8, k9]
              · rw [if_neg k8] at e
                have k10 := y291_16_14 (h := h) hP hA hD e hc
                simp -implicitDefEqProofs (disch := first | assumption | exact Nat.le_of_ble_eq_true rfl | decide) only [b291_0, g291_1, b291_1, g291_4, b291_4, g291_5, b291_5, g291_6, b291_6, g291_9, b291_9, g291_11, b291_11, g291_12, b291_12, g291_13, b291_13, g291_15, b291_15, g291_18, b291_18, g291_19, b291_19, g291_20, b291_20, pe_aload0, pe_getfield, pe_call1, pm_af_ret, pm_af_void, pm_af_thr, pe_iload1, pe_i2l, pe_bipush, pe_call3, pe_if_eq, pe_iload2, pe_if_lt, pe_sipush, pe_goto, pe_goto_w, pe_istore3, pe_istore4, pe_istore5, pe_iload5, pe_icmp_gt, pe_iload4, pe_imul, pe_iadd, pe_if_ne, pe_iload3, pe_iastore, pe_iinc5, pe_isub, pe_istore6, pe_iload6, pe_iaload, pe_istore7, pe_baload, pe_icmp_ge, pe_istore8, pe_iload7, pe_iload8, pe_call2, pe_iinc6, pe_icmp_lt, pe_if_le, pe_icmp_ne, pe_iinc7, pm_prog_1, pm_ob_some, Nat.reduceDiv, Nat.reduceMod, Nat.reduceMul, Nat.reduceAdd, Int.reduceToNat, pm_kill_i, pm_kill_r, pm_kill_n, pm_kill_j, pm_kill_l, pm_kill_d, pm_cats_nil, pm_cats_i, pm_cats_r, pm_cats_n, pm_cats_l, pm_cats_d, sz_1, sz_2, sl_1, sl_2, lc_0, lc_lt, lc_le, li_ne, va_rf, wr_m1, we_m1, pm_kill_w, Int32.reduceOfInt, Int64.reduceOfInt, Int32.reduceOfNat, Int32.reduceLT, Int32.reduceLE, Prod.mk.injEq, Nat.reduceEqDiff, reduceCtorEq, and_true, true_and, and_false, false_and, and_self, ite_true, ite_false, ↓reduceIte, not_true_eq_false, not_false_eq_true, pe_ri, pe_rz, pe_rc, p_throw, t291, w_junk hA, Cr_g0_12 hP hA, Cr_g0_16 hP hA, Cr_g0_19 hP hA, Cr_g12_3 hP hA, Cr_g12_5 hP hA, Cr_r16 hP hA, Cr_r19 hP hA, Cr_w19 hP hA, eq_true k1, eq_false k2, eq_false k4, eq_false k8, k10]
            · rw [if_neg k7] at e; cases e
          · rw [if_neg k6] at e; cases e
      · rw [if_neg k3] at e; cases e
  · rw [if_neg k1] at e
    have e := Option.some.inj e; subst e
    dsimp only [Sum.elim_inr, ex291_14] at hc
    simp -implicitDefEqProofs (disch := first | assumption | exact Nat.le_of_ble_eq_true rfl | decide) only [b291_0, g291_1, b291_1, g291_4, b291_4, g291_5, b291_5, g291_6, b291_6, g291_9, b291_9, g291_11, b291_11, g291_12, b291_12, g291_13, b291_13, g291_15, b291_15, g291_18, b291_18, g291_19, b291_19, g291_20, b291_20, pe_aload0, pe_getfield, pe_call1, pm_af_ret, pm_af_void, pm_af_thr, pe_iload1, pe_i2l, pe_bipush, pe_call3, pe_if_eq, pe_iload2, pe_if_lt, pe_sipush, pe_goto, pe_goto_w, pe_istore3, pe_istore4, pe_istore5, pe_iload5, pe_icmp_gt, pe_iload4, pe_imul, pe_iadd, pe_if_ne, pe_iload3, pe_iastore, pe_iinc5, pe_isub, pe_istore6, pe_iload6, pe_iaload, pe_istore7, pe_baload, pe_icmp_ge, pe_istore8, pe_iload7, pe_iload8, pe_call2, pe_iinc6, pe_icmp_lt, pe_if_le, pe_icmp_ne, pe_iinc7, pm_prog_1, pm_ob_some, Nat.reduceDiv, Nat.reduceMod, Nat.reduceMul, Nat.reduceAdd, Int.reduceToNat, pm_kill_i, pm_kill_r, pm_kill_n, pm_kill_j, pm_kill_l, pm_kill_d, pm_cats_nil, pm_cats_i, pm_cats_r, pm_cats_n, pm_cats_l, pm_cats_d, sz_1, sz_2, sl_1, sl_2, lc_0, lc_lt, lc_le, li_ne, va_rf, wr_m1, we_m1, pm_kill_w, Int32.reduceOfInt, Int64.reduceOfInt, Int32.reduceOfNat, Int32.reduceLT, Int32.reduceLE, Prod.mk.injEq, Nat.reduceEqDiff, reduceCtorEq, and_true, true_and, and_false, false_and, and_self, ite_true, ite_false, ↓reduceIte, not_true_eq_false, not_false_eq_true, pe_ri, pe_rz, pe_rc, p_throw, t291, w_junk hA, Cr_g0_12 hP hA, Cr_g0_16 hP hA, Cr_g0_19 hP hA, Cr_g12_3 hP hA, Cr_g12_5 hP hA, Cr_r16 hP hA, Cr_r19 hP hA, Cr_w19 hP hA, eq_false k1, hc]
theorem z291_14 {fc : Int32} {pc : Int32} {A : wK → Nat} {h : pm_H} {D : Nat} {R : Outcome × pm_H} {S : wS} (hP : Cr_P fc pc) (hA : wok A (Cr_d fc pc) h.1) (hD : 1 ≤ D) {n : Nat} {a : Int32 × Int32 × Int32 × Int32 × Int32} {b : (Unit) ⊕ (Int32)} (e : lp (f291_b14 fc pc S) n a = some b) (hx : ex291_14 fc pc A h D R S b) : go291_14 fc pc A h D R S a := lp_run (fun a r => y291_b14 hP hA hD a r) n a b e hx
theorem y291_2 {fc : Int32} {pc : Int32} {A : wK → Nat} {h : pm_H} {D : Nat} {S : wS} {x1 : Int32} {x2 : Int32} {y0 : Int32} {r : (Nat × wS) ⊕ (Int32 × wS)} (hP : Cr_P fc pc) (hA : wok A (Cr_d fc pc) h.1) (hD : 1 ≤ D) (e : f291_2 fc pc S x1 x2 y0 = some r) : ∀ q3 q4 q5 q6 q7 q8 : Value, pm_go pm_prog (pm_call pm_prog D) 291 2 [.ref (A (0, 0, 0)), .int x1, .int x2, q3, q4, q5, q6, q7, q8] [.int y0] (wput A (Cr_d fc pc) S h) = some (match (generalizing := false) r with | .inl (c, S1) => (Outcome.threw c, (wput A (Cr_d fc pc) S1 (pm_new h 6 (.inr (c, []))))) | .inr (w0, S1) => (Outcome.returned (some (.int w0)), (wput A (Cr_d fc pc) S1 h))) := by
  intro q3 q4 q5 q6 q7 q8
  simp only [f291_2] at e
  rw [g291_2, b291_2]
  obtain ⟨r, k1, e⟩ := Option.bind_eq_some_iff.mp e
  have z1 := fun h => x262 (D := D) (h := h) (by omega) k1
  rcases r with c23 | _
  · dsimp only at e z1
    have e := Option.some.inj e; subst e
    simp -implicitDefEqProofs (disch := first | assumption | exact Nat.le_of_ble_eq_true rfl | decide) only [b291_0, g291_1, b291_1, g291_4, b291_4, g291_5, b291_5, g291_6, b291_6, g291_9, b291_9, g291_11, b291_11, g291_12, b291_12, g291_13, b291_13, g291_15, b291_15, g291_18, b291_18, g291_19, b291_19, g291_20, b291_20, pe_aload0, pe_getfield, pe_call1, pm_af_ret, pm_af_void, pm_af_thr, pe_iload1, pe_i2l, pe_bipush, pe_call3, pe_if_eq, pe_iload2, pe_if_lt, pe_sipush, pe_goto, pe_goto_w, pe_istore3, pe_istore4, pe_istore5, pe_iload5, pe_icmp_gt, pe_iload4, pe_imul, pe_iadd, pe_if_ne, pe_iload3, pe_iastore, pe_iinc5, pe_isub, pe_istore6, pe_iload6, pe_iaload, pe_istore7, pe_baload, pe_icmp_ge, pe_istore8, pe_iload7, pe_iload8, pe_call2, pe_iinc6, pe_icmp_lt, pe_if_le, pe_icmp_ne, pe_iinc7, pm_prog_1, pm_ob_some, Nat.reduceDiv, Nat.reduceMod, Nat.reduceMul, Nat.reduceAdd, Int.reduceToNat, pm_kill_i, pm_kill_r, pm_kill_n, pm_kill_j, pm_kill_l, pm_kill_d, pm_cats_nil, pm_cats_i, pm_cats_r, pm_cats_n, pm_cats_l, pm_cats_d, sz_1, sz_2, sl_1, sl_2, lc_0, lc_lt, lc_le, li_ne, va_rf, wr_m1, we_m1, pm_kill_w, Int32.reduceOfInt, Int64.reduceOfInt, Int32.reduceOfNat, Int32.reduceLT, Int32.reduceLE, Prod.mk.injEq, Nat.reduceEqDiff, reduceCtorEq, and_true, true_and, and_false, false_and, and_self, ite_true, ite_false, ↓reduceIte, not_true_eq_false, not_false_eq_true, pe_ri, pe_rz, pe_rc, p_throw, t291, w_junk hA, Cr_g0_12 hP hA, Cr_g0_16 hP hA, Cr_g0_19 hP hA, Cr_g12_3 hP hA, Cr_g12_5 hP hA, Cr_r16 hP hA, Cr_r19 hP hA, Cr_w19 hP hA, z1]
  · dsimp only at e z1
    obtain ⟨⟨v4, v5, v6, v7, S2⟩, k2, e⟩ := Option.bind_eq_some_iff.mp e
    try dsimp only at e
    try simp -implicitDefEqProofs (disch := first | assumption | exact Nat.le_of_ble_eq_true rfl | decide) only [b291_0, g291_1, b291_1, g291_4, b291_4, g291_5, b291_5, g291_6, b291_6, g291_9, b291_9, g291_11, b291_11, g291_12, b291_12, g291_13, b291_13, g291_15, b291_15, g291_18, b291_18, g291_19, b291_19, g291_20, b291_20, pe_aload0, pe_getfield, pe_call1, pm_af_ret, pm_af_void, pm_af_thr, pe_iload1, pe_i2l, pe_bipush, pe_call3, pe_if_eq, pe_iload2, pe_if_lt, pe_sipush, pe_goto, pe_goto_w, pe_istore3, pe_istore4, pe_istore5, pe_iload5, pe_icmp_gt, pe_iload4, pe_imul, pe_iadd, pe_if_ne, pe_iload3, pe_iastore, pe_iinc5, pe_isub, pe_istore6, pe_iload6, pe_iaload, pe_istore7, pe_baload, pe_icmp_ge, pe_istore8, pe_iload7, pe_iload8, pe_call2, pe_iinc6, pe_icmp_lt, pe_if_le, pe_icmp_ne, pe_iinc7, pm_prog_1, pm_ob_some, Nat.reduceDiv, Nat.reduceMod, Nat.reduceMul, Nat.reduceAdd, Int.reduceToNat, pm_kill_i, pm_kill_r, pm_kill_n, pm_kill_j, pm_kill_l, pm_kill_d, pm_cats_nil, pm_cats_i, pm_cats_r, pm_cats_n, pm_cats_l, pm_cats_d, sz_1, sz_2, sl_1, sl_2, lc_0, lc_lt, lc_le, li_ne, va_rf, wr_m1, we_m1, pm_kill_w, Int32.reduceOfInt, Int64.reduceOfInt, Int32.reduceOfNat, Int32.reduceLT, Int32.reduceLE, Prod.mk.injEq, Nat.reduceEqDiff, reduceCtorEq, and_true, true_and, and_false, false_and, and_self, ite_true, ite_false, ↓reduceIte, not_true_eq_false, not_false_eq_true, pe_ri, pe_rz, pe_rc, p_throw, t291, w_junk hA, Cr_g0_12 hP hA, Cr_g0_16 hP hA, Cr_g0_19 hP hA, Cr_g12_3 hP hA, Cr_g12_5 hP hA, Cr_r16 hP hA, Cr_r19 hP hA, Cr_w19 hP hA, z1]
    refine z291_3 hP hA hD k2 ?_ _ _ _
    dsimp only [ex291_3]
    intro q5 q6 q7 q8
    obtain ⟨⟨v18, v19, v20, v21, S16⟩, k3, e⟩ := Option.bind_eq_some_iff.mp e
    try dsimp only at e
    try simp -implicitDefEqProofs (disch := first | assumption | exact Nat.le_of_ble_eq_true rfl | decide) only [b291_0, g291_1, b291_1, g291_4, b291_4, g291_5, b291_5, g291_6, b291_6, g291_9, b291_9, g291_11, b291_11, g291_12, b291_12, g291_13, b291_13, g291_15, b291_15, g291_18, b291_18, g291_19, b291_19, g291_20, b291_20, pe_aload0, pe_getfield, pe_call1, pm_af_ret, pm_af_void, pm_af_thr, pe_iload1, pe_i2l, pe_bipush, pe_call3, pe_if_eq, pe_iload2, pe_if_lt, pe_sipush, pe_goto, pe_goto_w, pe_istore3, pe_istore4, pe_istore5, pe_iload5, pe_icmp_gt, pe_iload4, pe_imul, pe_iadd, pe_if_ne, pe_iload3, pe_iastore, pe_iinc5, pe_isub, pe_istore6, pe_iload6, pe_iaload, pe_istore7, pe_baload, pe_icmp_ge, pe_istore8, pe_iload7, pe_iload8, pe_call2, pe_iinc6, pe_icmp_lt, pe_if_le, pe_icmp_ne, pe_iinc7, pm_prog_1, pm_ob_some, Nat.reduceDiv, Nat.reduceMod, Nat.reduceMul, Nat.reduceAdd, Int.reduceToNat, pm_kill_i, pm_kill_r, pm_kill_n, pm_kill_j, pm_kill_l, pm_kill_d, pm_cats_nil, pm_cats_i, pm_cats_r, pm_cats_n, pm_cats_l, pm_cats_d, sz_1, sz_2, sl_1, sl_2, lc_0, lc_lt, lc_le, li_ne, va_rf, wr_m1, we_m1, pm_kill_w, Int32.reduceOfInt, Int64.reduceOfInt, Int32.reduceOfNat, Int32.reduceLT, Int32.reduceLE, Prod.mk.injEq, Nat.reduceEqDiff, reduceCtorEq, and_true, true_and, and_false, false_and, and_self, ite_true, ite_false, ↓reduceIte, not_true_eq_false, not_false_eq_true, pe_ri, pe_rz, pe_rc, p_throw, t291, w_junk hA, Cr_g0_12 hP hA, Cr_g0_16 hP hA, Cr_g0_19 hP hA, Cr_g12_3 hP hA, Cr_g12_5 hP hA, Cr_r16 hP hA, Cr_r19 hP hA, Cr_w19 hP hA, z1]
    refine z291_7 hP hA hD k3 ?_ _ _ _
    dsimp only [ex291_7]
    intro q5 q6 q7 q8
    by_cases k4 : 0 ≤ v18 ∧ v18 < 24341
    · rw [if_pos k4] at e
      by_cases k5 : (S16.1 (19, 0, 0) v18) < v20
      · rw [if_pos k5] at e
        obtain ⟨b, k6, e⟩ := Option.bind_eq_some_iff.mp e
        rcases b with _ | v22
        ·
          try dsimp only at e
          try simp -implicitDefEqProofs (disch := first | assumption | exact Nat.le_of_ble_eq_true rfl | decide) only [b291_0, g291_1, b291_1, g291_4, b291_4, g291_5, b291_5, g291_6, b291_6, g291_9, b291_9, g291_11, b291_11, g291_12, b291_12, g291_13, b291_13, g291_15, b291_15, g291_18, b291_18, g291_19, b291_19, g291_20, b291_20, pe_aload0, pe_getfield, pe_call1, pm_af_ret, pm_af_void, pm_af_thr, pe_iload1, pe_i2l, pe_bipush, pe_call3, pe_if_eq, pe_iload2, pe_if_lt, pe_sipush, pe_goto, pe_goto_w, pe_istore3, pe_istore4, pe_istore5, pe_iload5, pe_icmp_gt, pe_iload4, pe_imul, pe_iadd, pe_if_ne, pe_iload3, pe_iastore, pe_iinc5, pe_isub, pe_istore6, pe_iload6, pe_iaload, pe_istore7, pe_baload, pe_icmp_ge, pe_istore8, pe_iload7, pe_iload8, pe_call2, pe_iinc6, pe_icmp_lt, pe_if_le, pe_icmp_ne, pe_iinc7, pm_prog_1, pm_ob_some, Nat.reduceDiv, Nat.reduceMod, Nat.reduceMul, Nat.reduceAdd, Int.reduceToNat, pm_kill_i, pm_kill_r, pm_kill_n, pm_kill_j, pm_kill_l, pm_kill_d, pm_cats_nil, pm_cats_i, pm_cats_r, pm_cats_n, pm_cats_l, pm_cats_d, sz_1, sz_2, sl_1, sl_2, lc_0, lc_lt, lc_le, li_ne, va_rf, wr_m1, we_m1, pm_kill_w, Int32.reduceOfInt, Int64.reduceOfInt, Int32.reduceOfNat, Int32.reduceLT, Int32.reduceLE, Prod.mk.injEq, Nat.reduceEqDiff, reduceCtorEq, and_true, true_and, and_false, false_and, and_self, ite_true, ite_false, ↓reduceIte, not_true_eq_false, not_false_eq_true, pe_ri, pe_rz, pe_rc, p_throw, t291, w_junk hA, Cr_g0_12 hP hA, Cr_g0_16 hP hA, Cr_g0_19 hP hA, Cr_g12_3 hP hA, Cr_g12_5 hP hA, Cr_r16 hP hA, Cr_r19 hP hA, Cr_w19 hP hA, z1, eq_true k5]
          refine z291_14 hP hA hD k6 ?_ _ _ _
          dsimp only [ex291_14]
          intro q0 q1 q2 q3 q4 q5 q6 q7 q8
          have e := Option.some.inj e; subst e
          simp -implicitDefEqProofs (disch := first | assumption | exact Nat.le_of_ble_eq_true rfl | decide) only [b291_0, g291_1, b291_1, g291_4, b291_4, g291_5, b291_5, g291_6, b291_6, g291_9, b291_9, g291_11, b291_11, g291_12, b291_12, g291_13, b291_13, g291_15, b291_15, g291_18, b291_18, g291_19, b291_19, g291_20, b291_20, pe_aload0, pe_getfield, pe_call1, pm_af_ret, pm_af_void, pm_af_thr, pe_iload1, pe_i2l, pe_bipush, pe_call3, pe_if_eq, pe_iload2, pe_if_lt, pe_sipush, pe_goto, pe_goto_w, pe_istore3, pe_istore4, pe_istore5, pe_iload5, pe_icmp_gt, pe_iload4, pe_imul, pe_iadd, pe_if_ne, pe_iload3, pe_iastore, pe_iinc5, pe_isub, pe_istore6, pe_iload6, pe_iaload, pe_istore7, pe_baload, pe_icmp_ge, pe_istore8, pe_iload7, pe_iload8, pe_call2, pe_iinc6, pe_icmp_lt, pe_if_le, pe_icmp_ne, pe_iinc7, pm_prog_1, pm_ob_some, Nat.reduceDiv, Nat.reduceMod, Nat.reduceMul, Nat.reduceAdd, Int.reduceToNat, pm_kill_i, pm_kill_r, pm_kill_n, pm_kill_j, pm_kill_l, pm_kill_d, pm_cats_nil, pm_cats_i, pm_cats_r, pm_cats_n, pm_cats_l, pm_cats_d, sz_1, sz_2, sl_1, sl_2, lc_0, lc_lt, lc_le, li_ne, va_rf, wr_m1, we_m1, pm_kill_w, Int32.reduceOfInt, Int64.reduceOfInt, Int32.reduceOfNat, Int32.reduceLT, Int32.reduceLE, Prod.mk.injEq, Nat.reduceEqDiff, reduceCtorEq, and_true, true_and, and_false, false_and, and_self, ite_true, ite_false, ↓reduceIte, not_true_eq_false, not_false_eq_true, pe_ri, pe_rz, pe_rc, p_throw, t291, w_junk hA, Cr_g0_12 hP hA, Cr_g0_16 hP hA, Cr_g0_19 hP hA, Cr_g12_3 hP hA, Cr_g12_5 hP hA, Cr_r16 hP hA, Cr_r19 hP hA, Cr_w19 hP hA, z1, eq_true k5]
        ·
          try dsimp only at e
          try simp -implicitDefEqProofs (disch := first | assumption | exact Nat.le_of_ble_eq_true rfl | decide) only [b291_0, g291_1, b291_1, g291_4, b291_4, g291_5, b291_5, g291_6, b291_6, g291_9, b291_9, g291_11, b291_11, g291_12, b291_12, g291_13, b291_13, g291_15, b291_15, g291_18, b291_18, g291_19, b291_19, g291_20, b291_20, pe_aload0, pe_getfield, pe_call1, pm_af_ret, pm_af_void, pm_af_thr, pe_iload1, pe_i2l, pe_bipush, pe_call3, pe_if_eq, pe_iload2, pe_if_lt, pe_sipush, pe_goto, pe_goto_w, pe_istore3, pe_istore4, pe_istore5, pe_iload5, pe_icmp_gt, pe_iload4, pe_imul, pe_iadd, pe_if_ne, pe_iload3, pe_iastore, pe_iinc5, pe_isub, pe_istore6, pe_iload6, pe_iaload, pe_istore7, pe_baload, pe_icmp_ge, pe_istore8, pe_iload7, pe_iload8, pe_call2, pe_iinc6, pe_icmp_lt, pe_if_le, pe_icmp_ne, pe_iinc7, pm_prog_1, pm_ob_some, Nat.reduceDiv, Nat.reduceMod, Nat.reduceMul, Nat.reduceAdd, Int.reduceToNat, pm_kill_i, pm_kill_r, pm_kill_n, pm_kill_j, pm_kill_l, pm_kill_d, pm_cats_nil, pm_cats_i, pm_cats_r, pm_cats_n, pm_cats_l, pm_cats_d, sz_1, sz_2, sl_1, sl_2, lc_0, lc_lt, lc_le, li_ne, va_rf, wr_m1, we_m1, pm_kill_w, Int32.reduceOfInt, Int64.reduceOfInt, Int32.reduceOfNat, Int32.reduceLT, Int32.reduceLE, Prod.mk.injEq, Nat.reduceEqDiff, reduceCtorEq, and_true, true_and, and_false, false_and, and_self, ite_true, ite_false, ↓reduceIte, not_true_eq_false, not_false_eq_true, pe_ri, pe_rz, pe_rc, p_throw, t291, w_junk hA, Cr_g0_12 hP hA, Cr_g0_16 hP hA, Cr_g0_19 hP hA, Cr_g12_3 hP hA, Cr_g12_5 hP hA, Cr_r16 hP hA, Cr_r19 hP hA, Cr_w19 hP hA, z1, eq_true k5]
          refine z291_14 hP hA hD k6 ?_ _ _ _
          dsimp only [ex291_14]
          have e := Option.some.inj e; subst e
          simp -implicitDefEqProofs (disch := first | assumption | exact Nat.le_of_ble_eq_true rfl | decide) only [b291_0, g291_1, b291_1, g291_4, b291_4, g291_5, b291_5, g291_6, b291_6, g291_9, b291_9, g291_11, b291_11, g291_12, b291_12, g291_13, b291_13, g291_15, b291_15, g291_18, b291_18, g291_19, b291_19, g291_20, b291_20, pe_aload0, pe_getfield, pe_call1, pm_af_ret, pm_af_void, pm_af_thr, pe_iload1, pe_i2l, pe_bipush, pe_call3, pe_if_eq, pe_iload2, pe_if_lt, pe_sipush, pe_goto, pe_goto_w, pe_istore3, pe_istore4, pe_istore5, pe_iload5, pe_icmp_gt, pe_iload4, pe_imul, pe_iadd, pe_if_ne, pe_iload3, pe_iastore, pe_iinc5, pe_isub, pe_istore6, pe_iload6, pe_iaload, pe_istore7, pe_baload, pe_icmp_ge, pe_istore8, pe_iload7, pe_iload8, pe_call2, pe_iinc6, pe_icmp_lt, pe_if_le, pe_icmp_ne, pe_iinc7, pm_prog_1, pm_ob_some, Nat.reduceDiv, Nat.reduceMod, Nat.reduceMul, Nat.reduceAdd, Int.reduceToNat, pm_kill_i, pm_kill_r, pm_kill_n, pm_kill_j, pm_kill_l, pm_kill_d, pm_cats_nil, pm_cats_i, pm_cats_r, pm_cats_n, pm_cats_l, pm_cats_d, sz_1, sz_2, sl_1, sl_2, lc_0, lc_lt, lc_le, li_ne, va_rf, wr_m1, we_m1, pm_kill_w, Int32.reduceOfInt, Int64.reduceOfInt, Int32.reduceOfNat, Int32.reduceLT, Int32.reduceLE, Prod.mk.injEq, Nat.reduceEqDiff, reduceCtorEq, and_true, true_and, and_false, false_and, and_self, ite_true, ite_false, ↓reduceIte, not_true_eq_false, not_false_eq_true, pe_ri, pe_rz, pe_rc, p_throw, t291, w_junk hA, Cr_g0_12 hP hA, Cr_g0_16 hP hA, Cr_g0_19 hP hA, Cr_g12_3 hP hA, Cr_g12_5 hP hA, Cr_r16 hP hA, Cr_r19 hP hA, Cr_w19 hP hA, z1, eq_true k5]
      · rw [if_neg k5] at e
        have e := Option.some.inj e; subst e
        simp -implicitDefEqProofs (disch := first | assumption | exact Nat.le_of_ble_eq_true rfl | decide) only [b291_0, g291_1, b291_1, g291_4, b291_4, g291_5, b291_5, g291_6, b291_6, g291_9, b291_9, g291_11, b291_11, g291_12, b291_12, g291_13, b291_13, g291_15, b291_15, g291_18, b291_18, g291_19, b291_19, g291_20, b291_20, pe_aload0, pe_getfield, pe_call1, pm_af_ret, pm_af_void, pm_af_thr, pe_iload1, pe_i2l, pe_bipush, pe_call3, pe_if_eq, pe_iload2, pe_if_lt, pe_sipush, pe_goto, pe_goto_w, pe_istore3, pe_istore4, pe_istore5, pe_iload5, pe_icmp_gt, pe_iload4, pe_imul, pe_iadd, pe_if_ne, pe_iload3, pe_iastore, pe_iinc5, pe_isub, pe_istore6, pe_iload6, pe_iaload, pe_istore7, pe_baload, pe_icmp_ge, pe_istore8, pe_iload7, pe_iload8, pe_call2, pe_iinc6, pe_icmp_lt, pe_if_le, pe_icmp_ne, pe_iinc7, pm_prog_1, pm_ob_some, Nat.reduceDiv, Nat.reduceMod, Nat.reduceMul, Nat.reduceAdd, Int.reduceToNat, pm_kill_i, pm_kill_r, pm_kill_n, pm_kill_j, pm_kill_l, pm_kill_d, pm_cats_nil, pm_cats_i, pm_cats_r, pm_cats_n, pm_cats_l, pm_cats_d, sz_1, sz_2, sl_1, sl_2, lc_0, lc_lt, lc_le, li_ne, va_rf, wr_m1, we_m1, pm_kill_w, Int32.reduceOfInt, Int64.reduceOfInt, Int32.reduceOfNat, Int32.reduceLT, Int32.reduceLE, Prod.mk.injEq, Nat.reduceEqDiff, reduceCtorEq, and_true, true_and, and_false, false_and, and_self, ite_true, ite_false, ↓reduceIte, not_true_eq_false, not_false_eq_true, pe_ri, pe_rz, pe_rc, p_throw, t291, w_junk hA, Cr_g0_12 hP hA, Cr_g0_16 hP hA, Cr_g0_19 hP hA, Cr_g12_3 hP hA, Cr_g12_5 hP hA, Cr_r16 hP hA, Cr_r19 hP hA, Cr_w19 hP hA, z1, eq_false k5]
    · rw [if_neg k4] at e; cases e
theorem x291 {fc : Int32} {pc : Int32} {A : wK → Nat} {h : pm_H} {D : Nat} {S : wS} {x1 : Int32} {x2 : Int32} {r : (Nat × wS) ⊕ (Int32 × wS)} (hP : Cr_P fc pc) (hA : wok A (Cr_d fc pc) h.1) (hD : 2 ≤ D) (e : f291 fc pc S x1 x2 = some r) : pm_call pm_prog D 291 [.ref (A (0, 0, 0)), .int x1, .int x2] (wput A (Cr_d fc pc) S h) = some (match (generalizing := false) r with | .inl (c, S1) => (Outcome.threw c, (wput A (Cr_d fc pc) S1 (pm_new h 6 (.inr (c, []))))) | .inr (w0, S1) => (Outcome.returned (some (.int w0)), (wput A (Cr_d fc pc) S1 h))) := by
  obtain ⟨D, rfl⟩ : ∃ D', D = D' + 1 := ⟨D - 1, by omega⟩
  have hD : 1 ≤ D := by omega
  simp only [f291] at e
  rw [c291 (Cr_c0 hP hA), b291_0]
  obtain ⟨r, k1, e⟩ := Option.bind_eq_some_iff.mp e
  have z1 := fun h => x259 (D := D) (h := h) (by omega) k1
  rcases r with c24 | _
  · dsimp only at e z1
    have e := Option.some.inj e; subst e
    simp -implicitDefEqProofs (disch := first | assumption | exact Nat.le_of_ble_eq_true rfl | decide) only [b291_0, g291_1, b291_1, g291_4, b291_4, g291_5, b291_5, g291_6, b291_6, g291_9, b291_9, g291_11, b291_11, g291_12, b291_12, g291_13, b291_13, g291_15, b291_15, g291_18, b291_18, g291_19, b291_19, g291_20, b291_20, pe_aload0, pe_getfield, pe_call1, pm_af_ret, pm_af_void, pm_af_thr, pe_iload1, pe_i2l, pe_bipush, pe_call3, pe_if_eq, pe_iload2, pe_if_lt, pe_sipush, pe_goto, pe_goto_w, pe_istore3, pe_istore4, pe_istore5, pe_iload5, pe_icmp_gt, pe_iload4, pe_imul, pe_iadd, pe_if_ne, pe_iload3, pe_iastore, pe_iinc5, pe_isub, pe_istore6, pe_iload6, pe_iaload, pe_istore7, pe_baload, pe_icmp_ge, pe_istore8, pe_iload7, pe_iload8, pe_call2, pe_iinc6, pe_icmp_lt, pe_if_le, pe_icmp_ne, pe_iinc7, pm_prog_1, pm_ob_some, Nat.reduceDiv, Nat.reduceMod, Nat.reduceMul, Nat.reduceAdd, Int.reduceToNat, pm_kill_i, pm_kill_r, pm_kill_n, pm_kill_j, pm_kill_l, pm_kill_d, pm_cats_nil, pm_cats_i, pm_cats_r, pm_cats_n, pm_cats_l, pm_cats_d, sz_1, sz_2, sl_1, sl_2, lc_0, lc_lt, lc_le, li_ne, va_rf, wr_m1, we_m1, pm_kill_w, Int32.reduceOfInt, Int64.reduceOfInt, Int32.reduceOfNat, Int32.reduceLT, Int32.reduceLE, Prod.mk.injEq, Nat.reduceEqDiff, reduceCtorEq, and_true, true_and, and_false, false_and, and_self, ite_true, ite_false, ↓reduceIte, not_true_eq_false, not_false_eq_true, pe_ri, pe_rz, pe_rc, p_throw, t291, w_junk hA, Cr_g0_12 hP hA, Cr_g0_16 hP hA, Cr_g0_19 hP hA, Cr_g12_3 hP hA, Cr_g12_5 hP hA, Cr_r16 hP hA, Cr_r19 hP hA, Cr_w19 hP hA, z1]
  · dsimp only at e z1
    obtain ⟨v1, k2, e⟩ := Option.bind_eq_some_iff.mp e
    try dsimp only at e
    have z2 := fun h => x260 (D := D) (h := h) (by omega) k2
    by_cases k3 : v1 = 0
    · rw [if_pos k3] at e
      have k4 := y291_2 (h := h) hP hA hD e
      simp -implicitDefEqProofs (disch := first | assumption | exact Nat.le_of_ble_eq_true rfl | decide) only [b291_0, g291_1, b291_1, g291_4, b291_4, g291_5, b291_5, g291_6, b291_6, g291_9, b291_9, g291_11, b291_11, g291_12, b291_12, g291_13, b291_13, g291_15, b291_15, g291_18, b291_18, g291_19, b291_19, g291_20, b291_20, pe_aload0, pe_getfield, pe_call1, pm_af_ret, pm_af_void, pm_af_thr, pe_iload1, pe_i2l, pe_bipush, pe_call3, pe_if_eq, pe_iload2, pe_if_lt, pe_sipush, pe_goto, pe_goto_w, pe_istore3, pe_istore4, pe_istore5, pe_iload5, pe_icmp_gt, pe_iload4, pe_imul, pe_iadd, pe_if_ne, pe_iload3, pe_iastore, pe_iinc5, pe_isub, pe_istore6, pe_iload6, pe_iaload, pe_istore7, pe_baload, pe_icmp_ge, pe_istore8, pe_iload7, pe_iload8, pe_call2, pe_iinc6, pe_icmp_lt, pe_if_le, pe_icmp_ne, pe_iinc7, pm_prog_1, pm_ob_some, Nat.reduceDiv, Nat.reduceMod, Nat.reduceMul, Nat.reduceAdd, Int.reduceToNat, pm_kill_i, pm_kill_r, pm_kill_n, pm_kill_j, pm_kill_l, pm_kill_d, pm_cats_nil, pm_cats_i, pm_cats_r, pm_cats_n, pm_cats_l, pm_cats_d, sz_1, sz_2, sl_1, sl_2, lc_0, lc_lt, lc_le, li_ne, va_rf, wr_m1, we_m1, pm_kill_w, Int32.reduceOfInt, Int64.reduceOfInt, Int32.reduceOfNat, Int32.reduceLT, Int32.reduceLE, Prod.mk.injEq, Nat.reduceEqDiff, reduceCtorEq, and_true, true_and, and_false, false_and, and_self, ite_true, ite_false, ↓reduceIte, not_true_eq_false, not_false_eq_true, pe_ri, pe_rz, pe_rc, p_throw, t291, w_junk hA, Cr_g0_12 hP hA, Cr_g0_16 hP hA, Cr_g0_19 hP hA, Cr_g12_3 hP hA, Cr_g12_5 hP hA, Cr_r16 hP hA, Cr_r19 hP hA, Cr_w19 hP hA, z1, z2, eq_true k3, k4]
    · rw [if_neg k3] at e
      by_cases k5 : x2 < 0
      · rw [if_pos k5] at e
        have k6 := y291_2 (h := h) hP hA hD e
        simp -implicitDefEqProofs (disch := first | assumption | exact Nat.le_of_ble_eq_true rfl | decide) only [b291_0, g291_1, b291_1, g291_4, b291_4, g291_5, b291_5, g291_6, b291_6, g291_9, b291_9, g291_11, b291_11, g291_12, b291_12, g291_13, b291_13, g291_15, b291_15, g291_18, b291_18, g291_19, b291_19, g291_20, b291_20, pe_aload0, pe_getfield, pe_call1, pm_af_ret, pm_af_void, pm_af_thr, pe_iload1, pe_i2l, pe_bipush, pe_call3, pe_if_eq, pe_iload2, pe_if_lt, pe_sipush, pe_goto, pe_goto_w, pe_istore3, pe_istore4, pe_istore5, pe_iload5, pe_icmp_gt, pe_iload4, pe_imul, pe_iadd, pe_if_ne, pe_iload3, pe_iastore, pe_iinc5, pe_isub, pe_istore6, pe_iload6, pe_iaload, pe_istore7, pe_baload, pe_icmp_ge, pe_istore8, pe_iload7, pe_iload8, pe_call2, pe_iinc6, pe_icmp_lt, pe_if_le, pe_icmp_ne, pe_iinc7, pm_prog_1, pm_ob_some, Nat.reduceDiv, Nat.reduceMod, Nat.reduceMul, Nat.reduceAdd, Int.reduceToNat, pm_kill_i, pm_kill_r, pm_kill_n, pm_kill_j, pm_kill_l, pm_kill_d, pm_cats_nil, pm_cats_i, pm_cats_r, pm_cats_n, pm_cats_l, pm_cats_d, sz_1, sz_2, sl_1, sl_2, lc_0, lc_lt, lc_le, li_ne, va_rf, wr_m1, we_m1, pm_kill_w, Int32.reduceOfInt, Int64.reduceOfInt, Int32.reduceOfNat, Int32.reduceLT, Int32.reduceLE, Prod.mk.injEq, Nat.reduceEqDiff, reduceCtorEq, and_true, true_and, and_false, false_and, and_self, ite_true, ite_false, ↓reduceIte, not_true_eq_false, not_false_eq_true, pe_ri, pe_rz, pe_rc, p_throw, t291, w_junk hA, Cr_g0_12 hP hA, Cr_g0_16 hP hA, Cr_g0_19 hP hA, Cr_g12_3 hP hA, Cr_g12_5 hP hA, Cr_r16 hP hA, Cr_r19 hP hA, Cr_w19 hP hA, z1, z2, eq_false k3, eq_true k5, k6]
      · rw [if_neg k5] at e
        have k7 := y291_2 (h := h) hP hA hD e
        simp -implicitDefEqProofs (disch := first | assumption | exact Nat.le_of_ble_eq_true rfl | decide) only [b291_0, g291_1, b291_1, g291_4, b291_4, g291_5, b291_5, g291_6, b291_6, g291_9, b291_9, g291_11, b291_11, g291_12, b291_12, g291_13, b291_13, g291_15, b291_15, g291_18, b291_18, g291_19, b291_19, g291_20, b291_20, pe_aload0, pe_getfield, pe_call1, pm_af_ret, pm_af_void, pm_af_thr, pe_iload1, pe_i2l, pe_bipush, pe_call3, pe_if_eq, pe_iload2, pe_if_lt, pe_sipush, pe_goto, pe_goto_w, pe_istore3, pe_istore4, pe_istore5, pe_iload5, pe_icmp_gt, pe_iload4, pe_imul, pe_iadd, pe_if_ne, pe_iload3, pe_iastore, pe_iinc5, pe_isub, pe_istore6, pe_iload6, pe_iaload, pe_istore7, pe_baload, pe_icmp_ge, pe_istore8, pe_iload7, pe_iload8, pe_call2, pe_iinc6, pe_icmp_lt, pe_if_le, pe_icmp_ne, pe_iinc7, pm_prog_1, pm_ob_some, Nat.reduceDiv, Nat.reduceMod, Nat.reduceMul, Nat.reduceAdd, Int.reduceToNat, pm_kill_i, pm_kill_r, pm_kill_n, pm_kill_j, pm_kill_l, pm_kill_d, pm_cats_nil, pm_cats_i, pm_cats_r, pm_cats_n, pm_cats_l, pm_cats_d, sz_1, sz_2, sl_1, sl_2, lc_0, lc_lt, lc_le, li_ne, va_rf, wr_m1, we_m1, pm_kill_w, Int32.reduceOfInt, Int64.reduceOfInt, Int32.reduceOfNat, Int32.reduceLT, Int32.reduceLE, Prod.mk.injEq, Nat.reduceEqDiff, reduceCtorEq, and_true, true_and, and_false, false_and, and_self, ite_true, ite_false, ↓reduceIte, not_true_eq_false, not_false_eq_true, pe_ri, pe_rz, pe_rc, p_throw, t291, w_junk hA, Cr_g0_12 hP hA, Cr_g0_16 hP hA, Cr_g0_19 hP hA, Cr_g12_3 hP hA, Cr_g12_5 hP hA, Cr_r16 hP hA, Cr_r19 hP hA, Cr_w19 hP hA, z1, z2, eq_false k3, eq_false k5, k7]
/-- TimberHouse$FaultRips.greatest()Z -/
theorem c292 {d : Nat} {h : pm_H} {a : Nat} (hc : pm_cls h a = some 4) : pm_call pm_prog (d + 1) 292 [.ref a] h = pm_ev pm_prog (pm_call pm_prog d) 292 0 b292_0 [.ref a] [] h := pm_cal (pm_rc1 hc rfl) rfl rfl rfl
theorem g292_1 {cl : pm_C} {ls st : List Value} {h : pm_H} : pm_go pm_prog cl 292 1 ls st h = pm_ev pm_prog cl 292 1 b292_1 ls st h := pm_go_eq pm_prog cl 292 1 ls st h
theorem g292_2 {cl : pm_C} {ls st : List Value} {h : pm_H} : pm_go pm_prog cl 292 2 ls st h = pm_ev pm_prog cl 292 2 b292_2 ls st h := pm_go_eq pm_prog cl 292 2 ls st h
theorem t292 {cl : pm_C} {j : Nat} {ls : List Value} {c : Nat} {h : pm_H} : pm_thr pm_prog cl 292 j ls c h = some (.threw c, h) := rfl
/-- TimberHouse$FaultRips.greatest()Z -/
noncomputable def f292 (fc : Int32) (pc : Int32) (S : wS) : Option (Nat ⊕ (Int32)) :=
  (f259 (S.1 (0, 0, 0) 16)).bind fun r => match r with
  | .inl c1 =>
    some (.inl c1)
  | .inr _ =>
  if (S.2 (12, 0, 0) 6) = (S.2 (0, 0, 0) 17) then
    some (.inr 1)
  else
    some (.inr 0)
theorem x292 {fc : Int32} {pc : Int32} {A : wK → Nat} {h : pm_H} {D : Nat} {S : wS} {r : Nat ⊕ (Int32)} (hP : Cr_P fc pc) (hA : wok A (Cr_d fc pc) h.1) (hD : 2 ≤ D) (e : f292 fc pc S = some r) : pm_call pm_prog D 292 [.ref (A (0, 0, 0))] (wput A (Cr_d fc pc) S h) = some (match (generalizing := false) r with | .inl c => (Outcome.threw c, (wput A (Cr_d fc pc) S (pm_new h 6 (.inr (c, []))))) | .inr w0 => (Outcome.returned (some (.int w0)), (wput A (Cr_d fc pc) S h))) := by
  obtain ⟨D, rfl⟩ : ∃ D', D = D' + 1 := ⟨D - 1, by omega⟩
  have hD : 1 ≤ D := by omega
  simp only [f292] at e
  rw [c292 (Cr_c0 hP hA), b292_0]
  obtain ⟨r, k1, e⟩ := Option.bind_eq_some_iff.mp e
  have z1 := fun h => x259 (D := D) (h := h) (by omega) k1
  rcases r with c1 | _
  · dsimp only at e z1
    have e := Option.some.inj e; subst e
    simp -implicitDefEqProofs (disch := first | assumption | exact Nat.le_of_ble_eq_true rfl | decide) only [b292_0, g292_1, b292_1, g292_2, b292_2, pe_aload0, pe_getfield, pe_call1, pm_af_ret, pm_af_void, pm_af_thr, pe_lcmp, pe_if_ne, pe_sipush, pe_goto, pe_goto_w, pm_prog_1, pm_ob_some, Nat.reduceDiv, Nat.reduceMod, Nat.reduceMul, Nat.reduceAdd, Int.reduceToNat, pm_kill_i, pm_kill_r, pm_kill_n, pm_kill_j, pm_kill_l, pm_kill_d, pm_cats_nil, pm_cats_i, pm_cats_r, pm_cats_n, pm_cats_l, pm_cats_d, sz_1, sz_2, sl_1, sl_2, lc_0, lc_lt, lc_le, li_ne, va_rf, wr_m1, we_m1, pm_kill_w, Int32.reduceOfInt, Int64.reduceOfInt, Int32.reduceOfNat, Int32.reduceLT, Int32.reduceLE, Prod.mk.injEq, Nat.reduceEqDiff, reduceCtorEq, and_true, true_and, and_false, false_and, and_self, ite_true, ite_false, ↓reduceIte, not_true_eq_false, not_false_eq_true, pe_ri, pe_rz, pe_rc, p_throw, t292, w_junk hA, Cr_g0_12 hP hA, Cr_g0_16 hP hA, Cr_g0_17 hP hA, Cr_g12_6 hP hA, z1]
  · dsimp only at e z1
    by_cases k2 : (S.2 (12, 0, 0) 6) = (S.2 (0, 0, 0) 17)
    · rw [if_pos k2] at e
      have e := Option.some.inj e; subst e
      simp -implicitDefEqProofs (disch := first | assumption | exact Nat.le_of_ble_eq_true rfl | decide) only [b292_0, g292_1, b292_1, g292_2, b292_2, pe_aload0, pe_getfield, pe_call1, pm_af_ret, pm_af_void, pm_af_thr, pe_lcmp, pe_if_ne, pe_sipush, pe_goto, pe_goto_w, pm_prog_1, pm_ob_some, Nat.reduceDiv, Nat.reduceMod, Nat.reduceMul, Nat.reduceAdd, Int.reduceToNat, pm_kill_i, pm_kill_r, pm_kill_n, pm_kill_j, pm_kill_l, pm_kill_d, pm_cats_nil, pm_cats_i, pm_cats_r, pm_cats_n, pm_cats_l, pm_cats_d, sz_1, sz_2, sl_1, sl_2, lc_0, lc_lt, lc_le, li_ne, va_rf, wr_m1, we_m1, pm_kill_w, Int32.reduceOfInt, Int64.reduceOfInt, Int32.reduceOfNat, Int32.reduceLT, Int32.reduceLE, Prod.mk.injEq, Nat.reduceEqDiff, reduceCtorEq, and_true, true_and, and_false, false_and, and_self, ite_true, ite_false, ↓reduceIte, not_true_eq_false, not_false_eq_true, pe_ri, pe_rz, pe_rc, p_throw, t292, w_junk hA, Cr_g0_12 hP hA, Cr_g0_16 hP hA, Cr_g0_17 hP hA, Cr_g12_6 hP hA, z1, eq_true k2]
    · rw [if_neg k2] at e
      have e := Option.some.inj e; subst e
      simp -implicitDefEqProofs (disch := first | assumption | exact Nat.le_of_ble_eq_true rfl | decide) only [b292_0, g292_1, b292_1, g292_2, b292_2, pe_aload0, pe_getfield, pe_call1, pm_af_ret, pm_af_void, pm_af_thr, pe_lcmp, pe_if_ne, pe_sipush, pe_goto, pe_goto_w, pm_prog_1, pm_ob_some, Nat.reduceDiv, Nat.reduceMod, Nat.reduceMul, Nat.reduceAdd, Int.reduceToNat, pm_kill_i, pm_kill_r, pm_kill_n, pm_kill_j, pm_kill_l, pm_kill_d, pm_cats_nil, pm_cats_i, pm_cats_r, pm_cats_n, pm_cats_l, pm_cats_d, sz_1, sz_2, sl_1, sl_2, lc_0, lc_lt, lc_le, li_ne, va_rf, wr_m1, we_m1, pm_kill_w, Int32.reduceOfInt, Int64.reduceOfInt, Int32.reduceOfNat, Int32.reduceLT, Int32.reduceLE, Prod.mk.injEq, Nat.reduceEqDiff, reduceCtorEq, and_true, true_and, and_false, false_and, and_self, ite_true, ite_false, ↓reduceIte, not_true_eq_false, not_false_eq_true, pe_ri, pe_rz, pe_rc, p_throw, t292, w_junk hA, Cr_g0_12 hP hA, Cr_g0_16 hP hA, Cr_g0_17 hP hA, Cr_g12_6 hP hA, z1, eq_false k2]
