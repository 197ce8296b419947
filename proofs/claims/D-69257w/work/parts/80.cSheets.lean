set_option maxRecDepth 100000
/-! TimberHouse$SheetTrees -/
def Ct_P (sc : Int32) (pc : Int32) (sa : Int32) (pa : Int32) : Prop := 0 ≤ sc ∧ sc ≤ 4 ∧ 0 ≤ pc ∧ pc ≤ 8 ∧ 0 ≤ sa ∧ 0 ≤ pa
def Ct_d (sc : Int32) (pc : Int32) (sa : Int32) (pa : Int32) : wK → Option wD := fun k => match k.1 with
  | 0 => if k.2.1 = 0 ∧ k.2.2 = 0 then some (.inl (13, [(2, (1, 0, 0)), (0, (0, 0, 0)), (0, (0, 0, 0)), (2, (20, 0, 0)), (2, (22, 0, 0)), (2, (9, 0, 0)), (2, (15, 0, 0)), (2, (14, 0, 0)), (0, (0, 0, 0)), (0, (0, 0, 0))])) else none
  | 1 => if k.2.1 = 0 ∧ k.2.2 = 0 then some (.inl (15, [(0, (0, 0, 0)), (2, (2, 0, 0)), (2, (4, 0, 0)), (2, (6, 0, 0))])) else none
  | 2 => if k.2.1 = 0 ∧ k.2.2 = 0 then some (.inr (.inr ((.array (.array .int)), 8, .inr (fun x => some (30, x, 0))))) else none
  | 30 => if (0 ≤ k.2.1 ∧ k.2.1 < 8) ∧ k.2.2 = 0 then some (.inr (.inr ((.array .int), 17, .inr (fun x => some (3, k.2.1, x))))) else none
  | 3 => if (0 ≤ k.2.1 ∧ k.2.1 < 8) ∧ (0 ≤ k.2.2 ∧ k.2.2 < 17) then some (.inr (.inl (.int, 17))) else none
  | 4 => if k.2.1 = 0 ∧ k.2.2 = 0 then some (.inr (.inr ((.array (.array .int)), 8, .inr (fun x => some (31, x, 0))))) else none
  | 31 => if (0 ≤ k.2.1 ∧ k.2.1 < 8) ∧ k.2.2 = 0 then some (.inr (.inr ((.array .int), 17, .inr (fun x => some (5, k.2.1, x))))) else none
  | 5 => if (0 ≤ k.2.1 ∧ k.2.1 < 8) ∧ (0 ≤ k.2.2 ∧ k.2.2 < 17) then some (.inr (.inl (.int, 17))) else none
  | 6 => if k.2.1 = 0 ∧ k.2.2 = 0 then some (.inr (.inr ((.array (.array .byte)), 8, .inr (fun x => some (32, x, 0))))) else none
  | 32 => if (0 ≤ k.2.1 ∧ k.2.1 < 8) ∧ k.2.2 = 0 then some (.inr (.inr ((.array .byte), 17, .inr (fun x => some (7, k.2.1, x))))) else none
  | 7 => if (0 ≤ k.2.1 ∧ k.2.1 < 8) ∧ (0 ≤ k.2.2 ∧ k.2.2 < 17) then some (.inr (.inl (.byte, 17))) else none
  | 9 => if k.2.1 = 0 ∧ k.2.2 = 0 then some (.inr (.inr ((.object "TimberHouse$SheetTrees$CutSheet"), 20, .inr (fun x => some (10, x, 0))))) else none
  | 10 => if (0 ≤ k.2.1 ∧ k.2.1 < 20) ∧ k.2.2 = 0 then some (.inl (14, [(0, (0, 0, 0)), (0, (0, 0, 0)), (0, (0, 0, 0)), (0, (0, 0, 0)), (0, (0, 0, 0)), (0, (0, 0, 0)), (0, (0, 0, 0)), (0, (0, 0, 0)), (2, (11, k.2.1, 0)), (2, (12, k.2.1, 0)), (2, (13, k.2.1, 0))])) else none
  | 11 => if (0 ≤ k.2.1 ∧ k.2.1 < 20) ∧ k.2.2 = 0 then some (.inr (.inl (.byte, 512))) else none
  | 12 => if (0 ≤ k.2.1 ∧ k.2.1 < 20) ∧ k.2.2 = 0 then some (.inr (.inl (.byte, 1280))) else none
  | 13 => if (0 ≤ k.2.1 ∧ k.2.1 < 20) ∧ k.2.2 = 0 then some (.inr (.inl (.byte, 1024))) else none
  | 14 => if k.2.1 = 0 ∧ k.2.2 = 0 then some (.inr (.inl (.int, 8))) else none
  | 15 => if k.2.1 = 0 ∧ k.2.2 = 0 then some (.inl (14, [(0, (0, 0, 0)), (0, (0, 0, 0)), (0, (0, 0, 0)), (0, (0, 0, 0)), (0, (0, 0, 0)), (0, (0, 0, 0)), (0, (0, 0, 0)), (0, (0, 0, 0)), (2, (16, 0, 0)), (2, (17, 0, 0)), (2, (18, 0, 0))])) else none
  | 16 => if k.2.1 = 0 ∧ k.2.2 = 0 then some (.inr (.inl (.byte, 512))) else none
  | 17 => if k.2.1 = 0 ∧ k.2.2 = 0 then some (.inr (.inl (.byte, 1280))) else none
  | 18 => if k.2.1 = 0 ∧ k.2.2 = 0 then some (.inr (.inl (.byte, 1024))) else none
  | 20 => if k.2.1 = 0 ∧ k.2.2 = 0 then some (.inl (63, [(0, (0, 0, 0)), (2, if 0 < sa then (21, 0, 0) else (91, 0, 0)), (0, (0, 0, 0))])) else none
  | 21 => if k.2.1 = 0 ∧ k.2.2 = 0 then some (.inr (.inr ((.object "java/lang/Object"), wn sa, .inr (fun x => if x < sc then some (24, x, 0) else none)))) else none
  | 24 => if (0 ≤ k.2.1 ∧ k.2.1 < sc) ∧ k.2.2 = 0 then some (.inl (47, [(0, (0, 0, 0)), (0, (0, 0, 0)), (0, (0, 0, 0)), (0, (0, 0, 0)), (0, (0, 0, 0))])) else none
  | 22 => if k.2.1 = 0 ∧ k.2.2 = 0 then some (.inl (63, [(0, (0, 0, 0)), (2, if 0 < pa then (23, 0, 0) else (91, 0, 0)), (0, (0, 0, 0))])) else none
  | 23 => if k.2.1 = 0 ∧ k.2.2 = 0 then some (.inr (.inr ((.object "java/lang/Object"), wn pa, .inr (fun x => if x < pc then some (25, x, 0) else none)))) else none
  | 25 => if (0 ≤ k.2.1 ∧ k.2.1 < pc) ∧ k.2.2 = 0 then some (.inl (48, [(0, (0, 0, 0)), (0, (0, 0, 0)), (0, (0, 0, 0)), (0, (0, 0, 0)), (0, (0, 0, 0))])) else none
  | 91 => if k.2.1 = 0 ∧ k.2.2 = 0 then some (.inr (.inr ((.object "java/lang/Object"), 0, .inl 25))) else none
  | _ => none
section
variable {A : wK → Nat} {S : wS} {h : pm_H} {m : Nat} {i j x v : Int32} {u : Int64} {sc : Int32} {pc : Int32} {sa : Int32} {pa : Int32}
theorem Ct_n0 (hP : Ct_P sc pc sa pa) : Int32.ofNat (wn sa) = sa := wn_of (hP.2.2.2.2.1)
theorem Ct_n1 (hP : Ct_P sc pc sa pa) : Int32.ofNat (wn pa) = pa := wn_of (hP.2.2.2.2.2)
theorem Ct_d0 {sc : Int32} {pc : Int32} {sa : Int32} {pa : Int32} : (Ct_d sc pc sa pa) (0, 0, 0) = some (.inl (13, [(2, (1, 0, 0)), (0, (0, 0, 0)), (0, (0, 0, 0)), (2, (20, 0, 0)), (2, (22, 0, 0)), (2, (9, 0, 0)), (2, (15, 0, 0)), (2, (14, 0, 0)), (0, (0, 0, 0)), (0, (0, 0, 0))])) := rfl
theorem Ct_d1 {sc : Int32} {pc : Int32} {sa : Int32} {pa : Int32} : (Ct_d sc pc sa pa) (1, 0, 0) = some (.inl (15, [(0, (0, 0, 0)), (2, (2, 0, 0)), (2, (4, 0, 0)), (2, (6, 0, 0))])) := rfl
theorem Ct_d2 {sc : Int32} {pc : Int32} {sa : Int32} {pa : Int32} : (Ct_d sc pc sa pa) (2, 0, 0) = some (.inr (.inr ((.array (.array .int)), 8, .inr (fun x => some (30, x, 0))))) := rfl
theorem Ct_d30 {sc : Int32} {pc : Int32} {sa : Int32} {pa : Int32} (h0 : 0 ≤ i ∧ i < 8) : (Ct_d sc pc sa pa) (30, i, 0) = some (.inr (.inr ((.array .int), 17, .inr (fun x => some (3, i, x))))) := if_pos ⟨h0, rfl⟩
theorem Ct_d3 {sc : Int32} {pc : Int32} {sa : Int32} {pa : Int32} (h0 : 0 ≤ i ∧ i < 8) (h1 : 0 ≤ j ∧ j < 17) : (Ct_d sc pc sa pa) (3, i, j) = some (.inr (.inl (.int, 17))) := if_pos ⟨h0, h1⟩
theorem Ct_d4 {sc : Int32} {pc : Int32} {sa : Int32} {pa : Int32} : (Ct_d sc pc sa pa) (4, 0, 0) = some (.inr (.inr ((.array (.array .int)), 8, .inr (fun x => some (31, x, 0))))) := rfl
theorem Ct_d31 {sc : Int32} {pc : Int32} {sa : Int32} {pa : Int32} (h0 : 0 ≤ i ∧ i < 8) : (Ct_d sc pc sa pa) (31, i, 0) = some (.inr (.inr ((.array .int), 17, .inr (fun x => some (5, i, x))))) := if_pos ⟨h0, rfl⟩
theorem Ct_d5 {sc : Int32} {pc : Int32} {sa : Int32} {pa : Int32} (h0 : 0 ≤ i ∧ i < 8) (h1 : 0 ≤ j ∧ j < 17) : (Ct_d sc pc sa pa) (5, i, j) = some (.inr (.inl (.int, 17))) := if_pos ⟨h0, h1⟩
theorem Ct_d6 {sc : Int32} {pc : Int32} {sa : Int32} {pa : Int32} : (Ct_d sc pc sa pa) (6, 0, 0) = some (.inr (.inr ((.array (.array .byte)), 8, .inr (fun x => some (32, x, 0))))) := rfl
theorem Ct_d32 {sc : Int32} {pc : Int32} {sa : Int32} {pa : Int32} (h0 : 0 ≤ i ∧ i < 8) : (Ct_d sc pc sa pa) (32, i, 0) = some (.inr (.inr ((.array .byte), 17, .inr (fun x => some (7, i, x))))) := if_pos ⟨h0, rfl⟩
theorem Ct_d7 {sc : Int32} {pc : Int32} {sa : Int32} {pa : Int32} (h0 : 0 ≤ i ∧ i < 8) (h1 : 0 ≤ j ∧ j < 17) : (Ct_d sc pc sa pa) (7, i, j) = some (.inr (.inl (.byte, 17))) := if_pos ⟨h0, h1⟩
theorem Ct_d9 {sc : Int32} {pc : Int32} {sa : Int32} {pa : Int32} : (Ct_d sc pc sa pa) (9, 0, 0) = some (.inr (.inr ((.object "TimberHouse$SheetTrees$CutSheet"), 20, .inr (fun x => some (10, x, 0))))) := rfl
theorem Ct_d10 {sc : Int32} {pc : Int32} {sa : Int32} {pa : Int32} (h0 : 0 ≤ i ∧ i < 20) : (Ct_d sc pc sa pa) (10, i, 0) = some (.inl (14, [(0, (0, 0, 0)), (0, (0, 0, 0)), (0, (0, 0, 0)), (0, (0, 0, 0)), (0, (0, 0, 0)), (0, (0, 0, 0)), (0, (0, 0, 0)), (0, (0, 0, 0)), (2, (11, i, 0)), (2, (12, i, 0)), (2, (13, i, 0))])) := if_pos ⟨h0, rfl⟩
theorem Ct_d11 {sc : Int32} {pc : Int32} {sa : Int32} {pa : Int32} (h0 : 0 ≤ i ∧ i < 20) : (Ct_d sc pc sa pa) (11, i, 0) = some (.inr (.inl (.byte, 512))) := if_pos ⟨h0, rfl⟩
theorem Ct_d12 {sc : Int32} {pc : Int32} {sa : Int32} {pa : Int32} (h0 : 0 ≤ i ∧ i < 20) : (Ct_d sc pc sa pa) (12, i, 0) = some (.inr (.inl (.byte, 1280))) := if_pos ⟨h0, rfl⟩
theorem Ct_d13 {sc : Int32} {pc : Int32} {sa : Int32} {pa : Int32} (h0 : 0 ≤ i ∧ i < 20) : (Ct_d sc pc sa pa) (13, i, 0) = some (.inr (.inl (.byte, 1024))) := if_pos ⟨h0, rfl⟩
theorem Ct_d14 {sc : Int32} {pc : Int32} {sa : Int32} {pa : Int32} : (Ct_d sc pc sa pa) (14, 0, 0) = some (.inr (.inl (.int, 8))) := rfl
theorem Ct_d15 {sc : Int32} {pc : Int32} {sa : Int32} {pa : Int32} : (Ct_d sc pc sa pa) (15, 0, 0) = some (.inl (14, [(0, (0, 0, 0)), (0, (0, 0, 0)), (0, (0, 0, 0)), (0, (0, 0, 0)), (0, (0, 0, 0)), (0, (0, 0, 0)), (0, (0, 0, 0)), (0, (0, 0, 0)), (2, (16, 0, 0)), (2, (17, 0, 0)), (2, (18, 0, 0))])) := rfl
theorem Ct_d16 {sc : Int32} {pc : Int32} {sa : Int32} {pa : Int32} : (Ct_d sc pc sa pa) (16, 0, 0) = some (.inr (.inl (.byte, 512))) := rfl
theorem Ct_d17 {sc : Int32} {pc : Int32} {sa : Int32} {pa : Int32} : (Ct_d sc pc sa pa) (17, 0, 0) = some (.inr (.inl (.byte, 1280))) := rfl
theorem Ct_d18 {sc : Int32} {pc : Int32} {sa : Int32} {pa : Int32} : (Ct_d sc pc sa pa) (18, 0, 0) = some (.inr (.inl (.byte, 1024))) := rfl
theorem Ct_d20 {sc : Int32} {pc : Int32} {sa : Int32} {pa : Int32} : (Ct_d sc pc sa pa) (20, 0, 0) = some (.inl (63, [(0, (0, 0, 0)), (2, if 0 < sa then (21, 0, 0) else (91, 0, 0)), (0, (0, 0, 0))])) := rfl
theorem Ct_d21 {sc : Int32} {pc : Int32} {sa : Int32} {pa : Int32} : (Ct_d sc pc sa pa) (21, 0, 0) = some (.inr (.inr ((.object "java/lang/Object"), wn sa, .inr (fun x => if x < sc then some (24, x, 0) else none)))) := rfl
theorem Ct_d24 {sc : Int32} {pc : Int32} {sa : Int32} {pa : Int32} (h0 : 0 ≤ i ∧ i < sc) : (Ct_d sc pc sa pa) (24, i, 0) = some (.inl (47, [(0, (0, 0, 0)), (0, (0, 0, 0)), (0, (0, 0, 0)), (0, (0, 0, 0)), (0, (0, 0, 0))])) := if_pos ⟨h0, rfl⟩
theorem Ct_d22 {sc : Int32} {pc : Int32} {sa : Int32} {pa : Int32} : (Ct_d sc pc sa pa) (22, 0, 0) = some (.inl (63, [(0, (0, 0, 0)), (2, if 0 < pa then (23, 0, 0) else (91, 0, 0)), (0, (0, 0, 0))])) := rfl
theorem Ct_d23 {sc : Int32} {pc : Int32} {sa : Int32} {pa : Int32} : (Ct_d sc pc sa pa) (23, 0, 0) = some (.inr (.inr ((.object "java/lang/Object"), wn pa, .inr (fun x => if x < pc then some (25, x, 0) else none)))) := rfl
theorem Ct_d25 {sc : Int32} {pc : Int32} {sa : Int32} {pa : Int32} (h0 : 0 ≤ i ∧ i < pc) : (Ct_d sc pc sa pa) (25, i, 0) = some (.inl (48, [(0, (0, 0, 0)), (0, (0, 0, 0)), (0, (0, 0, 0)), (0, (0, 0, 0)), (0, (0, 0, 0))])) := if_pos ⟨h0, rfl⟩
theorem Ct_d91 {sc : Int32} {pc : Int32} {sa : Int32} {pa : Int32} : (Ct_d sc pc sa pa) (91, 0, 0) = some (.inr (.inr ((.object "java/lang/Object"), 0, .inl 25))) := rfl
theorem Ct_c0 (hP : Ct_P sc pc sa pa) (hA : wok A (Ct_d sc pc sa pa) m) : pm_cls (wput A (Ct_d sc pc sa pa) S h) (A (0, 0, 0)) = some 13 := w_cls hA (Ct_d0)
theorem Ct_k0 {cl : pm_C} {k b c : Nat} {r : List Instr} {ls s : List Value} (hP : Ct_P sc pc sa pa) (hA : wok A (Ct_d sc pc sa pa) m) (h2 : pm_sub 13 c = true) : pm_ev pm_prog cl k b (.checkcast c :: r) ls (.ref (A (0, 0, 0)) :: s) (wput A (Ct_d sc pc sa pa) S h) = pm_ev pm_prog cl k b r ls (.ref (A (0, 0, 0)) :: s) (wput A (Ct_d sc pc sa pa) S h) := pe_checkcast (w_cls hA (Ct_d0)) h2
theorem Ct_g0_0 (hP : Ct_P sc pc sa pa) (hA : wok A (Ct_d sc pc sa pa) m) : pm_gf pm_tab (wput A (Ct_d sc pc sa pa) S h) (A (0, 0, 0)) 13 0 = some (.ref (A (1, 0, 0))) := w_g (f := (2, (1, 0, 0))) hA (Ct_d0) rfl rfl
theorem Ct_g0_1 (hP : Ct_P sc pc sa pa) (hA : wok A (Ct_d sc pc sa pa) m) : pm_gf pm_tab (wput A (Ct_d sc pc sa pa) S h) (A (0, 0, 0)) 13 1 = some (.int (S.1 (0, 0, 0) 1)) := w_g (f := (0, (0, 0, 0))) hA (Ct_d0) rfl rfl
theorem Ct_p0_1 (hP : Ct_P sc pc sa pa) (hA : wok A (Ct_d sc pc sa pa) m) : pm_pf pm_tab (wput A (Ct_d sc pc sa pa) S h) (A (0, 0, 0)) 13 1 0 (.int v) = some (wput A (Ct_d sc pc sa pa) (sz S (0, 0, 0) 1 v) h) := w_p0 (q := (0, 0, 0)) (t := 0) hA (Ct_d0) rfl rfl (Nat.le_of_ble_eq_true rfl)
theorem Ct_g0_2 (hP : Ct_P sc pc sa pa) (hA : wok A (Ct_d sc pc sa pa) m) : pm_gf pm_tab (wput A (Ct_d sc pc sa pa) S h) (A (0, 0, 0)) 13 2 = some (.int (S.1 (0, 0, 0) 2)) := w_g (f := (0, (0, 0, 0))) hA (Ct_d0) rfl rfl
theorem Ct_p0_2 (hP : Ct_P sc pc sa pa) (hA : wok A (Ct_d sc pc sa pa) m) : pm_pf pm_tab (wput A (Ct_d sc pc sa pa) S h) (A (0, 0, 0)) 13 2 0 (.int v) = some (wput A (Ct_d sc pc sa pa) (sz S (0, 0, 0) 2 v) h) := w_p0 (q := (0, 0, 0)) (t := 0) hA (Ct_d0) rfl rfl (Nat.le_of_ble_eq_true rfl)
theorem Ct_g0_3 (hP : Ct_P sc pc sa pa) (hA : wok A (Ct_d sc pc sa pa) m) : pm_gf pm_tab (wput A (Ct_d sc pc sa pa) S h) (A (0, 0, 0)) 13 3 = some (.ref (A (20, 0, 0))) := w_g (f := (2, (20, 0, 0))) hA (Ct_d0) rfl rfl
theorem Ct_g0_4 (hP : Ct_P sc pc sa pa) (hA : wok A (Ct_d sc pc sa pa) m) : pm_gf pm_tab (wput A (Ct_d sc pc sa pa) S h) (A (0, 0, 0)) 13 4 = some (.ref (A (22, 0, 0))) := w_g (f := (2, (22, 0, 0))) hA (Ct_d0) rfl rfl
theorem Ct_g0_5 (hP : Ct_P sc pc sa pa) (hA : wok A (Ct_d sc pc sa pa) m) : pm_gf pm_tab (wput A (Ct_d sc pc sa pa) S h) (A (0, 0, 0)) 13 5 = some (.ref (A (9, 0, 0))) := w_g (f := (2, (9, 0, 0))) hA (Ct_d0) rfl rfl
theorem Ct_g0_6 (hP : Ct_P sc pc sa pa) (hA : wok A (Ct_d sc pc sa pa) m) : pm_gf pm_tab (wput A (Ct_d sc pc sa pa) S h) (A (0, 0, 0)) 13 6 = some (.ref (A (15, 0, 0))) := w_g (f := (2, (15, 0, 0))) hA (Ct_d0) rfl rfl
theorem Ct_g0_7 (hP : Ct_P sc pc sa pa) (hA : wok A (Ct_d sc pc sa pa) m) : pm_gf pm_tab (wput A (Ct_d sc pc sa pa) S h) (A (0, 0, 0)) 13 7 = some (.ref (A (14, 0, 0))) := w_g (f := (2, (14, 0, 0))) hA (Ct_d0) rfl rfl
theorem Ct_g0_8 (hP : Ct_P sc pc sa pa) (hA : wok A (Ct_d sc pc sa pa) m) : pm_gf pm_tab (wput A (Ct_d sc pc sa pa) S h) (A (0, 0, 0)) 13 8 = some (.int (S.1 (0, 0, 0) 8)) := w_g (f := (0, (0, 0, 0))) hA (Ct_d0) rfl rfl
theorem Ct_p0_8 (hP : Ct_P sc pc sa pa) (hA : wok A (Ct_d sc pc sa pa) m) : pm_pf pm_tab (wput A (Ct_d sc pc sa pa) S h) (A (0, 0, 0)) 13 8 0 (.int v) = some (wput A (Ct_d sc pc sa pa) (sz S (0, 0, 0) 8 v) h) := w_p0 (q := (0, 0, 0)) (t := 0) hA (Ct_d0) rfl rfl (Nat.le_of_ble_eq_true rfl)
theorem Ct_g0_9 (hP : Ct_P sc pc sa pa) (hA : wok A (Ct_d sc pc sa pa) m) : pm_gf pm_tab (wput A (Ct_d sc pc sa pa) S h) (A (0, 0, 0)) 13 9 = some (.int (S.1 (0, 0, 0) 9)) := w_g (f := (0, (0, 0, 0))) hA (Ct_d0) rfl rfl
theorem Ct_p0_9 (hP : Ct_P sc pc sa pa) (hA : wok A (Ct_d sc pc sa pa) m) (hv : v = 0 ∨ v = 1) : pm_pf pm_tab (wput A (Ct_d sc pc sa pa) S h) (A (0, 0, 0)) 13 9 2 (.int v) = some (wput A (Ct_d sc pc sa pa) (sz S (0, 0, 0) 9 v) h) := (w_p0 (q := (0, 0, 0)) (t := 2) hA (Ct_d0) rfl rfl (Nat.le_of_ble_eq_true rfl)).trans (if_pos (by rw [pm_ok2]; exact hv))
theorem Ct_c1 (hP : Ct_P sc pc sa pa) (hA : wok A (Ct_d sc pc sa pa) m) : pm_cls (wput A (Ct_d sc pc sa pa) S h) (A (1, 0, 0)) = some 15 := w_cls hA (Ct_d1)
theorem Ct_k1 {cl : pm_C} {k b c : Nat} {r : List Instr} {ls s : List Value} (hP : Ct_P sc pc sa pa) (hA : wok A (Ct_d sc pc sa pa) m) (h2 : pm_sub 15 c = true) : pm_ev pm_prog cl k b (.checkcast c :: r) ls (.ref (A (1, 0, 0)) :: s) (wput A (Ct_d sc pc sa pa) S h) = pm_ev pm_prog cl k b r ls (.ref (A (1, 0, 0)) :: s) (wput A (Ct_d sc pc sa pa) S h) := pe_checkcast (w_cls hA (Ct_d1)) h2
theorem Ct_g1_0 (hP : Ct_P sc pc sa pa) (hA : wok A (Ct_d sc pc sa pa) m) : pm_gf pm_tab (wput A (Ct_d sc pc sa pa) S h) (A (1, 0, 0)) 15 0 = some (.int (S.1 (1, 0, 0) 0)) := w_g (f := (0, (0, 0, 0))) hA (Ct_d1) rfl rfl
theorem Ct_p1_0 (hP : Ct_P sc pc sa pa) (hA : wok A (Ct_d sc pc sa pa) m) : pm_pf pm_tab (wput A (Ct_d sc pc sa pa) S h) (A (1, 0, 0)) 15 0 0 (.int v) = some (wput A (Ct_d sc pc sa pa) (sz S (1, 0, 0) 0 v) h) := w_p0 (q := (0, 0, 0)) (t := 0) hA (Ct_d1) rfl rfl (Nat.le_of_ble_eq_true rfl)
theorem Ct_g1_1 (hP : Ct_P sc pc sa pa) (hA : wok A (Ct_d sc pc sa pa) m) : pm_gf pm_tab (wput A (Ct_d sc pc sa pa) S h) (A (1, 0, 0)) 15 1 = some (.ref (A (2, 0, 0))) := w_g (f := (2, (2, 0, 0))) hA (Ct_d1) rfl rfl
theorem Ct_g1_2 (hP : Ct_P sc pc sa pa) (hA : wok A (Ct_d sc pc sa pa) m) : pm_gf pm_tab (wput A (Ct_d sc pc sa pa) S h) (A (1, 0, 0)) 15 2 = some (.ref (A (4, 0, 0))) := w_g (f := (2, (4, 0, 0))) hA (Ct_d1) rfl rfl
theorem Ct_g1_3 (hP : Ct_P sc pc sa pa) (hA : wok A (Ct_d sc pc sa pa) m) : pm_gf pm_tab (wput A (Ct_d sc pc sa pa) S h) (A (1, 0, 0)) 15 3 = some (.ref (A (6, 0, 0))) := w_g (f := (2, (6, 0, 0))) hA (Ct_d1) rfl rfl
theorem Ct_l2 (hP : Ct_P sc pc sa pa) (hA : wok A (Ct_d sc pc sa pa) m) : pm_len (wput A (Ct_d sc pc sa pa) S h) (A (2, 0, 0)) = some 8 := w_lenR hA (Ct_d2) (by decide)
theorem Ct_r2 (hP : Ct_P sc pc sa pa) (hA : wok A (Ct_d sc pc sa pa) m) (hx : 0 ≤ x ∧ x < 8) : pm_rdR (wput A (Ct_d sc pc sa pa) S h) (A (2, 0, 0)) x = some (some (A (30, x, 0))) := ((w_rdR hA (Ct_d2) rfl (by decide)).trans (if_pos hx)).trans rfl
theorem Ct_l30 (hP : Ct_P sc pc sa pa) (hA : wok A (Ct_d sc pc sa pa) m) (h0 : 0 ≤ i ∧ i < 8) : pm_len (wput A (Ct_d sc pc sa pa) S h) (A (30, i, 0)) = some 17 := w_lenR hA (Ct_d30 h0) (by decide)
theorem Ct_r30 (hP : Ct_P sc pc sa pa) (hA : wok A (Ct_d sc pc sa pa) m) (h0 : 0 ≤ i ∧ i < 8) (hx : 0 ≤ x ∧ x < 17) : pm_rdR (wput A (Ct_d sc pc sa pa) S h) (A (30, i, 0)) x = some (some (A (3, i, x))) := ((w_rdR hA (Ct_d30 h0) rfl (by decide)).trans (if_pos hx)).trans rfl
theorem Ct_l3 (hP : Ct_P sc pc sa pa) (hA : wok A (Ct_d sc pc sa pa) m) (h0 : 0 ≤ i ∧ i < 8) (h1 : 0 ≤ j ∧ j < 17) : pm_len (wput A (Ct_d sc pc sa pa) S h) (A (3, i, j)) = some 17 := w_len hA (Ct_d3 h0 h1) (by decide)
theorem Ct_r3 (hP : Ct_P sc pc sa pa) (hA : wok A (Ct_d sc pc sa pa) m) (h0 : 0 ≤ i ∧ i < 8) (h1 : 0 ≤ j ∧ j < 17) (hx : 0 ≤ x ∧ x < 17) : pm_rd pm_isI (wput A (Ct_d sc pc sa pa) S h) (A (3, i, j)) x = some (S.1 (3, i, j) x) := (w_rd (t := .int) hA (Ct_d3 h0 h1) rfl (by decide) (by decide)).trans (if_pos hx)
theorem Ct_w3 (hP : Ct_P sc pc sa pa) (hA : wok A (Ct_d sc pc sa pa) m) (h0 : 0 ≤ i ∧ i < 8) (h1 : 0 ≤ j ∧ j < 17) (hx : 0 ≤ x ∧ x < 17) : pm_wr pm_wI (wput A (Ct_d sc pc sa pa) S h) (A (3, i, j)) x v = some (wput A (Ct_d sc pc sa pa) (sz S (3, i, j) x v) h) := (w_wr (t := .int) hA (Ct_d3 h0 h1) rfl (by decide) (by decide)).trans (if_pos hx)
theorem Ct_l4 (hP : Ct_P sc pc sa pa) (hA : wok A (Ct_d sc pc sa pa) m) : pm_len (wput A (Ct_d sc pc sa pa) S h) (A (4, 0, 0)) = some 8 := w_lenR hA (Ct_d4) (by decide)
theorem Ct_r4 (hP : Ct_P sc pc sa pa) (hA : wok A (Ct_d sc pc sa pa) m) (hx : 0 ≤ x ∧ x < 8) : pm_rdR (wput A (Ct_d sc pc sa pa) S h) (A (4, 0, 0)) x = some (some (A (31, x, 0))) := ((w_rdR hA (Ct_d4) rfl (by decide)).trans (if_pos hx)).trans rfl
theorem Ct_l31 (hP : Ct_P sc pc sa pa) (hA : wok A (Ct_d sc pc sa pa) m) (h0 : 0 ≤ i ∧ i < 8) : pm_len (wput A (Ct_d sc pc sa pa) S h) (A (31, i, 0)) = some 17 := w_lenR hA (Ct_d31 h0) (by decide)
theorem Ct_r31 (hP : Ct_P sc pc sa pa) (hA : wok A (Ct_d sc pc sa pa) m) (h0 : 0 ≤ i ∧ i < 8) (hx : 0 ≤ x ∧ x < 17) : pm_rdR (wput A (Ct_d sc pc sa pa) S h) (A (31, i, 0)) x = some (some (A (5, i, x))) := ((w_rdR hA (Ct_d31 h0) rfl (by decide)).trans (if_pos hx)).trans rfl
theorem Ct_l5 (hP : Ct_P sc pc sa pa) (hA : wok A (Ct_d sc pc sa pa) m) (h0 : 0 ≤ i ∧ i < 8) (h1 : 0 ≤ j ∧ j < 17) : pm_len (wput A (Ct_d sc pc sa pa) S h) (A (5, i, j)) = some 17 := w_len hA (Ct_d5 h0 h1) (by decide)
theorem Ct_r5 (hP : Ct_P sc pc sa pa) (hA : wok A (Ct_d sc pc sa pa) m) (h0 : 0 ≤ i ∧ i < 8) (h1 : 0 ≤ j ∧ j < 17) (hx : 0 ≤ x ∧ x < 17) : pm_rd pm_isI (wput A (Ct_d sc pc sa pa) S h) (A (5, i, j)) x = some (S.1 (5, i, j) x) := (w_rd (t := .int) hA (Ct_d5 h0 h1) rfl (by decide) (by decide)).trans (if_pos hx)
theorem Ct_w5 (hP : Ct_P sc pc sa pa) (hA : wok A (Ct_d sc pc sa pa) m) (h0 : 0 ≤ i ∧ i < 8) (h1 : 0 ≤ j ∧ j < 17) (hx : 0 ≤ x ∧ x < 17) : pm_wr pm_wI (wput A (Ct_d sc pc sa pa) S h) (A (5, i, j)) x v = some (wput A (Ct_d sc pc sa pa) (sz S (5, i, j) x v) h) := (w_wr (t := .int) hA (Ct_d5 h0 h1) rfl (by decide) (by decide)).trans (if_pos hx)
theorem Ct_l6 (hP : Ct_P sc pc sa pa) (hA : wok A (Ct_d sc pc sa pa) m) : pm_len (wput A (Ct_d sc pc sa pa) S h) (A (6, 0, 0)) = some 8 := w_lenR hA (Ct_d6) (by decide)
theorem Ct_r6 (hP : Ct_P sc pc sa pa) (hA : wok A (Ct_d sc pc sa pa) m) (hx : 0 ≤ x ∧ x < 8) : pm_rdR (wput A (Ct_d sc pc sa pa) S h) (A (6, 0, 0)) x = some (some (A (32, x, 0))) := ((w_rdR hA (Ct_d6) rfl (by decide)).trans (if_pos hx)).trans rfl
theorem Ct_l32 (hP : Ct_P sc pc sa pa) (hA : wok A (Ct_d sc pc sa pa) m) (h0 : 0 ≤ i ∧ i < 8) : pm_len (wput A (Ct_d sc pc sa pa) S h) (A (32, i, 0)) = some 17 := w_lenR hA (Ct_d32 h0) (by decide)
theorem Ct_r32 (hP : Ct_P sc pc sa pa) (hA : wok A (Ct_d sc pc sa pa) m) (h0 : 0 ≤ i ∧ i < 8) (hx : 0 ≤ x ∧ x < 17) : pm_rdR (wput A (Ct_d sc pc sa pa) S h) (A (32, i, 0)) x = some (some (A (7, i, x))) := ((w_rdR hA (Ct_d32 h0) rfl (by decide)).trans (if_pos hx)).trans rfl
theorem Ct_l7 (hP : Ct_P sc pc sa pa) (hA : wok A (Ct_d sc pc sa pa) m) (h0 : 0 ≤ i ∧ i < 8) (h1 : 0 ≤ j ∧ j < 17) : pm_len (wput A (Ct_d sc pc sa pa) S h) (A (7, i, j)) = some 17 := w_len hA (Ct_d7 h0 h1) (by decide)
theorem Ct_r7 (hP : Ct_P sc pc sa pa) (hA : wok A (Ct_d sc pc sa pa) m) (h0 : 0 ≤ i ∧ i < 8) (h1 : 0 ≤ j ∧ j < 17) (hx : 0 ≤ x ∧ x < 17) : pm_rd pm_isB (wput A (Ct_d sc pc sa pa) S h) (A (7, i, j)) x = some (S.1 (7, i, j) x) := (w_rd (t := .byte) hA (Ct_d7 h0 h1) rfl (by decide) (by decide)).trans (if_pos hx)
theorem Ct_w7 (hP : Ct_P sc pc sa pa) (hA : wok A (Ct_d sc pc sa pa) m) (h0 : 0 ≤ i ∧ i < 8) (h1 : 0 ≤ j ∧ j < 17) (hx : 0 ≤ x ∧ x < 17) : pm_wr pm_wB (wput A (Ct_d sc pc sa pa) S h) (A (7, i, j)) x v = some (wput A (Ct_d sc pc sa pa) (sz S (7, i, j) x (vp_nar .byte v)) h) := (w_wr (t := .byte) hA (Ct_d7 h0 h1) rfl (by decide) (by decide)).trans (if_pos hx)
theorem Ct_l9 (hP : Ct_P sc pc sa pa) (hA : wok A (Ct_d sc pc sa pa) m) : pm_len (wput A (Ct_d sc pc sa pa) S h) (A (9, 0, 0)) = some 20 := w_lenR hA (Ct_d9) (by decide)
theorem Ct_r9 (hP : Ct_P sc pc sa pa) (hA : wok A (Ct_d sc pc sa pa) m) (hx : 0 ≤ x ∧ x < 20) : pm_rdR (wput A (Ct_d sc pc sa pa) S h) (A (9, 0, 0)) x = some (some (A (10, x, 0))) := ((w_rdR hA (Ct_d9) rfl (by decide)).trans (if_pos hx)).trans rfl
theorem Ct_c10 (hP : Ct_P sc pc sa pa) (hA : wok A (Ct_d sc pc sa pa) m) (h0 : 0 ≤ i ∧ i < 20) : pm_cls (wput A (Ct_d sc pc sa pa) S h) (A (10, i, 0)) = some 14 := w_cls hA (Ct_d10 h0)
theorem Ct_k10 {cl : pm_C} {k b c : Nat} {r : List Instr} {ls s : List Value} (hP : Ct_P sc pc sa pa) (hA : wok A (Ct_d sc pc sa pa) m) (h0 : 0 ≤ i ∧ i < 20) (h2 : pm_sub 14 c = true) : pm_ev pm_prog cl k b (.checkcast c :: r) ls (.ref (A (10, i, 0)) :: s) (wput A (Ct_d sc pc sa pa) S h) = pm_ev pm_prog cl k b r ls (.ref (A (10, i, 0)) :: s) (wput A (Ct_d sc pc sa pa) S h) := pe_checkcast (w_cls hA (Ct_d10 h0)) h2
theorem Ct_g10_0 (hP : Ct_P sc pc sa pa) (hA : wok A (Ct_d sc pc sa pa) m) (h0 : 0 ≤ i ∧ i < 20) : pm_gf pm_tab (wput A (Ct_d sc pc sa pa) S h) (A (10, i, 0)) 14 0 = some (.int (S.1 (10, i, 0) 0)) := w_g (f := (0, (0, 0, 0))) hA (Ct_d10 h0) rfl rfl
theorem Ct_p10_0 (hP : Ct_P sc pc sa pa) (hA : wok A (Ct_d sc pc sa pa) m) (h0 : 0 ≤ i ∧ i < 20) : pm_pf pm_tab (wput A (Ct_d sc pc sa pa) S h) (A (10, i, 0)) 14 0 0 (.int v) = some (wput A (Ct_d sc pc sa pa) (sz S (10, i, 0) 0 v) h) := w_p0 (q := (0, 0, 0)) (t := 0) hA (Ct_d10 h0) rfl rfl (Nat.le_of_ble_eq_true rfl)
theorem Ct_g10_1 (hP : Ct_P sc pc sa pa) (hA : wok A (Ct_d sc pc sa pa) m) (h0 : 0 ≤ i ∧ i < 20) : pm_gf pm_tab (wput A (Ct_d sc pc sa pa) S h) (A (10, i, 0)) 14 1 = some (.int (S.1 (10, i, 0) 1)) := w_g (f := (0, (0, 0, 0))) hA (Ct_d10 h0) rfl rfl
theorem Ct_p10_1 (hP : Ct_P sc pc sa pa) (hA : wok A (Ct_d sc pc sa pa) m) (h0 : 0 ≤ i ∧ i < 20) : pm_pf pm_tab (wput A (Ct_d sc pc sa pa) S h) (A (10, i, 0)) 14 1 0 (.int v) = some (wput A (Ct_d sc pc sa pa) (sz S (10, i, 0) 1 v) h) := w_p0 (q := (0, 0, 0)) (t := 0) hA (Ct_d10 h0) rfl rfl (Nat.le_of_ble_eq_true rfl)
theorem Ct_g10_2 (hP : Ct_P sc pc sa pa) (hA : wok A (Ct_d sc pc sa pa) m) (h0 : 0 ≤ i ∧ i < 20) : pm_gf pm_tab (wput A (Ct_d sc pc sa pa) S h) (A (10, i, 0)) 14 2 = some (.int (S.1 (10, i, 0) 2)) := w_g (f := (0, (0, 0, 0))) hA (Ct_d10 h0) rfl rfl
theorem Ct_p10_2 (hP : Ct_P sc pc sa pa) (hA : wok A (Ct_d sc pc sa pa) m) (h0 : 0 ≤ i ∧ i < 20) : pm_pf pm_tab (wput A (Ct_d sc pc sa pa) S h) (A (10, i, 0)) 14 2 0 (.int v) = some (wput A (Ct_d sc pc sa pa) (sz S (10, i, 0) 2 v) h) := w_p0 (q := (0, 0, 0)) (t := 0) hA (Ct_d10 h0) rfl rfl (Nat.le_of_ble_eq_true rfl)
theorem Ct_g10_3 (hP : Ct_P sc pc sa pa) (hA : wok A (Ct_d sc pc sa pa) m) (h0 : 0 ≤ i ∧ i < 20) : pm_gf pm_tab (wput A (Ct_d sc pc sa pa) S h) (A (10, i, 0)) 14 3 = some (.int (S.1 (10, i, 0) 3)) := w_g (f := (0, (0, 0, 0))) hA (Ct_d10 h0) rfl rfl
theorem Ct_p10_3 (hP : Ct_P sc pc sa pa) (hA : wok A (Ct_d sc pc sa pa) m) (h0 : 0 ≤ i ∧ i < 20) : pm_pf pm_tab (wput A (Ct_d sc pc sa pa) S h) (A (10, i, 0)) 14 3 0 (.int v) = some (wput A (Ct_d sc pc sa pa) (sz S (10, i, 0) 3 v) h) := w_p0 (q := (0, 0, 0)) (t := 0) hA (Ct_d10 h0) rfl rfl (Nat.le_of_ble_eq_true rfl)
theorem Ct_g10_4 (hP : Ct_P sc pc sa pa) (hA : wok A (Ct_d sc pc sa pa) m) (h0 : 0 ≤ i ∧ i < 20) : pm_gf pm_tab (wput A (Ct_d sc pc sa pa) S h) (A (10, i, 0)) 14 4 = some (.int (S.1 (10, i, 0) 4)) := w_g (f := (0, (0, 0, 0))) hA (Ct_d10 h0) rfl rfl
theorem Ct_p10_4 (hP : Ct_P sc pc sa pa) (hA : wok A (Ct_d sc pc sa pa) m) (h0 : 0 ≤ i ∧ i < 20) : pm_pf pm_tab (wput A (Ct_d sc pc sa pa) S h) (A (10, i, 0)) 14 4 0 (.int v) = some (wput A (Ct_d sc pc sa pa) (sz S (10, i, 0) 4 v) h) := w_p0 (q := (0, 0, 0)) (t := 0) hA (Ct_d10 h0) rfl rfl (Nat.le_of_ble_eq_true rfl)
theorem Ct_g10_5 (hP : Ct_P sc pc sa pa) (hA : wok A (Ct_d sc pc sa pa) m) (h0 : 0 ≤ i ∧ i < 20) : pm_gf pm_tab (wput A (Ct_d sc pc sa pa) S h) (A (10, i, 0)) 14 5 = some (.int (S.1 (10, i, 0) 5)) := w_g (f := (0, (0, 0, 0))) hA (Ct_d10 h0) rfl rfl
theorem Ct_p10_5 (hP : Ct_P sc pc sa pa) (hA : wok A (Ct_d sc pc sa pa) m) (h0 : 0 ≤ i ∧ i < 20) : pm_pf pm_tab (wput A (Ct_d sc pc sa pa) S h) (A (10, i, 0)) 14 5 0 (.int v) = some (wput A (Ct_d sc pc sa pa) (sz S (10, i, 0) 5 v) h) := w_p0 (q := (0, 0, 0)) (t := 0) hA (Ct_d10 h0) rfl rfl (Nat.le_of_ble_eq_true rfl)
theorem Ct_g10_6 (hP : Ct_P sc pc sa pa) (hA : wok A (Ct_d sc pc sa pa) m) (h0 : 0 ≤ i ∧ i < 20) : pm_gf pm_tab (wput A (Ct_d sc pc sa pa) S h) (A (10, i, 0)) 14 6 = some (.int (S.1 (10, i, 0) 6)) := w_g (f := (0, (0, 0, 0))) hA (Ct_d10 h0) rfl rfl
theorem Ct_p10_6 (hP : Ct_P sc pc sa pa) (hA : wok A (Ct_d sc pc sa pa) m) (h0 : 0 ≤ i ∧ i < 20) : pm_pf pm_tab (wput A (Ct_d sc pc sa pa) S h) (A (10, i, 0)) 14 6 0 (.int v) = some (wput A (Ct_d sc pc sa pa) (sz S (10, i, 0) 6 v) h) := w_p0 (q := (0, 0, 0)) (t := 0) hA (Ct_d10 h0) rfl rfl (Nat.le_of_ble_eq_true rfl)
theorem Ct_g10_7 (hP : Ct_P sc pc sa pa) (hA : wok A (Ct_d sc pc sa pa) m) (h0 : 0 ≤ i ∧ i < 20) : pm_gf pm_tab (wput A (Ct_d sc pc sa pa) S h) (A (10, i, 0)) 14 7 = some (.int (S.1 (10, i, 0) 7)) := w_g (f := (0, (0, 0, 0))) hA (Ct_d10 h0) rfl rfl
theorem Ct_p10_7 (hP : Ct_P sc pc sa pa) (hA : wok A (Ct_d sc pc sa pa) m) (h0 : 0 ≤ i ∧ i < 20) : pm_pf pm_tab (wput A (Ct_d sc pc sa pa) S h) (A (10, i, 0)) 14 7 0 (.int v) = some (wput A (Ct_d sc pc sa pa) (sz S (10, i, 0) 7 v) h) := w_p0 (q := (0, 0, 0)) (t := 0) hA (Ct_d10 h0) rfl rfl (Nat.le_of_ble_eq_true rfl)
theorem Ct_g10_8 (hP : Ct_P sc pc sa pa) (hA : wok A (Ct_d sc pc sa pa) m) (h0 : 0 ≤ i ∧ i < 20) : pm_gf pm_tab (wput A (Ct_d sc pc sa pa) S h) (A (10, i, 0)) 14 8 = some (.ref (A (11, i, 0))) := w_g (f := (2, (11, i, 0))) hA (Ct_d10 h0) rfl rfl
theorem Ct_g10_9 (hP : Ct_P sc pc sa pa) (hA : wok A (Ct_d sc pc sa pa) m) (h0 : 0 ≤ i ∧ i < 20) : pm_gf pm_tab (wput A (Ct_d sc pc sa pa) S h) (A (10, i, 0)) 14 9 = some (.ref (A (12, i, 0))) := w_g (f := (2, (12, i, 0))) hA (Ct_d10 h0) rfl rfl
theorem Ct_g10_10 (hP : Ct_P sc pc sa pa) (hA : wok A (Ct_d sc pc sa pa) m) (h0 : 0 ≤ i ∧ i < 20) : pm_gf pm_tab (wput A (Ct_d sc pc sa pa) S h) (A (10, i, 0)) 14 10 = some (.ref (A (13, i, 0))) := w_g (f := (2, (13, i, 0))) hA (Ct_d10 h0) rfl rfl
theorem Ct_l11 (hP : Ct_P sc pc sa pa) (hA : wok A (Ct_d sc pc sa pa) m) (h0 : 0 ≤ i ∧ i < 20) : pm_len (wput A (Ct_d sc pc sa pa) S h) (A (11, i, 0)) = some 512 := w_len hA (Ct_d11 h0) (by decide)
theorem Ct_r11 (hP : Ct_P sc pc sa pa) (hA : wok A (Ct_d sc pc sa pa) m) (h0 : 0 ≤ i ∧ i < 20) (hx : 0 ≤ x ∧ x < 512) : pm_rd pm_isB (wput A (Ct_d sc pc sa pa) S h) (A (11, i, 0)) x = some (S.1 (11, i, 0) x) := (w_rd (t := .byte) hA (Ct_d11 h0) rfl (by decide) (by decide)).trans (if_pos hx)
theorem Ct_w11 (hP : Ct_P sc pc sa pa) (hA : wok A (Ct_d sc pc sa pa) m) (h0 : 0 ≤ i ∧ i < 20) (hx : 0 ≤ x ∧ x < 512) : pm_wr pm_wB (wput A (Ct_d sc pc sa pa) S h) (A (11, i, 0)) x v = some (wput A (Ct_d sc pc sa pa) (sz S (11, i, 0) x (vp_nar .byte v)) h) := (w_wr (t := .byte) hA (Ct_d11 h0) rfl (by decide) (by decide)).trans (if_pos hx)
theorem Ct_l12 (hP : Ct_P sc pc sa pa) (hA : wok A (Ct_d sc pc sa pa) m) (h0 : 0 ≤ i ∧ i < 20) : pm_len (wput A (Ct_d sc pc sa pa) S h) (A (12, i, 0)) = some 1280 := w_len hA (Ct_d12 h0) (by decide)
theorem Ct_r12 (hP : Ct_P sc pc sa pa) (hA : wok A (Ct_d sc pc sa pa) m) (h0 : 0 ≤ i ∧ i < 20) (hx : 0 ≤ x ∧ x < 1280) : pm_rd pm_isB (wput A (Ct_d sc pc sa pa) S h) (A (12, i, 0)) x = some (S.1 (12, i, 0) x) := (w_rd (t := .byte) hA (Ct_d12 h0) rfl (by decide) (by decide)).trans (if_pos hx)
theorem Ct_w12 (hP : Ct_P sc pc sa pa) (hA : wok A (Ct_d sc pc sa pa) m) (h0 : 0 ≤ i ∧ i < 20) (hx : 0 ≤ x ∧ x < 1280) : pm_wr pm_wB (wput A (Ct_d sc pc sa pa) S h) (A (12, i, 0)) x v = some (wput A (Ct_d sc pc sa pa) (sz S (12, i, 0) x (vp_nar .byte v)) h) := (w_wr (t := .byte) hA (Ct_d12 h0) rfl (by decide) (by decide)).trans (if_pos hx)
theorem Ct_l13 (hP : Ct_P sc pc sa pa) (hA : wok A (Ct_d sc pc sa pa) m) (h0 : 0 ≤ i ∧ i < 20) : pm_len (wput A (Ct_d sc pc sa pa) S h) (A (13, i, 0)) = some 1024 := w_len hA (Ct_d13 h0) (by decide)
theorem Ct_r13 (hP : Ct_P sc pc sa pa) (hA : wok A (Ct_d sc pc sa pa) m) (h0 : 0 ≤ i ∧ i < 20) (hx : 0 ≤ x ∧ x < 1024) : pm_rd pm_isB (wput A (Ct_d sc pc sa pa) S h) (A (13, i, 0)) x = some (S.1 (13, i, 0) x) := (w_rd (t := .byte) hA (Ct_d13 h0) rfl (by decide) (by decide)).trans (if_pos hx)
theorem Ct_w13 (hP : Ct_P sc pc sa pa) (hA : wok A (Ct_d sc pc sa pa) m) (h0 : 0 ≤ i ∧ i < 20) (hx : 0 ≤ x ∧ x < 1024) : pm_wr pm_wB (wput A (Ct_d sc pc sa pa) S h) (A (13, i, 0)) x v = some (wput A (Ct_d sc pc sa pa) (sz S (13, i, 0) x (vp_nar .byte v)) h) := (w_wr (t := .byte) hA (Ct_d13 h0) rfl (by decide) (by decide)).trans (if_pos hx)
theorem Ct_l14 (hP : Ct_P sc pc sa pa) (hA : wok A (Ct_d sc pc sa pa) m) : pm_len (wput A (Ct_d sc pc sa pa) S h) (A (14, 0, 0)) = some 8 := w_len hA (Ct_d14) (by decide)
theorem Ct_r14 (hP : Ct_P sc pc sa pa) (hA : wok A (Ct_d sc pc sa pa) m) (hx : 0 ≤ x ∧ x < 8) : pm_rd pm_isI (wput A (Ct_d sc pc sa pa) S h) (A (14, 0, 0)) x = some (S.1 (14, 0, 0) x) := (w_rd (t := .int) hA (Ct_d14) rfl (by decide) (by decide)).trans (if_pos hx)
theorem Ct_w14 (hP : Ct_P sc pc sa pa) (hA : wok A (Ct_d sc pc sa pa) m) (hx : 0 ≤ x ∧ x < 8) : pm_wr pm_wI (wput A (Ct_d sc pc sa pa) S h) (A (14, 0, 0)) x v = some (wput A (Ct_d sc pc sa pa) (sz S (14, 0, 0) x v) h) := (w_wr (t := .int) hA (Ct_d14) rfl (by decide) (by decide)).trans (if_pos hx)
theorem Ct_c15 (hP : Ct_P sc pc sa pa) (hA : wok A (Ct_d sc pc sa pa) m) : pm_cls (wput A (Ct_d sc pc sa pa) S h) (A (15, 0, 0)) = some 14 := w_cls hA (Ct_d15)
theorem Ct_k15 {cl : pm_C} {k b c : Nat} {r : List Instr} {ls s : List Value} (hP : Ct_P sc pc sa pa) (hA : wok A (Ct_d sc pc sa pa) m) (h2 : pm_sub 14 c = true) : pm_ev pm_prog cl k b (.checkcast c :: r) ls (.ref (A (15, 0, 0)) :: s) (wput A (Ct_d sc pc sa pa) S h) = pm_ev pm_prog cl k b r ls (.ref (A (15, 0, 0)) :: s) (wput A (Ct_d sc pc sa pa) S h) := pe_checkcast (w_cls hA (Ct_d15)) h2
theorem Ct_g15_0 (hP : Ct_P sc pc sa pa) (hA : wok A (Ct_d sc pc sa pa) m) : pm_gf pm_tab (wput A (Ct_d sc pc sa pa) S h) (A (15, 0, 0)) 14 0 = some (.int (S.1 (15, 0, 0) 0)) := w_g (f := (0, (0, 0, 0))) hA (Ct_d15) rfl rfl
theorem Ct_p15_0 (hP : Ct_P sc pc sa pa) (hA : wok A (Ct_d sc pc sa pa) m) : pm_pf pm_tab (wput A (Ct_d sc pc sa pa) S h) (A (15, 0, 0)) 14 0 0 (.int v) = some (wput A (Ct_d sc pc sa pa) (sz S (15, 0, 0) 0 v) h) := w_p0 (q := (0, 0, 0)) (t := 0) hA (Ct_d15) rfl rfl (Nat.le_of_ble_eq_true rfl)
theorem Ct_g15_1 (hP : Ct_P sc pc sa pa) (hA : wok A (Ct_d sc pc sa pa) m) : pm_gf pm_tab (wput A (Ct_d sc pc sa pa) S h) (A (15, 0, 0)) 14 1 = some (.int (S.1 (15, 0, 0) 1)) := w_g (f := (0, (0, 0, 0))) hA (Ct_d15) rfl rfl
theorem Ct_p15_1 (hP : Ct_P sc pc sa pa) (hA : wok A (Ct_d sc pc sa pa) m) : pm_pf pm_tab (wput A (Ct_d sc pc sa pa) S h) (A (15, 0, 0)) 14 1 0 (.int v) = some (wput A (Ct_d sc pc sa pa) (sz S (15, 0, 0) 1 v) h) := w_p0 (q := (0, 0, 0)) (t := 0) hA (Ct_d15) rfl rfl (Nat.le_of_ble_eq_true rfl)
theorem Ct_g15_2 (hP : Ct_P sc pc sa pa) (hA : wok A (Ct_d sc pc sa pa) m) : pm_gf pm_tab (wput A (Ct_d sc pc sa pa) S h) (A (15, 0, 0)) 14 2 = some (.int (S.1 (15, 0, 0) 2)) := w_g (f := (0, (0, 0, 0))) hA (Ct_d15) rfl rfl
theorem Ct_p15_2 (hP : Ct_P sc pc sa pa) (hA : wok A (Ct_d sc pc sa pa) m) : pm_pf pm_tab (wput A (Ct_d sc pc sa pa) S h) (A (15, 0, 0)) 14 2 0 (.int v) = some (wput A (Ct_d sc pc sa pa) (sz S (15, 0, 0) 2 v) h) := w_p0 (q := (0, 0, 0)) (t := 0) hA (Ct_d15) rfl rfl (Nat.le_of_ble_eq_true rfl)
theorem Ct_g15_3 (hP : Ct_P sc pc sa pa) (hA : wok A (Ct_d sc pc sa pa) m) : pm_gf pm_tab (wput A (Ct_d sc pc sa pa) S h) (A (15, 0, 0)) 14 3 = some (.int (S.1 (15, 0, 0) 3)) := w_g (f := (0, (0, 0, 0))) hA (Ct_d15) rfl rfl
theorem Ct_p15_3 (hP : Ct_P sc pc sa pa) (hA : wok A (Ct_d sc pc sa pa) m) : pm_pf pm_tab (wput A (Ct_d sc pc sa pa) S h) (A (15, 0, 0)) 14 3 0 (.int v) = some (wput A (Ct_d sc pc sa pa) (sz S (15, 0, 0) 3 v) h) := w_p0 (q := (0, 0, 0)) (t := 0) hA (Ct_d15) rfl rfl (Nat.le_of_ble_eq_true rfl)
theorem Ct_g15_4 (hP : Ct_P sc pc sa pa) (hA : wok A (Ct_d sc pc sa pa) m) : pm_gf pm_tab (wput A (Ct_d sc pc sa pa) S h) (A (15, 0, 0)) 14 4 = some (.int (S.1 (15, 0, 0) 4)) := w_g (f := (0, (0, 0, 0))) hA (Ct_d15) rfl rfl
theorem Ct_p15_4 (hP : Ct_P sc pc sa pa) (hA : wok A (Ct_d sc pc sa pa) m) : pm_pf pm_tab (wput A (Ct_d sc pc sa pa) S h) (A (15, 0, 0)) 14 4 0 (.int v) = some (wput A (Ct_d sc pc sa pa) (sz S (15, 0, 0) 4 v) h) := w_p0 (q := (0, 0, 0)) (t := 0) hA (Ct_d15) rfl rfl (Nat.le_of_ble_eq_true rfl)
theorem Ct_g15_5 (hP : Ct_P sc pc sa pa) (hA : wok A (Ct_d sc pc sa pa) m) : pm_gf pm_tab (wput A (Ct_d sc pc sa pa) S h) (A (15, 0, 0)) 14 5 = some (.int (S.1 (15, 0, 0) 5)) := w_g (f := (0, (0, 0, 0))) hA (Ct_d15) rfl rfl
theorem Ct_p15_5 (hP : Ct_P sc pc sa pa) (hA : wok A (Ct_d sc pc sa pa) m) : pm_pf pm_tab (wput A (Ct_d sc pc sa pa) S h) (A (15, 0, 0)) 14 5 0 (.int v) = some (wput A (Ct_d sc pc sa pa) (sz S (15, 0, 0) 5 v) h) := w_p0 (q := (0, 0, 0)) (t := 0) hA (Ct_d15) rfl rfl (Nat.le_of_ble_eq_true rfl)
theorem Ct_g15_6 (hP : Ct_P sc pc sa pa) (hA : wok A (Ct_d sc pc sa pa) m) : pm_gf pm_tab (wput A (Ct_d sc pc sa pa) S h) (A (15, 0, 0)) 14 6 = some (.int (S.1 (15, 0, 0) 6)) := w_g (f := (0, (0, 0, 0))) hA (Ct_d15) rfl rfl
theorem Ct_p15_6 (hP : Ct_P sc pc sa pa) (hA : wok A (Ct_d sc pc sa pa) m) : pm_pf pm_tab (wput A (Ct_d sc pc sa pa) S h) (A (15, 0, 0)) 14 6 0 (.int v) = some (wput A (Ct_d sc pc sa pa) (sz S (15, 0, 0) 6 v) h) := w_p0 (q := (0, 0, 0)) (t := 0) hA (Ct_d15) rfl rfl (Nat.le_of_ble_eq_true rfl)
theorem Ct_g15_7 (hP : Ct_P sc pc sa pa) (hA : wok A (Ct_d sc pc sa pa) m) : pm_gf pm_tab (wput A (Ct_d sc pc sa pa) S h) (A (15, 0, 0)) 14 7 = some (.int (S.1 (15, 0, 0) 7)) := w_g (f := (0, (0, 0, 0))) hA (Ct_d15) rfl rfl
theorem Ct_p15_7 (hP : Ct_P sc pc sa pa) (hA : wok A (Ct_d sc pc sa pa) m) : pm_pf pm_tab (wput A (Ct_d sc pc sa pa) S h) (A (15, 0, 0)) 14 7 0 (.int v) = some (wput A (Ct_d sc pc sa pa) (sz S (15, 0, 0) 7 v) h) := w_p0 (q := (0, 0, 0)) (t := 0) hA (Ct_d15) rfl rfl (Nat.le_of_ble_eq_true rfl)
theorem Ct_g15_8 (hP : Ct_P sc pc sa pa) (hA : wok A (Ct_d sc pc sa pa) m) : pm_gf pm_tab (wput A (Ct_d sc pc sa pa) S h) (A (15, 0, 0)) 14 8 = some (.ref (A (16, 0, 0))) := w_g (f := (2, (16, 0, 0))) hA (Ct_d15) rfl rfl
theorem Ct_g15_9 (hP : Ct_P sc pc sa pa) (hA : wok A (Ct_d sc pc sa pa) m) : pm_gf pm_tab (wput A (Ct_d sc pc sa pa) S h) (A (15, 0, 0)) 14 9 = some (.ref (A (17, 0, 0))) := w_g (f := (2, (17, 0, 0))) hA (Ct_d15) rfl rfl
theorem Ct_g15_10 (hP : Ct_P sc pc sa pa) (hA : wok A (Ct_d sc pc sa pa) m) : pm_gf pm_tab (wput A (Ct_d sc pc sa pa) S h) (A (15, 0, 0)) 14 10 = some (.ref (A (18, 0, 0))) := w_g (f := (2, (18, 0, 0))) hA (Ct_d15) rfl rfl
theorem Ct_l16 (hP : Ct_P sc pc sa pa) (hA : wok A (Ct_d sc pc sa pa) m) : pm_len (wput A (Ct_d sc pc sa pa) S h) (A (16, 0, 0)) = some 512 := w_len hA (Ct_d16) (by decide)
theorem Ct_r16 (hP : Ct_P sc pc sa pa) (hA : wok A (Ct_d sc pc sa pa) m) (hx : 0 ≤ x ∧ x < 512) : pm_rd pm_isB (wput A (Ct_d sc pc sa pa) S h) (A (16, 0, 0)) x = some (S.1 (16, 0, 0) x) := (w_rd (t := .byte) hA (Ct_d16) rfl (by decide) (by decide)).trans (if_pos hx)
theorem Ct_w16 (hP : Ct_P sc pc sa pa) (hA : wok A (Ct_d sc pc sa pa) m) (hx : 0 ≤ x ∧ x < 512) : pm_wr pm_wB (wput A (Ct_d sc pc sa pa) S h) (A (16, 0, 0)) x v = some (wput A (Ct_d sc pc sa pa) (sz S (16, 0, 0) x (vp_nar .byte v)) h) := (w_wr (t := .byte) hA (Ct_d16) rfl (by decide) (by decide)).trans (if_pos hx)
theorem Ct_l17 (hP : Ct_P sc pc sa pa) (hA : wok A (Ct_d sc pc sa pa) m) : pm_len (wput A (Ct_d sc pc sa pa) S h) (A (17, 0, 0)) = some 1280 := w_len hA (Ct_d17) (by decide)
theorem Ct_r17 (hP : Ct_P sc pc sa pa) (hA : wok A (Ct_d sc pc sa pa) m) (hx : 0 ≤ x ∧ x < 1280) : pm_rd pm_isB (wput A (Ct_d sc pc sa pa) S h) (A (17, 0, 0)) x = some (S.1 (17, 0, 0) x) := (w_rd (t := .byte) hA (Ct_d17) rfl (by decide) (by decide)).trans (if_pos hx)
theorem Ct_w17 (hP : Ct_P sc pc sa pa) (hA : wok A (Ct_d sc pc sa pa) m) (hx : 0 ≤ x ∧ x < 1280) : pm_wr pm_wB (wput A (Ct_d sc pc sa pa) S h) (A (17, 0, 0)) x v = some (wput A (Ct_d sc pc sa pa) (sz S (17, 0, 0) x (vp_nar .byte v)) h) := (w_wr (t := .byte) hA (Ct_d17) rfl (by decide) (by decide)).trans (if_pos hx)
theorem Ct_l18 (hP : Ct_P sc pc sa pa) (hA : wok A (Ct_d sc pc sa pa) m) : pm_len (wput A (Ct_d sc pc sa pa) S h) (A (18, 0, 0)) = some 1024 := w_len hA (Ct_d18) (by decide)
theorem Ct_r18 (hP : Ct_P sc pc sa pa) (hA : wok A (Ct_d sc pc sa pa) m) (hx : 0 ≤ x ∧ x < 1024) : pm_rd pm_isB (wput A (Ct_d sc pc sa pa) S h) (A (18, 0, 0)) x = some (S.1 (18, 0, 0) x) := (w_rd (t := .byte) hA (Ct_d18) rfl (by decide) (by decide)).trans (if_pos hx)
theorem Ct_w18 (hP : Ct_P sc pc sa pa) (hA : wok A (Ct_d sc pc sa pa) m) (hx : 0 ≤ x ∧ x < 1024) : pm_wr pm_wB (wput A (Ct_d sc pc sa pa) S h) (A (18, 0, 0)) x v = some (wput A (Ct_d sc pc sa pa) (sz S (18, 0, 0) x (vp_nar .byte v)) h) := (w_wr (t := .byte) hA (Ct_d18) rfl (by decide) (by decide)).trans (if_pos hx)
theorem Ct_c20 (hP : Ct_P sc pc sa pa) (hA : wok A (Ct_d sc pc sa pa) m) : pm_cls (wput A (Ct_d sc pc sa pa) S h) (A (20, 0, 0)) = some 63 := w_cls hA (Ct_d20)
theorem Ct_k20 {cl : pm_C} {k b c : Nat} {r : List Instr} {ls s : List Value} (hP : Ct_P sc pc sa pa) (hA : wok A (Ct_d sc pc sa pa) m) (h2 : pm_sub 63 c = true) : pm_ev pm_prog cl k b (.checkcast c :: r) ls (.ref (A (20, 0, 0)) :: s) (wput A (Ct_d sc pc sa pa) S h) = pm_ev pm_prog cl k b r ls (.ref (A (20, 0, 0)) :: s) (wput A (Ct_d sc pc sa pa) S h) := pe_checkcast (w_cls hA (Ct_d20)) h2
theorem Ct_g20_0 (hP : Ct_P sc pc sa pa) (hA : wok A (Ct_d sc pc sa pa) m) : pm_gf pm_tab (wput A (Ct_d sc pc sa pa) S h) (A (20, 0, 0)) 63 0 = some (.int (S.1 (20, 0, 0) 0)) := w_g (f := (0, (0, 0, 0))) hA (Ct_d20) rfl rfl
theorem Ct_p20_0 (hP : Ct_P sc pc sa pa) (hA : wok A (Ct_d sc pc sa pa) m) : pm_pf pm_tab (wput A (Ct_d sc pc sa pa) S h) (A (20, 0, 0)) 63 0 0 (.int v) = some (wput A (Ct_d sc pc sa pa) (sz S (20, 0, 0) 0 v) h) := w_p0 (q := (0, 0, 0)) (t := 0) hA (Ct_d20) rfl rfl (Nat.le_of_ble_eq_true rfl)
theorem Ct_g20_1 (hP : Ct_P sc pc sa pa) (hA : wok A (Ct_d sc pc sa pa) m) (hc : 0 < sa) : pm_gf pm_tab (wput A (Ct_d sc pc sa pa) S h) (A (20, 0, 0)) 63 1 = some (.ref (A (21, 0, 0))) := (w_g (f := (2, if 0 < sa then (21, 0, 0) else (91, 0, 0))) hA (Ct_d20) rfl rfl).trans (by rw [if_pos hc]; rfl)
theorem Ct_gE20_1 (hP : Ct_P sc pc sa pa) (hA : wok A (Ct_d sc pc sa pa) m) (hc : ¬ 0 < sa) : pm_gf pm_tab (wput A (Ct_d sc pc sa pa) S h) (A (20, 0, 0)) 63 1 = some (.ref (A (91, 0, 0))) := (w_g (f := (2, if 0 < sa then (21, 0, 0) else (91, 0, 0))) hA (Ct_d20) rfl rfl).trans (by rw [if_neg hc]; rfl)
theorem Ct_g20_2 (hP : Ct_P sc pc sa pa) (hA : wok A (Ct_d sc pc sa pa) m) : pm_gf pm_tab (wput A (Ct_d sc pc sa pa) S h) (A (20, 0, 0)) 63 2 = some (.int (S.1 (20, 0, 0) 2)) := w_g (f := (0, (0, 0, 0))) hA (Ct_d20) rfl rfl
theorem Ct_p20_2 (hP : Ct_P sc pc sa pa) (hA : wok A (Ct_d sc pc sa pa) m) : pm_pf pm_tab (wput A (Ct_d sc pc sa pa) S h) (A (20, 0, 0)) 63 2 0 (.int v) = some (wput A (Ct_d sc pc sa pa) (sz S (20, 0, 0) 2 v) h) := w_p0 (q := (0, 0, 0)) (t := 0) hA (Ct_d20) rfl rfl (Nat.le_of_ble_eq_true rfl)
theorem Ct_l21 (hP : Ct_P sc pc sa pa) (hA : wok A (Ct_d sc pc sa pa) m) : pm_len (wput A (Ct_d sc pc sa pa) S h) (A (21, 0, 0)) = some (wn sa) := w_lenR hA (Ct_d21) (by decide)
theorem Ct_r21 (hP : Ct_P sc pc sa pa) (hA : wok A (Ct_d sc pc sa pa) m) (hx : 0 ≤ x ∧ x < sa) (hn : x < sc) : pm_rdR (wput A (Ct_d sc pc sa pa) S h) (A (21, 0, 0)) x = some (some (A (24, x, 0))) := ((w_rdR hA (Ct_d21) rfl (wn_le _)).trans (if_pos (wn_in (hP.2.2.2.2.1) hx))).trans (congrArg some (congrArg (Option.map A) (if_pos hn)))
theorem Ct_c24 (hP : Ct_P sc pc sa pa) (hA : wok A (Ct_d sc pc sa pa) m) (h0 : 0 ≤ i ∧ i < sc) : pm_cls (wput A (Ct_d sc pc sa pa) S h) (A (24, i, 0)) = some 47 := w_cls hA (Ct_d24 h0)
theorem Ct_k24 {cl : pm_C} {k b c : Nat} {r : List Instr} {ls s : List Value} (hP : Ct_P sc pc sa pa) (hA : wok A (Ct_d sc pc sa pa) m) (h0 : 0 ≤ i ∧ i < sc) (h2 : pm_sub 47 c = true) : pm_ev pm_prog cl k b (.checkcast c :: r) ls (.ref (A (24, i, 0)) :: s) (wput A (Ct_d sc pc sa pa) S h) = pm_ev pm_prog cl k b r ls (.ref (A (24, i, 0)) :: s) (wput A (Ct_d sc pc sa pa) S h) := pe_checkcast (w_cls hA (Ct_d24 h0)) h2
theorem Ct_g24_0 (hP : Ct_P sc pc sa pa) (hA : wok A (Ct_d sc pc sa pa) m) (h0 : 0 ≤ i ∧ i < sc) : pm_gf pm_tab (wput A (Ct_d sc pc sa pa) S h) (A (24, i, 0)) 47 0 = some (.int (S.1 (24, i, 0) 0)) := w_g (f := (0, (0, 0, 0))) hA (Ct_d24 h0) rfl rfl
theorem Ct_p24_0 (hP : Ct_P sc pc sa pa) (hA : wok A (Ct_d sc pc sa pa) m) (h0 : 0 ≤ i ∧ i < sc) : pm_pf pm_tab (wput A (Ct_d sc pc sa pa) S h) (A (24, i, 0)) 47 0 0 (.int v) = some (wput A (Ct_d sc pc sa pa) (sz S (24, i, 0) 0 v) h) := w_p0 (q := (0, 0, 0)) (t := 0) hA (Ct_d24 h0) rfl rfl (Nat.le_of_ble_eq_true rfl)
theorem Ct_g24_1 (hP : Ct_P sc pc sa pa) (hA : wok A (Ct_d sc pc sa pa) m) (h0 : 0 ≤ i ∧ i < sc) : pm_gf pm_tab (wput A (Ct_d sc pc sa pa) S h) (A (24, i, 0)) 47 1 = some (.int (S.1 (24, i, 0) 1)) := w_g (f := (0, (0, 0, 0))) hA (Ct_d24 h0) rfl rfl
theorem Ct_p24_1 (hP : Ct_P sc pc sa pa) (hA : wok A (Ct_d sc pc sa pa) m) (h0 : 0 ≤ i ∧ i < sc) : pm_pf pm_tab (wput A (Ct_d sc pc sa pa) S h) (A (24, i, 0)) 47 1 0 (.int v) = some (wput A (Ct_d sc pc sa pa) (sz S (24, i, 0) 1 v) h) := w_p0 (q := (0, 0, 0)) (t := 0) hA (Ct_d24 h0) rfl rfl (Nat.le_of_ble_eq_true rfl)
theorem Ct_g24_2 (hP : Ct_P sc pc sa pa) (hA : wok A (Ct_d sc pc sa pa) m) (h0 : 0 ≤ i ∧ i < sc) : pm_gf pm_tab (wput A (Ct_d sc pc sa pa) S h) (A (24, i, 0)) 47 2 = some (.int (S.1 (24, i, 0) 2)) := w_g (f := (0, (0, 0, 0))) hA (Ct_d24 h0) rfl rfl
theorem Ct_p24_2 (hP : Ct_P sc pc sa pa) (hA : wok A (Ct_d sc pc sa pa) m) (h0 : 0 ≤ i ∧ i < sc) : pm_pf pm_tab (wput A (Ct_d sc pc sa pa) S h) (A (24, i, 0)) 47 2 0 (.int v) = some (wput A (Ct_d sc pc sa pa) (sz S (24, i, 0) 2 v) h) := w_p0 (q := (0, 0, 0)) (t := 0) hA (Ct_d24 h0) rfl rfl (Nat.le_of_ble_eq_true rfl)
theorem Ct_g24_3 (hP : Ct_P sc pc sa pa) (hA : wok A (Ct_d sc pc sa pa) m) (h0 : 0 ≤ i ∧ i < sc) : pm_gf pm_tab (wput A (Ct_d sc pc sa pa) S h) (A (24, i, 0)) 47 3 = some (.int (S.1 (24, i, 0) 3)) := w_g (f := (0, (0, 0, 0))) hA (Ct_d24 h0) rfl rfl
theorem Ct_p24_3 (hP : Ct_P sc pc sa pa) (hA : wok A (Ct_d sc pc sa pa) m) (h0 : 0 ≤ i ∧ i < sc) : pm_pf pm_tab (wput A (Ct_d sc pc sa pa) S h) (A (24, i, 0)) 47 3 0 (.int v) = some (wput A (Ct_d sc pc sa pa) (sz S (24, i, 0) 3 v) h) := w_p0 (q := (0, 0, 0)) (t := 0) hA (Ct_d24 h0) rfl rfl (Nat.le_of_ble_eq_true rfl)
theorem Ct_g24_4 (hP : Ct_P sc pc sa pa) (hA : wok A (Ct_d sc pc sa pa) m) (h0 : 0 ≤ i ∧ i < sc) : pm_gf pm_tab (wput A (Ct_d sc pc sa pa) S h) (A (24, i, 0)) 47 4 = some (.int (S.1 (24, i, 0) 4)) := w_g (f := (0, (0, 0, 0))) hA (Ct_d24 h0) rfl rfl
theorem Ct_p24_4 (hP : Ct_P sc pc sa pa) (hA : wok A (Ct_d sc pc sa pa) m) (h0 : 0 ≤ i ∧ i < sc) : pm_pf pm_tab (wput A (Ct_d sc pc sa pa) S h) (A (24, i, 0)) 47 4 0 (.int v) = some (wput A (Ct_d sc pc sa pa) (sz S (24, i, 0) 4 v) h) := w_p0 (q := (0, 0, 0)) (t := 0) hA (Ct_d24 h0) rfl rfl (Nat.le_of_ble_eq_true rfl)
theorem Ct_c22 (hP : Ct_P sc pc sa pa) (hA : wok A (Ct_d sc pc sa pa) m) : pm_cls (wput A (Ct_d sc pc sa pa) S h) (A (22, 0, 0)) = some 63 := w_cls hA (Ct_d22)
theorem Ct_k22 {cl : pm_C} {k b c : Nat} {r : List Instr} {ls s : List Value} (hP : Ct_P sc pc sa pa) (hA : wok A (Ct_d sc pc sa pa) m) (h2 : pm_sub 63 c = true) : pm_ev pm_prog cl k b (.checkcast c :: r) ls (.ref (A (22, 0, 0)) :: s) (wput A (Ct_d sc pc sa pa) S h) = pm_ev pm_prog cl k b r ls (.ref (A (22, 0, 0)) :: s) (wput A (Ct_d sc pc sa pa) S h) := pe_checkcast (w_cls hA (Ct_d22)) h2
theorem Ct_g22_0 (hP : Ct_P sc pc sa pa) (hA : wok A (Ct_d sc pc sa pa) m) : pm_gf pm_tab (wput A (Ct_d sc pc sa pa) S h) (A (22, 0, 0)) 63 0 = some (.int (S.1 (22, 0, 0) 0)) := w_g (f := (0, (0, 0, 0))) hA (Ct_d22) rfl rfl
theorem Ct_p22_0 (hP : Ct_P sc pc sa pa) (hA : wok A (Ct_d sc pc sa pa) m) : pm_pf pm_tab (wput A (Ct_d sc pc sa pa) S h) (A (22, 0, 0)) 63 0 0 (.int v) = some (wput A (Ct_d sc pc sa pa) (sz S (22, 0, 0) 0 v) h) := w_p0 (q := (0, 0, 0)) (t := 0) hA (Ct_d22) rfl rfl (Nat.le_of_ble_eq_true rfl)
theorem Ct_g22_1 (hP : Ct_P sc pc sa pa) (hA : wok A (Ct_d sc pc sa pa) m) (hc : 0 < pa) : pm_gf pm_tab (wput A (Ct_d sc pc sa pa) S h) (A (22, 0, 0)) 63 1 = some (.ref (A (23, 0, 0))) := (w_g (f := (2, if 0 < pa then (23, 0, 0) else (91, 0, 0))) hA (Ct_d22) rfl rfl).trans (by rw [if_pos hc]; rfl)
theorem Ct_gE22_1 (hP : Ct_P sc pc sa pa) (hA : wok A (Ct_d sc pc sa pa) m) (hc : ¬ 0 < pa) : pm_gf pm_tab (wput A (Ct_d sc pc sa pa) S h) (A (22, 0, 0)) 63 1 = some (.ref (A (91, 0, 0))) := (w_g (f := (2, if 0 < pa then (23, 0, 0) else (91, 0, 0))) hA (Ct_d22) rfl rfl).trans (by rw [if_neg hc]; rfl)
theorem Ct_g22_2 (hP : Ct_P sc pc sa pa) (hA : wok A (Ct_d sc pc sa pa) m) : pm_gf pm_tab (wput A (Ct_d sc pc sa pa) S h) (A (22, 0, 0)) 63 2 = some (.int (S.1 (22, 0, 0) 2)) := w_g (f := (0, (0, 0, 0))) hA (Ct_d22) rfl rfl
theorem Ct_p22_2 (hP : Ct_P sc pc sa pa) (hA : wok A (Ct_d sc pc sa pa) m) : pm_pf pm_tab (wput A (Ct_d sc pc sa pa) S h) (A (22, 0, 0)) 63 2 0 (.int v) = some (wput A (Ct_d sc pc sa pa) (sz S (22, 0, 0) 2 v) h) := w_p0 (q := (0, 0, 0)) (t := 0) hA (Ct_d22) rfl rfl (Nat.le_of_ble_eq_true rfl)
theorem Ct_l23 (hP : Ct_P sc pc sa pa) (hA : wok A (Ct_d sc pc sa pa) m) : pm_len (wput A (Ct_d sc pc sa pa) S h) (A (23, 0, 0)) = some (wn pa) := w_lenR hA (Ct_d23) (by decide)
theorem Ct_r23 (hP : Ct_P sc pc sa pa) (hA : wok A (Ct_d sc pc sa pa) m) (hx : 0 ≤ x ∧ x < pa) (hn : x < pc) : pm_rdR (wput A (Ct_d sc pc sa pa) S h) (A (23, 0, 0)) x = some (some (A (25, x, 0))) := ((w_rdR hA (Ct_d23) rfl (wn_le _)).trans (if_pos (wn_in (hP.2.2.2.2.2) hx))).trans (congrArg some (congrArg (Option.map A) (if_pos hn)))
theorem Ct_c25 (hP : Ct_P sc pc sa pa) (hA : wok A (Ct_d sc pc sa pa) m) (h0 : 0 ≤ i ∧ i < pc) : pm_cls (wput A (Ct_d sc pc sa pa) S h) (A (25, i, 0)) = some 48 := w_cls hA (Ct_d25 h0)
theorem Ct_k25 {cl : pm_C} {k b c : Nat} {r : List Instr} {ls s : List Value} (hP : Ct_P sc pc sa pa) (hA : wok A (Ct_d sc pc sa pa) m) (h0 : 0 ≤ i ∧ i < pc) (h2 : pm_sub 48 c = true) : pm_ev pm_prog cl k b (.checkcast c :: r) ls (.ref (A (25, i, 0)) :: s) (wput A (Ct_d sc pc sa pa) S h) = pm_ev pm_prog cl k b r ls (.ref (A (25, i, 0)) :: s) (wput A (Ct_d sc pc sa pa) S h) := pe_checkcast (w_cls hA (Ct_d25 h0)) h2
theorem Ct_g25_0 (hP : Ct_P sc pc sa pa) (hA : wok A (Ct_d sc pc sa pa) m) (h0 : 0 ≤ i ∧ i < pc) : pm_gf pm_tab (wput A (Ct_d sc pc sa pa) S h) (A (25, i, 0)) 48 0 = some (.int (S.1 (25, i, 0) 0)) := w_g (f := (0, (0, 0, 0))) hA (Ct_d25 h0) rfl rfl
theorem Ct_p25_0 (hP : Ct_P sc pc sa pa) (hA : wok A (Ct_d sc pc sa pa) m) (h0 : 0 ≤ i ∧ i < pc) : pm_pf pm_tab (wput A (Ct_d sc pc sa pa) S h) (A (25, i, 0)) 48 0 0 (.int v) = some (wput A (Ct_d sc pc sa pa) (sz S (25, i, 0) 0 v) h) := w_p0 (q := (0, 0, 0)) (t := 0) hA (Ct_d25 h0) rfl rfl (Nat.le_of_ble_eq_true rfl)
theorem Ct_g25_1 (hP : Ct_P sc pc sa pa) (hA : wok A (Ct_d sc pc sa pa) m) (h0 : 0 ≤ i ∧ i < pc) : pm_gf pm_tab (wput A (Ct_d sc pc sa pa) S h) (A (25, i, 0)) 48 1 = some (.int (S.1 (25, i, 0) 1)) := w_g (f := (0, (0, 0, 0))) hA (Ct_d25 h0) rfl rfl
theorem Ct_p25_1 (hP : Ct_P sc pc sa pa) (hA : wok A (Ct_d sc pc sa pa) m) (h0 : 0 ≤ i ∧ i < pc) : pm_pf pm_tab (wput A (Ct_d sc pc sa pa) S h) (A (25, i, 0)) 48 1 0 (.int v) = some (wput A (Ct_d sc pc sa pa) (sz S (25, i, 0) 1 v) h) := w_p0 (q := (0, 0, 0)) (t := 0) hA (Ct_d25 h0) rfl rfl (Nat.le_of_ble_eq_true rfl)
theorem Ct_g25_2 (hP : Ct_P sc pc sa pa) (hA : wok A (Ct_d sc pc sa pa) m) (h0 : 0 ≤ i ∧ i < pc) : pm_gf pm_tab (wput A (Ct_d sc pc sa pa) S h) (A (25, i, 0)) 48 2 = some (.int (S.1 (25, i, 0) 2)) := w_g (f := (0, (0, 0, 0))) hA (Ct_d25 h0) rfl rfl
theorem Ct_p25_2 (hP : Ct_P sc pc sa pa) (hA : wok A (Ct_d sc pc sa pa) m) (h0 : 0 ≤ i ∧ i < pc) (hv : v = 0 ∨ v = 1) : pm_pf pm_tab (wput A (Ct_d sc pc sa pa) S h) (A (25, i, 0)) 48 2 2 (.int v) = some (wput A (Ct_d sc pc sa pa) (sz S (25, i, 0) 2 v) h) := (w_p0 (q := (0, 0, 0)) (t := 2) hA (Ct_d25 h0) rfl rfl (Nat.le_of_ble_eq_true rfl)).trans (if_pos (by rw [pm_ok2]; exact hv))
theorem Ct_g25_3 (hP : Ct_P sc pc sa pa) (hA : wok A (Ct_d sc pc sa pa) m) (h0 : 0 ≤ i ∧ i < pc) : pm_gf pm_tab (wput A (Ct_d sc pc sa pa) S h) (A (25, i, 0)) 48 3 = some (.int (S.1 (25, i, 0) 3)) := w_g (f := (0, (0, 0, 0))) hA (Ct_d25 h0) rfl rfl
theorem Ct_p25_3 (hP : Ct_P sc pc sa pa) (hA : wok A (Ct_d sc pc sa pa) m) (h0 : 0 ≤ i ∧ i < pc) : pm_pf pm_tab (wput A (Ct_d sc pc sa pa) S h) (A (25, i, 0)) 48 3 0 (.int v) = some (wput A (Ct_d sc pc sa pa) (sz S (25, i, 0) 3 v) h) := w_p0 (q := (0, 0, 0)) (t := 0) hA (Ct_d25 h0) rfl rfl (Nat.le_of_ble_eq_true rfl)
theorem Ct_g25_4 (hP : Ct_P sc pc sa pa) (hA : wok A (Ct_d sc pc sa pa) m) (h0 : 0 ≤ i ∧ i < pc) : pm_gf pm_tab (wput A (Ct_d sc pc sa pa) S h) (A (25, i, 0)) 48 4 = some (.int (S.1 (25, i, 0) 4)) := w_g (f := (0, (0, 0, 0))) hA (Ct_d25 h0) rfl rfl
theorem Ct_p25_4 (hP : Ct_P sc pc sa pa) (hA : wok A (Ct_d sc pc sa pa) m) (h0 : 0 ≤ i ∧ i < pc) : pm_pf pm_tab (wput A (Ct_d sc pc sa pa) S h) (A (25, i, 0)) 48 4 0 (.int v) = some (wput A (Ct_d sc pc sa pa) (sz S (25, i, 0) 4 v) h) := w_p0 (q := (0, 0, 0)) (t := 0) hA (Ct_d25 h0) rfl rfl (Nat.le_of_ble_eq_true rfl)
theorem Ct_l91 (hP : Ct_P sc pc sa pa) (hA : wok A (Ct_d sc pc sa pa) m) : pm_len (wput A (Ct_d sc pc sa pa) S h) (A (91, 0, 0)) = some 0 := w_lenE hA (Ct_d91) (by decide)
theorem Ct_r91 (hP : Ct_P sc pc sa pa) (hA : wok A (Ct_d sc pc sa pa) m) (hx : 0 ≤ x ∧ x < 0) : pm_rdR (wput A (Ct_d sc pc sa pa) S h) (A (91, 0, 0)) x = some (we A 25 (S.1 (91, 0, 0) x)) := (w_rdE hA (Ct_d91) rfl (by decide)).trans (if_pos hx)
theorem Ct_w91 (hP : Ct_P sc pc sa pa) (hA : wok A (Ct_d sc pc sa pa) m) (hx : 0 ≤ x ∧ x < 0) (hv : 0 ≤ v ∧ v < pc) : pm_wrR pm_tab (wput A (Ct_d sc pc sa pa) S h) (A (91, 0, 0)) x (some (A (25, v, 0))) = some (wput A (Ct_d sc pc sa pa) (sz S (91, 0, 0) x v) h) := w_wrE hA (Ct_d91) rfl (by decide) (we_p (wz_lt hv)).symm (fun b hb => by
    cases hb; rw [show (wput A (Ct_d sc pc sa pa) S h).2.2 (A (25, v, 0)) = _ from wp_at hA (w_some (Ct_d25 hv)), wM_at (Ct_d25 hv)]; rfl) hx
theorem Ct_wN91 (hP : Ct_P sc pc sa pa) (hA : wok A (Ct_d sc pc sa pa) m) (hx : 0 ≤ x ∧ x < 0) : pm_wrR pm_tab (wput A (Ct_d sc pc sa pa) S h) (A (91, 0, 0)) x none = some (wput A (Ct_d sc pc sa pa) (sz S (91, 0, 0) x (-1)) h) := w_wrE hA (Ct_d91) rfl (by decide) we_m1.symm (fun b hb => by cases hb) hx
end
/-- TimberHouse$SheetTrees.near(III)I -/
theorem c833 {d : Nat} {h : pm_H} {x0 : Int32} {x1 : Int32} {x2 : Int32} : pm_call pm_prog (d + 1) 833 [.int x0, .int x1, .int x2] h = pm_ev pm_prog (pm_call pm_prog d) 833 0 b833_0 [.int x0, .int x1, .int x2] [] h := pm_cal (pm_rc0 rfl) rfl rfl rfl
/-- TimberHouse$SheetTrees.near(III)I -/
noncomputable def f833 (x0 : Int32) (x1 : Int32) (x2 : Int32) : Option (Int32) :=
  (f3840 x2 x0).bind fun v1 =>
  (f3841 x1 v1).bind fun v2 =>
  some v2
theorem x833 {h : pm_H} {D : Nat} {x0 : Int32} {x1 : Int32} {x2 : Int32} {r : Int32} (hD : 2 ≤ D) (e : f833 x0 x1 x2 = some r) : pm_call pm_prog D 833 [.int x0, .int x1, .int x2] h = some (Outcome.returned (some (.int r)), h) := by
  obtain ⟨D, rfl⟩ : ∃ D', D = D' + 1 := ⟨D - 1, by omega⟩
  have hD : 1 ≤ D := by omega
  simp only [f833] at e
  rw [c833, b833_0]
  obtain ⟨v1, k1, e⟩ := Option.bind_eq_some_iff.mp e
  try dsimp only at e
  have z1 := fun h => x3840 (D := D) (h := h) (by omega) k1
  obtain ⟨v2, k2, e⟩ := Option.bind_eq_some_iff.mp e
  try dsimp only at e
  have z2 := fun h => x3841 (D := D) (h := h) (by omega) k2
  have e := Option.some.inj e; subst e
  simp -implicitDefEqProofs (disch := first | assumption | exact Nat.le_of_ble_eq_true rfl | decide) only [b833_0, pe_iload1, pe_iload2, pe_iload0, pe_call2, pm_af_ret, pm_af_void, pm_af_thr, pm_prog_1, pm_ob_some, Nat.reduceDiv, Nat.reduceMod, Nat.reduceMul, Nat.reduceAdd, Int.reduceToNat, pm_kill_i, pm_kill_r, pm_kill_n, pm_kill_j, pm_kill_l, pm_kill_d, pm_cats_nil, pm_cats_i, pm_cats_r, pm_cats_n, pm_cats_l, pm_cats_d, sz_1, sz_2, sl_1, sl_2, lc_0, lc_lt, lc_le, li_ne, va_rf, wr_m1, we_m1, pm_kill_w, Int32.reduceOfInt, Int64.reduceOfInt, Int32.reduceOfNat, Int32.reduceLT, Int32.reduceLE, Prod.mk.injEq, Nat.reduceEqDiff, reduceCtorEq, and_true, true_and, and_false, false_and, and_self, ite_true, ite_false, ↓reduceIte, not_true_eq_false, not_false_eq_true, pe_ri, pe_rz, pe_rc, z1, z2]
/-- TimberHouse$SheetTrees.can(Z)V -/
theorem c836 {d : Nat} {h : pm_H} {x0 : Int32} : pm_call pm_prog (d + 1) 836 [.int x0] h = pm_ev pm_prog (pm_call pm_prog d) 836 0 b836_0 [.int x0] [] h := pm_cal (pm_rc0 rfl) rfl rfl rfl
theorem g836_1 {cl : pm_C} {ls st : List Value} {h : pm_H} : pm_go pm_prog cl 836 1 ls st h = pm_ev pm_prog cl 836 1 b836_1 ls st h := pm_go_eq pm_prog cl 836 1 ls st h
theorem t836 {cl : pm_C} {j : Nat} {ls : List Value} {c : Nat} {h : pm_H} : pm_thr pm_prog cl 836 j ls c h = some (.threw c, h) := rfl
/-- TimberHouse$SheetTrees.can(Z)V -/
noncomputable def f836 (x0 : Int32) : Option (Nat ⊕ (Unit)) :=
  if x0 = 0 then
    some (.inl 71)
  else
    some (.inr ())
theorem x836 {h : pm_H} {D : Nat} {x0 : Int32} {r : Nat ⊕ (Unit)} (hD : 1 ≤ D) (e : f836 x0 = some r) : pm_call pm_prog D 836 [.int x0] h = some (match (generalizing := false) r with | .inl c => (Outcome.threw c, (pm_new h 6 (.inr (c, [])))) | .inr _ => (Outcome.returned none, h)) := by
  obtain ⟨D, rfl⟩ : ∃ D', D = D' + 1 := ⟨D - 1, by omega⟩
  have hD : 0 ≤ D := by omega
  simp only [f836] at e
  rw [c836, b836_0]
  by_cases k1 : x0 = 0
  · rw [if_pos k1] at e
    have e := Option.some.inj e; subst e
    simp -implicitDefEqProofs (disch := first | assumption | exact Nat.le_of_ble_eq_true rfl | decide) only [b836_0, g836_1, b836_1, pe_iload0, pe_if_ne, pe_return, pm_prog_1, pm_ob_some, Nat.reduceDiv, Nat.reduceMod, Nat.reduceMul, Nat.reduceAdd, Int.reduceToNat, pm_kill_i, pm_kill_r, pm_kill_n, pm_kill_j, pm_kill_l, pm_kill_d, pm_cats_nil, pm_cats_i, pm_cats_r, pm_cats_n, pm_cats_l, pm_cats_d, sz_1, sz_2, sl_1, sl_2, lc_0, lc_lt, lc_le, li_ne, va_rf, wr_m1, we_m1, pm_kill_w, Int32.reduceOfInt, Int64.reduceOfInt, Int32.reduceOfNat, Int32.reduceLT, Int32.reduceLE, Prod.mk.injEq, Nat.reduceEqDiff, reduceCtorEq, and_true, true_and, and_false, false_and, and_self, ite_true, ite_false, ↓reduceIte, not_true_eq_false, not_false_eq_true, pe_ri, pe_rz, pe_rc, p_throw, t836, eq_true k1]
  · rw [if_neg k1] at e
    have e := Option.some.inj e; subst e
    simp -implicitDefEqProofs (disch := first | assumption | exact Nat.le_of_ble_eq_true rfl | decide) only [b836_0, g836_1, b836_1, pe_iload0, pe_if_ne, pe_return, pm_prog_1, pm_ob_some, Nat.reduceDiv, Nat.reduceMod, Nat.reduceMul, Nat.reduceAdd, Int.reduceToNat, pm_kill_i, pm_kill_r, pm_kill_n, pm_kill_j, pm_kill_l, pm_kill_d, pm_cats_nil, pm_cats_i, pm_cats_r, pm_cats_n, pm_cats_l, pm_cats_d, sz_1, sz_2, sl_1, sl_2, lc_0, lc_lt, lc_le, li_ne, va_rf, wr_m1, we_m1, pm_kill_w, Int32.reduceOfInt, Int64.reduceOfInt, Int32.reduceOfNat, Int32.reduceLT, Int32.reduceLE, Prod.mk.injEq, Nat.reduceEqDiff, reduceCtorEq, and_true, true_and, and_false, false_and, and_self, ite_true, ite_false, ↓reduceIte, not_true_eq_false, not_false_eq_true, pe_ri, pe_rz, pe_rc, p_throw, t836, eq_false k1]
/-- TimberHouse$SheetTrees.inside(II)V -/
theorem c837 {d : Nat} {h : pm_H} {x0 : Int32} {x1 : Int32} : pm_call pm_prog (d + 1) 837 [.int x0, .int x1] h = pm_ev pm_prog (pm_call pm_prog d) 837 0 b837_0 [.int x0, .int x1] [] h := pm_cal (pm_rc0 rfl) rfl rfl rfl
theorem g837_1 {cl : pm_C} {ls st : List Value} {h : pm_H} : pm_go pm_prog cl 837 1 ls st h = pm_ev pm_prog cl 837 1 b837_1 ls st h := pm_go_eq pm_prog cl 837 1 ls st h
theorem g837_2 {cl : pm_C} {ls st : List Value} {h : pm_H} : pm_go pm_prog cl 837 2 ls st h = pm_ev pm_prog cl 837 2 b837_2 ls st h := pm_go_eq pm_prog cl 837 2 ls st h
theorem t837 {cl : pm_C} {j : Nat} {ls : List Value} {c : Nat} {h : pm_H} : pm_thr pm_prog cl 837 j ls c h = some (.threw c, h) := rfl
/-- TimberHouse$SheetTrees.inside(II)V -/
noncomputable def f837 (x0 : Int32) (x1 : Int32) : Option (Nat ⊕ (Unit)) :=
  if x0 < 0 then
    some (.inl 67)
  else
    if x0 < x1 then
      some (.inr ())
    else
      some (.inl 67)
theorem x837 {h : pm_H} {D : Nat} {x0 : Int32} {x1 : Int32} {r : Nat ⊕ (Unit)} (hD : 1 ≤ D) (e : f837 x0 x1 = some r) : pm_call pm_prog D 837 [.int x0, .int x1] h = some (match (generalizing := false) r with | .inl c => (Outcome.threw c, (pm_new h 6 (.inr (c, [])))) | .inr _ => (Outcome.returned none, h)) := by
  obtain ⟨D, rfl⟩ : ∃ D', D = D' + 1 := ⟨D - 1, by omega⟩
  have hD : 0 ≤ D := by omega
  simp only [f837] at e
  rw [c837, b837_0]
  by_cases k1 : x0 < 0
  · rw [if_pos k1] at e
    have e := Option.some.inj e; subst e
    simp -implicitDefEqProofs (disch := first | assumption | exact Nat.le_of_ble_eq_true rfl | decide) only [b837_0, g837_1, b837_1, g837_2, b837_2, pe_iload0, pe_if_lt, pe_iload1, pe_icmp_lt, pe_goto_w, pe_return, pm_prog_1, pm_ob_some, Nat.reduceDiv, Nat.reduceMod, Nat.reduceMul, Nat.reduceAdd, Int.reduceToNat, pm_kill_i, pm_kill_r, pm_kill_n, pm_kill_j, pm_kill_l, pm_kill_d, pm_cats_nil, pm_cats_i, pm_cats_r, pm_cats_n, pm_cats_l, pm_cats_d, sz_1, sz_2, sl_1, sl_2, lc_0, lc_lt, lc_le, li_ne, va_rf, wr_m1, we_m1, pm_kill_w, Int32.reduceOfInt, Int64.reduceOfInt, Int32.reduceOfNat, Int32.reduceLT, Int32.reduceLE, Prod.mk.injEq, Nat.reduceEqDiff, reduceCtorEq, and_true, true_and, and_false, false_and, and_self, ite_true, ite_false, ↓reduceIte, not_true_eq_false, not_false_eq_true, pe_ri, pe_rz, pe_rc, p_throw, t837, eq_true k1]
  · rw [if_neg k1] at e
    by_cases k2 : x0 < x1
    · rw [if_pos k2] at e
      have e := Option.some.inj e; subst e
      simp -implicitDefEqProofs (disch := first | assumption | exact Nat.le_of_ble_eq_true rfl | decide) only [b837_0, g837_1, b837_1, g837_2, b837_2, pe_iload0, pe_if_lt, pe_iload1, pe_icmp_lt, pe_goto_w, pe_return, pm_prog_1, pm_ob_some, Nat.reduceDiv, Nat.reduceMod, Nat.reduceMul, Nat.reduceAdd, Int.reduceToNat, pm_kill_i, pm_kill_r, pm_kill_n, pm_kill_j, pm_kill_l, pm_kill_d, pm_cats_nil, pm_cats_i, pm_cats_r, pm_cats_n, pm_cats_l, pm_cats_d, sz_1, sz_2, sl_1, sl_2, lc_0, lc_lt, lc_le, li_ne, va_rf, wr_m1, we_m1, pm_kill_w, Int32.reduceOfInt, Int64.reduceOfInt, Int32.reduceOfNat, Int32.reduceLT, Int32.reduceLE, Prod.mk.injEq, Nat.reduceEqDiff, reduceCtorEq, and_true, true_and, and_false, false_and, and_self, ite_true, ite_false, ↓reduceIte, not_true_eq_false, not_false_eq_true, pe_ri, pe_rz, pe_rc, p_throw, t837, eq_false k1, eq_true k2]
    · rw [if_neg k2] at e
      have e := Option.some.inj e; subst e
      simp -implicitDefEqProofs (disch := first | assumption | exact Nat.le_of_ble_eq_true rfl | decide) only [b837_0, g837_1, b837_1, g837_2, b837_2, pe_iload0, pe_if_lt, pe_iload1, pe_icmp_lt, pe_goto_w, pe_return, pm_prog_1, pm_ob_some, Nat.reduceDiv, Nat.reduceMod, Nat.reduceMul, Nat.reduceAdd, Int.reduceToNat, pm_kill_i, pm_kill_r, pm_kill_n, pm_kill_j, pm_kill_l, pm_kill_d, pm_cats_nil, pm_cats_i, pm_cats_r, pm_cats_n, pm_cats_l, pm_cats_d, sz_1, sz_2, sl_1, sl_2, lc_0, lc_lt, lc_le, li_ne, va_rf, wr_m1, we_m1, pm_kill_w, Int32.reduceOfInt, Int64.reduceOfInt, Int32.reduceOfNat, Int32.reduceLT, Int32.reduceLE, Prod.mk.injEq, Nat.reduceEqDiff, reduceCtorEq, and_true, true_and, and_false, false_and, and_self, ite_true, ite_false, ↓reduceIte, not_true_eq_false, not_false_eq_true, pe_ri, pe_rz, pe_rc, p_throw, t837, eq_false k1, eq_false k2]
/-- TimberHouse$SheetTrees.at(I)LTimberHouse$SheetTrees$CutSheet; -/
theorem c835 {d : Nat} {h : pm_H} {a : Nat} {x0 : Int32} (hc : pm_cls h a = some 13) : pm_call pm_prog (d + 1) 835 [.ref a, .int x0] h = pm_ev pm_prog (pm_call pm_prog d) 835 0 b835_0 [.ref a, .int x0] [] h := pm_cal (pm_rc1 hc rfl) rfl rfl rfl
theorem t835 {cl : pm_C} {j : Nat} {ls : List Value} {c : Nat} {h : pm_H} : pm_thr pm_prog cl 835 j ls c h = some (.threw c, h) := rfl
/-- TimberHouse$SheetTrees.at(I)LTimberHouse$SheetTrees$CutSheet; -/
noncomputable def f835 (sc : Int32) (pc : Int32) (sa : Int32) (pa : Int32) (S : wS) (x1 : Int32) : Option (Nat ⊕ (Int32)) :=
  (f836 (S.1 (0, 0, 0) 9)).bind fun r => match r with
  | .inl c2 =>
    some (.inl c2)
  | .inr _ =>
  (f837 x1 (S.1 (0, 0, 0) 8)).bind fun r => match r with
  | .inl c1 =>
    some (.inl c1)
  | .inr _ =>
  if 0 ≤ x1 ∧ x1 < 20 then
    some (.inr x1)
  else none
theorem x835 {sc : Int32} {pc : Int32} {sa : Int32} {pa : Int32} {A : wK → Nat} {h : pm_H} {D : Nat} {S : wS} {x1 : Int32} {r : Nat ⊕ (Int32)} (hP : Ct_P sc pc sa pa) (hA : wok A (Ct_d sc pc sa pa) h.1) (hD : 2 ≤ D) (e : f835 sc pc sa pa S x1 = some r) : pm_call pm_prog D 835 [.ref (A (0, 0, 0)), .int x1] (wput A (Ct_d sc pc sa pa) S h) = some (match (generalizing := false) r with | .inl c => (Outcome.threw c, (wput A (Ct_d sc pc sa pa) S (pm_new h 6 (.inr (c, []))))) | .inr w0 => (Outcome.returned (some (.ref (A (10, w0, 0)))), (wput A (Ct_d sc pc sa pa) S h))) := by
  obtain ⟨D, rfl⟩ : ∃ D', D = D' + 1 := ⟨D - 1, by omega⟩
  have hD : 1 ≤ D := by omega
  simp only [f835] at e
  rw [c835 (Ct_c0 hP hA), b835_0]
  obtain ⟨r, k1, e⟩ := Option.bind_eq_some_iff.mp e
  have z1 := fun h => x836 (D := D) (h := h) (by omega) k1
  rcases r with c2 | _
  · dsimp only at e z1
    have e := Option.some.inj e; subst e
    simp -implicitDefEqProofs (disch := first | assumption | exact Nat.le_of_ble_eq_true rfl | decide) only [b835_0, pe_aload0, pe_getfield, pe_call1, pm_af_ret, pm_af_void, pm_af_thr, pe_iload1, pe_call2, pe_aaload, pe_areturn, pm_prog_1, pm_ob_some, Nat.reduceDiv, Nat.reduceMod, Nat.reduceMul, Nat.reduceAdd, Int.reduceToNat, pm_kill_i, pm_kill_r, pm_kill_n, pm_kill_j, pm_kill_l, pm_kill_d, pm_cats_nil, pm_cats_i, pm_cats_r, pm_cats_n, pm_cats_l, pm_cats_d, sz_1, sz_2, sl_1, sl_2, lc_0, lc_lt, lc_le, li_ne, va_rf, wr_m1, we_m1, pm_kill_w, Int32.reduceOfInt, Int64.reduceOfInt, Int32.reduceOfNat, Int32.reduceLT, Int32.reduceLE, Prod.mk.injEq, Nat.reduceEqDiff, reduceCtorEq, and_true, true_and, and_false, false_and, and_self, ite_true, ite_false, ↓reduceIte, not_true_eq_false, not_false_eq_true, pe_ri, pe_rz, pe_rc, p_throw, t835, w_junk hA, Ct_g0_5 hP hA, Ct_g0_8 hP hA, Ct_g0_9 hP hA, Ct_r9 hP hA, z1]
  · dsimp only at e z1
    obtain ⟨r, k2, e⟩ := Option.bind_eq_some_iff.mp e
    have z2 := fun h => x837 (D := D) (h := h) (by omega) k2
    rcases r with c1 | _
    · dsimp only at e z2
      have e := Option.some.inj e; subst e
      simp -implicitDefEqProofs (disch := first | assumption | exact Nat.le_of_ble_eq_true rfl | decide) only [b835_0, pe_aload0, pe_getfield, pe_call1, pm_af_ret, pm_af_void, pm_af_thr, pe_iload1, pe_call2, pe_aaload, pe_areturn, pm_prog_1, pm_ob_some, Nat.reduceDiv, Nat.reduceMod, Nat.reduceMul, Nat.reduceAdd, Int.reduceToNat, pm_kill_i, pm_kill_r, pm_kill_n, pm_kill_j, pm_kill_l, pm_kill_d, pm_cats_nil, pm_cats_i, pm_cats_r, pm_cats_n, pm_cats_l, pm_cats_d, sz_1, sz_2, sl_1, sl_2, lc_0, lc_lt, lc_le, li_ne, va_rf, wr_m1, we_m1, pm_kill_w, Int32.reduceOfInt, Int64.reduceOfInt, Int32.reduceOfNat, Int32.reduceLT, Int32.reduceLE, Prod.mk.injEq, Nat.reduceEqDiff, reduceCtorEq, and_true, true_and, and_false, false_and, and_self, ite_true, ite_false, ↓reduceIte, not_true_eq_false, not_false_eq_true, pe_ri, pe_rz, pe_rc, p_throw, t835, w_junk hA, Ct_g0_5 hP hA, Ct_g0_8 hP hA, Ct_g0_9 hP hA, Ct_r9 hP hA, z1, z2]
    · dsimp only at e z2
      by_cases k3 : 0 ≤ x1 ∧ x1 < 20
      · rw [if_pos k3] at e
        have e := Option.some.inj e; subst e
        simp -implicitDefEqProofs (disch := first | assumption | exact Nat.le_of_ble_eq_true rfl | decide) only [b835_0, pe_aload0, pe_getfield, pe_call1, pm_af_ret, pm_af_void, pm_af_thr, pe_iload1, pe_call2, pe_aaload, pe_areturn, pm_prog_1, pm_ob_some, Nat.reduceDiv, Nat.reduceMod, Nat.reduceMul, Nat.reduceAdd, Int.reduceToNat, pm_kill_i, pm_kill_r, pm_kill_n, pm_kill_j, pm_kill_l, pm_kill_d, pm_cats_nil, pm_cats_i, pm_cats_r, pm_cats_n, pm_cats_l, pm_cats_d, sz_1, sz_2, sl_1, sl_2, lc_0, lc_lt, lc_le, li_ne, va_rf, wr_m1, we_m1, pm_kill_w, Int32.reduceOfInt, Int64.reduceOfInt, Int32.reduceOfNat, Int32.reduceLT, Int32.reduceLE, Prod.mk.injEq, Nat.reduceEqDiff, reduceCtorEq, and_true, true_and, and_false, false_and, and_self, ite_true, ite_false, ↓reduceIte, not_true_eq_false, not_false_eq_true, pe_ri, pe_rz, pe_rc, p_throw, t835, w_junk hA, Ct_g0_5 hP hA, Ct_g0_8 hP hA, Ct_g0_9 hP hA, Ct_r9 hP hA, z1, z2]
      · rw [if_neg k3] at e; cases e
/-- TimberHouse$SheetTrees$CutSheet.isLike(LTimberHouse$SheetTrees$CutSheet;)Z -/
theorem c897 {d : Nat} {h : pm_H} {a : Nat} {r0 : Nat} (hc : pm_cls h a = some 14) : pm_call pm_prog (d + 1) 897 [.ref a, .ref r0] h = pm_ev pm_prog (pm_call pm_prog d) 897 0 b897_0 [.ref a, .ref r0, pm_junk, pm_junk] [] h := pm_cal (pm_rc1 hc rfl) rfl rfl rfl
theorem g897_1 {cl : pm_C} {ls st : List Value} {h : pm_H} : pm_go pm_prog cl 897 1 ls st h = pm_ev pm_prog cl 897 1 b897_1 ls st h := pm_go_eq pm_prog cl 897 1 ls st h
theorem g897_2 {cl : pm_C} {ls st : List Value} {h : pm_H} : pm_go pm_prog cl 897 2 ls st h = pm_ev pm_prog cl 897 2 b897_2 ls st h := pm_go_eq pm_prog cl 897 2 ls st h
theorem g897_3 {cl : pm_C} {ls st : List Value} {h : pm_H} : pm_go pm_prog cl 897 3 ls st h = pm_ev pm_prog cl 897 3 b897_3 ls st h := pm_go_eq pm_prog cl 897 3 ls st h
theorem g897_4 {cl : pm_C} {ls st : List Value} {h : pm_H} : pm_go pm_prog cl 897 4 ls st h = pm_ev pm_prog cl 897 4 b897_4 ls st h := pm_go_eq pm_prog cl 897 4 ls st h
theorem g897_5 {cl : pm_C} {ls st : List Value} {h : pm_H} : pm_go pm_prog cl 897 5 ls st h = pm_ev pm_prog cl 897 5 b897_5 ls st h := pm_go_eq pm_prog cl 897 5 ls st h
theorem g897_6 {cl : pm_C} {ls st : List Value} {h : pm_H} : pm_go pm_prog cl 897 6 ls st h = pm_ev pm_prog cl 897 6 b897_6 ls st h := pm_go_eq pm_prog cl 897 6 ls st h
noncomputable def f897_b3 (sc : Int32) (pc : Int32) (sa : Int32) (pa : Int32) (S : wS) : Int32 × Int32 × Int32 × Int32 → Option ((Int32 × Int32 × Int32 × Int32) ⊕ ((Int32))) := fun (x0i, x1i, x2, x3) =>
  if 0 ≤ x0i ∧ x0i < 20 then
    if 0 ≤ x1i ∧ x1i < 20 then
      if x3 < (S.1 (10, x0i, 0) 7) then
        if x2 = 0 then
          some (.inr x2)
        else
          if 0 ≤ x3 ∧ x3 < 512 then
            if (S.1 (11, x0i, 0) x3) = (S.1 (11, x1i, 0) x3) then
              some (.inl (x0i, x1i, 1, (x3 + 1)))
            else
              some (.inl (x0i, x1i, 0, (x3 + 1)))
          else none
      else
        some (.inr x2)
    else none
  else none
noncomputable def f897_2 (sc : Int32) (pc : Int32) (sa : Int32) (pa : Int32) (S : wS) (x0i : Int32) (x1i : Int32) (y0 : Int32) : Option (Int32) :=
  if 0 ≤ x0i ∧ x0i < 20 then
    if 0 ≤ x1i ∧ x1i < 20 then
      (lp (f897_b3 sc pc sa pa S) FU (x0i, x1i, y0, 0)).bind fun v1 =>
      if v1 = 0 ∨ v1 = 1 then
        some v1
      else none
    else none
  else none
/-- TimberHouse$SheetTrees$CutSheet.isLike(LTimberHouse$SheetTrees$CutSheet;)Z -/
noncomputable def f897 (sc : Int32) (pc : Int32) (sa : Int32) (pa : Int32) (S : wS) (x0i : Int32) (x1i : Int32) : Option (Int32) :=
  if 0 ≤ x0i ∧ x0i < 20 then
    if 0 ≤ x1i ∧ x1i < 20 then
      if (S.1 (10, x0i, 0) 0) = (S.1 (10, x1i, 0) 0) then
        if (S.1 (10, x0i, 0) 1) = (S.1 (10, x1i, 0) 1) then
          if (S.1 (10, x0i, 0) 7) = (S.1 (10, x1i, 0) 7) then
            f897_2 sc pc sa pa S x0i x1i 1
          else
            f897_2 sc pc sa pa S x0i x1i 0
        else
          f897_2 sc pc sa pa S x0i x1i 0
      else
        f897_2 sc pc sa pa S x0i x1i 0
    else none
  else none
def go897_3 (sc : Int32) (pc : Int32) (sa : Int32) (pa : Int32) (A : wK → Nat) (h : pm_H) (D : Nat) (R : Outcome × pm_H) (S : wS) : Int32 × Int32 × Int32 × Int32 → Prop := fun (x0i, x1i, x2, x3) => pm_go pm_prog (pm_call pm_prog D) 897 3 [.ref (A (10, x0i, 0)), .ref (A (10, x1i, 0)), .int x2, .int x3] [] (wput A (Ct_d sc pc sa pa) S h) = some R
def ex897_3 (sc : Int32) (pc : Int32) (sa : Int32) (pa : Int32) (A : wK → Nat) (h : pm_H) (D : Nat) (R : Outcome × pm_H) (S : wS) : (Int32) → Prop := fun x2 => ∀ q0 q1 q3 : Value, pm_go pm_prog (pm_call pm_prog D) 897 6 [q0, q1, .int x2, q3] [] (wput A (Ct_d sc pc sa pa) S h) = some R
theorem y897_b3 {sc : Int32} {pc : Int32} {sa : Int32} {pa : Int32} {A : wK → Nat} {h : pm_H} {D : Nat} {R : Outcome × pm_H} {S : wS} (hP : Ct_P sc pc sa pa) (hA : wok A (Ct_d sc pc sa pa) h.1) (hD : 0 ≤ D) (a : Int32 × Int32 × Int32 × Int32) (r : (Int32 × Int32 × Int32 × Int32) ⊕ ((Int32))) (e : f897_b3 sc pc sa pa S a = some r) (hc : Sum.elim (go897_3 sc pc sa pa A h D R S) (ex897_3 sc pc sa pa A h D R S) r) : go897_3 sc pc sa pa A h D R S a := by
  obtain ⟨x0i, x1i, x2, x3⟩ := a
  dsimp only [go897_3]
  simp only [f897_b3] at e
  rw [g897_3, b897_3]
  by_cases k1 : 0 ≤ x0i ∧ x0i < 20
  · rw [if_pos k1] at e
    by_cases k2 : 0 ≤ x1i ∧ x1i < 20
    · rw [if_pos k2] at e
      by_cases k3 : x3 < (S.1 (10, x0i, 0) 7)
      · rw [if_pos k3] at e
        by_cases k4 : x2 = 0
        · rw [if_pos k4] at e
          have e := Option.some.inj e; subst e
          dsimp only [Sum.elim_inr, ex897_3] at hc
          simp -implicitDefEqProofs (disch := first | assumption | exact Nat.le_of_ble_eq_true rfl | decide) only [b897_0, g897_1, b897_1, g897_4, b897_4, g897_5, b897_5, g897_6, b897_6, pe_aload0, pe_getfield, pe_aload1, pe_icmp_ne, pe_sipush, pe_goto, pe_goto_w, pe_istore2, pe_istore3, pe_iload3, pe_icmp_ge, pe_iload2, pe_if_eq, pe_baload, pe_iinc3, pm_prog_1, pm_ob_some, Nat.reduceDiv, Nat.reduceMod, Nat.reduceMul, Nat.reduceAdd, Int.reduceToNat, pm_kill_i, pm_kill_r, pm_kill_n, pm_kill_j, pm_kill_l, pm_kill_d, pm_cats_nil, pm_cats_i, pm_cats_r, pm_cats_n, pm_cats_l, pm_cats_d, sz_1, sz_2, sl_1, sl_2, lc_0, lc_lt, lc_le, li_ne, va_rf, wr_m1, we_m1, pm_kill_w, Int32.reduceOfInt, Int64.reduceOfInt, Int32.reduceOfNat, Int32.reduceLT, Int32.reduceLE, Prod.mk.injEq, Nat.reduceEqDiff, reduceCtorEq, and_true, true_and, and_false, false_and, and_self, ite_true, ite_false, ↓reduceIte, not_true_eq_false, not_false_eq_true, pe_ri, pe_rz, pe_rc, Ct_g10_0 hP hA, Ct_g10_1 hP hA, Ct_g10_7 hP hA, Ct_g10_8 hP hA, Ct_r11 hP hA, eq_true k3, eq_true k4, hc]
        · rw [if_neg k4] at e
          by_cases k5 : 0 ≤ x3 ∧ x3 < 512
          · rw [if_pos k5] at e
            by_cases k6 : (S.1 (11, x0i, 0) x3) = (S.1 (11, x1i, 0) x3)
            · rw [if_pos k6] at e
              have e := Option.some.inj e; subst e
              dsimp only [Sum.elim_inl, go897_3] at hc
              simp -implicitDefEqProofs (disch := first | assumption | exact Nat.le_of_ble_eq_true rfl | decide) only [b897_0, g897_1, b897_1, g897_4, b897_4, g897_5, b897_5, g897_6, b897_6, pe_aload0, pe_getfield, pe_aload1, pe_icmp_ne, pe_sipush, pe_goto, pe_goto_w, pe_istore2, pe_istore3, pe_iload3, pe_icmp_ge, pe_iload2, pe_if_eq, pe_baload, pe_iinc3, pm_prog_1, pm_ob_some, Nat.reduceDiv, Nat.reduceMod, Nat.reduceMul, Nat.reduceAdd, Int.reduceToNat, pm_kill_i, pm_kill_r, pm_kill_n, pm_kill_j, pm_kill_l, pm_kill_d, pm_cats_nil, pm_cats_i, pm_cats_r, pm_cats_n, pm_cats_l, pm_cats_d, sz_1, sz_2, sl_1, sl_2, lc_0, lc_lt, lc_le, li_ne, va_rf, wr_m1, we_m1, pm_kill_w, Int32.reduceOfInt, Int64.reduceOfInt, Int32.reduceOfNat, Int32.reduceLT, Int32.reduceLE, Prod.mk.injEq, Nat.reduceEqDiff, reduceCtorEq, and_true, true_and, and_false, false_and, and_self, ite_true, ite_false, ↓reduceIte, not_true_eq_false, not_false_eq_true, pe_ri, pe_rz, pe_rc, Ct_g10_0 hP hA, Ct_g10_1 hP hA, Ct_g10_7 hP hA, Ct_g10_8 hP hA, Ct_r11 hP hA, eq_true k3, eq_false k4, eq_true k6, hc]
            · rw [if_neg k6] at e
              have e := Option.some.inj e; subst e
              dsimp only [Sum.elim_inl, go897_3] at hc
              simp -implicitDefEqProofs (disch := first | assumption | exact Nat.le_of_ble_eq_true rfl | decide) only [b897_0, g897_1, b897_1, g897_4, b897_4, g897_5, b897_5, g897_6, b897_6, pe_aload0, pe_getfield, pe_aload1, pe_icmp_ne, pe_sipush, pe_goto, pe_goto_w, pe_istore2, pe_istore3, pe_iload3, pe_icmp_ge, pe_iload2, pe_if_eq, pe_baload, pe_iinc3, pm_prog_1, pm_ob_some, Nat.reduceDiv, Nat.reduceMod, Nat.reduceMul, Nat.reduceAdd, Int.reduceToNat, pm_kill_i, pm_kill_r, pm_kill_n, pm_kill_j, pm_kill_l, pm_kill_d, pm_cats_nil, pm_cats_i, pm_cats_r, pm_cats_n, pm_cats_l, pm_cats_d, sz_1, sz_2, sl_1, sl_2, lc_0, lc_lt, lc_le, li_ne, va_rf, wr_m1, we_m1, pm_kill_w, Int32.reduceOfInt, Int64.reduceOfInt, Int32.reduceOfNat, Int32.reduceLT, Int32.reduceLE, Prod.mk.injEq, Nat.reduceEqDiff, reduceCtorEq, and_true, true_and, and_false, false_and, and_self, ite_true, ite_false, ↓reduceIte, not_true_eq_false, not_false_eq_true, pe_ri, pe_rz, pe_rc, Ct_g10_0 hP hA, Ct_g10_1 hP hA, Ct_g10_7 hP hA, Ct_g10_8 hP hA, Ct_r11 hP hA, eq_true k3, eq_false k4, eq_false k6, hc]
          · rw [if_neg k5] at e; cases e
      · rw [if_neg k3] at e
        have e := Option.some.inj e; subst e
        dsimp only [Sum.elim_inr, ex897_3] at hc
        simp -implicitDefEqProofs (disch := first | assumption | exact Nat.le_of_ble_eq_true rfl | decide) only [b897_0, g897_1, b897_1, g897_4, b897_4, g897_5, b897_5, g897_6, b897_6, pe_aload0, pe_getfield, pe_aload1, pe_icmp_ne, pe_sipush, pe_goto, pe_goto_w, pe_istore2, pe_istore3, pe_iload3, pe_icmp_ge, pe_iload2, pe_if_eq, pe_baload, pe_iinc3, pm_prog_1, pm_ob_some, Nat.reduceDiv, Nat.reduceMod, Nat.reduceMul, Nat.reduceAdd, Int.reduceToNat, pm_kill_i, pm_kill_r, pm_kill_n, pm_kill_j, pm_kill_l, pm_kill_d, pm_cats_nil, pm_cats_i, pm_cats_r, pm_cats_n, pm_cats_l, pm_cats_d, sz_1, sz_2, sl_1, sl_2, lc_0, lc_lt, lc_le, li_ne, va_rf, wr_m1, we_m1, pm_kill_w, Int32.reduceOfInt, Int64.reduceOfInt, Int32.reduceOfNat, Int32.reduceLT, Int32.reduceLE, Prod.mk.injEq, Nat.reduceEqDiff, reduceCtorEq, and_true, true_and, and_false, false_and, and_self, ite_true, ite_false, ↓reduceIte, not_true_eq_false, not_false_eq_true, pe_ri, pe_rz, pe_rc, Ct_g10_0 hP hA, Ct_g10_1 hP hA, Ct_g10_7 hP hA, Ct_g10_8 hP hA, Ct_r11 hP hA, eq_false k3, hc]
    · rw [if_neg k2] at e; cases e
  · rw [if_neg k1] at e; cases e
theorem z897_3 {sc : Int32} {pc : Int32} {sa : Int32} {pa : Int32} {A : wK → Nat} {h : pm_H} {D : Nat} {R : Outcome × pm_H} {S : wS} (hP : Ct_P sc pc sa pa) (hA : wok A (Ct_d sc pc sa pa) h.1) (hD : 0 ≤ D) {n : Nat} {a : Int32 × Int32 × Int32 × Int32} {b : (Int32)} (e : lp (f897_b3 sc pc sa pa S) n a = some b) (hx : ex897_3 sc pc sa pa A h D R S b) : go897_3 sc pc sa pa A h D R S a := lp_run (fun a r => y897_b3 hP hA hD a r) n a b e hx
theorem y897_2 {sc : Int32} {pc : Int32} {sa : Int32} {pa : Int32} {A : wK → Nat} {h : pm_H} {D : Nat} {S : wS} {x0i : Int32} {x1i : Int32} {y0 : Int32} {r : Int32} (hP : Ct_P sc pc sa pa) (hA : wok A (Ct_d sc pc sa pa) h.1) (hD : 0 ≤ D) (e : f897_2 sc pc sa pa S x0i x1i y0 = some r) : ∀ q2 q3 : Value, pm_go pm_prog (pm_call pm_prog D) 897 2 [.ref (A (10, x0i, 0)), .ref (A (10, x1i, 0)), q2, q3] [.int y0] (wput A (Ct_d sc pc sa pa) S h) = some (Outcome.returned (some (.int r)), (wput A (Ct_d sc pc sa pa) S h)) := by
  intro q2 q3
  simp only [f897_2] at e
  rw [g897_2, b897_2]
  by_cases k1 : 0 ≤ x0i ∧ x0i < 20
  · rw [if_pos k1] at e
    by_cases k2 : 0 ≤ x1i ∧ x1i < 20
    · rw [if_pos k2] at e
      obtain ⟨v1, k3, e⟩ := Option.bind_eq_some_iff.mp e
      try dsimp only at e
      try simp -implicitDefEqProofs (disch := first | assumption | exact Nat.le_of_ble_eq_true rfl | decide) only [b897_0, g897_1, b897_1, g897_4, b897_4, g897_5, b897_5, g897_6, b897_6, pe_aload0, pe_getfield, pe_aload1, pe_icmp_ne, pe_sipush, pe_goto, pe_goto_w, pe_istore2, pe_istore3, pe_iload3, pe_icmp_ge, pe_iload2, pe_if_eq, pe_baload, pe_iinc3, pm_prog_1, pm_ob_some, Nat.reduceDiv, Nat.reduceMod, Nat.reduceMul, Nat.reduceAdd, Int.reduceToNat, pm_kill_i, pm_kill_r, pm_kill_n, pm_kill_j, pm_kill_l, pm_kill_d, pm_cats_nil, pm_cats_i, pm_cats_r, pm_cats_n, pm_cats_l, pm_cats_d, sz_1, sz_2, sl_1, sl_2, lc_0, lc_lt, lc_le, li_ne, va_rf, wr_m1, we_m1, pm_kill_w, Int32.reduceOfInt, Int64.reduceOfInt, Int32.reduceOfNat, Int32.reduceLT, Int32.reduceLE, Prod.mk.injEq, Nat.reduceEqDiff, reduceCtorEq, and_true, true_and, and_false, false_and, and_self, ite_true, ite_false, ↓reduceIte, not_true_eq_false, not_false_eq_true, pe_ri, pe_rz, pe_rc, Ct_g10_0 hP hA, Ct_g10_1 hP hA, Ct_g10_7 hP hA, Ct_g10_8 hP hA, Ct_r11 hP hA]
      refine z897_3 hP hA hD k3 ?_
      dsimp only [ex897_3]
      intro q0 q1 q3
      by_cases k4 : v1 = 0 ∨ v1 = 1
      · rw [if_pos k4] at e
        have e := Option.some.inj e; subst e
        simp -implicitDefEqProofs (disch := first | assumption | exact Nat.le_of_ble_eq_true rfl | decide) only [b897_0, g897_1, b897_1, g897_4, b897_4, g897_5, b897_5, g897_6, b897_6, pe_aload0, pe_getfield, pe_aload1, pe_icmp_ne, pe_sipush, pe_goto, pe_goto_w, pe_istore2, pe_istore3, pe_iload3, pe_icmp_ge, pe_iload2, pe_if_eq, pe_baload, pe_iinc3, pm_prog_1, pm_ob_some, Nat.reduceDiv, Nat.reduceMod, Nat.reduceMul, Nat.reduceAdd, Int.reduceToNat, pm_kill_i, pm_kill_r, pm_kill_n, pm_kill_j, pm_kill_l, pm_kill_d, pm_cats_nil, pm_cats_i, pm_cats_r, pm_cats_n, pm_cats_l, pm_cats_d, sz_1, sz_2, sl_1, sl_2, lc_0, lc_lt, lc_le, li_ne, va_rf, wr_m1, we_m1, pm_kill_w, Int32.reduceOfInt, Int64.reduceOfInt, Int32.reduceOfNat, Int32.reduceLT, Int32.reduceLE, Prod.mk.injEq, Nat.reduceEqDiff, reduceCtorEq, and_true, true_and, and_false, false_and, and_self, ite_true, ite_false, ↓reduceIte, not_true_eq_false, not_false_eq_true, pe_ri, pe_rz, pe_rc, Ct_g10_0 hP hA, Ct_g10_1 hP hA, Ct_g10_7 hP hA, Ct_g10_8 hP hA, Ct_r11 hP hA]
      · rw [if_neg k4] at e; cases e
    · rw [if_neg k2] at e; cases e
  · rw [if_neg k1] at e; cases e
theorem x897 {sc : Int32} {pc : Int32} {sa : Int32} {pa : Int32} {A : wK → Nat} {h : pm_H} {D : Nat} {S : wS} {x0i : Int32} {x1i : Int32} {r : Int32} (hP : Ct_P sc pc sa pa) (hA : wok A (Ct_d sc pc sa pa) h.1) (hD : 1 ≤ D) (e : f897 sc pc sa pa S x0i x1i = some r) : pm_call pm_prog D 897 [.ref (A (10, x0i, 0)), .ref (A (10, x1i, 0))] (wput A (Ct_d sc pc sa pa) S h) = some (Outcome.returned (some (.int r)), (wput A (Ct_d sc pc sa pa) S h)) := by
  obtain ⟨D, rfl⟩ : ∃ D', D = D' + 1 := ⟨D - 1, by omega⟩
  have hD : 0 ≤ D := by omega
  simp only [f897] at e
  have k1 : 0 ≤ x0i ∧ x0i < 20 := by
    by_cases q : 0 ≤ x0i ∧ x0i < 20
    · exact q
    · rw [if_neg q] at e; cases e
  rw [if_pos k1] at e
  have k2 : 0 ≤ x1i ∧ x1i < 20 := by
    by_cases q : 0 ≤ x1i ∧ x1i < 20
    · exact q
    · rw [if_neg q] at e; cases e
  rw [if_pos k2] at e
  rw [c897 (Ct_c10 hP hA k1), b897_0]
  by_cases k3 : (S.1 (10, x0i, 0) 0) = (S.1 (10, x1i, 0) 0)
  · rw [if_pos k3] at e
    by_cases k4 : (S.1 (10, x0i, 0) 1) = (S.1 (10, x1i, 0) 1)
    · rw [if_pos k4] at e
      by_cases k5 : (S.1 (10, x0i, 0) 7) = (S.1 (10, x1i, 0) 7)
      · rw [if_pos k5] at e
        have k6 := y897_2 (h := h) hP hA hD e
        simp -implicitDefEqProofs (disch := first | assumption | exact Nat.le_of_ble_eq_true rfl | decide) only [b897_0, g897_1, b897_1, g897_4, b897_4, g897_5, b897_5, g897_6, b897_6, pe_aload0, pe_getfield, pe_aload1, pe_icmp_ne, pe_sipush, pe_goto, pe_goto_w, pe_istore2, pe_istore3, pe_iload3, pe_icmp_ge, pe_iload2, pe_if_eq, pe_baload, pe_iinc3, pm_prog_1, pm_ob_some, Nat.reduceDiv, Nat.reduceMod, Nat.reduceMul, Nat.reduceAdd, Int.reduceToNat, pm_kill_i, pm_kill_r, pm_kill_n, pm_kill_j, pm_kill_l, pm_kill_d, pm_cats_nil, pm_cats_i, pm_cats_r, pm_cats_n, pm_cats_l, pm_cats_d, sz_1, sz_2, sl_1, sl_2, lc_0, lc_lt, lc_le, li_ne, va_rf, wr_m1, we_m1, pm_kill_w, Int32.reduceOfInt, Int64.reduceOfInt, Int32.reduceOfNat, Int32.reduceLT, Int32.reduceLE, Prod.mk.injEq, Nat.reduceEqDiff, reduceCtorEq, and_true, true_and, and_false, false_and, and_self, ite_true, ite_false, ↓reduceIte, not_true_eq_false, not_false_eq_true, pe_ri, pe_rz, pe_rc, Ct_g10_0 hP hA, Ct_g10_1 hP hA, Ct_g10_7 hP hA, Ct_g10_8 hP hA, Ct_r11 hP hA, eq_true k3, eq_true k4, eq_true k5, k6]
      · rw [if_neg k5] at e
        have k7 := y897_2 (h := h) hP hA hD e
        simp -implicitDefEqProofs (disch := first | assumption | exact Nat.le_of_ble_eq_true rfl | decide) only [b897_0, g897_1, b897_1, g897_4, b897_4, g897_5, b897_5, g897_6, b897_6, pe_aload0, pe_getfield, pe_aload1, pe_icmp_ne, pe_sipush, pe_goto, pe_goto_w, pe_istore2, pe_istore3, pe_iload3, pe_icmp_ge, pe_iload2, pe_if_eq, pe_baload, pe_iinc3, pm_prog_1, pm_ob_some, Nat.reduceDiv, Nat.reduceMod, Nat.reduceMul, Nat.reduceAdd, Int.reduceToNat, pm_kill_i, pm_kill_r, pm_kill_n, pm_kill_j, pm_kill_l, pm_kill_d, pm_cats_nil, pm_cats_i, pm_cats_r, pm_cats_n, pm_cats_l, pm_cats_d, sz_1, sz_2, sl_1, sl_2, lc_0, lc_lt, lc_le, li_ne, va_rf, wr_m1, we_m1, pm_kill_w, Int32.reduceOfInt, Int64.reduceOfInt, Int32.reduceOfNat, Int32.reduceLT, Int32.reduceLE, Prod.mk.injEq, Nat.reduceEqDiff, reduceCtorEq, and_true, true_and, and_false, false_and, and_self, ite_true, ite_false, ↓reduceIte, not_true_eq_false, not_false_eq_true, pe_ri, pe_rz, pe_rc, Ct_g10_0 hP hA, Ct_g10_1 hP hA, Ct_g10_7 hP hA, Ct_g10_8 hP hA, Ct_r11 hP hA, eq_true k3, eq_true k4, eq_false k5, k7]
    · rw [if_neg k4] at e
      have k8 := y897_2 (h := h) hP hA hD e
      simp -implicitDefEqProofs (disch := first | assumption | exact Nat.le_of_ble_eq_true rfl | decide) only [b897_0, g897_1, b897_1, g897_4, b897_4, g897_5, b897_5, g897_6, b897_6, pe_aload0, pe_getfield, pe_aload1, pe_icmp_ne, pe_sipush, pe_goto, pe_goto_w, pe_istore2, pe_istore3, pe_iload3, pe_icmp_ge, pe_iload2, pe_if_eq, pe_baload, pe_iinc3, pm_prog_1, pm_ob_some, Nat.reduceDiv, Nat.reduceMod, Nat.reduceMul, Nat.reduceAdd, Int.reduceToNat, pm_kill_i, pm_kill_r, pm_kill_n, pm_kill_j, pm_kill_l, pm_kill_d, pm_cats_nil, pm_cats_i, pm_cats_r, pm_cats_n, pm_cats_l, pm_cats_d, sz_1, sz_2, sl_1, sl_2, lc_0, lc_lt, lc_le, li_ne, va_rf, wr_m1, we_m1, pm_kill_w, Int32.reduceOfInt, Int64.reduceOfInt, Int32.reduceOfNat, Int32.reduceLT, Int32.reduceLE, Prod.mk.injEq, Nat.reduceEqDiff, reduceCtorEq, and_true, true_and, and_false, false_and, and_self, ite_true, ite_false, ↓reduceIte, not_true_eq_false, not_false_eq_true, pe_ri, pe_rz, pe_rc, Ct_g10_0 hP hA, Ct_g10_1 hP hA, Ct_g10_7 hP hA, Ct_g10_8 hP hA, Ct_r11 hP hA, eq_true k3, eq_false k4, k8]
  · rw [if_neg k3] at e
    have k9 := y897_2 (h := h) hP hA hD e
    simp -implicitDefEqProofs (disch := first | assumption | exact Nat.le_of_ble_eq_true rfl | decide) only [b897_0, g897_1, b897_1, g897_4, b897_4, g897_5, b897_5, g897_6, b897_6, pe_aload0, pe_getfield, pe_aload1, pe_icmp_ne, pe_sipush, pe_goto, pe_goto_w, pe_istore2, pe_istore3, pe_iload3, pe_icmp_ge, pe_iload2, pe_if_eq, pe_baload, pe_iinc3, pm_prog_1, pm_ob_some, Nat.reduceDiv, Nat.reduceMod, Nat.reduceMul, Nat.reduceAdd, Int.reduceToNat, pm_kill_i, pm_kill_r, pm_kill_n, pm_kill_j, pm_kill_l, pm_kill_d, pm_cats_nil, pm_cats_i, pm_cats_r, pm_cats_n, pm_cats_l, pm_cats_d, sz_1, sz_2, sl_1, sl_2, lc_0, lc_lt, lc_le, li_ne, va_rf, wr_m1, we_m1, pm_kill_w, Int32.reduceOfInt, Int64.reduceOfInt, Int32.reduceOfNat, Int32.reduceLT, Int32.reduceLE, Prod.mk.injEq, Nat.reduceEqDiff, reduceCtorEq, and_true, true_and, and_false, false_and, and_self, ite_true, ite_false, ↓reduceIte, not_true_eq_false, not_false_eq_true, pe_ri, pe_rz, pe_rc, Ct_g10_0 hP hA, Ct_g10_1 hP hA, Ct_g10_7 hP hA, Ct_g10_8 hP hA, Ct_r11 hP hA, eq_false k3, k9]
/-- TimberHouse$SheetTrees.alike(I)I -/
theorem c838 {d : Nat} {h : pm_H} {a : Nat} {x0 : Int32} (hc : pm_cls h a = some 13) : pm_call pm_prog (d + 1) 838 [.ref a, .int x0] h = pm_ev pm_prog (pm_call pm_prog d) 838 0 b838_0 [.ref a, .int x0, pm_junk] [] h := pm_cal (pm_rc1 hc rfl) rfl rfl rfl
theorem g838_1 {cl : pm_C} {ls st : List Value} {h : pm_H} : pm_go pm_prog cl 838 1 ls st h = pm_ev pm_prog cl 838 1 b838_1 ls st h := pm_go_eq pm_prog cl 838 1 ls st h
theorem g838_2 {cl : pm_C} {ls st : List Value} {h : pm_H} : pm_go pm_prog cl 838 2 ls st h = pm_ev pm_prog cl 838 2 b838_2 ls st h := pm_go_eq pm_prog cl 838 2 ls st h
noncomputable def f838_b1 (sc : Int32) (pc : Int32) (sa : Int32) (pa : Int32) (S : wS) : Int32 × Int32 → Option ((Int32 × Int32) ⊕ ((Int32))) := fun (x1, x2) =>
  if 0 ≤ x2 ∧ x2 < 20 then
    if 0 ≤ x1 ∧ x1 < 20 then
      (f897 sc pc sa pa S x2 x1).bind fun v1 =>
      if v1 = 0 then
        some (.inl (x1, (x2 + 1)))
      else
        some (.inr x2)
    else none
  else none
/-- TimberHouse$SheetTrees.alike(I)I -/
noncomputable def f838 (sc : Int32) (pc : Int32) (sa : Int32) (pa : Int32) (S : wS) (x1 : Int32) : Option (Int32) :=
  (lp (f838_b1 sc pc sa pa S) FU (x1, 0)).bind fun v2 =>
  some v2
def go838_1 (sc : Int32) (pc : Int32) (sa : Int32) (pa : Int32) (A : wK → Nat) (h : pm_H) (D : Nat) (R : Outcome × pm_H) (S : wS) : Int32 × Int32 → Prop := fun (x1, x2) => pm_go pm_prog (pm_call pm_prog D) 838 1 [.ref (A (0, 0, 0)), .int x1, .int x2] [] (wput A (Ct_d sc pc sa pa) S h) = some R
def ex838_1 (sc : Int32) (pc : Int32) (sa : Int32) (pa : Int32) (A : wK → Nat) (h : pm_H) (D : Nat) (R : Outcome × pm_H) (S : wS) : (Int32) → Prop := fun x2 => ∀ q0 q1 : Value, pm_go pm_prog (pm_call pm_prog D) 838 2 [q0, q1, .int x2] [] (wput A (Ct_d sc pc sa pa) S h) = some R
theorem y838_b1 {sc : Int32} {pc : Int32} {sa : Int32} {pa : Int32} {A : wK → Nat} {h : pm_H} {D : Nat} {R : Outcome × pm_H} {S : wS} (hP : Ct_P sc pc sa pa) (hA : wok A (Ct_d sc pc sa pa) h.1) (hD : 1 ≤ D) (a : Int32 × Int32) (r : (Int32 × Int32) ⊕ ((Int32))) (e : f838_b1 sc pc sa pa S a = some r) (hc : Sum.elim (go838_1 sc pc sa pa A h D R S) (ex838_1 sc pc sa pa A h D R S) r) : go838_1 sc pc sa pa A h D R S a := by
  obtain ⟨x1, x2⟩ := a
  dsimp only [go838_1]
  simp only [f838_b1] at e
  rw [g838_1, b838_1]
  by_cases k1 : 0 ≤ x2 ∧ x2 < 20
  · rw [if_pos k1] at e
    by_cases k2 : 0 ≤ x1 ∧ x1 < 20
    · rw [if_pos k2] at e
      obtain ⟨v1, k3, e⟩ := Option.bind_eq_some_iff.mp e
      try dsimp only at e
      have z3 := x897 (D := D) (h := h) hP hA (by omega) k3
      by_cases k4 : v1 = 0
      · rw [if_pos k4] at e
        have e := Option.some.inj e; subst e
        dsimp only [Sum.elim_inl, go838_1] at hc
        simp -implicitDefEqProofs (disch := first | assumption | exact Nat.le_of_ble_eq_true rfl | decide) only [b838_0, g838_2, b838_2, pe_sipush, pe_istore2, pe_goto_w, pe_aload0, pe_getfield, pe_iload2, pe_aaload, pe_iload1, pe_call2, pm_af_ret, pm_af_void, pm_af_thr, pe_if_ne, pe_iinc2, pe_goto, pm_prog_1, pm_ob_some, Nat.reduceDiv, Nat.reduceMod, Nat.reduceMul, Nat.reduceAdd, Int.reduceToNat, pm_kill_i, pm_kill_r, pm_kill_n, pm_kill_j, pm_kill_l, pm_kill_d, pm_cats_nil, pm_cats_i, pm_cats_r, pm_cats_n, pm_cats_l, pm_cats_d, sz_1, sz_2, sl_1, sl_2, lc_0, lc_lt, lc_le, li_ne, va_rf, wr_m1, we_m1, pm_kill_w, Int32.reduceOfInt, Int64.reduceOfInt, Int32.reduceOfNat, Int32.reduceLT, Int32.reduceLE, Prod.mk.injEq, Nat.reduceEqDiff, reduceCtorEq, and_true, true_and, and_false, false_and, and_self, ite_true, ite_false, ↓reduceIte, not_true_eq_false, not_false_eq_true, pe_ri, pe_rz, pe_rc, Ct_g0_5 hP hA, Ct_r9 hP hA, z3, eq_true k4, hc]
      · rw [if_neg k4] at e
        have e := Option.some.inj e; subst e
        dsimp only [Sum.elim_inr, ex838_1] at hc
        simp -implicitDefEqProofs (disch := first | assumption | exact Nat.le_of_ble_eq_true rfl | decide) only [b838_0, g838_2, b838_2, pe_sipush, pe_istore2, pe_goto_w, pe_aload0, pe_getfield, pe_iload2, pe_aaload, pe_iload1, pe_call2, pm_af_ret, pm_af_void, pm_af_thr, pe_if_ne, pe_iinc2, pe_goto, pm_prog_1, pm_ob_some, Nat.reduceDiv, Nat.reduceMod, Nat.reduceMul, Nat.reduceAdd, Int.reduceToNat, pm_kill_i, pm_kill_r, pm_kill_n, pm_kill_j, pm_kill_l, pm_kill_d, pm_cats_nil, pm_cats_i, pm_cats_r, pm_cats_n, pm_cats_l, pm_cats_d, sz_1, sz_2, sl_1, sl_2, lc_0, lc_lt, lc_le, li_ne, va_rf, wr_m1, we_m1, pm_kill_w, Int32.reduceOfInt, Int64.reduceOfInt, Int32.reduceOfNat, Int32.reduceLT, Int32.reduceLE, Prod.mk.injEq, Nat.reduceEqDiff, reduceCtorEq, and_true, true_and, and_false, false_and, and_self, ite_true, ite_false, ↓reduceIte, not_true_eq_false, not_false_eq_true, pe_ri, pe_rz, pe_rc, Ct_g0_5 hP hA, Ct_r9 hP hA, z3, eq_false k4, hc]
    · rw [if_neg k2] at e; cases e
  · rw [if_neg k1] at e; cases e
theorem z838_1 {sc : Int32} {pc : Int32} {sa : Int32} {pa : Int32} {A : wK → Nat} {h : pm_H} {D : Nat} {R : Outcome × pm_H} {S : wS} (hP : Ct_P sc pc sa pa) (hA : wok A (Ct_d sc pc sa pa) h.1) (hD : 1 ≤ D) {n : Nat} {a : Int32 × Int32} {b : (Int32)} (e : lp (f838_b1 sc pc sa pa S) n a = some b) (hx : ex838_1 sc pc sa pa A h D R S b) : go838_1 sc pc sa pa A h D R S a := lp_run (fun a r => y838_b1 hP hA hD a r) n a b e hx
theorem x838 {sc : Int32} {pc : Int32} {sa : Int32} {pa : Int32} {A : wK → Nat} {h : pm_H} {D : Nat} {S : wS} {x1 : Int32} {r : Int32} (hP : Ct_P sc pc sa pa) (hA : wok A (Ct_d sc pc sa pa) h.1) (hD : 2 ≤ D) (e : f838 sc pc sa pa S x1 = some r) : pm_call pm_prog D 838 [.ref (A (0, 0, 0)), .int x1] (wput A (Ct_d sc pc sa pa) S h) = some (Outcome.returned (some (.int r)), (wput A (Ct_d sc pc sa pa) S h)) := by
  obtain ⟨D, rfl⟩ : ∃ D', D = D' + 1 := ⟨D - 1, by omega⟩
  have hD : 1 ≤ D := by omega
  simp only [f838] at e
  rw [c838 (Ct_c0 hP hA), b838_0]
  obtain ⟨v2, k1, e⟩ := Option.bind_eq_some_iff.mp e
  try dsimp only at e
  try simp -implicitDefEqProofs (disch := first | assumption | exact Nat.le_of_ble_eq_true rfl | decide) only [b838_0, g838_2, b838_2, pe_sipush, pe_istore2, pe_goto_w, pe_aload0, pe_getfield, pe_iload2, pe_aaload, pe_iload1, pe_call2, pm_af_ret, pm_af_void, pm_af_thr, pe_if_ne, pe_iinc2, pe_goto, pm_prog_1, pm_ob_some, Nat.reduceDiv, Nat.reduceMod, Nat.reduceMul, Nat.reduceAdd, Int.reduceToNat, pm_kill_i, pm_kill_r, pm_kill_n, pm_kill_j, pm_kill_l, pm_kill_d, pm_cats_nil, pm_cats_i, pm_cats_r, pm_cats_n, pm_cats_l, pm_cats_d, sz_1, sz_2, sl_1, sl_2, lc_0, lc_lt, lc_le, li_ne, va_rf, wr_m1, we_m1, pm_kill_w, Int32.reduceOfInt, Int64.reduceOfInt, Int32.reduceOfNat, Int32.reduceLT, Int32.reduceLE, Prod.mk.injEq, Nat.reduceEqDiff, reduceCtorEq, and_true, true_and, and_false, false_and, and_self, ite_true, ite_false, ↓reduceIte, not_true_eq_false, not_false_eq_true, pe_ri, pe_rz, pe_rc, Ct_g0_5 hP hA, Ct_r9 hP hA]
  refine z838_1 hP hA hD k1 ?_
  dsimp only [ex838_1]
  intro q0 q1
  have e := Option.some.inj e; subst e
  simp -implicitDefEqProofs (disch := first | assumption | exact Nat.le_of_ble_eq_true rfl | decide) only [b838_0, g838_2, b838_2, pe_sipush, pe_istore2, pe_goto_w, pe_aload0, pe_getfield, pe_iload2, pe_aaload, pe_iload1, pe_call2, pm_af_ret, pm_af_void, pm_af_thr, pe_if_ne, pe_iinc2, pe_goto, pm_prog_1, pm_ob_some, Nat.reduceDiv, Nat.reduceMod, Nat.reduceMul, Nat.reduceAdd, Int.reduceToNat, pm_kill_i, pm_kill_r, pm_kill_n, pm_kill_j, pm_kill_l, pm_kill_d, pm_cats_nil, pm_cats_i, pm_cats_r, pm_cats_n, pm_cats_l, pm_cats_d, sz_1, sz_2, sl_1, sl_2, lc_0, lc_lt, lc_le, li_ne, va_rf, wr_m1, we_m1, pm_kill_w, Int32.reduceOfInt, Int64.reduceOfInt, Int32.reduceOfNat, Int32.reduceLT, Int32.reduceLE, Prod.mk.injEq, Nat.reduceEqDiff, reduceCtorEq, and_true, true_and, and_false, false_and, and_self, ite_true, ite_false, ↓reduceIte, not_true_eq_false, not_false_eq_true, pe_ri, pe_rz, pe_rc, Ct_g0_5 hP hA, Ct_r9 hP hA]
/-- TimberHouse$SheetTrees.cut(II)I -/
theorem c834 {d : Nat} {h : pm_H} {a : Nat} {x0 : Int32} {x1 : Int32} (hc : pm_cls h a = some 13) : pm_call pm_prog (d + 1) 834 [.ref a, .int x0, .int x1] h = pm_ev pm_prog (pm_call pm_prog d) 834 0 b834_0 [.ref a, .int x0, .int x1, pm_junk] [] h := pm_cal (pm_rc1 hc rfl) rfl rfl rfl
theorem g834_1 {cl : pm_C} {ls st : List Value} {h : pm_H} : pm_go pm_prog cl 834 1 ls st h = pm_ev pm_prog cl 834 1 b834_1 ls st h := pm_go_eq pm_prog cl 834 1 ls st h
theorem g834_2 {cl : pm_C} {ls st : List Value} {h : pm_H} : pm_go pm_prog cl 834 2 ls st h = pm_ev pm_prog cl 834 2 b834_2 ls st h := pm_go_eq pm_prog cl 834 2 ls st h
theorem g834_3 {cl : pm_C} {ls st : List Value} {h : pm_H} : pm_go pm_prog cl 834 3 ls st h = pm_ev pm_prog cl 834 3 b834_3 ls st h := pm_go_eq pm_prog cl 834 3 ls st h
theorem g834_4 {cl : pm_C} {ls st : List Value} {h : pm_H} : pm_go pm_prog cl 834 4 ls st h = pm_ev pm_prog cl 834 4 b834_4 ls st h := pm_go_eq pm_prog cl 834 4 ls st h
theorem g834_5 {cl : pm_C} {ls st : List Value} {h : pm_H} : pm_go pm_prog cl 834 5 ls st h = pm_ev pm_prog cl 834 5 b834_5 ls st h := pm_go_eq pm_prog cl 834 5 ls st h
theorem g834_6 {cl : pm_C} {ls st : List Value} {h : pm_H} : pm_go pm_prog cl 834 6 ls st h = pm_ev pm_prog cl 834 6 b834_6 ls st h := pm_go_eq pm_prog cl 834 6 ls st h
theorem g834_7 {cl : pm_C} {ls st : List Value} {h : pm_H} : pm_go pm_prog cl 834 7 ls st h = pm_ev pm_prog cl 834 7 b834_7 ls st h := pm_go_eq pm_prog cl 834 7 ls st h
theorem g834_8 {cl : pm_C} {ls st : List Value} {h : pm_H} : pm_go pm_prog cl 834 8 ls st h = pm_ev pm_prog cl 834 8 b834_8 ls st h := pm_go_eq pm_prog cl 834 8 ls st h
theorem g834_9 {cl : pm_C} {ls st : List Value} {h : pm_H} : pm_go pm_prog cl 834 9 ls st h = pm_ev pm_prog cl 834 9 b834_9 ls st h := pm_go_eq pm_prog cl 834 9 ls st h
theorem t834 {cl : pm_C} {j : Nat} {ls : List Value} {c : Nat} {h : pm_H} : pm_thr pm_prog cl 834 j ls c h = some (.threw c, h) := rfl
/-- TimberHouse$SheetTrees.cut(II)I -/
noncomputable def f834 (sc : Int32) (pc : Int32) (sa : Int32) (pa : Int32) (S : wS) (x1 : Int32) (x2 : Int32) : Option (Nat ⊕ (Int32)) :=
  (f835 sc pc sa pa S x1).bind fun r => match r with
  | .inl c4 =>
    some (.inl c4)
  | .inr v1i =>
  if 0 ≤ v1i ∧ v1i < 20 then
    (f837 x2 8).bind fun r => match r with
    | .inl c3 =>
      some (.inl c3)
    | .inr _ =>
    if x2 = 0 then
      some (.inr (S.1 (10, v1i, 0) 0))
    else
      if x2 = 1 then
        some (.inr (S.1 (10, v1i, 0) 2))
      else
        if x2 = 2 then
          some (.inr (S.1 (10, v1i, 0) 5))
        else
          if x2 = 3 then
            some (.inr (S.1 (10, v1i, 0) 4))
          else
            if x2 = 4 then
              some (.inr (S.1 (10, v1i, 0) 1))
            else
              if x2 = 5 then
                some (.inr (S.1 (10, v1i, 0) 6))
              else
                if x2 = 6 then
                  some (.inr (S.1 (10, v1i, 0) 3))
                else
                  (f838 sc pc sa pa S x1).bind fun v2 =>
                  some (.inr v2)
  else none
theorem sw834_0 {x : Int32} : pm_sw 8 0 6 [1, 2, 3, 4, 5, 6, 7] x = if x = 0 then 1 else if x = 1 then 2 else if x = 2 then 3 else if x = 3 then 4 else if x = 4 then 5 else if x = 5 then 6 else if x = 6 then 7 else 8 := by
  by_cases k0 : x = 0
  · subst k0; rfl
  rw [if_neg k0]
  by_cases k1 : x = 1
  · subst k1; rfl
  rw [if_neg k1]
  by_cases k2 : x = 2
  · subst k2; rfl
  rw [if_neg k2]
  by_cases k3 : x = 3
  · subst k3; rfl
  rw [if_neg k3]
  by_cases k4 : x = 4
  · subst k4; rfl
  rw [if_neg k4]
  by_cases k5 : x = 5
  · subst k5; rfl
  rw [if_neg k5]
  by_cases k6 : x = 6
  · subst k6; rfl
  rw [if_neg k6]
  by_cases q : x.toInt < 0 ∨ 6 < x.toInt
  · exact if_pos q
  have q : x.toInt = 0 ∨ x.toInt = 1 ∨ x.toInt = 2 ∨ x.toInt = 3 ∨ x.toInt = 4 ∨ x.toInt = 5 ∨ x.toInt = 6 := by omega
  rcases q with q | q | q | q | q | q | q
  · exact absurd (Int32.toInt_inj.mp (q.trans (by decide : (0 : Int) = (0 : Int32).toInt))) k0
  · exact absurd (Int32.toInt_inj.mp (q.trans (by decide : (1 : Int) = (1 : Int32).toInt))) k1
  · exact absurd (Int32.toInt_inj.mp (q.trans (by decide : (2 : Int) = (2 : Int32).toInt))) k2
  · exact absurd (Int32.toInt_inj.mp (q.trans (by decide : (3 : Int) = (3 : Int32).toInt))) k3
  · exact absurd (Int32.toInt_inj.mp (q.trans (by decide : (4 : Int) = (4 : Int32).toInt))) k4
  · exact absurd (Int32.toInt_inj.mp (q.trans (by decide : (5 : Int) = (5 : Int32).toInt))) k5
  · exact absurd (Int32.toInt_inj.mp (q.trans (by decide : (6 : Int) = (6 : Int32).toInt))) k6
theorem x834 {sc : Int32} {pc : Int32} {sa : Int32} {pa : Int32} {A : wK → Nat} {h : pm_H} {D : Nat} {S : wS} {x1 : Int32} {x2 : Int32} {r : Nat ⊕ (Int32)} (hP : Ct_P sc pc sa pa) (hA : wok A (Ct_d sc pc sa pa) h.1) (hD : 3 ≤ D) (e : f834 sc pc sa pa S x1 x2 = some r) : pm_call pm_prog D 834 [.ref (A (0, 0, 0)), .int x1, .int x2] (wput A (Ct_d sc pc sa pa) S h) = some (match (generalizing := false) r with | .inl c => (Outcome.threw c, (wput A (Ct_d sc pc sa pa) S (pm_new h 6 (.inr (c, []))))) | .inr w0 => (Outcome.returned (some (.int w0)), (wput A (Ct_d sc pc sa pa) S h))) := by
  obtain ⟨D, rfl⟩ : ∃ D', D = D' + 1 := ⟨D - 1, by omega⟩
  have hD : 2 ≤ D := by omega
  simp only [f834] at e
  rw [c834 (Ct_c0 hP hA), b834_0]
  obtain ⟨r, k1, e⟩ := Option.bind_eq_some_iff.mp e
  have z1 := x835 (D := D) (h := h) hP hA (by omega) k1
  rcases r with c4 | v1i
  · dsimp only at e z1
    have e := Option.some.inj e; subst e
    simp -implicitDefEqProofs (disch := first | assumption | exact Nat.le_of_ble_eq_true rfl | decide) only [b834_0, g834_1, b834_1, g834_2, b834_2, g834_3, b834_3, g834_4, b834_4, g834_5, b834_5, g834_6, b834_6, g834_7, b834_7, g834_8, b834_8, g834_9, b834_9, pe_aload0, pe_iload1, pe_call2, pm_af_ret, pm_af_void, pm_af_thr, pe_astore3, pe_iload2, pe_sipush, pe_tableswitch, pe_aload3, pe_getfield, pe_goto, pe_goto_w, pm_prog_1, pm_ob_some, Nat.reduceDiv, Nat.reduceMod, Nat.reduceMul, Nat.reduceAdd, Int.reduceToNat, pm_kill_i, pm_kill_r, pm_kill_n, pm_kill_j, pm_kill_l, pm_kill_d, pm_cats_nil, pm_cats_i, pm_cats_r, pm_cats_n, pm_cats_l, pm_cats_d, sz_1, sz_2, sl_1, sl_2, lc_0, lc_lt, lc_le, li_ne, va_rf, wr_m1, we_m1, pm_kill_w, Int32.reduceOfInt, Int64.reduceOfInt, Int32.reduceOfNat, Int32.reduceLT, Int32.reduceLE, Prod.mk.injEq, Nat.reduceEqDiff, reduceCtorEq, and_true, true_and, and_false, false_and, and_self, ite_true, ite_false, ↓reduceIte, not_true_eq_false, not_false_eq_true, pe_ri, pe_rz, pe_rc, p_throw, t834, w_junk hA, sw834_0, Ct_g10_0 hP hA, Ct_g10_1 hP hA, Ct_g10_2 hP hA, Ct_g10_3 hP hA, Ct_g10_4 hP hA, Ct_g10_5 hP hA, Ct_g10_6 hP hA, z1]
  · dsimp only at e z1
    by_cases k2 : 0 ≤ v1i ∧ v1i < 20
    · rw [if_pos k2] at e
      obtain ⟨r, k3, e⟩ := Option.bind_eq_some_iff.mp e
      have z3 := fun h => x837 (D := D) (h := h) (by omega) k3
      rcases r with c3 | _
      · dsimp only at e z3
        have e := Option.some.inj e; subst e
        simp -implicitDefEqProofs (disch := first | assumption | exact Nat.le_of_ble_eq_true rfl | decide) only [b834_0, g834_1, b834_1, g834_2, b834_2, g834_3, b834_3, g834_4, b834_4, g834_5, b834_5, g834_6, b834_6, g834_7, b834_7, g834_8, b834_8, g834_9, b834_9, pe_aload0, pe_iload1, pe_call2, pm_af_ret, pm_af_void, pm_af_thr, pe_astore3, pe_iload2, pe_sipush, pe_tableswitch, pe_aload3, pe_getfield, pe_goto, pe_goto_w, pm_prog_1, pm_ob_some, Nat.reduceDiv, Nat.reduceMod, Nat.reduceMul, Nat.reduceAdd, Int.reduceToNat, pm_kill_i, pm_kill_r, pm_kill_n, pm_kill_j, pm_kill_l, pm_kill_d, pm_cats_nil, pm_cats_i, pm_cats_r, pm_cats_n, pm_cats_l, pm_cats_d, sz_1, sz_2, sl_1, sl_2, lc_0, lc_lt, lc_le, li_ne, va_rf, wr_m1, we_m1, pm_kill_w, Int32.reduceOfInt, Int64.reduceOfInt, Int32.reduceOfNat, Int32.reduceLT, Int32.reduceLE, Prod.mk.injEq, Nat.reduceEqDiff, reduceCtorEq, and_true, true_and, and_false, false_and, and_self, ite_true, ite_false, ↓reduceIte, not_true_eq_false, not_false_eq_true, pe_ri, pe_rz, pe_rc, p_throw, t834, w_junk hA, sw834_0, Ct_g10_0 hP hA, Ct_g10_1 hP hA, Ct_g10_2 hP hA, Ct_g10_3 hP hA, Ct_g10_4 hP hA, Ct_g10_5 hP hA, Ct_g10_6 hP hA, z1, z3]
      · dsimp only at e z3
        by_cases k4 : x2 = 0
        · rw [if_pos k4] at e
          have e := Option.some.inj e; subst e
          simp -implicitDefEqProofs (disch := first | assumption | exact Nat.le_of_ble_eq_true rfl | decide) only [b834_0, g834_1, b834_1, g834_2, b834_2, g834_3, b834_3, g834_4, b834_4, g834_5, b834_5, g834_6, b834_6, g834_7, b834_7, g834_8, b834_8, g834_9, b834_9, pe_aload0, pe_iload1, pe_call2, pm_af_ret, pm_af_void, pm_af_thr, pe_astore3, pe_iload2, pe_sipush, pe_tableswitch, pe_aload3, pe_getfield, pe_goto, pe_goto_w, pm_prog_1, pm_ob_some, Nat.reduceDiv, Nat.reduceMod, Nat.reduceMul, Nat.reduceAdd, Int.reduceToNat, pm_kill_i, pm_kill_r, pm_kill_n, pm_kill_j, pm_kill_l, pm_kill_d, pm_cats_nil, pm_cats_i, pm_cats_r, pm_cats_n, pm_cats_l, pm_cats_d, sz_1, sz_2, sl_1, sl_2, lc_0, lc_lt, lc_le, li_ne, va_rf, wr_m1, we_m1, pm_kill_w, Int32.reduceOfInt, Int64.reduceOfInt, Int32.reduceOfNat, Int32.reduceLT, Int32.reduceLE, Prod.mk.injEq, Nat.reduceEqDiff, reduceCtorEq, and_true, true_and, and_false, false_and, and_self, ite_true, ite_false, ↓reduceIte, not_true_eq_false, not_false_eq_true, pe_ri, pe_rz, pe_rc, p_throw, t834, w_junk hA, sw834_0, Ct_g10_0 hP hA, Ct_g10_1 hP hA, Ct_g10_2 hP hA, Ct_g10_3 hP hA, Ct_g10_4 hP hA, Ct_g10_5 hP hA, Ct_g10_6 hP hA, z1, z3, eq_true k4]
        · rw [if_neg k4] at e
          by_cases k5 : x2 = 1
          · rw [if_pos k5] at e
            have e := Option.some.inj e; subst e
            simp -implicitDefEqProofs (disch := first | assumption | exact Nat.le_of_ble_eq_true rfl | decide) only [b834_0, g834_1, b834_1, g834_2, b834_2, g834_3, b834_3, g834_4, b834_4, g834_5, b834_5, g834_6, b834_6, g834_7, b834_7, g834_8, b834_8, g834_9, b834_9, pe_aload0, pe_iload1, pe_call2, pm_af_ret, pm_af_void, pm_af_thr, pe_astore3, pe_iload2, pe_sipush, pe_tableswitch, pe_aload3, pe_getfield, pe_goto, pe_goto_w, pm_prog_1, pm_ob_some, Nat.reduceDiv, Nat.reduceMod, Nat.reduceMul, Nat.reduceAdd, Int.reduceToNat, pm_kill_i, pm_kill_r, pm_kill_n, pm_kill_j, pm_kill_l, pm_kill_d, pm_cats_nil, pm_cats_i, pm_cats_r, pm_cats_n, pm_cats_l, pm_cats_d, sz_1, sz_2, sl_1, sl_2, lc_0, lc_lt, lc_le, li_ne, va_rf, wr_m1, we_m1, pm_kill_w, Int32.reduceOfInt, Int64.reduceOfInt, Int32.reduceOfNat, Int32.reduceLT, Int32.reduceLE, Prod.mk.injEq, Nat.reduceEqDiff, reduceCtorEq, and_true, true_and, and_false, false_and, and_self, ite_true, ite_false, ↓reduceIte, not_true_eq_false, not_false_eq_true, pe_ri, pe_rz, pe_rc, p_throw, t834, w_junk hA, sw834_0, Ct_g10_0 hP hA, Ct_g10_1 hP hA, Ct_g10_2 hP hA, Ct_g10_3 hP hA, Ct_g10_4 hP hA, Ct_g10_5 hP hA, Ct_g10_6 hP hA, z1, z3, eq_false k4, eq_true k5]
          · rw [if_neg k5] at e
            by_cases k6 : x2 = 2
            · rw [if_pos k6] at e
              have e := Option.some.inj e; subst e
              simp -implicitDefEqProofs (disch := first | assumption | exact Nat.le_of_ble_eq_true rfl | decide) only [b834_0, g834_1, b834_1, g834_2, b834_2, g834_3, b834_3, g834_4, b834_4, g834_5, b834_5, g834_6, b834_6, g834_7, b834_7, g834_8, b834_8, g834_9, b834_9, pe_aload0, pe_iload1, pe_call2, pm_af_ret, pm_af_void, pm_af_thr, pe_astore3, pe_iload2, pe_sipush, pe_tableswitch, pe_aload3, pe_getfield, pe_goto, pe_goto_w, pm_prog_1, pm_ob_some, Nat.reduceDiv, Nat.reduceMod, Nat.reduceMul, Nat.reduceAdd, Int.reduceToNat, pm_kill_i, pm_kill_r, pm_kill_n, pm_kill_j, pm_kill_l, pm_kill_d, pm_cats_nil, pm_cats_i, pm_cats_r, pm_cats_n, pm_cats_l, pm_cats_d, sz_1, sz_2, sl_1, sl_2, lc_0, lc_lt, lc_le, li_ne, va_rf, wr_m1, we_m1, pm_kill_w, Int32.reduceOfInt, Int64.reduceOfInt, Int32.reduceOfNat, Int32.reduceLT, Int32.reduceLE, Prod.mk.injEq, Nat.reduceEqDiff, reduceCtorEq, and_true, true_and, and_false, false_and, and_self, ite_true, ite_false, ↓reduceIte, not_true_eq_false, not_false_eq_true, pe_ri, pe_rz, pe_rc, p_throw, t834, w_junk hA, sw834_0, Ct_g10_0 hP hA, Ct_g10_1 hP hA, Ct_g10_2 hP hA, Ct_g10_3 hP hA, Ct_g10_4 hP hA, Ct_g10_5 hP hA, Ct_g10_6 hP hA, z1, z3, eq_false k4, eq_false k5, eq_true k6]
            · rw [if_neg k6] at e
              by_cases k7 : x2 = 3
              · rw [if_pos k7] at e
                have e := Option.some.inj e; subst e
                simp -implicitDefEqProofs (disch := first | assumption | exact Nat.le_of_ble_eq_true rfl | decide) only [b834_0, g834_1, b834_1, g834_2, b834_2, g834_3, b834_3, g834_4, b834_4, g834_5, b834_5, g834_6, b834_6, g834_7, b834_7, g834_8, b834_8, g834_9, b834_9, pe_aload0, pe_iload1, pe_call2, pm_af_ret, pm_af_void, pm_af_thr, pe_astore3, pe_iload2, pe_sipush, pe_tableswitch, pe_aload3, pe_getfield, pe_goto, pe_goto_w, pm_prog_1, pm_ob_some, Nat.reduceDiv, Nat.reduceMod, Nat.reduceMul, Nat.reduceAdd, Int.reduceToNat, pm_kill_i, pm_kill_r, pm_kill_n, pm_kill_j, pm_kill_l, pm_kill_d, pm_cats_nil, pm_cats_i, pm_cats_r, pm_cats_n, pm_cats_l, pm_cats_d, sz_1, sz_2, sl_1, sl_2, lc_0, lc_lt, lc_le, li_ne, va_rf, wr_m1, we_m1, pm_kill_w, Int32.reduceOfInt, Int64.reduceOfInt, Int32.reduceOfNat, Int32.reduceLT, Int32.reduceLE, Prod.mk.injEq, Nat.reduceEqDiff, reduceCtorEq, and_true, true_and, and_false, false_and, and_self, ite_true, ite_false, ↓reduceIte, not_true_eq_false, not_false_eq_true, pe_ri, pe_rz, pe_rc, p_throw, t834, w_junk hA, sw834_0, Ct_g10_0 hP hA, Ct_g10_1 hP hA, Ct_g10_2 hP hA, Ct_g10_3 hP hA, Ct_g10_4 hP hA, Ct_g10_5 hP hA, Ct_g10_6 hP hA, z1, z3, eq_false k4, eq_false k5, eq_false k6, eq_true k7]
              · rw [if_neg k7] at e
                by_cases k8 : x2 = 4
                · rw [if_pos k8] at e
                  have e := Option.some.inj e; subst e
                  simp -implicitDefEqProofs (disch := first | assumption | exact Nat.le_of_ble_eq_true rfl | decide) only [b834_0, g834_1, b834_1, g834_2, b834_2, g834_3, b834_3, g834_4, b834_4, g834_5, b834_5, g834_6, b834_6, g834_7, b834_7, g834_8, b834_8, g834_9, b834_9, pe_aload0, pe_iload1, pe_call2, pm_af_ret, pm_af_void, pm_af_thr, pe_astore3, pe_iload2, pe_sipush, pe_tableswitch, pe_aload3, pe_getfield, pe_goto, pe_goto_w, pm_prog_1, pm_ob_some, Nat.reduceDiv, Nat.reduceMod, Nat.reduceMul, Nat.reduceAdd, Int.reduceToNat, pm_kill_i, pm_kill_r, pm_kill_n, pm_kill_j, pm_kill_l, pm_kill_d, pm_cats_nil, pm_cats_i, pm_cats_r, pm_cats_n, pm_cats_l, pm_cats_d, sz_1, sz_2, sl_1, sl_2, lc_0, lc_lt, lc_le, li_ne, va_rf, wr_m1, we_m1, pm_kill_w, Int32.reduceOfInt, Int64.reduceOfInt, Int32.reduceOfNat, Int32.reduceLT, Int32.reduceLE, Prod.mk.injEq, Nat.reduceEqDiff, reduceCtorEq, and_true, true_and, and_false, false_and, and_self, ite_true, ite_false, ↓reduceIte, not_true_eq_false, not_false_eq_true, pe_ri, pe_rz, pe_rc, p_throw, t834, w_junk hA, sw834_0, Ct_g10_0 hP hA, Ct_g10_1 hP hA, Ct_g10_2 hP hA, Ct_g10_3 hP hA, Ct_g10_4 hP hA, Ct_g10_5 hP hA, Ct_g10_6 hP hA, z1, z3, eq_false k4, eq_false k5, eq_false k6, eq_false k7, eq_true k8]
                · rw [if_neg k8] at e
                  by_cases k9 : x2 = 5
                  · rw [if_pos k9] at e
                    have e := Option.some.inj e; subst e
                    simp -implicitDefEqProofs (disch := first | assumption | exact Nat.le_of_ble_eq_true rfl | decide) only [b834_0, g834_1, b834_1, g834_2, b834_2, g834_3, b834_3, g834_4, b834_4, g834_5, b834_5, g834_6, b834_6, g834_7, b834_7, g834_8, b834_8, g834_9, b834_9, pe_aload0, pe_iload1, pe_call2, pm_af_ret, pm_af_void, pm_af_thr, pe_astore3, pe_iload2, pe_sipush, pe_tableswitch, pe_aload3, pe_getfield, pe_goto, pe_goto_w, pm_prog_1, pm_ob_some, Nat.reduceDiv, Nat.reduceMod, Nat.reduceMul, Nat.reduceAdd, Int.reduceToNat, pm_kill_i, pm_kill_r, pm_kill_n, pm_kill_j, pm_kill_l, pm_kill_d, pm_cats_nil, pm_cats_i, pm_cats_r, pm_cats_n, pm_cats_l, pm_cats_d, sz_1, sz_2, sl_1, sl_2, lc_0, lc_lt, lc_le, li_ne, va_rf, wr_m1, we_m1, pm_kill_w, Int32.reduceOfInt, Int64.reduceOfInt, Int32.reduceOfNat, Int32.reduceLT, Int32.reduceLE, Prod.mk.injEq, Nat.reduceEqDiff, reduceCtorEq, and_true, true_and, and_false, false_and, and_self, ite_true, ite_false, ↓reduceIte, not_true_eq_false, not_false_eq_true, pe_ri, pe_rz, pe_rc, p_throw, t834, w_junk hA, sw834_0, Ct_g10_0 hP hA, Ct_g10_1 hP hA, Ct_g10_2 hP hA, Ct_g10_3 hP hA, Ct_g10_4 hP hA, Ct_g10_5 hP hA, Ct_g10_6 hP hA, z1, z3, eq_false k4, eq_false k5, eq_false k6, eq_false k7, eq_false k8, eq_true k9]
                  · rw [if_neg k9] at e
                    by_cases k10 : x2 = 6
                    · rw [if_pos k10] at e
                      have e := Option.some.inj e; subst e
                      simp -implicitDefEqProofs (disch := first | assumption | exact Nat.le_of_ble_eq_true rfl | decide) only [b834_0, g834_1, b834_1, g834_2, b834_2, g834_3, b834_3, g834_4, b834_4, g834_5, b834_5, g834_6, b834_6, g834_7, b834_7, g834_8, b834_8, g834_9, b834_9, pe_aload0, pe_iload1, pe_call2, pm_af_ret, pm_af_void, pm_af_thr, pe_astore3, pe_iload2, pe_sipush, pe_tableswitch, pe_aload3, pe_getfield, pe_goto, pe_goto_w, pm_prog_1, pm_ob_some, Nat.reduceDiv, Nat.reduceMod, Nat.reduceMul, Nat.reduceAdd, Int.reduceToNat, pm_kill_i, pm_kill_r, pm_kill_n, pm_kill_j, pm_kill_l, pm_kill_d, pm_cats_nil, pm_cats_i, pm_cats_r, pm_cats_n, pm_cats_l, pm_cats_d, sz_1, sz_2, sl_1, sl_2, lc_0, lc_lt, lc_le, li_ne, va_rf, wr_m1, we_m1, pm_kill_w, Int32.reduceOfInt, Int64.reduceOfInt, Int32.reduceOfNat, Int32.reduceLT, Int32.reduceLE, Prod.mk.injEq, Nat.reduceEqDiff, reduceCtorEq, and_true, true_and, and_false, false_and, and_self, ite_true, ite_false, ↓reduceIte, not_true_eq_false, not_false_eq_true, pe_ri, pe_rz, pe_rc, p_throw, t834, w_junk hA, sw834_0, Ct_g10_0 hP hA, Ct_g10_1 hP hA, Ct_g10_2 hP hA, Ct_g10_3 hP hA, Ct_g10_4 hP hA, Ct_g10_5 hP hA, Ct_g10_6 hP hA, z1, z3, eq_false k4, eq_false k5, eq_false k6, eq_false k7, eq_false k8, eq_false k9, eq_true k10]
                    · rw [if_neg k10] at e
                      obtain ⟨v2, k11, e⟩ := Option.bind_eq_some_iff.mp e
                      try dsimp only at e
                      have z11 := x838 (D := D) (h := h) hP hA (by omega) k11
                      have e := Option.some.inj e; subst e
                      simp -implicitDefEqProofs (disch := first | assumption | exact Nat.le_of_ble_eq_true rfl | decide) only [b834_0, g834_1, b834_1, g834_2, b834_2, g834_3, b834_3, g834_4, b834_4, g834_5, b834_5, g834_6, b834_6, g834_7, b834_7, g834_8, b834_8, g834_9, b834_9, pe_aload0, pe_iload1, pe_call2, pm_af_ret, pm_af_void, pm_af_thr, pe_astore3, pe_iload2, pe_sipush, pe_tableswitch, pe_aload3, pe_getfield, pe_goto, pe_goto_w, pm_prog_1, pm_ob_some, Nat.reduceDiv, Nat.reduceMod, Nat.reduceMul, Nat.reduceAdd, Int.reduceToNat, pm_kill_i, pm_kill_r, pm_kill_n, pm_kill_j, pm_kill_l, pm_kill_d, pm_cats_nil, pm_cats_i, pm_cats_r, pm_cats_n, pm_cats_l, pm_cats_d, sz_1, sz_2, sl_1, sl_2, lc_0, lc_lt, lc_le, li_ne, va_rf, wr_m1, we_m1, pm_kill_w, Int32.reduceOfInt, Int64.reduceOfInt, Int32.reduceOfNat, Int32.reduceLT, Int32.reduceLE, Prod.mk.injEq, Nat.reduceEqDiff, reduceCtorEq, and_true, true_and, and_false, false_and, and_self, ite_true, ite_false, ↓reduceIte, not_true_eq_false, not_false_eq_true, pe_ri, pe_rz, pe_rc, p_throw, t834, w_junk hA, sw834_0, Ct_g10_0 hP hA, Ct_g10_1 hP hA, Ct_g10_2 hP hA, Ct_g10_3 hP hA, Ct_g10_4 hP hA, Ct_g10_5 hP hA, Ct_g10_6 hP hA, z1, z3, eq_false k4, eq_false k5, eq_false k6, eq_false k7, eq_false k8, eq_false k9, eq_false k10, z11]
    · rw [if_neg k2] at e; cases e
/-- TimberHouse$SheetTrees.taken(III)I -/
theorem c839 {d : Nat} {h : pm_H} {a : Nat} {x0 : Int32} {x1 : Int32} {x2 : Int32} (hc : pm_cls h a = some 13) : pm_call pm_prog (d + 1) 839 [.ref a, .int x0, .int x1, .int x2] h = pm_ev pm_prog (pm_call pm_prog d) 839 0 b839_0 [.ref a, .int x0, .int x1, .int x2, pm_junk] [] h := pm_cal (pm_rc1 hc rfl) rfl rfl rfl
theorem t839 {cl : pm_C} {j : Nat} {ls : List Value} {c : Nat} {h : pm_H} : pm_thr pm_prog cl 839 j ls c h = some (.threw c, h) := rfl
/-- TimberHouse$SheetTrees.taken(III)I -/
noncomputable def f839 (sc : Int32) (pc : Int32) (sa : Int32) (pa : Int32) (S : wS) (x1 : Int32) (x2 : Int32) (x3 : Int32) : Option (Nat ⊕ (Int32)) :=
  (f835 sc pc sa pa S x1).bind fun r => match r with
  | .inl c4 =>
    some (.inl c4)
  | .inr v1i =>
  if 0 ≤ v1i ∧ v1i < 20 then
    (f837 x2 (S.1 (10, v1i, 0) 2)).bind fun r => match r with
    | .inl c3 =>
      some (.inl c3)
    | .inr _ =>
    (f837 x3 5).bind fun r => match r with
    | .inl c2 =>
      some (.inl c2)
    | .inr _ =>
    if 0 ≤ ((5 * x2) + x3) ∧ ((5 * x2) + x3) < 1280 then
      some (.inr (S.1 (12, v1i, 0) ((5 * x2) + x3)))
    else none
  else none
theorem x839 {sc : Int32} {pc : Int32} {sa : Int32} {pa : Int32} {A : wK → Nat} {h : pm_H} {D : Nat} {S : wS} {x1 : Int32} {x2 : Int32} {x3 : Int32} {r : Nat ⊕ (Int32)} (hP : Ct_P sc pc sa pa) (hA : wok A (Ct_d sc pc sa pa) h.1) (hD : 3 ≤ D) (e : f839 sc pc sa pa S x1 x2 x3 = some r) : pm_call pm_prog D 839 [.ref (A (0, 0, 0)), .int x1, .int x2, .int x3] (wput A (Ct_d sc pc sa pa) S h) = some (match (generalizing := false) r with | .inl c => (Outcome.threw c, (wput A (Ct_d sc pc sa pa) S (pm_new h 6 (.inr (c, []))))) | .inr w0 => (Outcome.returned (some (.int w0)), (wput A (Ct_d sc pc sa pa) S h))) := by
  obtain ⟨D, rfl⟩ : ∃ D', D = D' + 1 := ⟨D - 1, by omega⟩
  have hD : 2 ≤ D := by omega
  simp only [f839] at e
  rw [c839 (Ct_c0 hP hA), b839_0]
  obtain ⟨r, k1, e⟩ := Option.bind_eq_some_iff.mp e
  have z1 := x835 (D := D) (h := h) hP hA (by omega) k1
  rcases r with c4 | v1i
  · dsimp only at e z1
    have e := Option.some.inj e; subst e
    simp -implicitDefEqProofs (disch := first | assumption | exact Nat.le_of_ble_eq_true rfl | decide) only [b839_0, pe_aload0, pe_iload1, pe_call2, pm_af_ret, pm_af_void, pm_af_thr, pe_astore4, pe_iload2, pe_aload4, pe_getfield, pe_iload3, pe_sipush, pe_imul, pe_iadd, pe_baload, pm_prog_1, pm_ob_some, Nat.reduceDiv, Nat.reduceMod, Nat.reduceMul, Nat.reduceAdd, Int.reduceToNat, pm_kill_i, pm_kill_r, pm_kill_n, pm_kill_j, pm_kill_l, pm_kill_d, pm_cats_nil, pm_cats_i, pm_cats_r, pm_cats_n, pm_cats_l, pm_cats_d, sz_1, sz_2, sl_1, sl_2, lc_0, lc_lt, lc_le, li_ne, va_rf, wr_m1, we_m1, pm_kill_w, Int32.reduceOfInt, Int64.reduceOfInt, Int32.reduceOfNat, Int32.reduceLT, Int32.reduceLE, Prod.mk.injEq, Nat.reduceEqDiff, reduceCtorEq, and_true, true_and, and_false, false_and, and_self, ite_true, ite_false, ↓reduceIte, not_true_eq_false, not_false_eq_true, pe_ri, pe_rz, pe_rc, p_throw, t839, w_junk hA, Ct_g10_2 hP hA, Ct_g10_9 hP hA, Ct_r12 hP hA, z1]
  · dsimp only at e z1
    by_cases k2 : 0 ≤ v1i ∧ v1i < 20
    · rw [if_pos k2] at e
      obtain ⟨r, k3, e⟩ := Option.bind_eq_some_iff.mp e
      have z3 := fun h => x837 (D := D) (h := h) (by omega) k3
      rcases r with c3 | _
      · dsimp only at e z3
        have e := Option.some.inj e; subst e
        simp -implicitDefEqProofs (disch := first | assumption | exact Nat.le_of_ble_eq_true rfl | decide) only [b839_0, pe_aload0, pe_iload1, pe_call2, pm_af_ret, pm_af_void, pm_af_thr, pe_astore4, pe_iload2, pe_aload4, pe_getfield, pe_iload3, pe_sipush, pe_imul, pe_iadd, pe_baload, pm_prog_1, pm_ob_some, Nat.reduceDiv, Nat.reduceMod, Nat.reduceMul, Nat.reduceAdd, Int.reduceToNat, pm_kill_i, pm_kill_r, pm_kill_n, pm_kill_j, pm_kill_l, pm_kill_d, pm_cats_nil, pm_cats_i, pm_cats_r, pm_cats_n, pm_cats_l, pm_cats_d, sz_1, sz_2, sl_1, sl_2, lc_0, lc_lt, lc_le, li_ne, va_rf, wr_m1, we_m1, pm_kill_w, Int32.reduceOfInt, Int64.reduceOfInt, Int32.reduceOfNat, Int32.reduceLT, Int32.reduceLE, Prod.mk.injEq, Nat.reduceEqDiff, reduceCtorEq, and_true, true_and, and_false, false_and, and_self, ite_true, ite_false, ↓reduceIte, not_true_eq_false, not_false_eq_true, pe_ri, pe_rz, pe_rc, p_throw, t839, w_junk hA, Ct_g10_2 hP hA, Ct_g10_9 hP hA, Ct_r12 hP hA, z1, z3]
      · dsimp only at e z3
        obtain ⟨r, k4, e⟩ := Option.bind_eq_some_iff.mp e
        have z4 := fun h => x837 (D := D) (h := h) (by omega) k4
        rcases r with c2 | _
        · dsimp only at e z4
          have e := Option.some.inj e; subst e
          simp -implicitDefEqProofs (disch := first | assumption | exact Nat.le_of_ble_eq_true rfl | decide) only [b839_0, pe_aload0, pe_iload1, pe_call2, pm_af_ret, pm_af_void, pm_af_thr, pe_astore4, pe_iload2, pe_aload4, pe_getfield, pe_iload3, pe_sipush, pe_imul, pe_iadd, pe_baload, pm_prog_1, pm_ob_some, Nat.reduceDiv, Nat.reduceMod, Nat.reduceMul, Nat.reduceAdd, Int.reduceToNat, pm_kill_i, pm_kill_r, pm_kill_n, pm_kill_j, pm_kill_l, pm_kill_d, pm_cats_nil, pm_cats_i, pm_cats_r, pm_cats_n, pm_cats_l, pm_cats_d, sz_1, sz_2, sl_1, sl_2, lc_0, lc_lt, lc_le, li_ne, va_rf, wr_m1, we_m1, pm_kill_w, Int32.reduceOfInt, Int64.reduceOfInt, Int32.reduceOfNat, Int32.reduceLT, Int32.reduceLE, Prod.mk.injEq, Nat.reduceEqDiff, reduceCtorEq, and_true, true_and, and_false, false_and, and_self, ite_true, ite_false, ↓reduceIte, not_true_eq_false, not_false_eq_true, pe_ri, pe_rz, pe_rc, p_throw, t839, w_junk hA, Ct_g10_2 hP hA, Ct_g10_9 hP hA, Ct_r12 hP hA, z1, z3, z4]
        · dsimp only at e z4
          by_cases k5 : 0 ≤ ((5 * x2) + x3) ∧ ((5 * x2) + x3) < 1280
          · rw [if_pos k5] at e
            have e := Option.some.inj e; subst e
            simp -implicitDefEqProofs (disch := first | assumption | exact Nat.le_of_ble_eq_true rfl | decide) only [b839_0, pe_aload0, pe_iload1, pe_call2, pm_af_ret, pm_af_void, pm_af_thr, pe_astore4, pe_iload2, pe_aload4, pe_getfield, pe_iload3, pe_sipush, pe_imul, pe_iadd, pe_baload, pm_prog_1, pm_ob_some, Nat.reduceDiv, Nat.reduceMod, Nat.reduceMul, Nat.reduceAdd, Int.reduceToNat, pm_kill_i, pm_kill_r, pm_kill_n, pm_kill_j, pm_kill_l, pm_kill_d, pm_cats_nil, pm_cats_i, pm_cats_r, pm_cats_n, pm_cats_l, pm_cats_d, sz_1, sz_2, sl_1, sl_2, lc_0, lc_lt, lc_le, li_ne, va_rf, wr_m1, we_m1, pm_kill_w, Int32.reduceOfInt, Int64.reduceOfInt, Int32.reduceOfNat, Int32.reduceLT, Int32.reduceLE, Prod.mk.injEq, Nat.reduceEqDiff, reduceCtorEq, and_true, true_and, and_false, false_and, and_self, ite_true, ite_false, ↓reduceIte, not_true_eq_false, not_false_eq_true, pe_ri, pe_rz, pe_rc, p_throw, t839, w_junk hA, Ct_g10_2 hP hA, Ct_g10_9 hP hA, Ct_r12 hP hA, z1, z3, z4]
          · rw [if_neg k5] at e; cases e
    · rw [if_neg k2] at e; cases e
/-- java/util/ArrayList.elementData(I)Ljava/lang/Object; -/
noncomputable def f4035t (sc : Int32) (pc : Int32) (sa : Int32) (pa : Int32) (S : wS) (x1 : Int32) : Option (Int32) :=
  if 0 < sa then
    if 0 ≤ x1 ∧ x1 < sa then
      if x1 < sc then
        if 0 ≤ x1 ∧ x1 < sc then
          some x1
        else none
      else none
    else none
  else none
theorem x4035t {sc : Int32} {pc : Int32} {sa : Int32} {pa : Int32} {A : wK → Nat} {h : pm_H} {D : Nat} {S : wS} {x1 : Int32} {r : Int32} (hP : Ct_P sc pc sa pa) (hA : wok A (Ct_d sc pc sa pa) h.1) (hD : 1 ≤ D) (e : f4035t sc pc sa pa S x1 = some r) : pm_call pm_prog D 4035 [.ref (A (20, 0, 0)), .int x1] (wput A (Ct_d sc pc sa pa) S h) = some (Outcome.returned (some (.ref (A (24, r, 0)))), (wput A (Ct_d sc pc sa pa) S h)) := by
  obtain ⟨D, rfl⟩ : ∃ D', D = D' + 1 := ⟨D - 1, by omega⟩
  have hD : 0 ≤ D := by omega
  simp only [f4035t] at e
  rw [c4035 (Ct_c20 hP hA), b4035_0]
  by_cases k1 : 0 < sa
  · rw [if_pos k1] at e
    by_cases k2 : 0 ≤ x1 ∧ x1 < sa
    · rw [if_pos k2] at e
      by_cases k3 : x1 < sc
      · rw [if_pos k3] at e
        by_cases k4 : 0 ≤ x1 ∧ x1 < sc
        · rw [if_pos k4] at e
          have e := Option.some.inj e; subst e
          simp -implicitDefEqProofs (disch := first | assumption | exact Nat.le_of_ble_eq_true rfl | decide) only [b4035_0, pe_aload0, pe_getfield, pe_iload1, pe_aaload, pe_areturn, pm_prog_1, pm_ob_some, Nat.reduceDiv, Nat.reduceMod, Nat.reduceMul, Nat.reduceAdd, Int.reduceToNat, pm_kill_i, pm_kill_r, pm_kill_n, pm_kill_j, pm_kill_l, pm_kill_d, pm_cats_nil, pm_cats_i, pm_cats_r, pm_cats_n, pm_cats_l, pm_cats_d, sz_1, sz_2, sl_1, sl_2, lc_0, lc_lt, lc_le, li_ne, va_rf, wr_m1, we_m1, pm_kill_w, Int32.reduceOfInt, Int64.reduceOfInt, Int32.reduceOfNat, Int32.reduceLT, Int32.reduceLE, Prod.mk.injEq, Nat.reduceEqDiff, reduceCtorEq, and_true, true_and, and_false, false_and, and_self, ite_true, ite_false, ↓reduceIte, not_true_eq_false, not_false_eq_true, pe_ri, pe_rz, pe_rc, Ct_g20_1 hP hA, Ct_r21 hP hA]
        · rw [if_neg k4] at e; cases e
      · rw [if_neg k3] at e; cases e
    · rw [if_neg k2] at e; cases e
  · rw [if_neg k1] at e; cases e
/-- java/util/ArrayList.get(I)Ljava/lang/Object; -/
noncomputable def f4034t (sc : Int32) (pc : Int32) (sa : Int32) (pa : Int32) (S : wS) (x1 : Int32) : Option (Int32) :=
  (f4736 x1 (S.1 (20, 0, 0) 2)).bind fun v1 =>
  (f4035t sc pc sa pa S x1).bind fun v2i =>
  if 0 ≤ v2i ∧ v2i < sc then
    some v2i
  else none
theorem x4034t {sc : Int32} {pc : Int32} {sa : Int32} {pa : Int32} {A : wK → Nat} {h : pm_H} {D : Nat} {S : wS} {x1 : Int32} {r : Int32} (hP : Ct_P sc pc sa pa) (hA : wok A (Ct_d sc pc sa pa) h.1) (hD : 3 ≤ D) (e : f4034t sc pc sa pa S x1 = some r) : pm_call pm_prog D 4034 [.ref (A (20, 0, 0)), .int x1] (wput A (Ct_d sc pc sa pa) S h) = some (Outcome.returned (some (.ref (A (24, r, 0)))), (wput A (Ct_d sc pc sa pa) S h)) := by
  obtain ⟨D, rfl⟩ : ∃ D', D = D' + 1 := ⟨D - 1, by omega⟩
  have hD : 2 ≤ D := by omega
  simp only [f4034t] at e
  rw [c4034 (Ct_c20 hP hA), b4034_0]
  obtain ⟨v1, k1, e⟩ := Option.bind_eq_some_iff.mp e
  try dsimp only at e
  have z1 := fun h => x4736 (D := D) (h := h) (by omega) k1
  obtain ⟨v2i, k2, e⟩ := Option.bind_eq_some_iff.mp e
  try dsimp only at e
  have z2 := x4035t (D := D) (h := h) hP hA (by omega) k2
  by_cases k3 : 0 ≤ v2i ∧ v2i < sc
  · rw [if_pos k3] at e
    have e := Option.some.inj e; subst e
    simp -implicitDefEqProofs (disch := first | assumption | exact Nat.le_of_ble_eq_true rfl | decide) only [b4034_0, pe_iload1, pe_aload0, pe_getfield, pe_call2, pm_af_ret, pm_af_void, pm_af_thr, pe_pop_i, pe_pop_r, pe_areturn, pm_prog_1, pm_ob_some, Nat.reduceDiv, Nat.reduceMod, Nat.reduceMul, Nat.reduceAdd, Int.reduceToNat, pm_kill_i, pm_kill_r, pm_kill_n, pm_kill_j, pm_kill_l, pm_kill_d, pm_cats_nil, pm_cats_i, pm_cats_r, pm_cats_n, pm_cats_l, pm_cats_d, sz_1, sz_2, sl_1, sl_2, lc_0, lc_lt, lc_le, li_ne, va_rf, wr_m1, we_m1, pm_kill_w, Int32.reduceOfInt, Int64.reduceOfInt, Int32.reduceOfNat, Int32.reduceLT, Int32.reduceLE, Prod.mk.injEq, Nat.reduceEqDiff, reduceCtorEq, and_true, true_and, and_false, false_and, and_self, ite_true, ite_false, ↓reduceIte, not_true_eq_false, not_false_eq_true, pe_ri, pe_rz, pe_rc, Ct_g20_2 hP hA, z1, z2]
  · rw [if_neg k3] at e; cases e
/-- TimberHouse$SheetTrees$Sheet.area()I -/
theorem c3008 {d : Nat} {h : pm_H} {a : Nat} (hc : pm_cls h a = some 47) : pm_call pm_prog (d + 1) 3008 [.ref a] h = pm_ev pm_prog (pm_call pm_prog d) 3008 0 b3008_0 [.ref a] [] h := pm_cal (pm_rc1 hc rfl) rfl rfl rfl
/-- TimberHouse$SheetTrees$Sheet.area()I -/
noncomputable def f3008 (sc : Int32) (pc : Int32) (sa : Int32) (pa : Int32) (S : wS) (x0i : Int32) : Option (Int32) :=
  if 0 ≤ x0i ∧ x0i < sc then
    some ((S.1 (24, x0i, 0) 0) * (S.1 (24, x0i, 0) 1))
  else none
theorem x3008 {sc : Int32} {pc : Int32} {sa : Int32} {pa : Int32} {A : wK → Nat} {h : pm_H} {D : Nat} {S : wS} {x0i : Int32} {r : Int32} (hP : Ct_P sc pc sa pa) (hA : wok A (Ct_d sc pc sa pa) h.1) (hD : 1 ≤ D) (e : f3008 sc pc sa pa S x0i = some r) : pm_call pm_prog D 3008 [.ref (A (24, x0i, 0))] (wput A (Ct_d sc pc sa pa) S h) = some (Outcome.returned (some (.int r)), (wput A (Ct_d sc pc sa pa) S h)) := by
  obtain ⟨D, rfl⟩ : ∃ D', D = D' + 1 := ⟨D - 1, by omega⟩
  have hD : 0 ≤ D := by omega
  simp only [f3008] at e
  have k1 : 0 ≤ x0i ∧ x0i < sc := by
    by_cases q : 0 ≤ x0i ∧ x0i < sc
    · exact q
    · rw [if_neg q] at e; cases e
  rw [if_pos k1] at e
  rw [c3008 (Ct_c24 hP hA k1), b3008_0]
  have e := Option.some.inj e; subst e
  simp -implicitDefEqProofs (disch := first | assumption | exact Nat.le_of_ble_eq_true rfl | decide) only [b3008_0, pe_aload0, pe_getfield, pe_imul, pm_prog_1, pm_ob_some, Nat.reduceDiv, Nat.reduceMod, Nat.reduceMul, Nat.reduceAdd, Int.reduceToNat, pm_kill_i, pm_kill_r, pm_kill_n, pm_kill_j, pm_kill_l, pm_kill_d, pm_cats_nil, pm_cats_i, pm_cats_r, pm_cats_n, pm_cats_l, pm_cats_d, sz_1, sz_2, sl_1, sl_2, lc_0, lc_lt, lc_le, li_ne, va_rf, wr_m1, we_m1, pm_kill_w, Int32.reduceOfInt, Int64.reduceOfInt, Int32.reduceOfNat, Int32.reduceLT, Int32.reduceLE, Prod.mk.injEq, Nat.reduceEqDiff, reduceCtorEq, and_true, true_and, and_false, false_and, and_self, ite_true, ite_false, ↓reduceIte, not_true_eq_false, not_false_eq_true, pe_ri, pe_rz, pe_rc, Ct_g24_0 hP hA, Ct_g24_1 hP hA]
/-- TimberHouse$SheetTrees.all(I)J -/
theorem c840 {d : Nat} {h : pm_H} {a : Nat} {x0 : Int32} (hc : pm_cls h a = some 13) : pm_call pm_prog (d + 1) 840 [.ref a, .int x0] h = pm_ev pm_prog (pm_call pm_prog d) 840 0 b840_0 [.ref a, .int x0, pm_junk, pm_junk, pm_junk, pm_junk] [] h := pm_cal (pm_rc1 hc rfl) rfl rfl rfl
theorem g840_1 {cl : pm_C} {ls st : List Value} {h : pm_H} : pm_go pm_prog cl 840 1 ls st h = pm_ev pm_prog cl 840 1 b840_1 ls st h := pm_go_eq pm_prog cl 840 1 ls st h
theorem g840_2 {cl : pm_C} {ls st : List Value} {h : pm_H} : pm_go pm_prog cl 840 2 ls st h = pm_ev pm_prog cl 840 2 b840_2 ls st h := pm_go_eq pm_prog cl 840 2 ls st h
theorem g840_3 {cl : pm_C} {ls st : List Value} {h : pm_H} : pm_go pm_prog cl 840 3 ls st h = pm_ev pm_prog cl 840 3 b840_3 ls st h := pm_go_eq pm_prog cl 840 3 ls st h
theorem g840_4 {cl : pm_C} {ls st : List Value} {h : pm_H} : pm_go pm_prog cl 840 4 ls st h = pm_ev pm_prog cl 840 4 b840_4 ls st h := pm_go_eq pm_prog cl 840 4 ls st h
theorem g840_5 {cl : pm_C} {ls st : List Value} {h : pm_H} : pm_go pm_prog cl 840 5 ls st h = pm_ev pm_prog cl 840 5 b840_5 ls st h := pm_go_eq pm_prog cl 840 5 ls st h
theorem t840 {cl : pm_C} {j : Nat} {ls : List Value} {c : Nat} {h : pm_H} : pm_thr pm_prog cl 840 j ls c h = some (.threw c, h) := rfl
noncomputable def f840_b1 (sc : Int32) (pc : Int32) (sa : Int32) (pa : Int32) (S : wS) : Int32 × Int64 × Int32 → Option ((Int32 × Int64 × Int32) ⊕ ((Int64))) := fun (x1, x2, x4) =>
  if x4 < (S.1 (0, 0, 0) 8) then
    if 0 ≤ x4 ∧ x4 < 20 then
      (f4034t sc pc sa pa S (S.1 (10, x4, 0) 0)).bind fun v1i =>
      if 0 ≤ v1i ∧ v1i < sc then
        if x1 = 0 then
          some (.inl (x1, (x2 + (Int32.toInt64 (S.1 (24, v1i, 0) 2))), (x4 + 1)))
        else
          if x1 = 1 then
            (f3008 sc pc sa pa S v1i).bind fun v2 =>
            some (.inl (x1, (x2 + (Int32.toInt64 v2)), (x4 + 1)))
          else
            some (.inl (x1, (x2 + (Int32.toInt64 (S.1 (10, x4, 0) 5))), (x4 + 1)))
      else none
    else none
  else
    some (.inr x2)
/-- TimberHouse$SheetTrees.all(I)J -/
noncomputable def f840 (sc : Int32) (pc : Int32) (sa : Int32) (pa : Int32) (S : wS) (x1 : Int32) : Option (Nat ⊕ (Int64)) :=
  (f836 (S.1 (0, 0, 0) 9)).bind fun r => match r with
  | .inl c5 =>
    some (.inl c5)
  | .inr _ =>
  (f837 x1 3).bind fun r => match r with
  | .inl c4 =>
    some (.inl c4)
  | .inr _ =>
  (lp (f840_b1 sc pc sa pa S) FU (x1, 0, 0)).bind fun v3 =>
  some (.inr v3)
def go840_1 (sc : Int32) (pc : Int32) (sa : Int32) (pa : Int32) (A : wK → Nat) (h : pm_H) (D : Nat) (R : Outcome × pm_H) (S : wS) : Int32 × Int64 × Int32 → Prop := fun (x1, x2, x4) => ∀ q5 : Value, pm_go pm_prog (pm_call pm_prog D) 840 1 [.ref (A (0, 0, 0)), .int x1, .long x2, pm_junk, .int x4, q5] [] (wput A (Ct_d sc pc sa pa) S h) = some R
def ex840_1 (sc : Int32) (pc : Int32) (sa : Int32) (pa : Int32) (A : wK → Nat) (h : pm_H) (D : Nat) (R : Outcome × pm_H) (S : wS) : (Int64) → Prop := fun x2 => ∀ q0 q1 q4 q5 : Value, pm_go pm_prog (pm_call pm_prog D) 840 5 [q0, q1, .long x2, pm_junk, q4, q5] [] (wput A (Ct_d sc pc sa pa) S h) = some R
theorem y840_b1 {sc : Int32} {pc : Int32} {sa : Int32} {pa : Int32} {A : wK → Nat} {h : pm_H} {D : Nat} {R : Outcome × pm_H} {S : wS} (hP : Ct_P sc pc sa pa) (hA : wok A (Ct_d sc pc sa pa) h.1) (hD : 3 ≤ D) (a : Int32 × Int64 × Int32) (r : (Int32 × Int64 × Int32) ⊕ ((Int64))) (e : f840_b1 sc pc sa pa S a = some r) (hc : Sum.elim (go840_1 sc pc sa pa A h D R S) (ex840_1 sc pc sa pa A h D R S) r) : go840_1 sc pc sa pa A h D R S a := by
  obtain ⟨x1, x2, x4⟩ := a
  dsimp only [go840_1]
  intro q5
  simp only [f840_b1] at e
  rw [g840_1, b840_1]
  by_cases k1 : x4 < (S.1 (0, 0, 0) 8)
  · rw [if_pos k1] at e
    by_cases k2 : 0 ≤ x4 ∧ x4 < 20
    · rw [if_pos k2] at e
      obtain ⟨v1i, k3, e⟩ := Option.bind_eq_some_iff.mp e
      try dsimp only at e
      have z3 := x4034t (D := D) (h := h) hP hA (by omega) k3
      by_cases k4 : 0 ≤ v1i ∧ v1i < sc
      · rw [if_pos k4] at e
        by_cases k5 : x1 = 0
        · rw [if_pos k5] at e
          have e := Option.some.inj e; subst e
          dsimp only [Sum.elim_inl, go840_1] at hc
          simp -implicitDefEqProofs (disch := first | assumption | exact Nat.le_of_ble_eq_true rfl | decide) only [b840_0, g840_2, b840_2, g840_3, b840_3, g840_4, b840_4, g840_5, b840_5, pe_aload0, pe_getfield, pe_call1, pm_af_ret, pm_af_void, pm_af_thr, pe_iload1, pe_sipush, pe_call2, pe_bipush, pe_lstore2, pe_istore4, pe_goto_w, pe_iload4, pe_icmp_ge, pe_aaload, pe_astore5, pe_lload2, pe_if_ne, pe_aload5, pe_i2l, pe_goto, pe_icmp_ne, pe_ladd, pe_iinc4, pe_lreturn, pm_prog_1, pm_ob_some, Nat.reduceDiv, Nat.reduceMod, Nat.reduceMul, Nat.reduceAdd, Int.reduceToNat, pm_kill_i, pm_kill_r, pm_kill_n, pm_kill_j, pm_kill_l, pm_kill_d, pm_cats_nil, pm_cats_i, pm_cats_r, pm_cats_n, pm_cats_l, pm_cats_d, sz_1, sz_2, sl_1, sl_2, lc_0, lc_lt, lc_le, li_ne, va_rf, wr_m1, we_m1, pm_kill_w, Int32.reduceOfInt, Int64.reduceOfInt, Int32.reduceOfNat, Int32.reduceLT, Int32.reduceLE, Prod.mk.injEq, Nat.reduceEqDiff, reduceCtorEq, and_true, true_and, and_false, false_and, and_self, ite_true, ite_false, ↓reduceIte, not_true_eq_false, not_false_eq_true, pe_ri, pe_rz, pe_rc, p_throw, t840, w_junk hA, Ct_g0_3 hP hA, Ct_g0_5 hP hA, Ct_g0_8 hP hA, Ct_g0_9 hP hA, Ct_g10_0 hP hA, Ct_g10_5 hP hA, Ct_g24_2 hP hA, Ct_k24 hP hA, Ct_r9 hP hA, eq_true k1, z3, eq_true k5, hc]
        · rw [if_neg k5] at e
          by_cases k6 : x1 = 1
          · rw [if_pos k6] at e
            obtain ⟨v2, k7, e⟩ := Option.bind_eq_some_iff.mp e
            try dsimp only at e
            have z7 := x3008 (D := D) (h := h) hP hA (by omega) k7
            have e := Option.some.inj e; subst e
            dsimp only [Sum.elim_inl, go840_1] at hc
            simp -implicitDefEqProofs (disch := first | assumption | exact Nat.le_of_ble_eq_true rfl | decide) only [b840_0, g840_2, b840_2, g840_3, b840_3, g840_4, b840_4, g840_5, b840_5, pe_aload0, pe_getfield, pe_call1, pm_af_ret, pm_af_void, pm_af_thr, pe_iload1, pe_sipush, pe_call2, pe_bipush, pe_lstore2, pe_istore4, pe_goto_w, pe_iload4, pe_icmp_ge, pe_aaload, pe_astore5, pe_lload2, pe_if_ne, pe_aload5, pe_i2l, pe_goto, pe_icmp_ne, pe_ladd, pe_iinc4, pe_lreturn, pm_prog_1, pm_ob_some, Nat.reduceDiv, Nat.reduceMod, Nat.reduceMul, Nat.reduceAdd, Int.reduceToNat, pm_kill_i, pm_kill_r, pm_kill_n, pm_kill_j, pm_kill_l, pm_kill_d, pm_cats_nil, pm_cats_i, pm_cats_r, pm_cats_n, pm_cats_l, pm_cats_d, sz_1, sz_2, sl_1, sl_2, lc_0, lc_lt, lc_le, li_ne, va_rf, wr_m1, we_m1, pm_kill_w, Int32.reduceOfInt, Int64.reduceOfInt, Int32.reduceOfNat, Int32.reduceLT, Int32.reduceLE, Prod.mk.injEq, Nat.reduceEqDiff, reduceCtorEq, and_true, true_and, and_false, false_and, and_self, ite_true, ite_false, ↓reduceIte, not_true_eq_false, not_false_eq_true, pe_ri, pe_rz, pe_rc, p_throw, t840, w_junk hA, Ct_g0_3 hP hA, Ct_g0_5 hP hA, Ct_g0_8 hP hA, Ct_g0_9 hP hA, Ct_g10_0 hP hA, Ct_g10_5 hP hA, Ct_g24_2 hP hA, Ct_k24 hP hA, Ct_r9 hP hA, eq_true k1, z3, eq_false k5, eq_true k6, z7, hc]
          · rw [if_neg k6] at e
            have e := Option.some.inj e; subst e
            dsimp only [Sum.elim_inl, go840_1] at hc
            simp -implicitDefEqProofs (disch := first | assumption | exact Nat.le_of_ble_eq_true rfl | decide) only [b840_0, g840_2, b840_2, g840_3, b840_3, g840_4, b840_4, g840_5, b840_5, pe_aload0, pe_getfield, pe_call1, pm_af_ret, pm_af_void, pm_af_thr, pe_iload1, pe_sipush, pe_call2, pe_bipush, pe_lstore2, pe_istore4, pe_goto_w, pe_iload4, pe_icmp_ge, pe_aaload, pe_astore5, pe_lload2, pe_if_ne, pe_aload5, pe_i2l, pe_goto, pe_icmp_ne, pe_ladd, pe_iinc4, pe_lreturn, pm_prog_1, pm_ob_some, Nat.reduceDiv, Nat.reduceMod, Nat.reduceMul, Nat.reduceAdd, Int.reduceToNat, pm_kill_i, pm_kill_r, pm_kill_n, pm_kill_j, pm_kill_l, pm_kill_d, pm_cats_nil, pm_cats_i, pm_cats_r, pm_cats_n, pm_cats_l, pm_cats_d, sz_1, sz_2, sl_1, sl_2, lc_0, lc_lt, lc_le, li_ne, va_rf, wr_m1, we_m1, pm_kill_w, Int32.reduceOfInt, Int64.reduceOfInt, Int32.reduceOfNat, Int32.reduceLT, Int32.reduceLE, Prod.mk.injEq, Nat.reduceEqDiff, reduceCtorEq, and_true, true_and, and_false, false_and, and_self, ite_true, ite_false, ↓reduceIte, not_true_eq_false, not_false_eq_true, pe_ri, pe_rz, pe_rc, p_throw, t840, w_junk hA, Ct_g0_3 hP hA, Ct_g0_5 hP hA, Ct_g0_8 hP hA, Ct_g0_9 hP hA, Ct_g10_0 hP hA, Ct_g10_5 hP hA, Ct_g24_2 hP hA, Ct_k24 hP hA, Ct_r9 hP hA, eq_true k1, z3, eq_false k5, eq_false k6, hc]
      · rw [if_neg k4] at e; cases e
    · rw [if_neg k2] at e; cases e
  · rw [if_neg k1] at e
    have e := Option.some.inj e; subst e
    dsimp only [Sum.elim_inr, ex840_1] at hc
    simp -implicitDefEqProofs (disch := first | assumption | exact Nat.le_of_ble_eq_true rfl | decide) only [b840_0, g840_2, b840_2, g840_3, b840_3, g840_4, b840_4, g840_5, b840_5, pe_aload0, pe_getfield, pe_call1, pm_af_ret, pm_af_void, pm_af_thr, pe_iload1, pe_sipush, pe_call2, pe_bipush, pe_lstore2, pe_istore4, pe_goto_w, pe_iload4, pe_icmp_ge, pe_aaload, pe_astore5, pe_lload2, pe_if_ne, pe_aload5, pe_i2l, pe_goto, pe_icmp_ne, pe_ladd, pe_iinc4, pe_lreturn, pm_prog_1, pm_ob_some, Nat.reduceDiv, Nat.reduceMod, Nat.reduceMul, Nat.reduceAdd, Int.reduceToNat, pm_kill_i, pm_kill_r, pm_kill_n, pm_kill_j, pm_kill_l, pm_kill_d, pm_cats_nil, pm_cats_i, pm_cats_r, pm_cats_n, pm_cats_l, pm_cats_d, sz_1, sz_2, sl_1, sl_2, lc_0, lc_lt, lc_le, li_ne, va_rf, wr_m1, we_m1, pm_kill_w, Int32.reduceOfInt, Int64.reduceOfInt, Int32.reduceOfNat, Int32.reduceLT, Int32.reduceLE, Prod.mk.injEq, Nat.reduceEqDiff, reduceCtorEq, and_true, true_and, and_false, false_and, and_self, ite_true, ite_false, ↓reduceIte, not_true_eq_false, not_false_eq_true, pe_ri, pe_rz, pe_rc, p_throw, t840, w_junk hA, Ct_g0_3 hP hA, Ct_g0_5 hP hA, Ct_g0_8 hP hA, Ct_g0_9 hP hA, Ct_g10_0 hP hA, Ct_g10_5 hP hA, Ct_g24_2 hP hA, Ct_k24 hP hA, Ct_r9 hP hA, eq_false k1, hc]
theorem z840_1 {sc : Int32} {pc : Int32} {sa : Int32} {pa : Int32} {A : wK → Nat} {h : pm_H} {D : Nat} {R : Outcome × pm_H} {S : wS} (hP : Ct_P sc pc sa pa) (hA : wok A (Ct_d sc pc sa pa) h.1) (hD : 3 ≤ D) {n : Nat} {a : Int32 × Int64 × Int32} {b : (Int64)} (e : lp (f840_b1 sc pc sa pa S) n a = some b) (hx : ex840_1 sc pc sa pa A h D R S b) : go840_1 sc pc sa pa A h D R S a := lp_run (fun a r => y840_b1 hP hA hD a r) n a b e hx
theorem x840 {sc : Int32} {pc : Int32} {sa : Int32} {pa : Int32} {A : wK → Nat} {h : pm_H} {D : Nat} {S : wS} {x1 : Int32} {r : Nat ⊕ (Int64)} (hP : Ct_P sc pc sa pa) (hA : wok A (Ct_d sc pc sa pa) h.1) (hD : 4 ≤ D) (e : f840 sc pc sa pa S x1 = some r) : pm_call pm_prog D 840 [.ref (A (0, 0, 0)), .int x1] (wput A (Ct_d sc pc sa pa) S h) = some (match (generalizing := false) r with | .inl c => (Outcome.threw c, (wput A (Ct_d sc pc sa pa) S (pm_new h 6 (.inr (c, []))))) | .inr w0 => (Outcome.returned (some (.long w0)), (wput A (Ct_d sc pc sa pa) S h))) := by
  obtain ⟨D, rfl⟩ : ∃ D', D = D' + 1 := ⟨D - 1, by omega⟩
  have hD : 3 ≤ D := by omega
  simp only [f840] at e
  rw [c840 (Ct_c0 hP hA), b840_0]
  obtain ⟨r, k1, e⟩ := Option.bind_eq_some_iff.mp e
  have z1 := fun h => x836 (D := D) (h := h) (by omega) k1
  rcases r with c5 | _
  · dsimp only at e z1
    have e := Option.some.inj e; subst e
    simp -implicitDefEqProofs (disch := first | assumption | exact Nat.le_of_ble_eq_true rfl | decide) only [b840_0, g840_2, b840_2, g840_3, b840_3, g840_4, b840_4, g840_5, b840_5, pe_aload0, pe_getfield, pe_call1, pm_af_ret, pm_af_void, pm_af_thr, pe_iload1, pe_sipush, pe_call2, pe_bipush, pe_lstore2, pe_istore4, pe_goto_w, pe_iload4, pe_icmp_ge, pe_aaload, pe_astore5, pe_lload2, pe_if_ne, pe_aload5, pe_i2l, pe_goto, pe_icmp_ne, pe_ladd, pe_iinc4, pe_lreturn, pm_prog_1, pm_ob_some, Nat.reduceDiv, Nat.reduceMod, Nat.reduceMul, Nat.reduceAdd, Int.reduceToNat, pm_kill_i, pm_kill_r, pm_kill_n, pm_kill_j, pm_kill_l, pm_kill_d, pm_cats_nil, pm_cats_i, pm_cats_r, pm_cats_n, pm_cats_l, pm_cats_d, sz_1, sz_2, sl_1, sl_2, lc_0, lc_lt, lc_le, li_ne, va_rf, wr_m1, we_m1, pm_kill_w, Int32.reduceOfInt, Int64.reduceOfInt, Int32.reduceOfNat, Int32.reduceLT, Int32.reduceLE, Prod.mk.injEq, Nat.reduceEqDiff, reduceCtorEq, and_true, true_and, and_false, false_and, and_self, ite_true, ite_false, ↓reduceIte, not_true_eq_false, not_false_eq_true, pe_ri, pe_rz, pe_rc, p_throw, t840, w_junk hA, Ct_g0_3 hP hA, Ct_g0_5 hP hA, Ct_g0_8 hP hA, Ct_g0_9 hP hA, Ct_g10_0 hP hA, Ct_g10_5 hP hA, Ct_g24_2 hP hA, Ct_k24 hP hA, Ct_r9 hP hA, z1]
  · dsimp only at e z1
    obtain ⟨r, k2, e⟩ := Option.bind_eq_some_iff.mp e
    have z2 := fun h => x837 (D := D) (h := h) (by omega) k2
    rcases r with c4 | _
    · dsimp only at e z2
      have e := Option.some.inj e; subst e
      simp -implicitDefEqProofs (disch := first | assumption | exact Nat.le_of_ble_eq_true rfl | decide) only [b840_0, g840_2, b840_2, g840_3, b840_3, g840_4, b840_4, g840_5, b840_5, pe_aload0, pe_getfield, pe_call1, pm_af_ret, pm_af_void, pm_af_thr, pe_iload1, pe_sipush, pe_call2, pe_bipush, pe_lstore2, pe_istore4, pe_goto_w, pe_iload4, pe_icmp_ge, pe_aaload, pe_astore5, pe_lload2, pe_if_ne, pe_aload5, pe_i2l, pe_goto, pe_icmp_ne, pe_ladd, pe_iinc4, pe_lreturn, pm_prog_1, pm_ob_some, Nat.reduceDiv, Nat.reduceMod, Nat.reduceMul, Nat.reduceAdd, Int.reduceToNat, pm_kill_i, pm_kill_r, pm_kill_n, pm_kill_j, pm_kill_l, pm_kill_d, pm_cats_nil, pm_cats_i, pm_cats_r, pm_cats_n, pm_cats_l, pm_cats_d, sz_1, sz_2, sl_1, sl_2, lc_0, lc_lt, lc_le, li_ne, va_rf, wr_m1, we_m1, pm_kill_w, Int32.reduceOfInt, Int64.reduceOfInt, Int32.reduceOfNat, Int32.reduceLT, Int32.reduceLE, Prod.mk.injEq, Nat.reduceEqDiff, reduceCtorEq, and_true, true_and, and_false, false_and, and_self, ite_true, ite_false, ↓reduceIte, not_true_eq_false, not_false_eq_true, pe_ri, pe_rz, pe_rc, p_throw, t840, w_junk hA, Ct_g0_3 hP hA, Ct_g0_5 hP hA, Ct_g0_8 hP hA, Ct_g0_9 hP hA, Ct_g10_0 hP hA, Ct_g10_5 hP hA, Ct_g24_2 hP hA, Ct_k24 hP hA, Ct_r9 hP hA, z1, z2]
    · dsimp only at e z2
      obtain ⟨v3, k3, e⟩ := Option.bind_eq_some_iff.mp e
      try dsimp only at e
      try simp -implicitDefEqProofs (disch := first | assumption | exact Nat.le_of_ble_eq_true rfl | decide) only [b840_0, g840_2, b840_2, g840_3, b840_3, g840_4, b840_4, g840_5, b840_5, pe_aload0, pe_getfield, pe_call1, pm_af_ret, pm_af_void, pm_af_thr, pe_iload1, pe_sipush, pe_call2, pe_bipush, pe_lstore2, pe_istore4, pe_goto_w, pe_iload4, pe_icmp_ge, pe_aaload, pe_astore5, pe_lload2, pe_if_ne, pe_aload5, pe_i2l, pe_goto, pe_icmp_ne, pe_ladd, pe_iinc4, pe_lreturn, pm_prog_1, pm_ob_some, Nat.reduceDiv, Nat.reduceMod, Nat.reduceMul, Nat.reduceAdd, Int.reduceToNat, pm_kill_i, pm_kill_r, pm_kill_n, pm_kill_j, pm_kill_l, pm_kill_d, pm_cats_nil, pm_cats_i, pm_cats_r, pm_cats_n, pm_cats_l, pm_cats_d, sz_1, sz_2, sl_1, sl_2, lc_0, lc_lt, lc_le, li_ne, va_rf, wr_m1, we_m1, pm_kill_w, Int32.reduceOfInt, Int64.reduceOfInt, Int32.reduceOfNat, Int32.reduceLT, Int32.reduceLE, Prod.mk.injEq, Nat.reduceEqDiff, reduceCtorEq, and_true, true_and, and_false, false_and, and_self, ite_true, ite_false, ↓reduceIte, not_true_eq_false, not_false_eq_true, pe_ri, pe_rz, pe_rc, p_throw, t840, w_junk hA, Ct_g0_3 hP hA, Ct_g0_5 hP hA, Ct_g0_8 hP hA, Ct_g0_9 hP hA, Ct_g10_0 hP hA, Ct_g10_5 hP hA, Ct_g24_2 hP hA, Ct_k24 hP hA, Ct_r9 hP hA, z1, z2]
      refine z840_1 hP hA hD k3 ?_ _
      dsimp only [ex840_1]
      intro q0 q1 q4 q5
      have e := Option.some.inj e; subst e
      simp -implicitDefEqProofs (disch := first | assumption | exact Nat.le_of_ble_eq_true rfl | decide) only [b840_0, g840_2, b840_2, g840_3, b840_3, g840_4, b840_4, g840_5, b840_5, pe_aload0, pe_getfield, pe_call1, pm_af_ret, pm_af_void, pm_af_thr, pe_iload1, pe_sipush, pe_call2, pe_bipush, pe_lstore2, pe_istore4, pe_goto_w, pe_iload4, pe_icmp_ge, pe_aaload, pe_astore5, pe_lload2, pe_if_ne, pe_aload5, pe_i2l, pe_goto, pe_icmp_ne, pe_ladd, pe_iinc4, pe_lreturn, pm_prog_1, pm_ob_some, Nat.reduceDiv, Nat.reduceMod, Nat.reduceMul, Nat.reduceAdd, Int.reduceToNat, pm_kill_i, pm_kill_r, pm_kill_n, pm_kill_j, pm_kill_l, pm_kill_d, pm_cats_nil, pm_cats_i, pm_cats_r, pm_cats_n, pm_cats_l, pm_cats_d, sz_1, sz_2, sl_1, sl_2, lc_0, lc_lt, lc_le, li_ne, va_rf, wr_m1, we_m1, pm_kill_w, Int32.reduceOfInt, Int64.reduceOfInt, Int32.reduceOfNat, Int32.reduceLT, Int32.reduceLE, Prod.mk.injEq, Nat.reduceEqDiff, reduceCtorEq, and_true, true_and, and_false, false_and, and_self, ite_true, ite_false, ↓reduceIte, not_true_eq_false, not_false_eq_true, pe_ri, pe_rz, pe_rc, p_throw, t840, w_junk hA, Ct_g0_3 hP hA, Ct_g0_5 hP hA, Ct_g0_8 hP hA, Ct_g0_9 hP hA, Ct_g10_0 hP hA, Ct_g10_5 hP hA, Ct_g24_2 hP hA, Ct_k24 hP hA, Ct_r9 hP hA, z1, z2]
/-- TimberHouse$SheetTrees.isIn(III)Z -/
theorem c843 {d : Nat} {h : pm_H} {x0 : Int32} {x1 : Int32} {x2 : Int32} : pm_call pm_prog (d + 1) 843 [.int x0, .int x1, .int x2] h = pm_ev pm_prog (pm_call pm_prog d) 843 0 b843_0 [.int x0, .int x1, .int x2] [] h := pm_cal (pm_rc0 rfl) rfl rfl rfl
theorem g843_1 {cl : pm_C} {ls st : List Value} {h : pm_H} : pm_go pm_prog cl 843 1 ls st h = pm_ev pm_prog cl 843 1 b843_1 ls st h := pm_go_eq pm_prog cl 843 1 ls st h
theorem g843_2 {cl : pm_C} {ls st : List Value} {h : pm_H} : pm_go pm_prog cl 843 2 ls st h = pm_ev pm_prog cl 843 2 b843_2 ls st h := pm_go_eq pm_prog cl 843 2 ls st h
/-- TimberHouse$SheetTrees.isIn(III)Z -/
noncomputable def f843 (x0 : Int32) (x1 : Int32) (x2 : Int32) : Option (Int32) :=
  if x0 < x1 then
    some 0
  else
    if x0 ≤ x2 then
      some 1
    else
      some 0
theorem x843 {h : pm_H} {D : Nat} {x0 : Int32} {x1 : Int32} {x2 : Int32} {r : Int32} (hD : 1 ≤ D) (e : f843 x0 x1 x2 = some r) : pm_call pm_prog D 843 [.int x0, .int x1, .int x2] h = some (Outcome.returned (some (.int r)), h) := by
  obtain ⟨D, rfl⟩ : ∃ D', D = D' + 1 := ⟨D - 1, by omega⟩
  have hD : 0 ≤ D := by omega
  simp only [f843] at e
  rw [c843, b843_0]
  by_cases k1 : x0 < x1
  · rw [if_pos k1] at e
    have e := Option.some.inj e; subst e
    simp -implicitDefEqProofs (disch := first | assumption | exact Nat.le_of_ble_eq_true rfl | decide) only [b843_0, g843_1, b843_1, g843_2, b843_2, pe_iload0, pe_iload1, pe_icmp_lt, pe_iload2, pe_icmp_gt, pe_sipush, pe_goto, pe_goto_w, pm_prog_1, pm_ob_some, Nat.reduceDiv, Nat.reduceMod, Nat.reduceMul, Nat.reduceAdd, Int.reduceToNat, pm_kill_i, pm_kill_r, pm_kill_n, pm_kill_j, pm_kill_l, pm_kill_d, pm_cats_nil, pm_cats_i, pm_cats_r, pm_cats_n, pm_cats_l, pm_cats_d, sz_1, sz_2, sl_1, sl_2, lc_0, lc_lt, lc_le, li_ne, va_rf, wr_m1, we_m1, pm_kill_w, Int32.reduceOfInt, Int64.reduceOfInt, Int32.reduceOfNat, Int32.reduceLT, Int32.reduceLE, Prod.mk.injEq, Nat.reduceEqDiff, reduceCtorEq, and_true, true_and, and_false, false_and, and_self, ite_true, ite_false, ↓reduceIte, not_true_eq_false, not_false_eq_true, pe_ri, pe_rz, pe_rc, eq_true k1]
  · rw [if_neg k1] at e
    by_cases k2 : x0 ≤ x2
    · rw [if_pos k2] at e
      have e := Option.some.inj e; subst e
      simp -implicitDefEqProofs (disch := first | assumption | exact Nat.le_of_ble_eq_true rfl | decide) only [b843_0, g843_1, b843_1, g843_2, b843_2, pe_iload0, pe_iload1, pe_icmp_lt, pe_iload2, pe_icmp_gt, pe_sipush, pe_goto, pe_goto_w, pm_prog_1, pm_ob_some, Nat.reduceDiv, Nat.reduceMod, Nat.reduceMul, Nat.reduceAdd, Int.reduceToNat, pm_kill_i, pm_kill_r, pm_kill_n, pm_kill_j, pm_kill_l, pm_kill_d, pm_cats_nil, pm_cats_i, pm_cats_r, pm_cats_n, pm_cats_l, pm_cats_d, sz_1, sz_2, sl_1, sl_2, lc_0, lc_lt, lc_le, li_ne, va_rf, wr_m1, we_m1, pm_kill_w, Int32.reduceOfInt, Int64.reduceOfInt, Int32.reduceOfNat, Int32.reduceLT, Int32.reduceLE, Prod.mk.injEq, Nat.reduceEqDiff, reduceCtorEq, and_true, true_and, and_false, false_and, and_self, ite_true, ite_false, ↓reduceIte, not_true_eq_false, not_false_eq_true, pe_ri, pe_rz, pe_rc, eq_false k1, eq_true k2]
    · rw [if_neg k2] at e
      have e := Option.some.inj e; subst e
      simp -implicitDefEqProofs (disch := first | assumption | exact Nat.le_of_ble_eq_true rfl | decide) only [b843_0, g843_1, b843_1, g843_2, b843_2, pe_iload0, pe_iload1, pe_icmp_lt, pe_iload2, pe_icmp_gt, pe_sipush, pe_goto, pe_goto_w, pm_prog_1, pm_ob_some, Nat.reduceDiv, Nat.reduceMod, Nat.reduceMul, Nat.reduceAdd, Int.reduceToNat, pm_kill_i, pm_kill_r, pm_kill_n, pm_kill_j, pm_kill_l, pm_kill_d, pm_cats_nil, pm_cats_i, pm_cats_r, pm_cats_n, pm_cats_l, pm_cats_d, sz_1, sz_2, sl_1, sl_2, lc_0, lc_lt, lc_le, li_ne, va_rf, wr_m1, we_m1, pm_kill_w, Int32.reduceOfInt, Int64.reduceOfInt, Int32.reduceOfNat, Int32.reduceLT, Int32.reduceLE, Prod.mk.injEq, Nat.reduceEqDiff, reduceCtorEq, and_true, true_and, and_false, false_and, and_self, ite_true, ite_false, ↓reduceIte, not_true_eq_false, not_false_eq_true, pe_ri, pe_rz, pe_rc, eq_false k1, eq_false k2]
/-- TimberHouse$SheetTrees.isSide(I)Z -/
theorem c842 {d : Nat} {h : pm_H} {x0 : Int32} : pm_call pm_prog (d + 1) 842 [.int x0] h = pm_ev pm_prog (pm_call pm_prog d) 842 0 b842_0 [.int x0] [] h := pm_cal (pm_rc0 rfl) rfl rfl rfl
/-- TimberHouse$SheetTrees.isSide(I)Z -/
noncomputable def f842 (x0 : Int32) : Option (Int32) :=
  (f843 x0 1 16).bind fun v1 =>
  if v1 = 0 ∨ v1 = 1 then
    some v1
  else none
theorem x842 {h : pm_H} {D : Nat} {x0 : Int32} {r : Int32} (hD : 2 ≤ D) (e : f842 x0 = some r) : pm_call pm_prog D 842 [.int x0] h = some (Outcome.returned (some (.int r)), h) := by
  obtain ⟨D, rfl⟩ : ∃ D', D = D' + 1 := ⟨D - 1, by omega⟩
  have hD : 1 ≤ D := by omega
  simp only [f842] at e
  rw [c842, b842_0]
  obtain ⟨v1, k1, e⟩ := Option.bind_eq_some_iff.mp e
  try dsimp only at e
  have z1 := fun h => x843 (D := D) (h := h) (by omega) k1
  by_cases k2 : v1 = 0 ∨ v1 = 1
  · rw [if_pos k2] at e
    have e := Option.some.inj e; subst e
    simp -implicitDefEqProofs (disch := first | assumption | exact Nat.le_of_ble_eq_true rfl | decide) only [b842_0, pe_iload0, pe_sipush, pe_call3, pm_af_ret, pm_af_void, pm_af_thr, pm_prog_1, pm_ob_some, Nat.reduceDiv, Nat.reduceMod, Nat.reduceMul, Nat.reduceAdd, Int.reduceToNat, pm_kill_i, pm_kill_r, pm_kill_n, pm_kill_j, pm_kill_l, pm_kill_d, pm_cats_nil, pm_cats_i, pm_cats_r, pm_cats_n, pm_cats_l, pm_cats_d, sz_1, sz_2, sl_1, sl_2, lc_0, lc_lt, lc_le, li_ne, va_rf, wr_m1, we_m1, pm_kill_w, Int32.reduceOfInt, Int64.reduceOfInt, Int32.reduceOfNat, Int32.reduceLT, Int32.reduceLE, Prod.mk.injEq, Nat.reduceEqDiff, reduceCtorEq, and_true, true_and, and_false, false_and, and_self, ite_true, ite_false, ↓reduceIte, not_true_eq_false, not_false_eq_true, pe_ri, pe_rz, pe_rc, z1]
  · rw [if_neg k2] at e; cases e
/-- TimberHouse$SheetTrees.need(Z)V -/
theorem c844 {d : Nat} {h : pm_H} {x0 : Int32} : pm_call pm_prog (d + 1) 844 [.int x0] h = pm_ev pm_prog (pm_call pm_prog d) 844 0 b844_0 [.int x0] [] h := pm_cal (pm_rc0 rfl) rfl rfl rfl
theorem g844_1 {cl : pm_C} {ls st : List Value} {h : pm_H} : pm_go pm_prog cl 844 1 ls st h = pm_ev pm_prog cl 844 1 b844_1 ls st h := pm_go_eq pm_prog cl 844 1 ls st h
theorem t844 {cl : pm_C} {j : Nat} {ls : List Value} {c : Nat} {h : pm_H} : pm_thr pm_prog cl 844 j ls c h = some (.threw c, h) := rfl
/-- TimberHouse$SheetTrees.need(Z)V -/
noncomputable def f844 (x0 : Int32) : Option (Nat ⊕ (Unit)) :=
  if x0 = 0 then
    some (.inl 70)
  else
    some (.inr ())
theorem x844 {h : pm_H} {D : Nat} {x0 : Int32} {r : Nat ⊕ (Unit)} (hD : 1 ≤ D) (e : f844 x0 = some r) : pm_call pm_prog D 844 [.int x0] h = some (match (generalizing := false) r with | .inl c => (Outcome.threw c, (pm_new h 6 (.inr (c, [])))) | .inr _ => (Outcome.returned none, h)) := by
  obtain ⟨D, rfl⟩ : ∃ D', D = D' + 1 := ⟨D - 1, by omega⟩
  have hD : 0 ≤ D := by omega
  simp only [f844] at e
  rw [c844, b844_0]
  by_cases k1 : x0 = 0
  · rw [if_pos k1] at e
    have e := Option.some.inj e; subst e
    simp -implicitDefEqProofs (disch := first | assumption | exact Nat.le_of_ble_eq_true rfl | decide) only [b844_0, g844_1, b844_1, pe_iload0, pe_if_ne, pe_return, pm_prog_1, pm_ob_some, Nat.reduceDiv, Nat.reduceMod, Nat.reduceMul, Nat.reduceAdd, Int.reduceToNat, pm_kill_i, pm_kill_r, pm_kill_n, pm_kill_j, pm_kill_l, pm_kill_d, pm_cats_nil, pm_cats_i, pm_cats_r, pm_cats_n, pm_cats_l, pm_cats_d, sz_1, sz_2, sl_1, sl_2, lc_0, lc_lt, lc_le, li_ne, va_rf, wr_m1, we_m1, pm_kill_w, Int32.reduceOfInt, Int64.reduceOfInt, Int32.reduceOfNat, Int32.reduceLT, Int32.reduceLE, Prod.mk.injEq, Nat.reduceEqDiff, reduceCtorEq, and_true, true_and, and_false, false_and, and_self, ite_true, ite_false, ↓reduceIte, not_true_eq_false, not_false_eq_true, pe_ri, pe_rz, pe_rc, p_throw, t844, eq_true k1]
  · rw [if_neg k1] at e
    have e := Option.some.inj e; subst e
    simp -implicitDefEqProofs (disch := first | assumption | exact Nat.le_of_ble_eq_true rfl | decide) only [b844_0, g844_1, b844_1, pe_iload0, pe_if_ne, pe_return, pm_prog_1, pm_ob_some, Nat.reduceDiv, Nat.reduceMod, Nat.reduceMul, Nat.reduceAdd, Int.reduceToNat, pm_kill_i, pm_kill_r, pm_kill_n, pm_kill_j, pm_kill_l, pm_kill_d, pm_cats_nil, pm_cats_i, pm_cats_r, pm_cats_n, pm_cats_l, pm_cats_d, sz_1, sz_2, sl_1, sl_2, lc_0, lc_lt, lc_le, li_ne, va_rf, wr_m1, we_m1, pm_kill_w, Int32.reduceOfInt, Int64.reduceOfInt, Int32.reduceOfNat, Int32.reduceLT, Int32.reduceLE, Prod.mk.injEq, Nat.reduceEqDiff, reduceCtorEq, and_true, true_and, and_false, false_and, and_self, ite_true, ite_false, ↓reduceIte, not_true_eq_false, not_false_eq_true, pe_ri, pe_rz, pe_rc, p_throw, t844, eq_false k1]
/-- java/util/ArrayList.size()I -/
noncomputable def f4033t (sc : Int32) (pc : Int32) (sa : Int32) (pa : Int32) (S : wS) : Option (Int32) :=
  some (S.1 (20, 0, 0) 2)
theorem x4033t {sc : Int32} {pc : Int32} {sa : Int32} {pa : Int32} {A : wK → Nat} {h : pm_H} {D : Nat} {S : wS} {r : Int32} (hP : Ct_P sc pc sa pa) (hA : wok A (Ct_d sc pc sa pa) h.1) (hD : 1 ≤ D) (e : f4033t sc pc sa pa S = some r) : pm_call pm_prog D 4033 [.ref (A (20, 0, 0))] (wput A (Ct_d sc pc sa pa) S h) = some (Outcome.returned (some (.int r)), (wput A (Ct_d sc pc sa pa) S h)) := by
  obtain ⟨D, rfl⟩ : ∃ D', D = D' + 1 := ⟨D - 1, by omega⟩
  have hD : 0 ≤ D := by omega
  simp only [f4033t] at e
  rw [c4033 (Ct_c20 hP hA), b4033_0]
  have e := Option.some.inj e; subst e
  simp -implicitDefEqProofs (disch := first | assumption | exact Nat.le_of_ble_eq_true rfl | decide) only [b4033_0, pe_aload0, pe_getfield, pm_prog_1, pm_ob_some, Nat.reduceDiv, Nat.reduceMod, Nat.reduceMul, Nat.reduceAdd, Int.reduceToNat, pm_kill_i, pm_kill_r, pm_kill_n, pm_kill_j, pm_kill_l, pm_kill_d, pm_cats_nil, pm_cats_i, pm_cats_r, pm_cats_n, pm_cats_l, pm_cats_d, sz_1, sz_2, sl_1, sl_2, lc_0, lc_lt, lc_le, li_ne, va_rf, wr_m1, we_m1, pm_kill_w, Int32.reduceOfInt, Int64.reduceOfInt, Int32.reduceOfNat, Int32.reduceLT, Int32.reduceLE, Prod.mk.injEq, Nat.reduceEqDiff, reduceCtorEq, and_true, true_and, and_false, false_and, and_self, ite_true, ite_false, ↓reduceIte, not_true_eq_false, not_false_eq_true, pe_ri, pe_rz, pe_rc, Ct_g20_2 hP hA]
/-- java/util/ArrayList.size()I -/
noncomputable def f4033tv1 (sc : Int32) (pc : Int32) (sa : Int32) (pa : Int32) (S : wS) : Option (Int32) :=
  some (S.1 (22, 0, 0) 2)
theorem x4033tv1 {sc : Int32} {pc : Int32} {sa : Int32} {pa : Int32} {A : wK → Nat} {h : pm_H} {D : Nat} {S : wS} {r : Int32} (hP : Ct_P sc pc sa pa) (hA : wok A (Ct_d sc pc sa pa) h.1) (hD : 1 ≤ D) (e : f4033tv1 sc pc sa pa S = some r) : pm_call pm_prog D 4033 [.ref (A (22, 0, 0))] (wput A (Ct_d sc pc sa pa) S h) = some (Outcome.returned (some (.int r)), (wput A (Ct_d sc pc sa pa) S h)) := by
  obtain ⟨D, rfl⟩ : ∃ D', D = D' + 1 := ⟨D - 1, by omega⟩
  have hD : 0 ≤ D := by omega
  simp only [f4033tv1] at e
  rw [c4033 (Ct_c22 hP hA), b4033_0]
  have e := Option.some.inj e; subst e
  simp -implicitDefEqProofs (disch := first | assumption | exact Nat.le_of_ble_eq_true rfl | decide) only [b4033_0, pe_aload0, pe_getfield, pm_prog_1, pm_ob_some, Nat.reduceDiv, Nat.reduceMod, Nat.reduceMul, Nat.reduceAdd, Int.reduceToNat, pm_kill_i, pm_kill_r, pm_kill_n, pm_kill_j, pm_kill_l, pm_kill_d, pm_cats_nil, pm_cats_i, pm_cats_r, pm_cats_n, pm_cats_l, pm_cats_d, sz_1, sz_2, sl_1, sl_2, lc_0, lc_lt, lc_le, li_ne, va_rf, wr_m1, we_m1, pm_kill_w, Int32.reduceOfInt, Int64.reduceOfInt, Int32.reduceOfNat, Int32.reduceLT, Int32.reduceLE, Prod.mk.injEq, Nat.reduceEqDiff, reduceCtorEq, and_true, true_and, and_false, false_and, and_self, ite_true, ite_false, ↓reduceIte, not_true_eq_false, not_false_eq_true, pe_ri, pe_rz, pe_rc, Ct_g22_2 hP hA]
/-- java/util/ArrayList.elementData(I)Ljava/lang/Object; -/
noncomputable def f4035tv1 (sc : Int32) (pc : Int32) (sa : Int32) (pa : Int32) (S : wS) (x1 : Int32) : Option (Int32) :=
  if 0 < pa then
    if 0 ≤ x1 ∧ x1 < pa then
      if x1 < pc then
        if 0 ≤ x1 ∧ x1 < pc then
          some x1
        else none
      else none
    else none
  else none
theorem x4035tv1 {sc : Int32} {pc : Int32} {sa : Int32} {pa : Int32} {A : wK → Nat} {h : pm_H} {D : Nat} {S : wS} {x1 : Int32} {r : Int32} (hP : Ct_P sc pc sa pa) (hA : wok A (Ct_d sc pc sa pa) h.1) (hD : 1 ≤ D) (e : f4035tv1 sc pc sa pa S x1 = some r) : pm_call pm_prog D 4035 [.ref (A (22, 0, 0)), .int x1] (wput A (Ct_d sc pc sa pa) S h) = some (Outcome.returned (some (.ref (A (25, r, 0)))), (wput A (Ct_d sc pc sa pa) S h)) := by
  obtain ⟨D, rfl⟩ : ∃ D', D = D' + 1 := ⟨D - 1, by omega⟩
  have hD : 0 ≤ D := by omega
  simp only [f4035tv1] at e
  rw [c4035 (Ct_c22 hP hA), b4035_0]
  by_cases k1 : 0 < pa
  · rw [if_pos k1] at e
    by_cases k2 : 0 ≤ x1 ∧ x1 < pa
    · rw [if_pos k2] at e
      by_cases k3 : x1 < pc
      · rw [if_pos k3] at e
        by_cases k4 : 0 ≤ x1 ∧ x1 < pc
        · rw [if_pos k4] at e
          have e := Option.some.inj e; subst e
          simp -implicitDefEqProofs (disch := first | assumption | exact Nat.le_of_ble_eq_true rfl | decide) only [b4035_0, pe_aload0, pe_getfield, pe_iload1, pe_aaload, pe_areturn, pm_prog_1, pm_ob_some, Nat.reduceDiv, Nat.reduceMod, Nat.reduceMul, Nat.reduceAdd, Int.reduceToNat, pm_kill_i, pm_kill_r, pm_kill_n, pm_kill_j, pm_kill_l, pm_kill_d, pm_cats_nil, pm_cats_i, pm_cats_r, pm_cats_n, pm_cats_l, pm_cats_d, sz_1, sz_2, sl_1, sl_2, lc_0, lc_lt, lc_le, li_ne, va_rf, wr_m1, we_m1, pm_kill_w, Int32.reduceOfInt, Int64.reduceOfInt, Int32.reduceOfNat, Int32.reduceLT, Int32.reduceLE, Prod.mk.injEq, Nat.reduceEqDiff, reduceCtorEq, and_true, true_and, and_false, false_and, and_self, ite_true, ite_false, ↓reduceIte, not_true_eq_false, not_false_eq_true, pe_ri, pe_rz, pe_rc, Ct_g22_1 hP hA, Ct_r23 hP hA]
        · rw [if_neg k4] at e; cases e
      · rw [if_neg k3] at e; cases e
    · rw [if_neg k2] at e; cases e
  · rw [if_neg k1] at e; cases e
/-- java/util/ArrayList.get(I)Ljava/lang/Object; -/
noncomputable def f4034tv1 (sc : Int32) (pc : Int32) (sa : Int32) (pa : Int32) (S : wS) (x1 : Int32) : Option (Int32) :=
  (f4736 x1 (S.1 (22, 0, 0) 2)).bind fun v1 =>
  (f4035tv1 sc pc sa pa S x1).bind fun v2i =>
  if 0 ≤ v2i ∧ v2i < pc then
    some v2i
  else none
theorem x4034tv1 {sc : Int32} {pc : Int32} {sa : Int32} {pa : Int32} {A : wK → Nat} {h : pm_H} {D : Nat} {S : wS} {x1 : Int32} {r : Int32} (hP : Ct_P sc pc sa pa) (hA : wok A (Ct_d sc pc sa pa) h.1) (hD : 3 ≤ D) (e : f4034tv1 sc pc sa pa S x1 = some r) : pm_call pm_prog D 4034 [.ref (A (22, 0, 0)), .int x1] (wput A (Ct_d sc pc sa pa) S h) = some (Outcome.returned (some (.ref (A (25, r, 0)))), (wput A (Ct_d sc pc sa pa) S h)) := by
  obtain ⟨D, rfl⟩ : ∃ D', D = D' + 1 := ⟨D - 1, by omega⟩
  have hD : 2 ≤ D := by omega
  simp only [f4034tv1] at e
  rw [c4034 (Ct_c22 hP hA), b4034_0]
  obtain ⟨v1, k1, e⟩ := Option.bind_eq_some_iff.mp e
  try dsimp only at e
  have z1 := fun h => x4736 (D := D) (h := h) (by omega) k1
  obtain ⟨v2i, k2, e⟩ := Option.bind_eq_some_iff.mp e
  try dsimp only at e
  have z2 := x4035tv1 (D := D) (h := h) hP hA (by omega) k2
  by_cases k3 : 0 ≤ v2i ∧ v2i < pc
  · rw [if_pos k3] at e
    have e := Option.some.inj e; subst e
    simp -implicitDefEqProofs (disch := first | assumption | exact Nat.le_of_ble_eq_true rfl | decide) only [b4034_0, pe_iload1, pe_aload0, pe_getfield, pe_call2, pm_af_ret, pm_af_void, pm_af_thr, pe_pop_i, pe_pop_r, pe_areturn, pm_prog_1, pm_ob_some, Nat.reduceDiv, Nat.reduceMod, Nat.reduceMul, Nat.reduceAdd, Int.reduceToNat, pm_kill_i, pm_kill_r, pm_kill_n, pm_kill_j, pm_kill_l, pm_kill_d, pm_cats_nil, pm_cats_i, pm_cats_r, pm_cats_n, pm_cats_l, pm_cats_d, sz_1, sz_2, sl_1, sl_2, lc_0, lc_lt, lc_le, li_ne, va_rf, wr_m1, we_m1, pm_kill_w, Int32.reduceOfInt, Int64.reduceOfInt, Int32.reduceOfNat, Int32.reduceLT, Int32.reduceLE, Prod.mk.injEq, Nat.reduceEqDiff, reduceCtorEq, and_true, true_and, and_false, false_and, and_self, ite_true, ite_false, ↓reduceIte, not_true_eq_false, not_false_eq_true, pe_ri, pe_rz, pe_rc, Ct_g22_2 hP hA, z1, z2]
  · rw [if_neg k3] at e; cases e
/-- TimberHouse$SheetTrees.count(II)I -/
theorem c846 {d : Nat} {h : pm_H} {a : Nat} {x0 : Int32} {x1 : Int32} (hc : pm_cls h a = some 13) : pm_call pm_prog (d + 1) 846 [.ref a, .int x0, .int x1] h = pm_ev pm_prog (pm_call pm_prog d) 846 0 b846_0 [.ref a, .int x0, .int x1, pm_junk, pm_junk] [] h := pm_cal (pm_rc1 hc rfl) rfl rfl rfl
theorem t846 {cl : pm_C} {j : Nat} {ls : List Value} {c : Nat} {h : pm_H} : pm_thr pm_prog cl 846 j ls c h = some (.threw c, h) := rfl
/-- TimberHouse$SheetTrees.count(II)I -/
noncomputable def f846 (sc : Int32) (pc : Int32) (sa : Int32) (pa : Int32) (S : wS) (x1 : Int32) (x2 : Int32) : Option ((Nat × wS) ⊕ (Int32 × wS)) :=
  (f4033tv1 sc pc sa pa S).bind fun v1 =>
  (f837 x1 v1).bind fun r => match r with
  | .inl c5 =>
    some (.inl (c5, S))
  | .inr _ =>
  (f843 x2 0 50).bind fun v2 =>
  (f844 v2).bind fun r => match r with
  | .inl c4 =>
    some (.inl (c4, S))
  | .inr _ =>
  (f4034tv1 sc pc sa pa S x1).bind fun v3i =>
  if 0 ≤ v3i ∧ v3i < pc then
    some (.inr ((S.1 (25, v3i, 0) 3), (sz (sz S (25, v3i, 0) 3 x2) (0, 0, 0) 9 0)))
  else none
theorem x846 {sc : Int32} {pc : Int32} {sa : Int32} {pa : Int32} {A : wK → Nat} {h : pm_H} {D : Nat} {S : wS} {x1 : Int32} {x2 : Int32} {r : (Nat × wS) ⊕ (Int32 × wS)} (hP : Ct_P sc pc sa pa) (hA : wok A (Ct_d sc pc sa pa) h.1) (hD : 4 ≤ D) (e : f846 sc pc sa pa S x1 x2 = some r) : pm_call pm_prog D 846 [.ref (A (0, 0, 0)), .int x1, .int x2] (wput A (Ct_d sc pc sa pa) S h) = some (match (generalizing := false) r with | .inl (c, S1) => (Outcome.threw c, (wput A (Ct_d sc pc sa pa) S1 (pm_new h 6 (.inr (c, []))))) | .inr (w0, S1) => (Outcome.returned (some (.int w0)), (wput A (Ct_d sc pc sa pa) S1 h))) := by
  obtain ⟨D, rfl⟩ : ∃ D', D = D' + 1 := ⟨D - 1, by omega⟩
  have hD : 3 ≤ D := by omega
  simp only [f846] at e
  rw [c846 (Ct_c0 hP hA), b846_0]
  obtain ⟨v1, k1, e⟩ := Option.bind_eq_some_iff.mp e
  try dsimp only at e
  have z1 := x4033tv1 (D := D) (h := h) hP hA (by omega) k1
  obtain ⟨r, k2, e⟩ := Option.bind_eq_some_iff.mp e
  have z2 := fun h => x837 (D := D) (h := h) (by omega) k2
  rcases r with c5 | _
  · dsimp only at e z2
    have e := Option.some.inj e; subst e
    simp -implicitDefEqProofs (disch := first | assumption | exact Nat.le_of_ble_eq_true rfl | decide) only [b846_0, pe_iload1, pe_aload0, pe_getfield, pe_call1, pm_af_ret, pm_af_void, pm_af_thr, pe_call2, pe_iload2, pe_sipush, pe_call3, pe_astore3, pe_aload3, pe_istore4, pe_putfield, pe_iload4, pm_prog_1, pm_ob_some, Nat.reduceDiv, Nat.reduceMod, Nat.reduceMul, Nat.reduceAdd, Int.reduceToNat, pm_kill_i, pm_kill_r, pm_kill_n, pm_kill_j, pm_kill_l, pm_kill_d, pm_cats_nil, pm_cats_i, pm_cats_r, pm_cats_n, pm_cats_l, pm_cats_d, sz_1, sz_2, sl_1, sl_2, lc_0, lc_lt, lc_le, li_ne, va_rf, wr_m1, we_m1, pm_kill_w, Int32.reduceOfInt, Int64.reduceOfInt, Int32.reduceOfNat, Int32.reduceLT, Int32.reduceLE, Prod.mk.injEq, Nat.reduceEqDiff, reduceCtorEq, and_true, true_and, and_false, false_and, and_self, ite_true, ite_false, ↓reduceIte, not_true_eq_false, not_false_eq_true, pe_ri, pe_rz, pe_rc, p_throw, t846, w_junk hA, Ct_g0_4 hP hA, Ct_g25_3 hP hA, Ct_k25 hP hA, Ct_p0_9 hP hA, Ct_p25_3 hP hA, z1, z2]
  · dsimp only at e z2
    obtain ⟨v2, k3, e⟩ := Option.bind_eq_some_iff.mp e
    try dsimp only at e
    have z3 := fun h => x843 (D := D) (h := h) (by omega) k3
    obtain ⟨r, k4, e⟩ := Option.bind_eq_some_iff.mp e
    have z4 := fun h => x844 (D := D) (h := h) (by omega) k4
    rcases r with c4 | _
    · dsimp only at e z4
      have e := Option.some.inj e; subst e
      simp -implicitDefEqProofs (disch := first | assumption | exact Nat.le_of_ble_eq_true rfl | decide) only [b846_0, pe_iload1, pe_aload0, pe_getfield, pe_call1, pm_af_ret, pm_af_void, pm_af_thr, pe_call2, pe_iload2, pe_sipush, pe_call3, pe_astore3, pe_aload3, pe_istore4, pe_putfield, pe_iload4, pm_prog_1, pm_ob_some, Nat.reduceDiv, Nat.reduceMod, Nat.reduceMul, Nat.reduceAdd, Int.reduceToNat, pm_kill_i, pm_kill_r, pm_kill_n, pm_kill_j, pm_kill_l, pm_kill_d, pm_cats_nil, pm_cats_i, pm_cats_r, pm_cats_n, pm_cats_l, pm_cats_d, sz_1, sz_2, sl_1, sl_2, lc_0, lc_lt, lc_le, li_ne, va_rf, wr_m1, we_m1, pm_kill_w, Int32.reduceOfInt, Int64.reduceOfInt, Int32.reduceOfNat, Int32.reduceLT, Int32.reduceLE, Prod.mk.injEq, Nat.reduceEqDiff, reduceCtorEq, and_true, true_and, and_false, false_and, and_self, ite_true, ite_false, ↓reduceIte, not_true_eq_false, not_false_eq_true, pe_ri, pe_rz, pe_rc, p_throw, t846, w_junk hA, Ct_g0_4 hP hA, Ct_g25_3 hP hA, Ct_k25 hP hA, Ct_p0_9 hP hA, Ct_p25_3 hP hA, z1, z2, z3, z4]
    · dsimp only at e z4
      obtain ⟨v3i, k5, e⟩ := Option.bind_eq_some_iff.mp e
      try dsimp only at e
      have z5 := x4034tv1 (D := D) (h := h) hP hA (by omega) k5
      by_cases k6 : 0 ≤ v3i ∧ v3i < pc
      · rw [if_pos k6] at e
        have e := Option.some.inj e; subst e
        simp -implicitDefEqProofs (disch := first | assumption | exact Nat.le_of_ble_eq_true rfl | decide) only [b846_0, pe_iload1, pe_aload0, pe_getfield, pe_call1, pm_af_ret, pm_af_void, pm_af_thr, pe_call2, pe_iload2, pe_sipush, pe_call3, pe_astore3, pe_aload3, pe_istore4, pe_putfield, pe_iload4, pm_prog_1, pm_ob_some, Nat.reduceDiv, Nat.reduceMod, Nat.reduceMul, Nat.reduceAdd, Int.reduceToNat, pm_kill_i, pm_kill_r, pm_kill_n, pm_kill_j, pm_kill_l, pm_kill_d, pm_cats_nil, pm_cats_i, pm_cats_r, pm_cats_n, pm_cats_l, pm_cats_d, sz_1, sz_2, sl_1, sl_2, lc_0, lc_lt, lc_le, li_ne, va_rf, wr_m1, we_m1, pm_kill_w, Int32.reduceOfInt, Int64.reduceOfInt, Int32.reduceOfNat, Int32.reduceLT, Int32.reduceLE, Prod.mk.injEq, Nat.reduceEqDiff, reduceCtorEq, and_true, true_and, and_false, false_and, and_self, ite_true, ite_false, ↓reduceIte, not_true_eq_false, not_false_eq_true, pe_ri, pe_rz, pe_rc, p_throw, t846, w_junk hA, Ct_g0_4 hP hA, Ct_g25_3 hP hA, Ct_k25 hP hA, Ct_p0_9 hP hA, Ct_p25_3 hP hA, z1, z2, z3, z4, z5]
      · rw [if_neg k6] at e; cases e
/-- TimberHouse$SheetTrees.begin()V -/
theorem c849 {d : Nat} {h : pm_H} {a : Nat} (hc : pm_cls h a = some 13) : pm_call pm_prog (d + 1) 849 [.ref a] h = pm_ev pm_prog (pm_call pm_prog d) 849 0 b849_0 [.ref a, pm_junk] [] h := pm_cal (pm_rc1 hc rfl) rfl rfl rfl
theorem g849_1 {cl : pm_C} {ls st : List Value} {h : pm_H} : pm_go pm_prog cl 849 1 ls st h = pm_ev pm_prog cl 849 1 b849_1 ls st h := pm_go_eq pm_prog cl 849 1 ls st h
theorem g849_2 {cl : pm_C} {ls st : List Value} {h : pm_H} : pm_go pm_prog cl 849 2 ls st h = pm_ev pm_prog cl 849 2 b849_2 ls st h := pm_go_eq pm_prog cl 849 2 ls st h
theorem g849_3 {cl : pm_C} {ls st : List Value} {h : pm_H} : pm_go pm_prog cl 849 3 ls st h = pm_ev pm_prog cl 849 3 b849_3 ls st h := pm_go_eq pm_prog cl 849 3 ls st h
theorem g849_4 {cl : pm_C} {ls st : List Value} {h : pm_H} : pm_go pm_prog cl 849 4 ls st h = pm_ev pm_prog cl 849 4 b849_4 ls st h := pm_go_eq pm_prog cl 849 4 ls st h
noncomputable def f849_b1 (sc : Int32) (pc : Int32) (sa : Int32) (pa : Int32) : Int32 × wS → Option ((Int32 × wS) ⊕ ((wS))) := fun (x1, S) =>
  (f4033t sc pc sa pa S).bind fun v1 =>
  if x1 < v1 then
    (f4034t sc pc sa pa S x1).bind fun v2i =>
    if 0 ≤ v2i ∧ v2i < sc then
      some (.inl ((x1 + 1), (sz S (24, v2i, 0) 4 (S.1 (24, v2i, 0) 3))))
    else none
  else
    some (.inr S)
noncomputable def f849_b3 (sc : Int32) (pc : Int32) (sa : Int32) (pa : Int32) : Int32 × wS → Option ((Int32 × wS) ⊕ ((wS))) := fun (x1, S) =>
  (f4033tv1 sc pc sa pa S).bind fun v5 =>
  if x1 < v5 then
    (f4034tv1 sc pc sa pa S x1).bind fun v6i =>
    if 0 ≤ v6i ∧ v6i < pc then
      some (.inl ((x1 + 1), (sz S (25, v6i, 0) 4 (S.1 (25, v6i, 0) 3))))
    else none
  else
    some (.inr S)
/-- TimberHouse$SheetTrees.begin()V -/
noncomputable def f849 (sc : Int32) (pc : Int32) (sa : Int32) (pa : Int32) (S : wS) : Option (wS) :=
  (lp (f849_b1 sc pc sa pa) FU (0, S)).bind fun S3 =>
  (lp (f849_b3 sc pc sa pa) FU (0, S3)).bind fun S7 =>
  some S7
def go849_1 (sc : Int32) (pc : Int32) (sa : Int32) (pa : Int32) (A : wK → Nat) (h : pm_H) (D : Nat) (R : Outcome × pm_H) : Int32 × wS → Prop := fun (x1, S) => pm_go pm_prog (pm_call pm_prog D) 849 1 [.ref (A (0, 0, 0)), .int x1] [] (wput A (Ct_d sc pc sa pa) S h) = some R
def ex849_1 (sc : Int32) (pc : Int32) (sa : Int32) (pa : Int32) (A : wK → Nat) (h : pm_H) (D : Nat) (R : Outcome × pm_H) : (wS) → Prop := fun S => ∀ q1 : Value, pm_go pm_prog (pm_call pm_prog D) 849 2 [.ref (A (0, 0, 0)), q1] [] (wput A (Ct_d sc pc sa pa) S h) = some R
theorem y849_b1 {sc : Int32} {pc : Int32} {sa : Int32} {pa : Int32} {A : wK → Nat} {h : pm_H} {D : Nat} {R : Outcome × pm_H} (hP : Ct_P sc pc sa pa) (hA : wok A (Ct_d sc pc sa pa) h.1) (hD : 3 ≤ D) (a : Int32 × wS) (r : (Int32 × wS) ⊕ ((wS))) (e : f849_b1 sc pc sa pa a = some r) (hc : Sum.elim (go849_1 sc pc sa pa A h D R) (ex849_1 sc pc sa pa A h D R) r) : go849_1 sc pc sa pa A h D R a := by
  obtain ⟨x1, S⟩ := a
  dsimp only [go849_1]
  simp only [f849_b1] at e
  rw [g849_1, b849_1]
  obtain ⟨v1, k1, e⟩ := Option.bind_eq_some_iff.mp e
  try dsimp only at e
  have z1 := x4033t (D := D) (h := h) hP hA (by omega) k1
  by_cases k2 : x1 < v1
  · rw [if_pos k2] at e
    obtain ⟨v2i, k3, e⟩ := Option.bind_eq_some_iff.mp e
    try dsimp only at e
    have z3 := x4034t (D := D) (h := h) hP hA (by omega) k3
    by_cases k4 : 0 ≤ v2i ∧ v2i < sc
    · rw [if_pos k4] at e
      have e := Option.some.inj e; subst e
      dsimp only [Sum.elim_inl, go849_1] at hc
      simp -implicitDefEqProofs (disch := first | assumption | exact Nat.le_of_ble_eq_true rfl | decide) only [b849_0, g849_2, b849_2, g849_4, b849_4, pe_sipush, pe_istore1, pe_goto_w, pe_iload1, pe_aload0, pe_getfield, pe_call1, pm_af_ret, pm_af_void, pm_af_thr, pe_icmp_ge, pe_call2, pe_putfield, pe_iinc1, pe_goto, pe_return, pm_prog_1, pm_ob_some, Nat.reduceDiv, Nat.reduceMod, Nat.reduceMul, Nat.reduceAdd, Int.reduceToNat, pm_kill_i, pm_kill_r, pm_kill_n, pm_kill_j, pm_kill_l, pm_kill_d, pm_cats_nil, pm_cats_i, pm_cats_r, pm_cats_n, pm_cats_l, pm_cats_d, sz_1, sz_2, sl_1, sl_2, lc_0, lc_lt, lc_le, li_ne, va_rf, wr_m1, we_m1, pm_kill_w, Int32.reduceOfInt, Int64.reduceOfInt, Int32.reduceOfNat, Int32.reduceLT, Int32.reduceLE, Prod.mk.injEq, Nat.reduceEqDiff, reduceCtorEq, and_true, true_and, and_false, false_and, and_self, ite_true, ite_false, ↓reduceIte, not_true_eq_false, not_false_eq_true, pe_ri, pe_rz, pe_rc, Ct_g0_3 hP hA, Ct_g0_4 hP hA, Ct_g24_3 hP hA, Ct_g25_3 hP hA, Ct_k24 hP hA, Ct_k25 hP hA, Ct_p24_4 hP hA, Ct_p25_4 hP hA, z1, eq_true k2, z3, hc]
    · rw [if_neg k4] at e; cases e
  · rw [if_neg k2] at e
    have e := Option.some.inj e; subst e
    dsimp only [Sum.elim_inr, ex849_1] at hc
    simp -implicitDefEqProofs (disch := first | assumption | exact Nat.le_of_ble_eq_true rfl | decide) only [b849_0, g849_2, b849_2, g849_4, b849_4, pe_sipush, pe_istore1, pe_goto_w, pe_iload1, pe_aload0, pe_getfield, pe_call1, pm_af_ret, pm_af_void, pm_af_thr, pe_icmp_ge, pe_call2, pe_putfield, pe_iinc1, pe_goto, pe_return, pm_prog_1, pm_ob_some, Nat.reduceDiv, Nat.reduceMod, Nat.reduceMul, Nat.reduceAdd, Int.reduceToNat, pm_kill_i, pm_kill_r, pm_kill_n, pm_kill_j, pm_kill_l, pm_kill_d, pm_cats_nil, pm_cats_i, pm_cats_r, pm_cats_n, pm_cats_l, pm_cats_d, sz_1, sz_2, sl_1, sl_2, lc_0, lc_lt, lc_le, li_ne, va_rf, wr_m1, we_m1, pm_kill_w, Int32.reduceOfInt, Int64.reduceOfInt, Int32.reduceOfNat, Int32.reduceLT, Int32.reduceLE, Prod.mk.injEq, Nat.reduceEqDiff, reduceCtorEq, and_true, true_and, and_false, false_and, and_self, ite_true, ite_false, ↓reduceIte, not_true_eq_false, not_false_eq_true, pe_ri, pe_rz, pe_rc, Ct_g0_3 hP hA, Ct_g0_4 hP hA, Ct_g24_3 hP hA, Ct_g25_3 hP hA, Ct_k24 hP hA, Ct_k25 hP hA, Ct_p24_4 hP hA, Ct_p25_4 hP hA, z1, eq_false k2, hc]
theorem z849_1 {sc : Int32} {pc : Int32} {sa : Int32} {pa : Int32} {A : wK → Nat} {h : pm_H} {D : Nat} {R : Outcome × pm_H} (hP : Ct_P sc pc sa pa) (hA : wok A (Ct_d sc pc sa pa) h.1) (hD : 3 ≤ D) {n : Nat} {a : Int32 × wS} {b : (wS)} (e : lp (f849_b1 sc pc sa pa) n a = some b) (hx : ex849_1 sc pc sa pa A h D R b) : go849_1 sc pc sa pa A h D R a := lp_run (fun a r => y849_b1 hP hA hD a r) n a b e hx
def go849_3 (sc : Int32) (pc : Int32) (sa : Int32) (pa : Int32) (A : wK → Nat) (h : pm_H) (D : Nat) (R : Outcome × pm_H) : Int32 × wS → Prop := fun (x1, S) => pm_go pm_prog (pm_call pm_prog D) 849 3 [.ref (A (0, 0, 0)), .int x1] [] (wput A (Ct_d sc pc sa pa) S h) = some R
def ex849_3 (sc : Int32) (pc : Int32) (sa : Int32) (pa : Int32) (A : wK → Nat) (h : pm_H) (D : Nat) (R : Outcome × pm_H) : (wS) → Prop := fun S => ∀ q0 q1 : Value, pm_go pm_prog (pm_call pm_prog D) 849 4 [q0, q1] [] (wput A (Ct_d sc pc sa pa) S h) = some R
theorem y849_b3 {sc : Int32} {pc : Int32} {sa : Int32} {pa : Int32} {A : wK → Nat} {h : pm_H} {D : Nat} {R : Outcome × pm_H} (hP : Ct_P sc pc sa pa) (hA : wok A (Ct_d sc pc sa pa) h.1) (hD : 3 ≤ D) (a : Int32 × wS) (r : (Int32 × wS) ⊕ ((wS))) (e : f849_b3 sc pc sa pa a = some r) (hc : Sum.elim (go849_3 sc pc sa pa A h D R) (ex849_3 sc pc sa pa A h D R) r) : go849_3 sc pc sa pa A h D R a := by
  obtain ⟨x1, S⟩ := a
  dsimp only [go849_3]
  simp only [f849_b3] at e
  rw [g849_3, b849_3]
  obtain ⟨v5, k1, e⟩ := Option.bind_eq_some_iff.mp e
  try dsimp only at e
  have z1 := x4033tv1 (D := D) (h := h) hP hA (by omega) k1
  by_cases k2 : x1 < v5
  · rw [if_pos k2] at e
    obtain ⟨v6i, k3, e⟩ := Option.bind_eq_some_iff.mp e
    try dsimp only at e
    have z3 := x4034tv1 (D := D) (h := h) hP hA (by omega) k3
    by_cases k4 : 0 ≤ v6i ∧ v6i < pc
    · rw [if_pos k4] at e
      have e := Option.some.inj e; subst e
      dsimp only [Sum.elim_inl, go849_3] at hc
      simp -implicitDefEqProofs (disch := first | assumption | exact Nat.le_of_ble_eq_true rfl | decide) only [b849_0, g849_2, b849_2, g849_4, b849_4, pe_sipush, pe_istore1, pe_goto_w, pe_iload1, pe_aload0, pe_getfield, pe_call1, pm_af_ret, pm_af_void, pm_af_thr, pe_icmp_ge, pe_call2, pe_putfield, pe_iinc1, pe_goto, pe_return, pm_prog_1, pm_ob_some, Nat.reduceDiv, Nat.reduceMod, Nat.reduceMul, Nat.reduceAdd, Int.reduceToNat, pm_kill_i, pm_kill_r, pm_kill_n, pm_kill_j, pm_kill_l, pm_kill_d, pm_cats_nil, pm_cats_i, pm_cats_r, pm_cats_n, pm_cats_l, pm_cats_d, sz_1, sz_2, sl_1, sl_2, lc_0, lc_lt, lc_le, li_ne, va_rf, wr_m1, we_m1, pm_kill_w, Int32.reduceOfInt, Int64.reduceOfInt, Int32.reduceOfNat, Int32.reduceLT, Int32.reduceLE, Prod.mk.injEq, Nat.reduceEqDiff, reduceCtorEq, and_true, true_and, and_false, false_and, and_self, ite_true, ite_false, ↓reduceIte, not_true_eq_false, not_false_eq_true, pe_ri, pe_rz, pe_rc, Ct_g0_3 hP hA, Ct_g0_4 hP hA, Ct_g24_3 hP hA, Ct_g25_3 hP hA, Ct_k24 hP hA, Ct_k25 hP hA, Ct_p24_4 hP hA, Ct_p25_4 hP hA, z1, eq_true k2, z3, hc]
    · rw [if_neg k4] at e; cases e
  · rw [if_neg k2] at e
    have e := Option.some.inj e; subst e
    dsimp only [Sum.elim_inr, ex849_3] at hc
    simp -implicitDefEqProofs (disch := first | assumption | exact Nat.le_of_ble_eq_true rfl | decide) only [b849_0, g849_2, b849_2, g849_4, b849_4, pe_sipush, pe_istore1, pe_goto_w, pe_iload1, pe_aload0, pe_getfield, pe_call1, pm_af_ret, pm_af_void, pm_af_thr, pe_icmp_ge, pe_call2, pe_putfield, pe_iinc1, pe_goto, pe_return, pm_prog_1, pm_ob_some, Nat.reduceDiv, Nat.reduceMod, Nat.reduceMul, Nat.reduceAdd, Int.reduceToNat, pm_kill_i, pm_kill_r, pm_kill_n, pm_kill_j, pm_kill_l, pm_kill_d, pm_cats_nil, pm_cats_i, pm_cats_r, pm_cats_n, pm_cats_l, pm_cats_d, sz_1, sz_2, sl_1, sl_2, lc_0, lc_lt, lc_le, li_ne, va_rf, wr_m1, we_m1, pm_kill_w, Int32.reduceOfInt, Int64.reduceOfInt, Int32.reduceOfNat, Int32.reduceLT, Int32.reduceLE, Prod.mk.injEq, Nat.reduceEqDiff, reduceCtorEq, and_true, true_and, and_false, false_and, and_self, ite_true, ite_false, ↓reduceIte, not_true_eq_false, not_false_eq_true, pe_ri, pe_rz, pe_rc, Ct_g0_3 hP hA, Ct_g0_4 hP hA, Ct_g24_3 hP hA, Ct_g25_3 hP hA, Ct_k24 hP hA, Ct_k25 hP hA, Ct_p24_4 hP hA, Ct_p25_4 hP hA, z1, eq_false k2, hc]
theorem z849_3 {sc : Int32} {pc : Int32} {sa : Int32} {pa : Int32} {A : wK → Nat} {h : pm_H} {D : Nat} {R : Outcome × pm_H} (hP : Ct_P sc pc sa pa) (hA : wok A (Ct_d sc pc sa pa) h.1) (hD : 3 ≤ D) {n : Nat} {a : Int32 × wS} {b : (wS)} (e : lp (f849_b3 sc pc sa pa) n a = some b) (hx : ex849_3 sc pc sa pa A h D R b) : go849_3 sc pc sa pa A h D R a := lp_run (fun a r => y849_b3 hP hA hD a r) n a b e hx
theorem x849 {sc : Int32} {pc : Int32} {sa : Int32} {pa : Int32} {A : wK → Nat} {h : pm_H} {D : Nat} {S : wS} {r : wS} (hP : Ct_P sc pc sa pa) (hA : wok A (Ct_d sc pc sa pa) h.1) (hD : 4 ≤ D) (e : f849 sc pc sa pa S = some r) : pm_call pm_prog D 849 [.ref (A (0, 0, 0))] (wput A (Ct_d sc pc sa pa) S h) = some (Outcome.returned none, (wput A (Ct_d sc pc sa pa) r h)) := by
  obtain ⟨D, rfl⟩ : ∃ D', D = D' + 1 := ⟨D - 1, by omega⟩
  have hD : 3 ≤ D := by omega
  simp only [f849] at e
  rw [c849 (Ct_c0 hP hA), b849_0]
  obtain ⟨S3, k1, e⟩ := Option.bind_eq_some_iff.mp e
  try dsimp only at e
  try simp -implicitDefEqProofs (disch := first | assumption | exact Nat.le_of_ble_eq_true rfl | decide) only [b849_0, g849_2, b849_2, g849_4, b849_4, pe_sipush, pe_istore1, pe_goto_w, pe_iload1, pe_aload0, pe_getfield, pe_call1, pm_af_ret, pm_af_void, pm_af_thr, pe_icmp_ge, pe_call2, pe_putfield, pe_iinc1, pe_goto, pe_return, pm_prog_1, pm_ob_some, Nat.reduceDiv, Nat.reduceMod, Nat.reduceMul, Nat.reduceAdd, Int.reduceToNat, pm_kill_i, pm_kill_r, pm_kill_n, pm_kill_j, pm_kill_l, pm_kill_d, pm_cats_nil, pm_cats_i, pm_cats_r, pm_cats_n, pm_cats_l, pm_cats_d, sz_1, sz_2, sl_1, sl_2, lc_0, lc_lt, lc_le, li_ne, va_rf, wr_m1, we_m1, pm_kill_w, Int32.reduceOfInt, Int64.reduceOfInt, Int32.reduceOfNat, Int32.reduceLT, Int32.reduceLE, Prod.mk.injEq, Nat.reduceEqDiff, reduceCtorEq, and_true, true_and, and_false, false_and, and_self, ite_true, ite_false, ↓reduceIte, not_true_eq_false, not_false_eq_true, pe_ri, pe_rz, pe_rc, Ct_g0_3 hP hA, Ct_g0_4 hP hA, Ct_g24_3 hP hA, Ct_g25_3 hP hA, Ct_k24 hP hA, Ct_k25 hP hA, Ct_p24_4 hP hA, Ct_p25_4 hP hA]
  refine z849_1 hP hA hD k1 ?_
  dsimp only [ex849_1]
  intro q1
  obtain ⟨S7, k2, e⟩ := Option.bind_eq_some_iff.mp e
  try dsimp only at e
  try simp -implicitDefEqProofs (disch := first | assumption | exact Nat.le_of_ble_eq_true rfl | decide) only [b849_0, g849_2, b849_2, g849_4, b849_4, pe_sipush, pe_istore1, pe_goto_w, pe_iload1, pe_aload0, pe_getfield, pe_call1, pm_af_ret, pm_af_void, pm_af_thr, pe_icmp_ge, pe_call2, pe_putfield, pe_iinc1, pe_goto, pe_return, pm_prog_1, pm_ob_some, Nat.reduceDiv, Nat.reduceMod, Nat.reduceMul, Nat.reduceAdd, Int.reduceToNat, pm_kill_i, pm_kill_r, pm_kill_n, pm_kill_j, pm_kill_l, pm_kill_d, pm_cats_nil, pm_cats_i, pm_cats_r, pm_cats_n, pm_cats_l, pm_cats_d, sz_1, sz_2, sl_1, sl_2, lc_0, lc_lt, lc_le, li_ne, va_rf, wr_m1, we_m1, pm_kill_w, Int32.reduceOfInt, Int64.reduceOfInt, Int32.reduceOfNat, Int32.reduceLT, Int32.reduceLE, Prod.mk.injEq, Nat.reduceEqDiff, reduceCtorEq, and_true, true_and, and_false, false_and, and_self, ite_true, ite_false, ↓reduceIte, not_true_eq_false, not_false_eq_true, pe_ri, pe_rz, pe_rc, Ct_g0_3 hP hA, Ct_g0_4 hP hA, Ct_g24_3 hP hA, Ct_g25_3 hP hA, Ct_k24 hP hA, Ct_k25 hP hA, Ct_p24_4 hP hA, Ct_p25_4 hP hA]
  refine z849_3 hP hA hD k2 ?_
  dsimp only [ex849_3]
  intro q0 q1
  have e := Option.some.inj e; subst e
  simp -implicitDefEqProofs (disch := first | assumption | exact Nat.le_of_ble_eq_true rfl | decide) only [b849_0, g849_2, b849_2, g849_4, b849_4, pe_sipush, pe_istore1, pe_goto_w, pe_iload1, pe_aload0, pe_getfield, pe_call1, pm_af_ret, pm_af_void, pm_af_thr, pe_icmp_ge, pe_call2, pe_putfield, pe_iinc1, pe_goto, pe_return, pm_prog_1, pm_ob_some, Nat.reduceDiv, Nat.reduceMod, Nat.reduceMul, Nat.reduceAdd, Int.reduceToNat, pm_kill_i, pm_kill_r, pm_kill_n, pm_kill_j, pm_kill_l, pm_kill_d, pm_cats_nil, pm_cats_i, pm_cats_r, pm_cats_n, pm_cats_l, pm_cats_d, sz_1, sz_2, sl_1, sl_2, lc_0, lc_lt, lc_le, li_ne, va_rf, wr_m1, we_m1, pm_kill_w, Int32.reduceOfInt, Int64.reduceOfInt, Int32.reduceOfNat, Int32.reduceLT, Int32.reduceLE, Prod.mk.injEq, Nat.reduceEqDiff, reduceCtorEq, and_true, true_and, and_false, false_and, and_self, ite_true, ite_false, ↓reduceIte, not_true_eq_false, not_false_eq_true, pe_ri, pe_rz, pe_rc, Ct_g0_3 hP hA, Ct_g0_4 hP hA, Ct_g24_3 hP hA, Ct_g25_3 hP hA, Ct_k24 hP hA, Ct_k25 hP hA, Ct_p24_4 hP hA, Ct_p25_4 hP hA]
/-- TimberHouse$SheetTrees$Table.take(IIIIII)V -/
theorem c963 {d : Nat} {h : pm_H} {a : Nat} {x0 : Int32} {x1 : Int32} {x2 : Int32} {x3 : Int32} {x4 : Int32} {x5 : Int32} (hc : pm_cls h a = some 15) : pm_call pm_prog (d + 1) 963 [.ref a, .int x0, .int x1, .int x2, .int x3, .int x4, .int x5] h = pm_ev pm_prog (pm_call pm_prog d) 963 0 b963_0 [.ref a, .int x0, .int x1, .int x2, .int x3, .int x4, .int x5, pm_junk] [] h := pm_cal (pm_rc1 hc rfl) rfl rfl rfl
theorem g963_1 {cl : pm_C} {ls st : List Value} {h : pm_H} : pm_go pm_prog cl 963 1 ls st h = pm_ev pm_prog cl 963 1 b963_1 ls st h := pm_go_eq pm_prog cl 963 1 ls st h
theorem g963_2 {cl : pm_C} {ls st : List Value} {h : pm_H} : pm_go pm_prog cl 963 2 ls st h = pm_ev pm_prog cl 963 2 b963_2 ls st h := pm_go_eq pm_prog cl 963 2 ls st h
theorem g963_3 {cl : pm_C} {ls st : List Value} {h : pm_H} : pm_go pm_prog cl 963 3 ls st h = pm_ev pm_prog cl 963 3 b963_3 ls st h := pm_go_eq pm_prog cl 963 3 ls st h
theorem g963_4 {cl : pm_C} {ls st : List Value} {h : pm_H} : pm_go pm_prog cl 963 4 ls st h = pm_ev pm_prog cl 963 4 b963_4 ls st h := pm_go_eq pm_prog cl 963 4 ls st h
theorem g963_5 {cl : pm_C} {ls st : List Value} {h : pm_H} : pm_go pm_prog cl 963 5 ls st h = pm_ev pm_prog cl 963 5 b963_5 ls st h := pm_go_eq pm_prog cl 963 5 ls st h
noncomputable def f963_4 (sc : Int32) (pc : Int32) (sa : Int32) (pa : Int32) (S : wS) (x1 : Int32) (x2 : Int32) (x3 : Int32) (x4 : Int32) (x5 : Int32) (x6 : Int32) : Option (wS) :=
  if 0 ≤ x1 ∧ x1 < 8 then
    if 0 ≤ x2 ∧ x2 < 17 then
      if 0 ≤ x3 ∧ x3 < 17 then
        some (sz (sz (sz S (3, x1, x2) x3 x4) (5, x1, x2) x3 x5) (7, x1, x2) x3 (vp_nar .byte (Int8.toInt32 (Int32.toInt8 x6))))
      else none
    else none
  else none
noncomputable def f963_3 (sc : Int32) (pc : Int32) (sa : Int32) (pa : Int32) (S : wS) (x1 : Int32) (x2 : Int32) (x3 : Int32) (x4 : Int32) (x5 : Int32) (x6 : Int32) (y0 : Int32) : Option (wS) :=
  if x6 = 0 then
    f963_4 sc pc sa pa S x1 x2 x3 x4 x5 x6
  else
    if y0 = 0 then
      some S
    else
      f963_4 sc pc sa pa S x1 x2 x3 x4 x5 x6
/-- TimberHouse$SheetTrees$Table.take(IIIIII)V -/
noncomputable def f963 (sc : Int32) (pc : Int32) (sa : Int32) (pa : Int32) (S : wS) (x1 : Int32) (x2 : Int32) (x3 : Int32) (x4 : Int32) (x5 : Int32) (x6 : Int32) : Option (wS) :=
  if 0 ≤ x1 ∧ x1 < 8 then
    if 0 ≤ x2 ∧ x2 < 17 then
      if 0 ≤ x3 ∧ x3 < 17 then
        if x4 ≤ (S.1 (3, x1, x2) x3) then
          if x4 = (S.1 (3, x1, x2) x3) then
            if x5 < (S.1 (5, x1, x2) x3) then
              f963_3 sc pc sa pa S x1 x2 x3 x4 x5 x6 1
            else
              f963_3 sc pc sa pa S x1 x2 x3 x4 x5 x6 0
          else
            f963_3 sc pc sa pa S x1 x2 x3 x4 x5 x6 0
        else
          f963_3 sc pc sa pa S x1 x2 x3 x4 x5 x6 1
      else none
    else none
  else none
theorem y963_4 {sc : Int32} {pc : Int32} {sa : Int32} {pa : Int32} {A : wK → Nat} {h : pm_H} {D : Nat} {S : wS} {x1 : Int32} {x2 : Int32} {x3 : Int32} {x4 : Int32} {x5 : Int32} {x6 : Int32} {r : wS} (hP : Ct_P sc pc sa pa) (hA : wok A (Ct_d sc pc sa pa) h.1) (hD : 0 ≤ D) (e : f963_4 sc pc sa pa S x1 x2 x3 x4 x5 x6 = some r) : ∀ q7 : Value, pm_go pm_prog (pm_call pm_prog D) 963 4 [.ref (A (1, 0, 0)), .int x1, .int x2, .int x3, .int x4, .int x5, .int x6, q7] [] (wput A (Ct_d sc pc sa pa) S h) = some (Outcome.returned none, (wput A (Ct_d sc pc sa pa) r h)) := by
  intro q7
  simp only [f963_4] at e
  rw [g963_4, b963_4]
  by_cases k1 : 0 ≤ x1 ∧ x1 < 8
  · rw [if_pos k1] at e
    by_cases k2 : 0 ≤ x2 ∧ x2 < 17
    · rw [if_pos k2] at e
      by_cases k3 : 0 ≤ x3 ∧ x3 < 17
      · rw [if_pos k3] at e
        have e := Option.some.inj e; subst e
        simp -implicitDefEqProofs (disch := first | assumption | exact Nat.le_of_ble_eq_true rfl | decide) only [b963_0, g963_1, b963_1, g963_2, b963_2, g963_5, b963_5, pe_iload4, pe_aload0, pe_getfield, pe_iload1, pe_aaload, pe_iload2, pe_iload3, pe_iaload, pe_icmp_gt, pe_icmp_ne, pe_iload5, pe_icmp_ge, pe_goto_w, pe_sipush, pe_goto, pe_istore7, pe_iload6, pe_if_eq, pe_iload7, pe_iastore, pe_i2b, pe_bastore, pe_return, pm_prog_1, pm_ob_some, Nat.reduceDiv, Nat.reduceMod, Nat.reduceMul, Nat.reduceAdd, Int.reduceToNat, pm_kill_i, pm_kill_r, pm_kill_n, pm_kill_j, pm_kill_l, pm_kill_d, pm_cats_nil, pm_cats_i, pm_cats_r, pm_cats_n, pm_cats_l, pm_cats_d, sz_1, sz_2, sl_1, sl_2, lc_0, lc_lt, lc_le, li_ne, va_rf, wr_m1, we_m1, pm_kill_w, Int32.reduceOfInt, Int64.reduceOfInt, Int32.reduceOfNat, Int32.reduceLT, Int32.reduceLE, Prod.mk.injEq, Nat.reduceEqDiff, reduceCtorEq, and_true, true_and, and_false, false_and, and_self, ite_true, ite_false, ↓reduceIte, not_true_eq_false, not_false_eq_true, pe_ri, pe_rz, pe_rc, Ct_g1_1 hP hA, Ct_g1_2 hP hA, Ct_g1_3 hP hA, Ct_r2 hP hA, Ct_r3 hP hA, Ct_r30 hP hA, Ct_r31 hP hA, Ct_r32 hP hA, Ct_r4 hP hA, Ct_r5 hP hA, Ct_r6 hP hA, Ct_w3 hP hA, Ct_w5 hP hA, Ct_w7 hP hA]
      · rw [if_neg k3] at e; cases e
    · rw [if_neg k2] at e; cases e
  · rw [if_neg k1] at e; cases e
theorem y963_3 {sc : Int32} {pc : Int32} {sa : Int32} {pa : Int32} {A : wK → Nat} {h : pm_H} {D : Nat} {S : wS} {x1 : Int32} {x2 : Int32} {x3 : Int32} {x4 : Int32} {x5 : Int32} {x6 : Int32} {y0 : Int32} {r : wS} (hP : Ct_P sc pc sa pa) (hA : wok A (Ct_d sc pc sa pa) h.1) (hD : 0 ≤ D) (e : f963_3 sc pc sa pa S x1 x2 x3 x4 x5 x6 y0 = some r) : ∀ q7 : Value, pm_go pm_prog (pm_call pm_prog D) 963 3 [.ref (A (1, 0, 0)), .int x1, .int x2, .int x3, .int x4, .int x5, .int x6, q7] [.int y0] (wput A (Ct_d sc pc sa pa) S h) = some (Outcome.returned none, (wput A (Ct_d sc pc sa pa) r h)) := by
  intro q7
  simp only [f963_3] at e
  rw [g963_3, b963_3]
  by_cases k1 : x6 = 0
  · rw [if_pos k1] at e
    have k2 := y963_4 (h := h) hP hA hD e
    simp -implicitDefEqProofs (disch := first | assumption | exact Nat.le_of_ble_eq_true rfl | decide) only [b963_0, g963_1, b963_1, g963_2, b963_2, g963_5, b963_5, pe_iload4, pe_aload0, pe_getfield, pe_iload1, pe_aaload, pe_iload2, pe_iload3, pe_iaload, pe_icmp_gt, pe_icmp_ne, pe_iload5, pe_icmp_ge, pe_goto_w, pe_sipush, pe_goto, pe_istore7, pe_iload6, pe_if_eq, pe_iload7, pe_iastore, pe_i2b, pe_bastore, pe_return, pm_prog_1, pm_ob_some, Nat.reduceDiv, Nat.reduceMod, Nat.reduceMul, Nat.reduceAdd, Int.reduceToNat, pm_kill_i, pm_kill_r, pm_kill_n, pm_kill_j, pm_kill_l, pm_kill_d, pm_cats_nil, pm_cats_i, pm_cats_r, pm_cats_n, pm_cats_l, pm_cats_d, sz_1, sz_2, sl_1, sl_2, lc_0, lc_lt, lc_le, li_ne, va_rf, wr_m1, we_m1, pm_kill_w, Int32.reduceOfInt, Int64.reduceOfInt, Int32.reduceOfNat, Int32.reduceLT, Int32.reduceLE, Prod.mk.injEq, Nat.reduceEqDiff, reduceCtorEq, and_true, true_and, and_false, false_and, and_self, ite_true, ite_false, ↓reduceIte, not_true_eq_false, not_false_eq_true, pe_ri, pe_rz, pe_rc, Ct_g1_1 hP hA, Ct_g1_2 hP hA, Ct_g1_3 hP hA, Ct_r2 hP hA, Ct_r3 hP hA, Ct_r30 hP hA, Ct_r31 hP hA, Ct_r32 hP hA, Ct_r4 hP hA, Ct_r5 hP hA, Ct_r6 hP hA, Ct_w3 hP hA, Ct_w5 hP hA, Ct_w7 hP hA, eq_true k1, k2]
  · rw [if_neg k1] at e
    by_cases k3 : y0 = 0
    · rw [if_pos k3] at e
      have e := Option.some.inj e; subst e
      simp -implicitDefEqProofs (disch := first | assumption | exact Nat.le_of_ble_eq_true rfl | decide) only [b963_0, g963_1, b963_1, g963_2, b963_2, g963_5, b963_5, pe_iload4, pe_aload0, pe_getfield, pe_iload1, pe_aaload, pe_iload2, pe_iload3, pe_iaload, pe_icmp_gt, pe_icmp_ne, pe_iload5, pe_icmp_ge, pe_goto_w, pe_sipush, pe_goto, pe_istore7, pe_iload6, pe_if_eq, pe_iload7, pe_iastore, pe_i2b, pe_bastore, pe_return, pm_prog_1, pm_ob_some, Nat.reduceDiv, Nat.reduceMod, Nat.reduceMul, Nat.reduceAdd, Int.reduceToNat, pm_kill_i, pm_kill_r, pm_kill_n, pm_kill_j, pm_kill_l, pm_kill_d, pm_cats_nil, pm_cats_i, pm_cats_r, pm_cats_n, pm_cats_l, pm_cats_d, sz_1, sz_2, sl_1, sl_2, lc_0, lc_lt, lc_le, li_ne, va_rf, wr_m1, we_m1, pm_kill_w, Int32.reduceOfInt, Int64.reduceOfInt, Int32.reduceOfNat, Int32.reduceLT, Int32.reduceLE, Prod.mk.injEq, Nat.reduceEqDiff, reduceCtorEq, and_true, true_and, and_false, false_and, and_self, ite_true, ite_false, ↓reduceIte, not_true_eq_false, not_false_eq_true, pe_ri, pe_rz, pe_rc, Ct_g1_1 hP hA, Ct_g1_2 hP hA, Ct_g1_3 hP hA, Ct_r2 hP hA, Ct_r3 hP hA, Ct_r30 hP hA, Ct_r31 hP hA, Ct_r32 hP hA, Ct_r4 hP hA, Ct_r5 hP hA, Ct_r6 hP hA, Ct_w3 hP hA, Ct_w5 hP hA, Ct_w7 hP hA, eq_false k1, eq_true k3]
    · rw [if_neg k3] at e
      have k4 := y963_4 (h := h) hP hA hD e
      simp -implicitDefEqProofs (disch := first | assumption | exact Nat.le_of_ble_eq_true rfl | decide) only [b963_0, g963_1, b963_1, g963_2, b963_2, g963_5, b963_5, pe_iload4, pe_aload0, pe_getfield, pe_iload1, pe_aaload, pe_iload2, pe_iload3, pe_iaload, pe_icmp_gt, pe_icmp_ne, pe_iload5, pe_icmp_ge, pe_goto_w, pe_sipush, pe_goto, pe_istore7, pe_iload6, pe_if_eq, pe_iload7, pe_iastore, pe_i2b, pe_bastore, pe_return, pm_prog_1, pm_ob_some, Nat.reduceDiv, Nat.reduceMod, Nat.reduceMul, Nat.reduceAdd, Int.reduceToNat, pm_kill_i, pm_kill_r, pm_kill_n, pm_kill_j, pm_kill_l, pm_kill_d, pm_cats_nil, pm_cats_i, pm_cats_r, pm_cats_n, pm_cats_l, pm_cats_d, sz_1, sz_2, sl_1, sl_2, lc_0, lc_lt, lc_le, li_ne, va_rf, wr_m1, we_m1, pm_kill_w, Int32.reduceOfInt, Int64.reduceOfInt, Int32.reduceOfNat, Int32.reduceLT, Int32.reduceLE, Prod.mk.injEq, Nat.reduceEqDiff, reduceCtorEq, and_true, true_and, and_false, false_and, and_self, ite_true, ite_false, ↓reduceIte, not_true_eq_false, not_false_eq_true, pe_ri, pe_rz, pe_rc, Ct_g1_1 hP hA, Ct_g1_2 hP hA, Ct_g1_3 hP hA, Ct_r2 hP hA, Ct_r3 hP hA, Ct_r30 hP hA, Ct_r31 hP hA, Ct_r32 hP hA, Ct_r4 hP hA, Ct_r5 hP hA, Ct_r6 hP hA, Ct_w3 hP hA, Ct_w5 hP hA, Ct_w7 hP hA, eq_false k1, eq_false k3, k4]
theorem x963 {sc : Int32} {pc : Int32} {sa : Int32} {pa : Int32} {A : wK → Nat} {h : pm_H} {D : Nat} {S : wS} {x1 : Int32} {x2 : Int32} {x3 : Int32} {x4 : Int32} {x5 : Int32} {x6 : Int32} {r : wS} (hP : Ct_P sc pc sa pa) (hA : wok A (Ct_d sc pc sa pa) h.1) (hD : 1 ≤ D) (e : f963 sc pc sa pa S x1 x2 x3 x4 x5 x6 = some r) : pm_call pm_prog D 963 [.ref (A (1, 0, 0)), .int x1, .int x2, .int x3, .int x4, .int x5, .int x6] (wput A (Ct_d sc pc sa pa) S h) = some (Outcome.returned none, (wput A (Ct_d sc pc sa pa) r h)) := by
  obtain ⟨D, rfl⟩ : ∃ D', D = D' + 1 := ⟨D - 1, by omega⟩
  have hD : 0 ≤ D := by omega
  simp only [f963] at e
  rw [c963 (Ct_c1 hP hA), b963_0]
  by_cases k1 : 0 ≤ x1 ∧ x1 < 8
  · rw [if_pos k1] at e
    by_cases k2 : 0 ≤ x2 ∧ x2 < 17
    · rw [if_pos k2] at e
      by_cases k3 : 0 ≤ x3 ∧ x3 < 17
      · rw [if_pos k3] at e
        by_cases k4 : x4 ≤ (S.1 (3, x1, x2) x3)
        · rw [if_pos k4] at e
          by_cases k5 : x4 = (S.1 (3, x1, x2) x3)
          · rw [if_pos k5] at e
            by_cases k6 : x5 < (S.1 (5, x1, x2) x3)
            · rw [if_pos k6] at e
              have k7 := y963_3 (h := h) hP hA hD e
              simp -implicitDefEqProofs (disch := first | assumption | exact Nat.le_of_ble_eq_true rfl | decide) only [b963_0, g963_1, b963_1, g963_2, b963_2, g963_5, b963_5, pe_iload4, pe_aload0, pe_getfield, pe_iload1, pe_aaload, pe_iload2, pe_iload3, pe_iaload, pe_icmp_gt, pe_icmp_ne, pe_iload5, pe_icmp_ge, pe_goto_w, pe_sipush, pe_goto, pe_istore7, pe_iload6, pe_if_eq, pe_iload7, pe_iastore, pe_i2b, pe_bastore, pe_return, pm_prog_1, pm_ob_some, Nat.reduceDiv, Nat.reduceMod, Nat.reduceMul, Nat.reduceAdd, Int.reduceToNat, pm_kill_i, pm_kill_r, pm_kill_n, pm_kill_j, pm_kill_l, pm_kill_d, pm_cats_nil, pm_cats_i, pm_cats_r, pm_cats_n, pm_cats_l, pm_cats_d, sz_1, sz_2, sl_1, sl_2, lc_0, lc_lt, lc_le, li_ne, va_rf, wr_m1, we_m1, pm_kill_w, Int32.reduceOfInt, Int64.reduceOfInt, Int32.reduceOfNat, Int32.reduceLT, Int32.reduceLE, Prod.mk.injEq, Nat.reduceEqDiff, reduceCtorEq, and_true, true_and, and_false, false_and, and_self, ite_true, ite_false, ↓reduceIte, not_true_eq_false, not_false_eq_true, pe_ri, pe_rz, pe_rc, Ct_g1_1 hP hA, Ct_g1_2 hP hA, Ct_g1_3 hP hA, Ct_r2 hP hA, Ct_r3 hP hA, Ct_r30 hP hA, Ct_r31 hP hA, Ct_r32 hP hA, Ct_r4 hP hA, Ct_r5 hP hA, Ct_r6 hP hA, Ct_w3 hP hA, Ct_w5 hP hA, Ct_w7 hP hA, eq_true k4, eq_true k5, eq_true k6, k7]
            · rw [if_neg k6] at e
              have k8 := y963_3 (h := h) hP hA hD e
              simp -implicitDefEqProofs (disch := first | assumption | exact Nat.le_of_ble_eq_true rfl | decide) only [b963_0, g963_1, b963_1, g963_2, b963_2, g963_5, b963_5, pe_iload4, pe_aload0, pe_getfield, pe_iload1, pe_aaload, pe_iload2, pe_iload3, pe_iaload, pe_icmp_gt, pe_icmp_ne, pe_iload5, pe_icmp_ge, pe_goto_w, pe_sipush, pe_goto, pe_istore7, pe_iload6, pe_if_eq, pe_iload7, pe_iastore, pe_i2b, pe_bastore, pe_return, pm_prog_1, pm_ob_some, Nat.reduceDiv, Nat.reduceMod, Nat.reduceMul, Nat.reduceAdd, Int.reduceToNat, pm_kill_i, pm_kill_r, pm_kill_n, pm_kill_j, pm_kill_l, pm_kill_d, pm_cats_nil, pm_cats_i, pm_cats_r, pm_cats_n, pm_cats_l, pm_cats_d, sz_1, sz_2, sl_1, sl_2, lc_0, lc_lt, lc_le, li_ne, va_rf, wr_m1, we_m1, pm_kill_w, Int32.reduceOfInt, Int64.reduceOfInt, Int32.reduceOfNat, Int32.reduceLT, Int32.reduceLE, Prod.mk.injEq, Nat.reduceEqDiff, reduceCtorEq, and_true, true_and, and_false, false_and, and_self, ite_true, ite_false, ↓reduceIte, not_true_eq_false, not_false_eq_true, pe_ri, pe_rz, pe_rc, Ct_g1_1 hP hA, Ct_g1_2 hP hA, Ct_g1_3 hP hA, Ct_r2 hP hA, Ct_r3 hP hA, Ct_r30 hP hA, Ct_r31 hP hA, Ct_r32 hP hA, Ct_r4 hP hA, Ct_r5 hP hA, Ct_r6 hP hA, Ct_w3 hP hA, Ct_w5 hP hA, Ct_w7 hP hA, eq_true k4, eq_true k5, eq_false k6, k8]
          · rw [if_neg k5] at e
            have k9 := y963_3 (h := h) hP hA hD e
            simp -implicitDefEqProofs (disch := first | assumption | exact Nat.le_of_ble_eq_true rfl | decide) only [b963_0, g963_1, b963_1, g963_2, b963_2, g963_5, b963_5, pe_iload4, pe_aload0, pe_getfield, pe_iload1, pe_aaload, pe_iload2, pe_iload3, pe_iaload, pe_icmp_gt, pe_icmp_ne, pe_iload5, pe_icmp_ge, pe_goto_w, pe_sipush, pe_goto, pe_istore7, pe_iload6, pe_if_eq, pe_iload7, pe_iastore, pe_i2b, pe_bastore, pe_return, pm_prog_1, pm_ob_some, Nat.reduceDiv, Nat.reduceMod, Nat.reduceMul, Nat.reduceAdd, Int.reduceToNat, pm_kill_i, pm_kill_r, pm_kill_n, pm_kill_j, pm_kill_l, pm_kill_d, pm_cats_nil, pm_cats_i, pm_cats_r, pm_cats_n, pm_cats_l, pm_cats_d, sz_1, sz_2, sl_1, sl_2, lc_0, lc_lt, lc_le, li_ne, va_rf, wr_m1, we_m1, pm_kill_w, Int32.reduceOfInt, Int64.reduceOfInt, Int32.reduceOfNat, Int32.reduceLT, Int32.reduceLE, Prod.mk.injEq, Nat.reduceEqDiff, reduceCtorEq, and_true, true_and, and_false, false_and, and_self, ite_true, ite_false, ↓reduceIte, not_true_eq_false, not_false_eq_true, pe_ri, pe_rz, pe_rc, Ct_g1_1 hP hA, Ct_g1_2 hP hA, Ct_g1_3 hP hA, Ct_r2 hP hA, Ct_r3 hP hA, Ct_r30 hP hA, Ct_r31 hP hA, Ct_r32 hP hA, Ct_r4 hP hA, Ct_r5 hP hA, Ct_r6 hP hA, Ct_w3 hP hA, Ct_w5 hP hA, Ct_w7 hP hA, eq_true k4, eq_false k5, k9]
        · rw [if_neg k4] at e
          have k10 := y963_3 (h := h) hP hA hD e
          simp -implicitDefEqProofs (disch := first | assumption | exact Nat.le_of_ble_eq_true rfl | decide) only [b963_0, g963_1, b963_1, g963_2, b963_2, g963_5, b963_5, pe_iload4, pe_aload0, pe_getfield, pe_iload1, pe_aaload, pe_iload2, pe_iload3, pe_iaload, pe_icmp_gt, pe_icmp_ne, pe_iload5, pe_icmp_ge, pe_goto_w, pe_sipush, pe_goto, pe_istore7, pe_iload6, pe_if_eq, pe_iload7, pe_iastore, pe_i2b, pe_bastore, pe_return, pm_prog_1, pm_ob_some, Nat.reduceDiv, Nat.reduceMod, Nat.reduceMul, Nat.reduceAdd, Int.reduceToNat, pm_kill_i, pm_kill_r, pm_kill_n, pm_kill_j, pm_kill_l, pm_kill_d, pm_cats_nil, pm_cats_i, pm_cats_r, pm_cats_n, pm_cats_l, pm_cats_d, sz_1, sz_2, sl_1, sl_2, lc_0, lc_lt, lc_le, li_ne, va_rf, wr_m1, we_m1, pm_kill_w, Int32.reduceOfInt, Int64.reduceOfInt, Int32.reduceOfNat, Int32.reduceLT, Int32.reduceLE, Prod.mk.injEq, Nat.reduceEqDiff, reduceCtorEq, and_true, true_and, and_false, false_and, and_self, ite_true, ite_false, ↓reduceIte, not_true_eq_false, not_false_eq_true, pe_ri, pe_rz, pe_rc, Ct_g1_1 hP hA, Ct_g1_2 hP hA, Ct_g1_3 hP hA, Ct_r2 hP hA, Ct_r3 hP hA, Ct_r30 hP hA, Ct_r31 hP hA, Ct_r32 hP hA, Ct_r4 hP hA, Ct_r5 hP hA, Ct_r6 hP hA, Ct_w3 hP hA, Ct_w5 hP hA, Ct_w7 hP hA, eq_false k4, k10]
      · rw [if_neg k3] at e; cases e
    · rw [if_neg k2] at e; cases e
  · rw [if_neg k1] at e; cases e
/-- TimberHouse$SheetTrees$Part.is(II)Z -/
theorem c3073 {d : Nat} {h : pm_H} {a : Nat} {x0 : Int32} {x1 : Int32} (hc : pm_cls h a = some 48) : pm_call pm_prog (d + 1) 3073 [.ref a, .int x0, .int x1] h = pm_ev pm_prog (pm_call pm_prog d) 3073 0 b3073_0 [.ref a, .int x0, .int x1] [] h := pm_cal (pm_rc1 hc rfl) rfl rfl rfl
theorem g3073_1 {cl : pm_C} {ls st : List Value} {h : pm_H} : pm_go pm_prog cl 3073 1 ls st h = pm_ev pm_prog cl 3073 1 b3073_1 ls st h := pm_go_eq pm_prog cl 3073 1 ls st h
theorem g3073_2 {cl : pm_C} {ls st : List Value} {h : pm_H} : pm_go pm_prog cl 3073 2 ls st h = pm_ev pm_prog cl 3073 2 b3073_2 ls st h := pm_go_eq pm_prog cl 3073 2 ls st h
theorem g3073_3 {cl : pm_C} {ls st : List Value} {h : pm_H} : pm_go pm_prog cl 3073 3 ls st h = pm_ev pm_prog cl 3073 3 b3073_3 ls st h := pm_go_eq pm_prog cl 3073 3 ls st h
theorem g3073_4 {cl : pm_C} {ls st : List Value} {h : pm_H} : pm_go pm_prog cl 3073 4 ls st h = pm_ev pm_prog cl 3073 4 b3073_4 ls st h := pm_go_eq pm_prog cl 3073 4 ls st h
noncomputable def f3073_1 (sc : Int32) (pc : Int32) (sa : Int32) (pa : Int32) (S : wS) (x0i : Int32) (x1 : Int32) (x2 : Int32) : Option (Int32) :=
  if 0 ≤ x0i ∧ x0i < pc then
    if (S.1 (25, x0i, 0) 2) = 0 then
      some 0
    else
      if (S.1 (25, x0i, 0) 0) = x2 then
        if (S.1 (25, x0i, 0) 1) = x1 then
          some 1
        else
          some 0
      else
        some 0
  else none
/-- TimberHouse$SheetTrees$Part.is(II)Z -/
noncomputable def f3073 (sc : Int32) (pc : Int32) (sa : Int32) (pa : Int32) (S : wS) (x0i : Int32) (x1 : Int32) (x2 : Int32) : Option (Int32) :=
  if 0 ≤ x0i ∧ x0i < pc then
    if (S.1 (25, x0i, 0) 0) = x1 then
      if (S.1 (25, x0i, 0) 1) = x2 then
        some 1
      else
        f3073_1 sc pc sa pa S x0i x1 x2
    else
      f3073_1 sc pc sa pa S x0i x1 x2
  else none
theorem y3073_1 {sc : Int32} {pc : Int32} {sa : Int32} {pa : Int32} {A : wK → Nat} {h : pm_H} {D : Nat} {S : wS} {x0i : Int32} {x1 : Int32} {x2 : Int32} {r : Int32} (hP : Ct_P sc pc sa pa) (hA : wok A (Ct_d sc pc sa pa) h.1) (hD : 0 ≤ D) (e : f3073_1 sc pc sa pa S x0i x1 x2 = some r) : pm_go pm_prog (pm_call pm_prog D) 3073 1 [.ref (A (25, x0i, 0)), .int x1, .int x2] [] (wput A (Ct_d sc pc sa pa) S h) = some (Outcome.returned (some (.int r)), (wput A (Ct_d sc pc sa pa) S h)) := by
  simp only [f3073_1] at e
  rw [g3073_1, b3073_1]
  by_cases k1 : 0 ≤ x0i ∧ x0i < pc
  · rw [if_pos k1] at e
    by_cases k2 : (S.1 (25, x0i, 0) 2) = 0
    · rw [if_pos k2] at e
      have e := Option.some.inj e; subst e
      simp -implicitDefEqProofs (disch := first | assumption | exact Nat.le_of_ble_eq_true rfl | decide) only [b3073_0, g3073_2, b3073_2, g3073_3, b3073_3, g3073_4, b3073_4, pe_aload0, pe_getfield, pe_iload1, pe_icmp_ne, pe_iload2, pe_icmp_eq, pe_goto_w, pe_if_eq, pe_sipush, pe_goto, pm_prog_1, pm_ob_some, Nat.reduceDiv, Nat.reduceMod, Nat.reduceMul, Nat.reduceAdd, Int.reduceToNat, pm_kill_i, pm_kill_r, pm_kill_n, pm_kill_j, pm_kill_l, pm_kill_d, pm_cats_nil, pm_cats_i, pm_cats_r, pm_cats_n, pm_cats_l, pm_cats_d, sz_1, sz_2, sl_1, sl_2, lc_0, lc_lt, lc_le, li_ne, va_rf, wr_m1, we_m1, pm_kill_w, Int32.reduceOfInt, Int64.reduceOfInt, Int32.reduceOfNat, Int32.reduceLT, Int32.reduceLE, Prod.mk.injEq, Nat.reduceEqDiff, reduceCtorEq, and_true, true_and, and_false, false_and, and_self, ite_true, ite_false, ↓reduceIte, not_true_eq_false, not_false_eq_true, pe_ri, pe_rz, pe_rc, Ct_g25_0 hP hA, Ct_g25_1 hP hA, Ct_g25_2 hP hA, eq_true k2]
    · rw [if_neg k2] at e
      by_cases k3 : (S.1 (25, x0i, 0) 0) = x2
      · rw [if_pos k3] at e
        by_cases k4 : (S.1 (25, x0i, 0) 1) = x1
        · rw [if_pos k4] at e
          have e := Option.some.inj e; subst e
          simp -implicitDefEqProofs (disch := first | assumption | exact Nat.le_of_ble_eq_true rfl | decide) only [b3073_0, g3073_2, b3073_2, g3073_3, b3073_3, g3073_4, b3073_4, pe_aload0, pe_getfield, pe_iload1, pe_icmp_ne, pe_iload2, pe_icmp_eq, pe_goto_w, pe_if_eq, pe_sipush, pe_goto, pm_prog_1, pm_ob_some, Nat.reduceDiv, Nat.reduceMod, Nat.reduceMul, Nat.reduceAdd, Int.reduceToNat, pm_kill_i, pm_kill_r, pm_kill_n, pm_kill_j, pm_kill_l, pm_kill_d, pm_cats_nil, pm_cats_i, pm_cats_r, pm_cats_n, pm_cats_l, pm_cats_d, sz_1, sz_2, sl_1, sl_2, lc_0, lc_lt, lc_le, li_ne, va_rf, wr_m1, we_m1, pm_kill_w, Int32.reduceOfInt, Int64.reduceOfInt, Int32.reduceOfNat, Int32.reduceLT, Int32.reduceLE, Prod.mk.injEq, Nat.reduceEqDiff, reduceCtorEq, and_true, true_and, and_false, false_and, and_self, ite_true, ite_false, ↓reduceIte, not_true_eq_false, not_false_eq_true, pe_ri, pe_rz, pe_rc, Ct_g25_0 hP hA, Ct_g25_1 hP hA, Ct_g25_2 hP hA, eq_false k2, eq_true k3, eq_true k4]
        · rw [if_neg k4] at e
          have e := Option.some.inj e; subst e
          simp -implicitDefEqProofs (disch := first | assumption | exact Nat.le_of_ble_eq_true rfl | decide) only [b3073_0, g3073_2, b3073_2, g3073_3, b3073_3, g3073_4, b3073_4, pe_aload0, pe_getfield, pe_iload1, pe_icmp_ne, pe_iload2, pe_icmp_eq, pe_goto_w, pe_if_eq, pe_sipush, pe_goto, pm_prog_1, pm_ob_some, Nat.reduceDiv, Nat.reduceMod, Nat.reduceMul, Nat.reduceAdd, Int.reduceToNat, pm_kill_i, pm_kill_r, pm_kill_n, pm_kill_j, pm_kill_l, pm_kill_d, pm_cats_nil, pm_cats_i, pm_cats_r, pm_cats_n, pm_cats_l, pm_cats_d, sz_1, sz_2, sl_1, sl_2, lc_0, lc_lt, lc_le, li_ne, va_rf, wr_m1, we_m1, pm_kill_w, Int32.reduceOfInt, Int64.reduceOfInt, Int32.reduceOfNat, Int32.reduceLT, Int32.reduceLE, Prod.mk.injEq, Nat.reduceEqDiff, reduceCtorEq, and_true, true_and, and_false, false_and, and_self, ite_true, ite_false, ↓reduceIte, not_true_eq_false, not_false_eq_true, pe_ri, pe_rz, pe_rc, Ct_g25_0 hP hA, Ct_g25_1 hP hA, Ct_g25_2 hP hA, eq_false k2, eq_true k3, eq_false k4]
      · rw [if_neg k3] at e
        have e := Option.some.inj e; subst e
        simp -implicitDefEqProofs (disch := first | assumption | exact Nat.le_of_ble_eq_true rfl | decide) only [b3073_0, g3073_2, b3073_2, g3073_3, b3073_3, g3073_4, b3073_4, pe_aload0, pe_getfield, pe_iload1, pe_icmp_ne, pe_iload2, pe_icmp_eq, pe_goto_w, pe_if_eq, pe_sipush, pe_goto, pm_prog_1, pm_ob_some, Nat.reduceDiv, Nat.reduceMod, Nat.reduceMul, Nat.reduceAdd, Int.reduceToNat, pm_kill_i, pm_kill_r, pm_kill_n, pm_kill_j, pm_kill_l, pm_kill_d, pm_cats_nil, pm_cats_i, pm_cats_r, pm_cats_n, pm_cats_l, pm_cats_d, sz_1, sz_2, sl_1, sl_2, lc_0, lc_lt, lc_le, li_ne, va_rf, wr_m1, we_m1, pm_kill_w, Int32.reduceOfInt, Int64.reduceOfInt, Int32.reduceOfNat, Int32.reduceLT, Int32.reduceLE, Prod.mk.injEq, Nat.reduceEqDiff, reduceCtorEq, and_true, true_and, and_false, false_and, and_self, ite_true, ite_false, ↓reduceIte, not_true_eq_false, not_false_eq_true, pe_ri, pe_rz, pe_rc, Ct_g25_0 hP hA, Ct_g25_1 hP hA, Ct_g25_2 hP hA, eq_false k2, eq_false k3]
  · rw [if_neg k1] at e; cases e
theorem x3073 {sc : Int32} {pc : Int32} {sa : Int32} {pa : Int32} {A : wK → Nat} {h : pm_H} {D : Nat} {S : wS} {x0i : Int32} {x1 : Int32} {x2 : Int32} {r : Int32} (hP : Ct_P sc pc sa pa) (hA : wok A (Ct_d sc pc sa pa) h.1) (hD : 1 ≤ D) (e : f3073 sc pc sa pa S x0i x1 x2 = some r) : pm_call pm_prog D 3073 [.ref (A (25, x0i, 0)), .int x1, .int x2] (wput A (Ct_d sc pc sa pa) S h) = some (Outcome.returned (some (.int r)), (wput A (Ct_d sc pc sa pa) S h)) := by
  obtain ⟨D, rfl⟩ : ∃ D', D = D' + 1 := ⟨D - 1, by omega⟩
  have hD : 0 ≤ D := by omega
  simp only [f3073] at e
  have k1 : 0 ≤ x0i ∧ x0i < pc := by
    by_cases q : 0 ≤ x0i ∧ x0i < pc
    · exact q
    · rw [if_neg q] at e; cases e
  rw [if_pos k1] at e
  rw [c3073 (Ct_c25 hP hA k1), b3073_0]
  by_cases k2 : (S.1 (25, x0i, 0) 0) = x1
  · rw [if_pos k2] at e
    by_cases k3 : (S.1 (25, x0i, 0) 1) = x2
    · rw [if_pos k3] at e
      have e := Option.some.inj e; subst e
      simp -implicitDefEqProofs (disch := first | assumption | exact Nat.le_of_ble_eq_true rfl | decide) only [b3073_0, g3073_2, b3073_2, g3073_3, b3073_3, g3073_4, b3073_4, pe_aload0, pe_getfield, pe_iload1, pe_icmp_ne, pe_iload2, pe_icmp_eq, pe_goto_w, pe_if_eq, pe_sipush, pe_goto, pm_prog_1, pm_ob_some, Nat.reduceDiv, Nat.reduceMod, Nat.reduceMul, Nat.reduceAdd, Int.reduceToNat, pm_kill_i, pm_kill_r, pm_kill_n, pm_kill_j, pm_kill_l, pm_kill_d, pm_cats_nil, pm_cats_i, pm_cats_r, pm_cats_n, pm_cats_l, pm_cats_d, sz_1, sz_2, sl_1, sl_2, lc_0, lc_lt, lc_le, li_ne, va_rf, wr_m1, we_m1, pm_kill_w, Int32.reduceOfInt, Int64.reduceOfInt, Int32.reduceOfNat, Int32.reduceLT, Int32.reduceLE, Prod.mk.injEq, Nat.reduceEqDiff, reduceCtorEq, and_true, true_and, and_false, false_and, and_self, ite_true, ite_false, ↓reduceIte, not_true_eq_false, not_false_eq_true, pe_ri, pe_rz, pe_rc, Ct_g25_0 hP hA, Ct_g25_1 hP hA, Ct_g25_2 hP hA, eq_true k2, eq_true k3]
    · rw [if_neg k3] at e
      have k4 := y3073_1 (h := h) hP hA hD e
      simp -implicitDefEqProofs (disch := first | assumption | exact Nat.le_of_ble_eq_true rfl | decide) only [b3073_0, g3073_2, b3073_2, g3073_3, b3073_3, g3073_4, b3073_4, pe_aload0, pe_getfield, pe_iload1, pe_icmp_ne, pe_iload2, pe_icmp_eq, pe_goto_w, pe_if_eq, pe_sipush, pe_goto, pm_prog_1, pm_ob_some, Nat.reduceDiv, Nat.reduceMod, Nat.reduceMul, Nat.reduceAdd, Int.reduceToNat, pm_kill_i, pm_kill_r, pm_kill_n, pm_kill_j, pm_kill_l, pm_kill_d, pm_cats_nil, pm_cats_i, pm_cats_r, pm_cats_n, pm_cats_l, pm_cats_d, sz_1, sz_2, sl_1, sl_2, lc_0, lc_lt, lc_le, li_ne, va_rf, wr_m1, we_m1, pm_kill_w, Int32.reduceOfInt, Int64.reduceOfInt, Int32.reduceOfNat, Int32.reduceLT, Int32.reduceLE, Prod.mk.injEq, Nat.reduceEqDiff, reduceCtorEq, and_true, true_and, and_false, false_and, and_self, ite_true, ite_false, ↓reduceIte, not_true_eq_false, not_false_eq_true, pe_ri, pe_rz, pe_rc, Ct_g25_0 hP hA, Ct_g25_1 hP hA, Ct_g25_2 hP hA, eq_true k2, eq_false k3, k4]
  · rw [if_neg k2] at e
    have k5 := y3073_1 (h := h) hP hA hD e
    simp -implicitDefEqProofs (disch := first | assumption | exact Nat.le_of_ble_eq_true rfl | decide) only [b3073_0, g3073_2, b3073_2, g3073_3, b3073_3, g3073_4, b3073_4, pe_aload0, pe_getfield, pe_iload1, pe_icmp_ne, pe_iload2, pe_icmp_eq, pe_goto_w, pe_if_eq, pe_sipush, pe_goto, pm_prog_1, pm_ob_some, Nat.reduceDiv, Nat.reduceMod, Nat.reduceMul, Nat.reduceAdd, Int.reduceToNat, pm_kill_i, pm_kill_r, pm_kill_n, pm_kill_j, pm_kill_l, pm_kill_d, pm_cats_nil, pm_cats_i, pm_cats_r, pm_cats_n, pm_cats_l, pm_cats_d, sz_1, sz_2, sl_1, sl_2, lc_0, lc_lt, lc_le, li_ne, va_rf, wr_m1, we_m1, pm_kill_w, Int32.reduceOfInt, Int64.reduceOfInt, Int32.reduceOfNat, Int32.reduceLT, Int32.reduceLE, Prod.mk.injEq, Nat.reduceEqDiff, reduceCtorEq, and_true, true_and, and_false, false_and, and_self, ite_true, ite_false, ↓reduceIte, not_true_eq_false, not_false_eq_true, pe_ri, pe_rz, pe_rc, Ct_g25_0 hP hA, Ct_g25_1 hP hA, Ct_g25_2 hP hA, eq_false k2, k5]
/-- TimberHouse$SheetTrees$Part.area()I -/
theorem c3074 {d : Nat} {h : pm_H} {a : Nat} (hc : pm_cls h a = some 48) : pm_call pm_prog (d + 1) 3074 [.ref a] h = pm_ev pm_prog (pm_call pm_prog d) 3074 0 b3074_0 [.ref a] [] h := pm_cal (pm_rc1 hc rfl) rfl rfl rfl
/-- TimberHouse$SheetTrees$Part.area()I -/
noncomputable def f3074 (sc : Int32) (pc : Int32) (sa : Int32) (pa : Int32) (S : wS) (x0i : Int32) : Option (Int32) :=
  if 0 ≤ x0i ∧ x0i < pc then
    some ((S.1 (25, x0i, 0) 0) * (S.1 (25, x0i, 0) 1))
  else none
theorem x3074 {sc : Int32} {pc : Int32} {sa : Int32} {pa : Int32} {A : wK → Nat} {h : pm_H} {D : Nat} {S : wS} {x0i : Int32} {r : Int32} (hP : Ct_P sc pc sa pa) (hA : wok A (Ct_d sc pc sa pa) h.1) (hD : 1 ≤ D) (e : f3074 sc pc sa pa S x0i = some r) : pm_call pm_prog D 3074 [.ref (A (25, x0i, 0))] (wput A (Ct_d sc pc sa pa) S h) = some (Outcome.returned (some (.int r)), (wput A (Ct_d sc pc sa pa) S h)) := by
  obtain ⟨D, rfl⟩ : ∃ D', D = D' + 1 := ⟨D - 1, by omega⟩
  have hD : 0 ≤ D := by omega
  simp only [f3074] at e
  have k1 : 0 ≤ x0i ∧ x0i < pc := by
    by_cases q : 0 ≤ x0i ∧ x0i < pc
    · exact q
    · rw [if_neg q] at e; cases e
  rw [if_pos k1] at e
  rw [c3074 (Ct_c25 hP hA k1), b3074_0]
  have e := Option.some.inj e; subst e
  simp -implicitDefEqProofs (disch := first | assumption | exact Nat.le_of_ble_eq_true rfl | decide) only [b3074_0, pe_aload0, pe_getfield, pe_imul, pm_prog_1, pm_ob_some, Nat.reduceDiv, Nat.reduceMod, Nat.reduceMul, Nat.reduceAdd, Int.reduceToNat, pm_kill_i, pm_kill_r, pm_kill_n, pm_kill_j, pm_kill_l, pm_kill_d, pm_cats_nil, pm_cats_i, pm_cats_r, pm_cats_n, pm_cats_l, pm_cats_d, sz_1, sz_2, sl_1, sl_2, lc_0, lc_lt, lc_le, li_ne, va_rf, wr_m1, we_m1, pm_kill_w, Int32.reduceOfInt, Int64.reduceOfInt, Int32.reduceOfNat, Int32.reduceLT, Int32.reduceLE, Prod.mk.injEq, Nat.reduceEqDiff, reduceCtorEq, and_true, true_and, and_false, false_and, and_self, ite_true, ite_false, ↓reduceIte, not_true_eq_false, not_false_eq_true, pe_ri, pe_rz, pe_rc, Ct_g25_0 hP hA, Ct_g25_1 hP hA]
/-- TimberHouse$SheetTrees$Table.choose(Ljava/util/ArrayList;III)V -/
theorem c962 {d : Nat} {h : pm_H} {a : Nat} {r0 : Nat} {x1 : Int32} {x2 : Int32} {x3 : Int32} (hc : pm_cls h a = some 15) : pm_call pm_prog (d + 1) 962 [.ref a, .ref r0, .int x1, .int x2, .int x3] h = pm_ev pm_prog (pm_call pm_prog d) 962 0 b962_0 [.ref a, .ref r0, .int x1, .int x2, .int x3, pm_junk, pm_junk, pm_junk, pm_junk, pm_junk, pm_junk, pm_junk] [] h := pm_cal (pm_rc1 hc rfl) rfl rfl rfl
theorem g962_1 {cl : pm_C} {ls st : List Value} {h : pm_H} : pm_go pm_prog cl 962 1 ls st h = pm_ev pm_prog cl 962 1 b962_1 ls st h := pm_go_eq pm_prog cl 962 1 ls st h
theorem g962_2 {cl : pm_C} {ls st : List Value} {h : pm_H} : pm_go pm_prog cl 962 2 ls st h = pm_ev pm_prog cl 962 2 b962_2 ls st h := pm_go_eq pm_prog cl 962 2 ls st h
theorem g962_3 {cl : pm_C} {ls st : List Value} {h : pm_H} : pm_go pm_prog cl 962 3 ls st h = pm_ev pm_prog cl 962 3 b962_3 ls st h := pm_go_eq pm_prog cl 962 3 ls st h
theorem g962_4 {cl : pm_C} {ls st : List Value} {h : pm_H} : pm_go pm_prog cl 962 4 ls st h = pm_ev pm_prog cl 962 4 b962_4 ls st h := pm_go_eq pm_prog cl 962 4 ls st h
theorem g962_5 {cl : pm_C} {ls st : List Value} {h : pm_H} : pm_go pm_prog cl 962 5 ls st h = pm_ev pm_prog cl 962 5 b962_5 ls st h := pm_go_eq pm_prog cl 962 5 ls st h
theorem g962_6 {cl : pm_C} {ls st : List Value} {h : pm_H} : pm_go pm_prog cl 962 6 ls st h = pm_ev pm_prog cl 962 6 b962_6 ls st h := pm_go_eq pm_prog cl 962 6 ls st h
theorem g962_7 {cl : pm_C} {ls st : List Value} {h : pm_H} : pm_go pm_prog cl 962 7 ls st h = pm_ev pm_prog cl 962 7 b962_7 ls st h := pm_go_eq pm_prog cl 962 7 ls st h
theorem g962_8 {cl : pm_C} {ls st : List Value} {h : pm_H} : pm_go pm_prog cl 962 8 ls st h = pm_ev pm_prog cl 962 8 b962_8 ls st h := pm_go_eq pm_prog cl 962 8 ls st h
theorem g962_9 {cl : pm_C} {ls st : List Value} {h : pm_H} : pm_go pm_prog cl 962 9 ls st h = pm_ev pm_prog cl 962 9 b962_9 ls st h := pm_go_eq pm_prog cl 962 9 ls st h
theorem g962_10 {cl : pm_C} {ls st : List Value} {h : pm_H} : pm_go pm_prog cl 962 10 ls st h = pm_ev pm_prog cl 962 10 b962_10 ls st h := pm_go_eq pm_prog cl 962 10 ls st h
theorem g962_11 {cl : pm_C} {ls st : List Value} {h : pm_H} : pm_go pm_prog cl 962 11 ls st h = pm_ev pm_prog cl 962 11 b962_11 ls st h := pm_go_eq pm_prog cl 962 11 ls st h
theorem g962_12 {cl : pm_C} {ls st : List Value} {h : pm_H} : pm_go pm_prog cl 962 12 ls st h = pm_ev pm_prog cl 962 12 b962_12 ls st h := pm_go_eq pm_prog cl 962 12 ls st h
theorem g962_13 {cl : pm_C} {ls st : List Value} {h : pm_H} : pm_go pm_prog cl 962 13 ls st h = pm_ev pm_prog cl 962 13 b962_13 ls st h := pm_go_eq pm_prog cl 962 13 ls st h
theorem g962_14 {cl : pm_C} {ls st : List Value} {h : pm_H} : pm_go pm_prog cl 962 14 ls st h = pm_ev pm_prog cl 962 14 b962_14 ls st h := pm_go_eq pm_prog cl 962 14 ls st h
theorem g962_15 {cl : pm_C} {ls st : List Value} {h : pm_H} : pm_go pm_prog cl 962 15 ls st h = pm_ev pm_prog cl 962 15 b962_15 ls st h := pm_go_eq pm_prog cl 962 15 ls st h
theorem g962_16 {cl : pm_C} {ls st : List Value} {h : pm_H} : pm_go pm_prog cl 962 16 ls st h = pm_ev pm_prog cl 962 16 b962_16 ls st h := pm_go_eq pm_prog cl 962 16 ls st h
theorem g962_17 {cl : pm_C} {ls st : List Value} {h : pm_H} : pm_go pm_prog cl 962 17 ls st h = pm_ev pm_prog cl 962 17 b962_17 ls st h := pm_go_eq pm_prog cl 962 17 ls st h
theorem g962_18 {cl : pm_C} {ls st : List Value} {h : pm_H} : pm_go pm_prog cl 962 18 ls st h = pm_ev pm_prog cl 962 18 b962_18 ls st h := pm_go_eq pm_prog cl 962 18 ls st h
noncomputable def f962_b1 (sc : Int32) (pc : Int32) (sa : Int32) (pa : Int32) : Int32 × Int32 × Int32 × Int32 × wS → Option ((Int32 × Int32 × Int32 × Int32 × wS) ⊕ ((Int32 × Int32 × Int32 × wS))) := fun (x2, x3, x4, x5, S) =>
  (f4033tv1 sc pc sa pa S).bind fun v2 =>
  if x5 < v2 then
    (f4034tv1 sc pc sa pa S x5).bind fun v3i =>
    if 0 ≤ v3i ∧ v3i < pc then
      if (S.1 (25, v3i, 0) 4) ≤ 0 then
        some (.inl (x2, x3, x4, (x5 + 1), S))
      else
        (f3073 sc pc sa pa S v3i x3 x4).bind fun v4 =>
        if v4 = 0 then
          some (.inl (x2, x3, x4, (x5 + 1), S))
        else
          (f3074 sc pc sa pa S v3i).bind fun v5 =>
          (f963 sc pc sa pa S x2 x3 x4 v5 0 (1 + x5)).bind fun S6 =>
          some (.inl (x2, x3, x4, (x5 + 1), S6))
    else none
  else
    some (.inr (x2, x3, x4, S))
noncomputable def f962_17_8 (sc : Int32) (pc : Int32) (sa : Int32) (pa : Int32) (S : wS) (x2 : Int32) (x3 : Int32) (x4 : Int32) (x5 : Int32) (x6 : Int32) (x7 : Int32) (x8 : Int32) (x10 : Int32) (x11 : Int32) : Option ((Int32 × Int32 × Int32 × Int32 × Int32 × Int32 × Int32 × wS) ⊕ ((wS))) :=
  (f963 sc pc sa pa S x2 x3 x4 x10 x11 (100 + x8)).bind fun S12 =>
  some (.inl (x2, x3, x4, x5, x6, x7, (x8 + 1), S12))
noncomputable def f962_14_8 (sc : Int32) (pc : Int32) (sa : Int32) (pa : Int32) (S : wS) (x2 : Int32) (x3 : Int32) (x4 : Int32) (x5 : Int32) (x6 : Int32) (x7 : Int32) (x8 : Int32) (x9 : Int32) (x11 : Int32) (y0 : Int32) (y1 : Int32) : Option ((Int32 × Int32 × Int32 × Int32 × Int32 × Int32 × Int32 × wS) ⊕ ((wS))) :=
  if x5 = 0 then
    if 0 ≤ x2 ∧ x2 < 8 then
      if 0 ≤ x3 ∧ x3 < 17 then
        if 0 ≤ x9 ∧ x9 < 17 then
          f962_17_8 sc pc sa pa S x2 x3 x4 x5 x6 x7 x8 (y0 + y1) (x11 + (S.1 (5, x2, x3) x9))
        else none
      else none
    else none
  else
    if 0 ≤ x2 ∧ x2 < 8 then
      if 0 ≤ x9 ∧ x9 < 17 then
        if 0 ≤ x4 ∧ x4 < 17 then
          f962_17_8 sc pc sa pa S x2 x3 x4 x5 x6 x7 x8 (y0 + y1) (x11 + (S.1 (5, x2, x9) x4))
        else none
      else none
    else none
noncomputable def f962_12_8 (sc : Int32) (pc : Int32) (sa : Int32) (pa : Int32) (S : wS) (x2 : Int32) (x3 : Int32) (x4 : Int32) (x5 : Int32) (x6 : Int32) (x7 : Int32) (x8 : Int32) (x9 : Int32) (x10 : Int32) (y0 : Int32) (y1 : Int32) : Option ((Int32 × Int32 × Int32 × Int32 × Int32 × Int32 × Int32 × wS) ⊕ ((wS))) :=
  if x9 ≤ 0 then
    f962_17_8 sc pc sa pa S x2 x3 x4 x5 x6 x7 x8 x10 (y0 + y1)
  else
    if x5 = 0 then
      if 0 ≤ x2 ∧ x2 < 8 then
        if 0 ≤ x3 ∧ x3 < 17 then
          if 0 ≤ x9 ∧ x9 < 17 then
            f962_14_8 sc pc sa pa S x2 x3 x4 x5 x6 x7 x8 x9 (y0 + y1) x10 (S.1 (3, x2, x3) x9)
          else none
        else none
      else none
    else
      if 0 ≤ x2 ∧ x2 < 8 then
        if 0 ≤ x9 ∧ x9 < 17 then
          if 0 ≤ x4 ∧ x4 < 17 then
            f962_14_8 sc pc sa pa S x2 x3 x4 x5 x6 x7 x8 x9 (y0 + y1) x10 (S.1 (3, x2, x9) x4)
          else none
        else none
      else none
noncomputable def f962_10_8 (sc : Int32) (pc : Int32) (sa : Int32) (pa : Int32) (S : wS) (x2 : Int32) (x3 : Int32) (x4 : Int32) (x5 : Int32) (x6 : Int32) (x7 : Int32) (x8 : Int32) (x9 : Int32) (y0 : Int32) : Option ((Int32 × Int32 × Int32 × Int32 × Int32 × Int32 × Int32 × wS) ⊕ ((wS))) :=
  if x5 = 0 then
    if 0 ≤ x7 ∧ x7 < 8 then
      if 0 ≤ x3 ∧ x3 < 17 then
        if 0 ≤ x8 ∧ x8 < 17 then
          f962_12_8 sc pc sa pa S x2 x3 x4 x5 x6 x7 x8 x9 y0 1 (S.1 (5, x7, x3) x8)
        else none
      else none
    else none
  else
    if 0 ≤ x7 ∧ x7 < 8 then
      if 0 ≤ x8 ∧ x8 < 17 then
        if 0 ≤ x4 ∧ x4 < 17 then
          f962_12_8 sc pc sa pa S x2 x3 x4 x5 x6 x7 x8 x9 y0 1 (S.1 (5, x7, x8) x4)
        else none
      else none
    else none
noncomputable def f962_b8 (sc : Int32) (pc : Int32) (sa : Int32) (pa : Int32) : Int32 × Int32 × Int32 × Int32 × Int32 × Int32 × Int32 × wS → Option ((Int32 × Int32 × Int32 × Int32 × Int32 × Int32 × Int32 × wS) ⊕ ((wS))) := fun (x2, x3, x4, x5, x6, x7, x8, S) =>
  if x8 < x6 then
    if x2 ≤ 1 then
      some (.inr S)
    else
      if x5 = 0 then
        if 0 ≤ x7 ∧ x7 < 8 then
          if 0 ≤ x3 ∧ x3 < 17 then
            if 0 ≤ x8 ∧ x8 < 17 then
              f962_10_8 sc pc sa pa S x2 x3 x4 x5 x6 x7 x8 ((x6 - x8) - (S.1 (1, 0, 0) 0)) (S.1 (3, x7, x3) x8)
            else none
          else none
        else none
      else
        if 0 ≤ x7 ∧ x7 < 8 then
          if 0 ≤ x8 ∧ x8 < 17 then
            if 0 ≤ x4 ∧ x4 < 17 then
              f962_10_8 sc pc sa pa S x2 x3 x4 x5 x6 x7 x8 ((x6 - x8) - (S.1 (1, 0, 0) 0)) (S.1 (3, x7, x8) x4)
            else none
          else none
        else none
  else
    some (.inr S)
noncomputable def f962_7 (sc : Int32) (pc : Int32) (sa : Int32) (pa : Int32) (S : wS) (x2 : Int32) (x3 : Int32) (x4 : Int32) (x5 : Int32) (y0 : Int32) : Option (wS) :=
  (lp (f962_b8 sc pc sa pa) FU (x2, x3, x4, x5, y0, ((x2 ^^^ 1) - 2), 1, S)).bind fun S13 =>
  some S13
noncomputable def f962_5 (sc : Int32) (pc : Int32) (sa : Int32) (pa : Int32) (S : wS) (x2 : Int32) (x3 : Int32) (x4 : Int32) (y0 : Int32) : Option (wS) :=
  if y0 = 0 then
    f962_7 sc pc sa pa S x2 x3 x4 y0 x4
  else
    f962_7 sc pc sa pa S x2 x3 x4 y0 x3
/-- TimberHouse$SheetTrees$Table.choose(Ljava/util/ArrayList;III)V -/
noncomputable def f962 (sc : Int32) (pc : Int32) (sa : Int32) (pa : Int32) (S : wS) (x2 : Int32) (x3 : Int32) (x4 : Int32) : Option (wS) :=
  (f963 sc pc sa pa S x2 x3 x4 0 0 0).bind fun S1 =>
  (lp (f962_b1 sc pc sa pa) FU (x2, x3, x4, 0, S1)).bind fun (v9, v10, v11, S7) =>
  if (v9 &&& 1) = 0 then
    f962_5 sc pc sa pa S7 v9 v10 v11 1
  else
    f962_5 sc pc sa pa S7 v9 v10 v11 0
def go962_1 (sc : Int32) (pc : Int32) (sa : Int32) (pa : Int32) (A : wK → Nat) (h : pm_H) (D : Nat) (R : Outcome × pm_H) : Int32 × Int32 × Int32 × Int32 × wS → Prop := fun (x2, x3, x4, x5, S) => ∀ q6 q7 q8 q9 q10 q11 : Value, pm_go pm_prog (pm_call pm_prog D) 962 1 [.ref (A (1, 0, 0)), .ref (A (22, 0, 0)), .int x2, .int x3, .int x4, .int x5, q6, q7, q8, q9, q10, q11] [] (wput A (Ct_d sc pc sa pa) S h) = some R
def ex962_1 (sc : Int32) (pc : Int32) (sa : Int32) (pa : Int32) (A : wK → Nat) (h : pm_H) (D : Nat) (R : Outcome × pm_H) : (Int32 × Int32 × Int32 × wS) → Prop := fun (x2, x3, x4, S) => ∀ q1 q5 q6 q7 q8 q9 q10 q11 : Value, pm_go pm_prog (pm_call pm_prog D) 962 3 [.ref (A (1, 0, 0)), q1, .int x2, .int x3, .int x4, q5, q6, q7, q8, q9, q10, q11] [] (wput A (Ct_d sc pc sa pa) S h) = some R
theorem y962_b1 {sc : Int32} {pc : Int32} {sa : Int32} {pa : Int32} {A : wK → Nat} {h : pm_H} {D : Nat} {R : Outcome × pm_H} (hP : Ct_P sc pc sa pa) (hA : wok A (Ct_d sc pc sa pa) h.1) (hD : 3 ≤ D) (a : Int32 × Int32 × Int32 × Int32 × wS) (r : (Int32 × Int32 × Int32 × Int32 × wS) ⊕ ((Int32 × Int32 × Int32 × wS))) (e : f962_b1 sc pc sa pa a = some r) (hc : Sum.elim (go962_1 sc pc sa pa A h D R) (ex962_1 sc pc sa pa A h D R) r) : go962_1 sc pc sa pa A h D R a := by
  obtain ⟨x2, x3, x4, x5, S⟩ := a
  dsimp only [go962_1]
  intro q6 q7 q8 q9 q10 q11
  simp only [f962_b1] at e
  rw [g962_1, b962_1]
  obtain ⟨v2, k1, e⟩ := Option.bind_eq_some_iff.mp e
  try dsimp only at e
  have z1 := x4033tv1 (D := D) (h := h) hP hA (by omega) k1
  by_cases k2 : x5 < v2
  · rw [if_pos k2] at e
    obtain ⟨v3i, k3, e⟩ := Option.bind_eq_some_iff.mp e
    try dsimp only at e
    have z3 := x4034tv1 (D := D) (h := h) hP hA (by omega) k3
    by_cases k4 : 0 ≤ v3i ∧ v3i < pc
    · rw [if_pos k4] at e
      by_cases k5 : (S.1 (25, v3i, 0) 4) ≤ 0
      · rw [if_pos k5] at e
        have e := Option.some.inj e; subst e
        dsimp only [Sum.elim_inl, go962_1] at hc
        simp -implicitDefEqProofs (disch := first | assumption | exact Nat.le_of_ble_eq_true rfl | decide) only [b962_0, g962_2, b962_2, g962_3, b962_3, g962_4, b962_4, g962_6, b962_6, g962_9, b962_9, g962_11, b962_11, g962_13, b962_13, g962_15, b962_15, g962_16, b962_16, g962_18, b962_18, pe_aload0, pe_iload2, pe_iload3, pe_iload4, pe_sipush, pe_call7, pm_af_ret, pm_af_void, pm_af_thr, pe_istore5, pe_goto_w, pe_iload5, pe_aload1, pe_call1, pe_icmp_ge, pe_call2, pe_astore6, pe_aload6, pe_getfield, pe_if_le, pe_call3, pe_if_eq, pe_iadd, pe_iinc5, pe_goto, pe_iand, pe_if_ne, pe_istore6, pe_ixor, pe_isub, pe_istore7, pe_istore8, pe_iload8, pe_iload6, pe_icmp_le, pe_istore9, pe_iload7, pe_aaload, pe_iaload, pe_istore10, pe_istore11, pe_iload9, pe_iload10, pe_iload11, pe_iinc8, pe_return, pm_prog_1, pm_ob_some, Nat.reduceDiv, Nat.reduceMod, Nat.reduceMul, Nat.reduceAdd, Int.reduceToNat, pm_kill_i, pm_kill_r, pm_kill_n, pm_kill_j, pm_kill_l, pm_kill_d, pm_cats_nil, pm_cats_i, pm_cats_r, pm_cats_n, pm_cats_l, pm_cats_d, sz_1, sz_2, sl_1, sl_2, lc_0, lc_lt, lc_le, li_ne, va_rf, wr_m1, we_m1, pm_kill_w, Int32.reduceOfInt, Int64.reduceOfInt, Int32.reduceOfNat, Int32.reduceLT, Int32.reduceLE, Prod.mk.injEq, Nat.reduceEqDiff, reduceCtorEq, and_true, true_and, and_false, false_and, and_self, ite_true, ite_false, ↓reduceIte, not_true_eq_false, not_false_eq_true, pe_ri, pe_rz, pe_rc, Ct_g1_0 hP hA, Ct_g1_1 hP hA, Ct_g1_2 hP hA, Ct_g25_4 hP hA, Ct_k25 hP hA, Ct_r2 hP hA, Ct_r3 hP hA, Ct_r30 hP hA, Ct_r31 hP hA, Ct_r4 hP hA, Ct_r5 hP hA, z1, eq_true k2, z3, eq_true k5, hc]
      · rw [if_neg k5] at e
        obtain ⟨v4, k6, e⟩ := Option.bind_eq_some_iff.mp e
        try dsimp only at e
        have z6 := x3073 (D := D) (h := h) hP hA (by omega) k6
        by_cases k7 : v4 = 0
        · rw [if_pos k7] at e
          have e := Option.some.inj e; subst e
          dsimp only [Sum.elim_inl, go962_1] at hc
          simp -implicitDefEqProofs (disch := first | assumption | exact Nat.le_of_ble_eq_true rfl | decide) only [b962_0, g962_2, b962_2, g962_3, b962_3, g962_4, b962_4, g962_6, b962_6, g962_9, b962_9, g962_11, b962_11, g962_13, b962_13, g962_15, b962_15, g962_16, b962_16, g962_18, b962_18, pe_aload0, pe_iload2, pe_iload3, pe_iload4, pe_sipush, pe_call7, pm_af_ret, pm_af_void, pm_af_thr, pe_istore5, pe_goto_w, pe_iload5, pe_aload1, pe_call1, pe_icmp_ge, pe_call2, pe_astore6, pe_aload6, pe_getfield, pe_if_le, pe_call3, pe_if_eq, pe_iadd, pe_iinc5, pe_goto, pe_iand, pe_if_ne, pe_istore6, pe_ixor, pe_isub, pe_istore7, pe_istore8, pe_iload8, pe_iload6, pe_icmp_le, pe_istore9, pe_iload7, pe_aaload, pe_iaload, pe_istore10, pe_istore11, pe_iload9, pe_iload10, pe_iload11, pe_iinc8, pe_return, pm_prog_1, pm_ob_some, Nat.reduceDiv, Nat.reduceMod, Nat.reduceMul, Nat.reduceAdd, Int.reduceToNat, pm_kill_i, pm_kill_r, pm_kill_n, pm_kill_j, pm_kill_l, pm_kill_d, pm_cats_nil, pm_cats_i, pm_cats_r, pm_cats_n, pm_cats_l, pm_cats_d, sz_1, sz_2, sl_1, sl_2, lc_0, lc_lt, lc_le, li_ne, va_rf, wr_m1, we_m1, pm_kill_w, Int32.reduceOfInt, Int64.reduceOfInt, Int32.reduceOfNat, Int32.reduceLT, Int32.reduceLE, Prod.mk.injEq, Nat.reduceEqDiff, reduceCtorEq, and_true, true_and, and_false, false_and, and_self, ite_true, ite_false, ↓reduceIte, not_true_eq_false, not_false_eq_true, pe_ri, pe_rz, pe_rc, Ct_g1_0 hP hA, Ct_g1_1 hP hA, Ct_g1_2 hP hA, Ct_g25_4 hP hA, Ct_k25 hP hA, Ct_r2 hP hA, Ct_r3 hP hA, Ct_r30 hP hA, Ct_r31 hP hA, Ct_r4 hP hA, Ct_r5 hP hA, z1, eq_true k2, z3, eq_false k5, z6, eq_true k7, hc]
        · rw [if_neg k7] at e
          obtain ⟨v5, k8, e⟩ := Option.bind_eq_some_iff.mp e
          try dsimp only at e
          have z8 := x3074 (D := D) (h := h) hP hA (by omega) k8
          obtain ⟨S6, k9, e⟩ := Option.bind_eq_some_iff.mp e
          try dsimp only at e
          have z9 := x963 (D := D) (h := h) hP hA (by omega) k9
          have e := Option.some.inj e; subst e
          dsimp only [Sum.elim_inl, go962_1] at hc
          simp -implicitDefEqProofs (disch := first | assumption | exact Nat.le_of_ble_eq_true rfl | decide) only [b962_0, g962_2, b962_2, g962_3, b962_3, g962_4, b962_4, g962_6, b962_6, g962_9, b962_9, g962_11, b962_11, g962_13, b962_13, g962_15, b962_15, g962_16, b962_16, g962_18, b962_18, pe_aload0, pe_iload2, pe_iload3, pe_iload4, pe_sipush, pe_call7, pm_af_ret, pm_af_void, pm_af_thr, pe_istore5, pe_goto_w, pe_iload5, pe_aload1, pe_call1, pe_icmp_ge, pe_call2, pe_astore6, pe_aload6, pe_getfield, pe_if_le, pe_call3, pe_if_eq, pe_iadd, pe_iinc5, pe_goto, pe_iand, pe_if_ne, pe_istore6, pe_ixor, pe_isub, pe_istore7, pe_istore8, pe_iload8, pe_iload6, pe_icmp_le, pe_istore9, pe_iload7, pe_aaload, pe_iaload, pe_istore10, pe_istore11, pe_iload9, pe_iload10, pe_iload11, pe_iinc8, pe_return, pm_prog_1, pm_ob_some, Nat.reduceDiv, Nat.reduceMod, Nat.reduceMul, Nat.reduceAdd, Int.reduceToNat, pm_kill_i, pm_kill_r, pm_kill_n, pm_kill_j, pm_kill_l, pm_kill_d, pm_cats_nil, pm_cats_i, pm_cats_r, pm_cats_n, pm_cats_l, pm_cats_d, sz_1, sz_2, sl_1, sl_2, lc_0, lc_lt, lc_le, li_ne, va_rf, wr_m1, we_m1, pm_kill_w, Int32.reduceOfInt, Int64.reduceOfInt, Int32.reduceOfNat, Int32.reduceLT, Int32.reduceLE, Prod.mk.injEq, Nat.reduceEqDiff, reduceCtorEq, and_true, true_and, and_false, false_and, and_self, ite_true, ite_false, ↓reduceIte, not_true_eq_false, not_false_eq_true, pe_ri, pe_rz, pe_rc, Ct_g1_0 hP hA, Ct_g1_1 hP hA, Ct_g1_2 hP hA, Ct_g25_4 hP hA, Ct_k25 hP hA, Ct_r2 hP hA, Ct_r3 hP hA, Ct_r30 hP hA, Ct_r31 hP hA, Ct_r4 hP hA, Ct_r5 hP hA, z1, eq_true k2, z3, eq_false k5, z6, eq_false k7, z8, z9, hc]
    · rw [if_neg k4] at e; cases e
  · rw [if_neg k2] at e
    have e := Option.some.inj e; subst e
    dsimp only [Sum.elim_inr, ex962_1] at hc
    simp -implicitDefEqProofs (disch := first | assumption | exact Nat.le_of_ble_eq_true rfl | decide) only [b962_0, g962_2, b962_2, g962_3, b962_3, g962_4, b962_4, g962_6, b962_6, g962_9, b962_9, g962_11, b962_11, g962_13, b962_13, g962_15, b962_15, g962_16, b962_16, g962_18, b962_18, pe_aload0, pe_iload2, pe_iload3, pe_iload4, pe_sipush, pe_call7, pm_af_ret, pm_af_void, pm_af_thr, pe_istore5, pe_goto_w, pe_iload5, pe_aload1, pe_call1, pe_icmp_ge, pe_call2, pe_astore6, pe_aload6, pe_getfield, pe_if_le, pe_call3, pe_if_eq, pe_iadd, pe_iinc5, pe_goto, pe_iand, pe_if_ne, pe_istore6, pe_ixor, pe_isub, pe_istore7, pe_istore8, pe_iload8, pe_iload6, pe_icmp_le, pe_istore9, pe_iload7, pe_aaload, pe_iaload, pe_istore10, pe_istore11, pe_iload9, pe_iload10, pe_iload11, pe_iinc8, pe_return, pm_prog_1, pm_ob_some, Nat.reduceDiv, Nat.reduceMod, Nat.reduceMul, Nat.reduceAdd, Int.reduceToNat, pm_kill_i, pm_kill_r, pm_kill_n, pm_kill_j, pm_kill_l, pm_kill_d, pm_cats_nil, pm_cats_i, pm_cats_r, pm_cats_n, pm_cats_l, pm_cats_d, sz_1, sz_2, sl_1, sl_2, lc_0, lc_lt, lc_le, li_ne, va_rf, wr_m1, we_m1, pm_kill_w, Int32.reduceOfInt, Int64.reduceOfInt, Int32.reduceOfNat, Int32.reduceLT, Int32.reduceLE, Prod.mk.injEq, Nat.reduceEqDiff, reduceCtorEq, and_true, true_and, and_false, false_and, and_self, ite_true, ite_false, ↓reduceIte, not_true_eq_false, not_false_eq_true, pe_ri, pe_rz, pe_rc, Ct_g1_0 hP hA, Ct_g1_1 hP hA, Ct_g1_2 hP hA, Ct_g25_4 hP hA, Ct_k25 hP hA, Ct_r2 hP hA, Ct_r3 hP hA, Ct_r30 hP hA, Ct_r31 hP hA, Ct_r4 hP hA, Ct_r5 hP hA, z1, eq_false k2, hc]
theorem z962_1 {sc : Int32} {pc : Int32} {sa : Int32} {pa : Int32} {A : wK → Nat} {h : pm_H} {D : Nat} {R : Outcome × pm_H} (hP : Ct_P sc pc sa pa) (hA : wok A (Ct_d sc pc sa pa) h.1) (hD : 3 ≤ D) {n : Nat} {a : Int32 × Int32 × Int32 × Int32 × wS} {b : (Int32 × Int32 × Int32 × wS)} (e : lp (f962_b1 sc pc sa pa) n a = some b) (hx : ex962_1 sc pc sa pa A h D R b) : go962_1 sc pc sa pa A h D R a := lp_run (fun a r => y962_b1 hP hA hD a r) n a b e hx
def go962_8 (sc : Int32) (pc : Int32) (sa : Int32) (pa : Int32) (A : wK → Nat) (h : pm_H) (D : Nat) (R : Outcome × pm_H) : Int32 × Int32 × Int32 × Int32 × Int32 × Int32 × Int32 × wS → Prop := fun (x2, x3, x4, x5, x6, x7, x8, S) => ∀ q1 q9 q10 q11 : Value, pm_go pm_prog (pm_call pm_prog D) 962 8 [.ref (A (1, 0, 0)), q1, .int x2, .int x3, .int x4, .int x5, .int x6, .int x7, .int x8, q9, q10, q11] [] (wput A (Ct_d sc pc sa pa) S h) = some R
def ex962_8 (sc : Int32) (pc : Int32) (sa : Int32) (pa : Int32) (A : wK → Nat) (h : pm_H) (D : Nat) (R : Outcome × pm_H) : (wS) → Prop := fun S => ∀ q0 q1 q2 q3 q4 q5 q6 q7 q8 q9 q10 q11 : Value, pm_go pm_prog (pm_call pm_prog D) 962 18 [q0, q1, q2, q3, q4, q5, q6, q7, q8, q9, q10, q11] [] (wput A (Ct_d sc pc sa pa) S h) = some R
theorem y962_17_8 {sc : Int32} {pc : Int32} {sa : Int32} {pa : Int32} {A : wK → Nat} {h : pm_H} {D : Nat} {R : Outcome × pm_H} {S : wS} {x2 : Int32} {x3 : Int32} {x4 : Int32} {x5 : Int32} {x6 : Int32} {x7 : Int32} {x8 : Int32} {x10 : Int32} {x11 : Int32} {r : (Int32 × Int32 × Int32 × Int32 × Int32 × Int32 × Int32 × wS) ⊕ ((wS))} (hP : Ct_P sc pc sa pa) (hA : wok A (Ct_d sc pc sa pa) h.1) (hD : 3 ≤ D) (e : f962_17_8 sc pc sa pa S x2 x3 x4 x5 x6 x7 x8 x10 x11 = some r) (hc : Sum.elim (go962_8 sc pc sa pa A h D R) (ex962_8 sc pc sa pa A h D R) r) : ∀ q1 q9 : Value, pm_go pm_prog (pm_call pm_prog D) 962 17 [.ref (A (1, 0, 0)), q1, .int x2, .int x3, .int x4, .int x5, .int x6, .int x7, .int x8, q9, .int x10, .int x11] [] (wput A (Ct_d sc pc sa pa) S h) = some R := by
  intro q1 q9
  simp only [f962_17_8] at e
  rw [g962_17, b962_17]
  obtain ⟨S12, k1, e⟩ := Option.bind_eq_some_iff.mp e
  try dsimp only at e
  have z1 := x963 (D := D) (h := h) hP hA (by omega) k1
  have e := Option.some.inj e; subst e
  dsimp only [Sum.elim_inl, go962_8] at hc
  simp -implicitDefEqProofs (disch := first | assumption | exact Nat.le_of_ble_eq_true rfl | decide) only [b962_0, g962_2, b962_2, g962_3, b962_3, g962_4, b962_4, g962_6, b962_6, g962_9, b962_9, g962_11, b962_11, g962_13, b962_13, g962_15, b962_15, g962_16, b962_16, g962_18, b962_18, pe_aload0, pe_iload2, pe_iload3, pe_iload4, pe_sipush, pe_call7, pm_af_ret, pm_af_void, pm_af_thr, pe_istore5, pe_goto_w, pe_iload5, pe_aload1, pe_call1, pe_icmp_ge, pe_call2, pe_astore6, pe_aload6, pe_getfield, pe_if_le, pe_call3, pe_if_eq, pe_iadd, pe_iinc5, pe_goto, pe_iand, pe_if_ne, pe_istore6, pe_ixor, pe_isub, pe_istore7, pe_istore8, pe_iload8, pe_iload6, pe_icmp_le, pe_istore9, pe_iload7, pe_aaload, pe_iaload, pe_istore10, pe_istore11, pe_iload9, pe_iload10, pe_iload11, pe_iinc8, pe_return, pm_prog_1, pm_ob_some, Nat.reduceDiv, Nat.reduceMod, Nat.reduceMul, Nat.reduceAdd, Int.reduceToNat, pm_kill_i, pm_kill_r, pm_kill_n, pm_kill_j, pm_kill_l, pm_kill_d, pm_cats_nil, pm_cats_i, pm_cats_r, pm_cats_n, pm_cats_l, pm_cats_d, sz_1, sz_2, sl_1, sl_2, lc_0, lc_lt, lc_le, li_ne, va_rf, wr_m1, we_m1, pm_kill_w, Int32.reduceOfInt, Int64.reduceOfInt, Int32.reduceOfNat, Int32.reduceLT, Int32.reduceLE, Prod.mk.injEq, Nat.reduceEqDiff, reduceCtorEq, and_true, true_and, and_false, false_and, and_self, ite_true, ite_false, ↓reduceIte, not_true_eq_false, not_false_eq_true, pe_ri, pe_rz, pe_rc, Ct_g1_0 hP hA, Ct_g1_1 hP hA, Ct_g1_2 hP hA, Ct_g25_4 hP hA, Ct_k25 hP hA, Ct_r2 hP hA, Ct_r3 hP hA, Ct_r30 hP hA, Ct_r31 hP hA, Ct_r4 hP hA, Ct_r5 hP hA, z1, hc]
theorem y962_14_8 {sc : Int32} {pc : Int32} {sa : Int32} {pa : Int32} {A : wK → Nat} {h : pm_H} {D : Nat} {R : Outcome × pm_H} {S : wS} {x2 : Int32} {x3 : Int32} {x4 : Int32} {x5 : Int32} {x6 : Int32} {x7 : Int32} {x8 : Int32} {x9 : Int32} {x11 : Int32} {y0 : Int32} {y1 : Int32} {r : (Int32 × Int32 × Int32 × Int32 × Int32 × Int32 × Int32 × wS) ⊕ ((wS))} (hP : Ct_P sc pc sa pa) (hA : wok A (Ct_d sc pc sa pa) h.1) (hD : 3 ≤ D) (e : f962_14_8 sc pc sa pa S x2 x3 x4 x5 x6 x7 x8 x9 x11 y0 y1 = some r) (hc : Sum.elim (go962_8 sc pc sa pa A h D R) (ex962_8 sc pc sa pa A h D R) r) : ∀ q1 q10 : Value, pm_go pm_prog (pm_call pm_prog D) 962 14 [.ref (A (1, 0, 0)), q1, .int x2, .int x3, .int x4, .int x5, .int x6, .int x7, .int x8, .int x9, q10, .int x11] [.int y1, .int y0] (wput A (Ct_d sc pc sa pa) S h) = some R := by
  intro q1 q10
  simp only [f962_14_8] at e
  rw [g962_14, b962_14]
  by_cases k1 : x5 = 0
  · rw [if_pos k1] at e
    by_cases k2 : 0 ≤ x2 ∧ x2 < 8
    · rw [if_pos k2] at e
      by_cases k3 : 0 ≤ x3 ∧ x3 < 17
      · rw [if_pos k3] at e
        by_cases k4 : 0 ≤ x9 ∧ x9 < 17
        · rw [if_pos k4] at e
          have k5 := y962_17_8 (h := h) hP hA hD e hc
          simp -implicitDefEqProofs (disch := first | assumption | exact Nat.le_of_ble_eq_true rfl | decide) only [b962_0, g962_2, b962_2, g962_3, b962_3, g962_4, b962_4, g962_6, b962_6, g962_9, b962_9, g962_11, b962_11, g962_13, b962_13, g962_15, b962_15, g962_16, b962_16, g962_18, b962_18, pe_aload0, pe_iload2, pe_iload3, pe_iload4, pe_sipush, pe_call7, pm_af_ret, pm_af_void, pm_af_thr, pe_istore5, pe_goto_w, pe_iload5, pe_aload1, pe_call1, pe_icmp_ge, pe_call2, pe_astore6, pe_aload6, pe_getfield, pe_if_le, pe_call3, pe_if_eq, pe_iadd, pe_iinc5, pe_goto, pe_iand, pe_if_ne, pe_istore6, pe_ixor, pe_isub, pe_istore7, pe_istore8, pe_iload8, pe_iload6, pe_icmp_le, pe_istore9, pe_iload7, pe_aaload, pe_iaload, pe_istore10, pe_istore11, pe_iload9, pe_iload10, pe_iload11, pe_iinc8, pe_return, pm_prog_1, pm_ob_some, Nat.reduceDiv, Nat.reduceMod, Nat.reduceMul, Nat.reduceAdd, Int.reduceToNat, pm_kill_i, pm_kill_r, pm_kill_n, pm_kill_j, pm_kill_l, pm_kill_d, pm_cats_nil, pm_cats_i, pm_cats_r, pm_cats_n, pm_cats_l, pm_cats_d, sz_1, sz_2, sl_1, sl_2, lc_0, lc_lt, lc_le, li_ne, va_rf, wr_m1, we_m1, pm_kill_w, Int32.reduceOfInt, Int64.reduceOfInt, Int32.reduceOfNat, Int32.reduceLT, Int32.reduceLE, Prod.mk.injEq, Nat.reduceEqDiff, reduceCtorEq, and_true, true_and, and_false, false_and, and_self, ite_true, ite_false, ↓reduceIte, not_true_eq_false, not_false_eq_true, pe_ri, pe_rz, pe_rc, Ct_g1_0 hP hA, Ct_g1_1 hP hA, Ct_g1_2 hP hA, Ct_g25_4 hP hA, Ct_k25 hP hA, Ct_r2 hP hA, Ct_r3 hP hA, Ct_r30 hP hA, Ct_r31 hP hA, Ct_r4 hP hA, Ct_r5 hP hA, eq_true k1, k5]
        · rw [if_neg k4] at e; cases e
      · rw [if_neg k3] at e; cases e
    · rw [if_neg k2] at e; cases e
  · rw [if_neg k1] at e
    by_cases k6 : 0 ≤ x2 ∧ x2 < 8
    · rw [if_pos k6] at e
      by_cases k7 : 0 ≤ x9 ∧ x9 < 17
      · rw [if_pos k7] at e
        by_cases k8 : 0 ≤ x4 ∧ x4 < 17
        · rw [if_pos k8] at e
          have k9 := y962_17_8 (h := h) hP hA hD e hc
          simp -implicitDefEqProofs (disch := first | assumption | exact Nat.le_of_ble_eq_true rfl | decide) only [b962_0, g962_2, b962_2, g962_3, b962_3, g962_4, b962_4, g962_6, b962_6, g962_9, b962_9, g962_11, b962_11, g962_13, b962_13, g962_15, b962_15, g962_16, b962_16, g962_18, b962_18, pe_aload0, pe_iload2, pe_iload3, pe_iload4, pe_sipush, pe_call7, pm_af_ret, pm_af_void, pm_af_thr, pe_istore5, pe_goto_w, pe_iload5, pe_aload1, pe_call1, pe_icmp_ge, pe_call2, pe_astore6, pe_aload6, pe_getfield, pe_if_le, pe_call3, pe_if_eq, pe_iadd, pe_iinc5, pe_goto, pe_iand, pe_if_ne, pe_istore6, pe_ixor, pe_isub, pe_istore7, pe_istore8, pe_iload8, pe_iload6, pe_icmp_le, pe_istore9, pe_iload7, pe_aaload, pe_iaload, pe_istore10, pe_istore11, pe_iload9, pe_iload10, pe_iload11, pe_iinc8, pe_return, pm_prog_1, pm_ob_some, Nat.reduceDiv, Nat.reduceMod, Nat.reduceMul, Nat.reduceAdd, Int.reduceToNat, pm_kill_i, pm_kill_r, pm_kill_n, pm_kill_j, pm_kill_l, pm_kill_d, pm_cats_nil, pm_cats_i, pm_cats_r, pm_cats_n, pm_cats_l, pm_cats_d, sz_1, sz_2, sl_1, sl_2, lc_0, lc_lt, lc_le, li_ne, va_rf, wr_m1, we_m1, pm_kill_w, Int32.reduceOfInt, Int64.reduceOfInt, Int32.reduceOfNat, Int32.reduceLT, Int32.reduceLE, Prod.mk.injEq, Nat.reduceEqDiff, reduceCtorEq, and_true, true_and, and_false, false_and, and_self, ite_true, ite_false, ↓reduceIte, not_true_eq_false, not_false_eq_true, pe_ri, pe_rz, pe_rc, Ct_g1_0 hP hA, Ct_g1_1 hP hA, Ct_g1_2 hP hA, Ct_g25_4 hP hA, Ct_k25 hP hA, Ct_r2 hP hA, Ct_r3 hP hA, Ct_r30 hP hA, Ct_r31 hP hA, Ct_r4 hP hA, Ct_r5 hP hA, eq_false k1, k9]
        · rw [if_neg k8] at e; cases e
      · rw [if_neg k7] at e; cases e
    · rw [if_neg k6] at e; cases e
theorem y962_12_8 {sc : Int32} {pc : Int32} {sa : Int32} {pa : Int32} {A : wK → Nat} {h : pm_H} {D : Nat} {R : Outcome × pm_H} {S : wS} {x2 : Int32} {x3 : Int32} {x4 : Int32} {x5 : Int32} {x6 : Int32} {x7 : Int32} {x8 : Int32} {x9 : Int32} {x10 : Int32} {y0 : Int32} {y1 : Int32} {r : (Int32 × Int32 × Int32 × Int32 × Int32 × Int32 × Int32 × wS) ⊕ ((wS))} (hP : Ct_P sc pc sa pa) (hA : wok A (Ct_d sc pc sa pa) h.1) (hD : 3 ≤ D) (e : f962_12_8 sc pc sa pa S x2 x3 x4 x5 x6 x7 x8 x9 x10 y0 y1 = some r) (hc : Sum.elim (go962_8 sc pc sa pa A h D R) (ex962_8 sc pc sa pa A h D R) r) : ∀ q1 q11 : Value, pm_go pm_prog (pm_call pm_prog D) 962 12 [.ref (A (1, 0, 0)), q1, .int x2, .int x3, .int x4, .int x5, .int x6, .int x7, .int x8, .int x9, .int x10, q11] [.int y1, .int y0] (wput A (Ct_d sc pc sa pa) S h) = some R := by
  intro q1 q11
  simp only [f962_12_8] at e
  rw [g962_12, b962_12]
  by_cases k1 : x9 ≤ 0
  · rw [if_pos k1] at e
    have k2 := y962_17_8 (h := h) hP hA hD e hc
    simp -implicitDefEqProofs (disch := first | assumption | exact Nat.le_of_ble_eq_true rfl | decide) only [b962_0, g962_2, b962_2, g962_3, b962_3, g962_4, b962_4, g962_6, b962_6, g962_9, b962_9, g962_11, b962_11, g962_13, b962_13, g962_15, b962_15, g962_16, b962_16, g962_18, b962_18, pe_aload0, pe_iload2, pe_iload3, pe_iload4, pe_sipush, pe_call7, pm_af_ret, pm_af_void, pm_af_thr, pe_istore5, pe_goto_w, pe_iload5, pe_aload1, pe_call1, pe_icmp_ge, pe_call2, pe_astore6, pe_aload6, pe_getfield, pe_if_le, pe_call3, pe_if_eq, pe_iadd, pe_iinc5, pe_goto, pe_iand, pe_if_ne, pe_istore6, pe_ixor, pe_isub, pe_istore7, pe_istore8, pe_iload8, pe_iload6, pe_icmp_le, pe_istore9, pe_iload7, pe_aaload, pe_iaload, pe_istore10, pe_istore11, pe_iload9, pe_iload10, pe_iload11, pe_iinc8, pe_return, pm_prog_1, pm_ob_some, Nat.reduceDiv, Nat.reduceMod, Nat.reduceMul, Nat.reduceAdd, Int.reduceToNat, pm_kill_i, pm_kill_r, pm_kill_n, pm_kill_j, pm_kill_l, pm_kill_d, pm_cats_nil, pm_cats_i, pm_cats_r, pm_cats_n, pm_cats_l, pm_cats_d, sz_1, sz_2, sl_1, sl_2, lc_0, lc_lt, lc_le, li_ne, va_rf, wr_m1, we_m1, pm_kill_w, Int32.reduceOfInt, Int64.reduceOfInt, Int32.reduceOfNat, Int32.reduceLT, Int32.reduceLE, Prod.mk.injEq, Nat.reduceEqDiff, reduceCtorEq, and_true, true_and, and_false, false_and, and_self, ite_true, ite_false, ↓reduceIte, not_true_eq_false, not_false_eq_true, pe_ri, pe_rz, pe_rc, Ct_g1_0 hP hA, Ct_g1_1 hP hA, Ct_g1_2 hP hA, Ct_g25_4 hP hA, Ct_k25 hP hA, Ct_r2 hP hA, Ct_r3 hP hA, Ct_r30 hP hA, Ct_r31 hP hA, Ct_r4 hP hA, Ct_r5 hP hA, eq_true k1, k2]
  · rw [if_neg k1] at e
    by_cases k3 : x5 = 0
    · rw [if_pos k3] at e
      by_cases k4 : 0 ≤ x2 ∧ x2 < 8
      · rw [if_pos k4] at e
        by_cases k5 : 0 ≤ x3 ∧ x3 < 17
        · rw [if_pos k5] at e
          by_cases k6 : 0 ≤ x9 ∧ x9 < 17
          · rw [if_pos k6] at e
            have k7 := y962_14_8 (h := h) hP hA hD e hc
            simp -implicitDefEqProofs (disch := first | assumption | exact Nat.le_of_ble_eq_true rfl | decide) only [b962_0, g962_2, b962_2, g962_3, b962_3, g962_4, b962_4, g962_6, b962_6, g962_9, b962_9, g962_11, b962_11, g962_13, b962_13, g962_15, b962_15, g962_16, b962_16, g962_18, b962_18, pe_aload0, pe_iload2, pe_iload3, pe_iload4, pe_sipush, pe_call7, pm_af_ret, pm_af_void, pm_af_thr, pe_istore5, pe_goto_w, pe_iload5, pe_aload1, pe_call1, pe_icmp_ge, pe_call2, pe_astore6, pe_aload6, pe_getfield, pe_if_le, pe_call3, pe_if_eq, pe_iadd, pe_iinc5, pe_goto, pe_iand, pe_if_ne, pe_istore6, pe_ixor, pe_isub, pe_istore7, pe_istore8, pe_iload8, pe_iload6, pe_icmp_le, pe_istore9, pe_iload7, pe_aaload, pe_iaload, pe_istore10, pe_istore11, pe_iload9, pe_iload10, pe_iload11, pe_iinc8, pe_return, pm_prog_1, pm_ob_some, Nat.reduceDiv, Nat.reduceMod, Nat.reduceMul, Nat.reduceAdd, Int.reduceToNat, pm_kill_i, pm_kill_r, pm_kill_n, pm_kill_j, pm_kill_l, pm_kill_d, pm_cats_nil, pm_cats_i, pm_cats_r, pm_cats_n, pm_cats_l, pm_cats_d, sz_1, sz_2, sl_1, sl_2, lc_0, lc_lt, lc_le, li_ne, va_rf, wr_m1, we_m1, pm_kill_w, Int32.reduceOfInt, Int64.reduceOfInt, Int32.reduceOfNat, Int32.reduceLT, Int32.reduceLE, Prod.mk.injEq, Nat.reduceEqDiff, reduceCtorEq, and_true, true_and, and_false, false_and, and_self, ite_true, ite_false, ↓reduceIte, not_true_eq_false, not_false_eq_true, pe_ri, pe_rz, pe_rc, Ct_g1_0 hP hA, Ct_g1_1 hP hA, Ct_g1_2 hP hA, Ct_g25_4 hP hA, Ct_k25 hP hA, Ct_r2 hP hA, Ct_r3 hP hA, Ct_r30 hP hA, Ct_r31 hP hA, Ct_r4 hP hA, Ct_r5 hP hA, eq_false k1, eq_true k3, k7]
          · rw [if_neg k6] at e; cases e
        · rw [if_neg k5] at e; cases e
      · rw [if_neg k4] at e; cases e
    · rw [if_neg k3] at e
      by_cases k8 : 0 ≤ x2 ∧ x2 < 8
      · rw [if_pos k8] at e
        by_cases k9 : 0 ≤ x9 ∧ x9 < 17
        · rw [if_pos k9] at e
          by_cases k10 : 0 ≤ x4 ∧ x4 < 17
          · rw [if_pos k10] at e
            have k11 := y962_14_8 (h := h) hP hA hD e hc
            simp -implicitDefEqProofs (disch := first | assumption | exact Nat.le_of_ble_eq_true rfl | decide) only [b962_0, g962_2, b962_2, g962_3, b962_3, g962_4, b962_4, g962_6, b962_6, g962_9, b962_9, g962_11, b962_11, g962_13, b962_13, g962_15, b962_15, g962_16, b962_16, g962_18, b962_18, pe_aload0, pe_iload2, pe_iload3, pe_iload4, pe_sipush, pe_call7, pm_af_ret, pm_af_void, pm_af_thr, pe_istore5, pe_goto_w, pe_iload5, pe_aload1, pe_call1, pe_icmp_ge, pe_call2, pe_astore6, pe_aload6, pe_getfield, pe_if_le, pe_call3, pe_if_eq, pe_iadd, pe_iinc5, pe_goto, pe_iand, pe_if_ne, pe_istore6, pe_ixor, pe_isub, pe_istore7, pe_istore8, pe_iload8, pe_iload6, pe_icmp_le, pe_istore9, pe_iload7, pe_aaload, pe_iaload, pe_istore10, pe_istore11, pe_iload9, pe_iload10, pe_iload11, pe_iinc8, pe_return, pm_prog_1, pm_ob_some, Nat.reduceDiv, Nat.reduceMod, Nat.reduceMul, Nat.reduceAdd, Int.reduceToNat, pm_kill_i, pm_kill_r, pm_kill_n, pm_kill_j, pm_kill_l, pm_kill_d, pm_cats_nil, pm_cats_i, pm_cats_r, pm_cats_n, pm_cats_l, pm_cats_d, sz_1, sz_2, sl_1, sl_2, lc_0, lc_lt, lc_le, li_ne, va_rf, wr_m1, we_m1, pm_kill_w, Int32.reduceOfInt, Int64.reduceOfInt, Int32.reduceOfNat, Int32.reduceLT, Int32.reduceLE, Prod.mk.injEq, Nat.reduceEqDiff, reduceCtorEq, and_true, true_and, and_false, false_and, and_self, ite_true, ite_false, ↓reduceIte, not_true_eq_false, not_false_eq_true, pe_ri, pe_rz, pe_rc, Ct_g1_0 hP hA, Ct_g1_1 hP hA, Ct_g1_2 hP hA, Ct_g25_4 hP hA, Ct_k25 hP hA, Ct_r2 hP hA, Ct_r3 hP hA, Ct_r30 hP hA, Ct_r31 hP hA, Ct_r4 hP hA, Ct_r5 hP hA, eq_false k1, eq_false k3, k11]
          · rw [if_neg k10] at e; cases e
        · rw [if_neg k9] at e; cases e
      · rw [if_neg k8] at e; cases e
theorem y962_10_8 {sc : Int32} {pc : Int32} {sa : Int32} {pa : Int32} {A : wK → Nat} {h : pm_H} {D : Nat} {R : Outcome × pm_H} {S : wS} {x2 : Int32} {x3 : Int32} {x4 : Int32} {x5 : Int32} {x6 : Int32} {x7 : Int32} {x8 : Int32} {x9 : Int32} {y0 : Int32} {r : (Int32 × Int32 × Int32 × Int32 × Int32 × Int32 × Int32 × wS) ⊕ ((wS))} (hP : Ct_P sc pc sa pa) (hA : wok A (Ct_d sc pc sa pa) h.1) (hD : 3 ≤ D) (e : f962_10_8 sc pc sa pa S x2 x3 x4 x5 x6 x7 x8 x9 y0 = some r) (hc : Sum.elim (go962_8 sc pc sa pa A h D R) (ex962_8 sc pc sa pa A h D R) r) : ∀ q1 q10 q11 : Value, pm_go pm_prog (pm_call pm_prog D) 962 10 [.ref (A (1, 0, 0)), q1, .int x2, .int x3, .int x4, .int x5, .int x6, .int x7, .int x8, .int x9, q10, q11] [.int y0] (wput A (Ct_d sc pc sa pa) S h) = some R := by
  intro q1 q10 q11
  simp only [f962_10_8] at e
  rw [g962_10, b962_10]
  by_cases k1 : x5 = 0
  · rw [if_pos k1] at e
    by_cases k2 : 0 ≤ x7 ∧ x7 < 8
    · rw [if_pos k2] at e
      by_cases k3 : 0 ≤ x3 ∧ x3 < 17
      · rw [if_pos k3] at e
        by_cases k4 : 0 ≤ x8 ∧ x8 < 17
        · rw [if_pos k4] at e
          have k5 := y962_12_8 (h := h) hP hA hD e hc
          simp -implicitDefEqProofs (disch := first | assumption | exact Nat.le_of_ble_eq_true rfl | decide) only [b962_0, g962_2, b962_2, g962_3, b962_3, g962_4, b962_4, g962_6, b962_6, g962_9, b962_9, g962_11, b962_11, g962_13, b962_13, g962_15, b962_15, g962_16, b962_16, g962_18, b962_18, pe_aload0, pe_iload2, pe_iload3, pe_iload4, pe_sipush, pe_call7, pm_af_ret, pm_af_void, pm_af_thr, pe_istore5, pe_goto_w, pe_iload5, pe_aload1, pe_call1, pe_icmp_ge, pe_call2, pe_astore6, pe_aload6, pe_getfield, pe_if_le, pe_call3, pe_if_eq, pe_iadd, pe_iinc5, pe_goto, pe_iand, pe_if_ne, pe_istore6, pe_ixor, pe_isub, pe_istore7, pe_istore8, pe_iload8, pe_iload6, pe_icmp_le, pe_istore9, pe_iload7, pe_aaload, pe_iaload, pe_istore10, pe_istore11, pe_iload9, pe_iload10, pe_iload11, pe_iinc8, pe_return, pm_prog_1, pm_ob_some, Nat.reduceDiv, Nat.reduceMod, Nat.reduceMul, Nat.reduceAdd, Int.reduceToNat, pm_kill_i, pm_kill_r, pm_kill_n, pm_kill_j, pm_kill_l, pm_kill_d, pm_cats_nil, pm_cats_i, pm_cats_r, pm_cats_n, pm_cats_l, pm_cats_d, sz_1, sz_2, sl_1, sl_2, lc_0, lc_lt, lc_le, li_ne, va_rf, wr_m1, we_m1, pm_kill_w, Int32.reduceOfInt, Int64.reduceOfInt, Int32.reduceOfNat, Int32.reduceLT, Int32.reduceLE, Prod.mk.injEq, Nat.reduceEqDiff, reduceCtorEq, and_true, true_and, and_false, false_and, and_self, ite_true, ite_false, ↓reduceIte, not_true_eq_false, not_false_eq_true, pe_ri, pe_rz, pe_rc, Ct_g1_0 hP hA, Ct_g1_1 hP hA, Ct_g1_2 hP hA, Ct_g25_4 hP hA, Ct_k25 hP hA, Ct_r2 hP hA, Ct_r3 hP hA, Ct_r30 hP hA, Ct_r31 hP hA, Ct_r4 hP hA, Ct_r5 hP hA, eq_true k1, k5]
        · rw [if_neg k4] at e; cases e
      · rw [if_neg k3] at e; cases e
    · rw [if_neg k2] at e; cases e
  · rw [if_neg k1] at e
    by_cases k6 : 0 ≤ x7 ∧ x7 < 8
    · rw [if_pos k6] at e
      by_cases k7 : 0 ≤ x8 ∧ x8 < 17
      · rw [if_pos k7] at e
        by_cases k8 : 0 ≤ x4 ∧ x4 < 17
        · rw [if_pos k8] at e
          have k9 := y962_12_8 (h := h) hP hA hD e hc
          simp -implicitDefEqProofs (disch := first | assumption | exact Nat.le_of_ble_eq_true rfl | decide) only [b962_0, g962_2, b962_2, g962_3, b962_3, g962_4, b962_4, g962_6, b962_6, g962_9, b962_9, g962_11, b962_11, g962_13, b962_13, g962_15, b962_15, g962_16, b962_16, g962_18, b962_18, pe_aload0, pe_iload2, pe_iload3, pe_iload4, pe_sipush, pe_call7, pm_af_ret, pm_af_void, pm_af_thr, pe_istore5, pe_goto_w, pe_iload5, pe_aload1, pe_call1, pe_icmp_ge, pe_call2, pe_astore6, pe_aload6, pe_getfield, pe_if_le, pe_call3, pe_if_eq, pe_iadd, pe_iinc5, pe_goto, pe_iand, pe_if_ne, pe_istore6, pe_ixor, pe_isub, pe_istore7, pe_istore8, pe_iload8, pe_iload6, pe_icmp_le, pe_istore9, pe_iload7, pe_aaload, pe_iaload, pe_istore10, pe_istore11, pe_iload9, pe_iload10, pe_iload11, pe_iinc8, pe_return, pm_prog_1, pm_ob_some, Nat.reduceDiv, Nat.reduceMod, Nat.reduceMul, Nat.reduceAdd, Int.reduceToNat, pm_kill_i, pm_kill_r, pm_kill_n, pm_kill_j, pm_kill_l, pm_kill_d, pm_cats_nil, pm_cats_i, pm_cats_r, pm_cats_n, pm_cats_l, pm_cats_d, sz_1, sz_2, sl_1, sl_2, lc_0, lc_lt, lc_le, li_ne, va_rf, wr_m1, we_m1, pm_kill_w, Int32.reduceOfInt, Int64.reduceOfInt, Int32.reduceOfNat, Int32.reduceLT, Int32.reduceLE, Prod.mk.injEq, Nat.reduceEqDiff, reduceCtorEq, and_true, true_and, and_false, false_and, and_self, ite_true, ite_false, ↓reduceIte, not_true_eq_false, not_false_eq_true, pe_ri, pe_rz, pe_rc, Ct_g1_0 hP hA, Ct_g1_1 hP hA, Ct_g1_2 hP hA, Ct_g25_4 hP hA, Ct_k25 hP hA, Ct_r2 hP hA, Ct_r3 hP hA, Ct_r30 hP hA, Ct_r31 hP hA, Ct_r4 hP hA, Ct_r5 hP hA, eq_false k1, k9]
        · rw [if_neg k8] at e; cases e
      · rw [if_neg k7] at e; cases e
    · rw [if_neg k6] at e; cases e
theorem y962_b8 {sc : Int32} {pc : Int32} {sa : Int32} {pa : Int32} {A : wK → Nat} {h : pm_H} {D : Nat} {R : Outcome × pm_H} (hP : Ct_P sc pc sa pa) (hA : wok A (Ct_d sc pc sa pa) h.1) (hD : 3 ≤ D) (a : Int32 × Int32 × Int32 × Int32 × Int32 × Int32 × Int32 × wS) (r : (Int32 × Int32 × Int32 × Int32 × Int32 × Int32 × Int32 × wS) ⊕ ((wS))) (e : f962_b8 sc pc sa pa a = some r) (hc : Sum.elim (go962_8 sc pc sa pa A h D R) (ex962_8 sc pc sa pa A h D R) r) : go962_8 sc pc sa pa A h D R a := by
  obtain ⟨x2, x3, x4, x5, x6, x7, x8, S⟩ := a
  dsimp only [go962_8]
  intro q1 q9 q10 q11
  simp only [f962_b8] at e
  rw [g962_8, b962_8]
  by_cases k1 : x8 < x6
  · rw [if_pos k1] at e
    by_cases k2 : x2 ≤ 1
    · rw [if_pos k2] at e
      have e := Option.some.inj e; subst e
      dsimp only [Sum.elim_inr, ex962_8] at hc
      simp -implicitDefEqProofs (disch := first | assumption | exact Nat.le_of_ble_eq_true rfl | decide) only [b962_0, g962_2, b962_2, g962_3, b962_3, g962_4, b962_4, g962_6, b962_6, g962_9, b962_9, g962_11, b962_11, g962_13, b962_13, g962_15, b962_15, g962_16, b962_16, g962_18, b962_18, pe_aload0, pe_iload2, pe_iload3, pe_iload4, pe_sipush, pe_call7, pm_af_ret, pm_af_void, pm_af_thr, pe_istore5, pe_goto_w, pe_iload5, pe_aload1, pe_call1, pe_icmp_ge, pe_call2, pe_astore6, pe_aload6, pe_getfield, pe_if_le, pe_call3, pe_if_eq, pe_iadd, pe_iinc5, pe_goto, pe_iand, pe_if_ne, pe_istore6, pe_ixor, pe_isub, pe_istore7, pe_istore8, pe_iload8, pe_iload6, pe_icmp_le, pe_istore9, pe_iload7, pe_aaload, pe_iaload, pe_istore10, pe_istore11, pe_iload9, pe_iload10, pe_iload11, pe_iinc8, pe_return, pm_prog_1, pm_ob_some, Nat.reduceDiv, Nat.reduceMod, Nat.reduceMul, Nat.reduceAdd, Int.reduceToNat, pm_kill_i, pm_kill_r, pm_kill_n, pm_kill_j, pm_kill_l, pm_kill_d, pm_cats_nil, pm_cats_i, pm_cats_r, pm_cats_n, pm_cats_l, pm_cats_d, sz_1, sz_2, sl_1, sl_2, lc_0, lc_lt, lc_le, li_ne, va_rf, wr_m1, we_m1, pm_kill_w, Int32.reduceOfInt, Int64.reduceOfInt, Int32.reduceOfNat, Int32.reduceLT, Int32.reduceLE, Prod.mk.injEq, Nat.reduceEqDiff, reduceCtorEq, and_true, true_and, and_false, false_and, and_self, ite_true, ite_false, ↓reduceIte, not_true_eq_false, not_false_eq_true, pe_ri, pe_rz, pe_rc, Ct_g1_0 hP hA, Ct_g1_1 hP hA, Ct_g1_2 hP hA, Ct_g25_4 hP hA, Ct_k25 hP hA, Ct_r2 hP hA, Ct_r3 hP hA, Ct_r30 hP hA, Ct_r31 hP hA, Ct_r4 hP hA, Ct_r5 hP hA, eq_true k1, eq_true k2, hc]
    · rw [if_neg k2] at e
      by_cases k3 : x5 = 0
      · rw [if_pos k3] at e
        by_cases k4 : 0 ≤ x7 ∧ x7 < 8
        · rw [if_pos k4] at e
          by_cases k5 : 0 ≤ x3 ∧ x3 < 17
          · rw [if_pos k5] at e
            by_cases k6 : 0 ≤ x8 ∧ x8 < 17
            · rw [if_pos k6] at e
              have k7 := y962_10_8 (h := h) hP hA hD e hc
              simp -implicitDefEqProofs (disch := first | assumption | exact Nat.le_of_ble_eq_true rfl | decide) only [b962_0, g962_2, b962_2, g962_3, b962_3, g962_4, b962_4, g962_6, b962_6, g962_9, b962_9, g962_11, b962_11, g962_13, b962_13, g962_15, b962_15, g962_16, b962_16, g962_18, b962_18, pe_aload0, pe_iload2, pe_iload3, pe_iload4, pe_sipush, pe_call7, pm_af_ret, pm_af_void, pm_af_thr, pe_istore5, pe_goto_w, pe_iload5, pe_aload1, pe_call1, pe_icmp_ge, pe_call2, pe_astore6, pe_aload6, pe_getfield, pe_if_le, pe_call3, pe_if_eq, pe_iadd, pe_iinc5, pe_goto, pe_iand, pe_if_ne, pe_istore6, pe_ixor, pe_isub, pe_istore7, pe_istore8, pe_iload8, pe_iload6, pe_icmp_le, pe_istore9, pe_iload7, pe_aaload, pe_iaload, pe_istore10, pe_istore11, pe_iload9, pe_iload10, pe_iload11, pe_iinc8, pe_return, pm_prog_1, pm_ob_some, Nat.reduceDiv, Nat.reduceMod, Nat.reduceMul, Nat.reduceAdd, Int.reduceToNat, pm_kill_i, pm_kill_r, pm_kill_n, pm_kill_j, pm_kill_l, pm_kill_d, pm_cats_nil, pm_cats_i, pm_cats_r, pm_cats_n, pm_cats_l, pm_cats_d, sz_1, sz_2, sl_1, sl_2, lc_0, lc_lt, lc_le, li_ne, va_rf, wr_m1, we_m1, pm_kill_w, Int32.reduceOfInt, Int64.reduceOfInt, Int32.reduceOfNat, Int32.reduceLT, Int32.reduceLE, Prod.mk.injEq, Nat.reduceEqDiff, reduceCtorEq, and_true, true_and, and_false, false_and, and_self, ite_true, ite_false, ↓reduceIte, not_true_eq_false, not_false_eq_true, pe_ri, pe_rz, pe_rc, Ct_g1_0 hP hA, Ct_g1_1 hP hA, Ct_g1_2 hP hA, Ct_g25_4 hP hA, Ct_k25 hP hA, Ct_r2 hP hA, Ct_r3 hP hA, Ct_r30 hP hA, Ct_r31 hP hA, Ct_r4 hP hA, Ct_r5 hP hA, eq_true k1, eq_false k2, eq_true k3, k7]
            · rw [if_neg k6] at e; cases e
          · rw [if_neg k5] at e; cases e
        · rw [if_neg k4] at e; cases e
      · rw [if_neg k3] at e
        by_cases k8 : 0 ≤ x7 ∧ x7 < 8
        · rw [if_pos k8] at e
          by_cases k9 : 0 ≤ x8 ∧ x8 < 17
          · rw [if_pos k9] at e
            by_cases k10 : 0 ≤ x4 ∧ x4 < 17
            · rw [if_pos k10] at e
              have k11 := y962_10_8 (h := h) hP hA hD e hc
              simp -implicitDefEqProofs (disch := first | assumption | exact Nat.le_of_ble_eq_true rfl | decide) only [b962_0, g962_2, b962_2, g962_3, b962_3, g962_4, b962_4, g962_6, b962_6, g962_9, b962_9, g962_11, b962_11, g962_13, b962_13, g962_15, b962_15, g962_16, b962_16, g962_18, b962_18, pe_aload0, pe_iload2, pe_iload3, pe_iload4, pe_sipush, pe_call7, pm_af_ret, pm_af_void, pm_af_thr, pe_istore5, pe_goto_w, pe_iload5, pe_aload1, pe_call1, pe_icmp_ge, pe_call2, pe_astore6, pe_aload6, pe_getfield, pe_if_le, pe_call3, pe_if_eq, pe_iadd, pe_iinc5, pe_goto, pe_iand, pe_if_ne, pe_istore6, pe_ixor, pe_isub, pe_istore7, pe_istore8, pe_iload8, pe_iload6, pe_icmp_le, pe_istore9, pe_iload7, pe_aaload, pe_iaload, pe_istore10, pe_istore11, pe_iload9, pe_iload10, pe_iload11, pe_iinc8, pe_return, pm_prog_1, pm_ob_some, Nat.reduceDiv, Nat.reduceMod, Nat.reduceMul, Nat.reduceAdd, Int.reduceToNat, pm_kill_i, pm_kill_r, pm_kill_n, pm_kill_j, pm_kill_l, pm_kill_d, pm_cats_nil, pm_cats_i, pm_cats_r, pm_cats_n, pm_cats_l, pm_cats_d, sz_1, sz_2, sl_1, sl_2, lc_0, lc_lt, lc_le, li_ne, va_rf, wr_m1, we_m1, pm_kill_w, Int32.reduceOfInt, Int64.reduceOfInt, Int32.reduceOfNat, Int32.reduceLT, Int32.reduceLE, Prod.mk.injEq, Nat.reduceEqDiff, reduceCtorEq, and_true, true_and, and_false, false_and, and_self, ite_true, ite_false, ↓reduceIte, not_true_eq_false, not_false_eq_true, pe_ri, pe_rz, pe_rc, Ct_g1_0 hP hA, Ct_g1_1 hP hA, Ct_g1_2 hP hA, Ct_g25_4 hP hA, Ct_k25 hP hA, Ct_r2 hP hA, Ct_r3 hP hA, Ct_r30 hP hA, Ct_r31 hP hA, Ct_r4 hP hA, Ct_r5 hP hA, eq_true k1, eq_false k2, eq_false k3, k11]
            · rw [if_neg k10] at e; cases e
          · rw [if_neg k9] at e; cases e
        · rw [if_neg k8] at e; cases e
  · rw [if_neg k1] at e
    have e := Option.some.inj e; subst e
    dsimp only [Sum.elim_inr, ex962_8] at hc
    simp -implicitDefEqProofs (disch := first | assumption | exact Nat.le_of_ble_eq_true rfl | decide) only [b962_0, g962_2, b962_2, g962_3, b962_3, g962_4, b962_4, g962_6, b962_6, g962_9, b962_9, g962_11, b962_11, g962_13, b962_13, g962_15, b962_15, g962_16, b962_16, g962_18, b962_18, pe_aload0, pe_iload2, pe_iload3, pe_iload4, pe_sipush, pe_call7, pm_af_ret, pm_af_void, pm_af_thr, pe_istore5, pe_goto_w, pe_iload5, pe_aload1, pe_call1, pe_icmp_ge, pe_call2, pe_astore6, pe_aload6, pe_getfield, pe_if_le, pe_call3, pe_if_eq, pe_iadd, pe_iinc5, pe_goto, pe_iand, pe_if_ne, pe_istore6, pe_ixor, pe_isub, pe_istore7, pe_istore8, pe_iload8, pe_iload6, pe_icmp_le, pe_istore9, pe_iload7, pe_aaload, pe_iaload, pe_istore10, pe_istore11, pe_iload9, pe_iload10, pe_iload11, pe_iinc8, pe_return, pm_prog_1, pm_ob_some, Nat.reduceDiv, Nat.reduceMod, Nat.reduceMul, Nat.reduceAdd, Int.reduceToNat, pm_kill_i, pm_kill_r, pm_kill_n, pm_kill_j, pm_kill_l, pm_kill_d, pm_cats_nil, pm_cats_i, pm_cats_r, pm_cats_n, pm_cats_l, pm_cats_d, sz_1, sz_2, sl_1, sl_2, lc_0, lc_lt, lc_le, li_ne, va_rf, wr_m1, we_m1, pm_kill_w, Int32.reduceOfInt, Int64.reduceOfInt, Int32.reduceOfNat, Int32.reduceLT, Int32.reduceLE, Prod.mk.injEq, Nat.reduceEqDiff, reduceCtorEq, and_true, true_and, and_false, false_and, and_self, ite_true, ite_false, ↓reduceIte, not_true_eq_false, not_false_eq_true, pe_ri, pe_rz, pe_rc, Ct_g1_0 hP hA, Ct_g1_1 hP hA, Ct_g1_2 hP hA, Ct_g25_4 hP hA, Ct_k25 hP hA, Ct_r2 hP hA, Ct_r3 hP hA, Ct_r30 hP hA, Ct_r31 hP hA, Ct_r4 hP hA, Ct_r5 hP hA, eq_false k1, hc]
theorem z962_8 {sc : Int32} {pc : Int32} {sa : Int32} {pa : Int32} {A : wK → Nat} {h : pm_H} {D : Nat} {R : Outcome × pm_H} (hP : Ct_P sc pc sa pa) (hA : wok A (Ct_d sc pc sa pa) h.1) (hD : 3 ≤ D) {n : Nat} {a : Int32 × Int32 × Int32 × Int32 × Int32 × Int32 × Int32 × wS} {b : (wS)} (e : lp (f962_b8 sc pc sa pa) n a = some b) (hx : ex962_8 sc pc sa pa A h D R b) : go962_8 sc pc sa pa A h D R a := lp_run (fun a r => y962_b8 hP hA hD a r) n a b e hx
theorem y962_7 {sc : Int32} {pc : Int32} {sa : Int32} {pa : Int32} {A : wK → Nat} {h : pm_H} {D : Nat} {S : wS} {x2 : Int32} {x3 : Int32} {x4 : Int32} {x5 : Int32} {y0 : Int32} {r : wS} (hP : Ct_P sc pc sa pa) (hA : wok A (Ct_d sc pc sa pa) h.1) (hD : 3 ≤ D) (e : f962_7 sc pc sa pa S x2 x3 x4 x5 y0 = some r) : ∀ q1 q6 q7 q8 q9 q10 q11 : Value, pm_go pm_prog (pm_call pm_prog D) 962 7 [.ref (A (1, 0, 0)), q1, .int x2, .int x3, .int x4, .int x5, q6, q7, q8, q9, q10, q11] [.int y0] (wput A (Ct_d sc pc sa pa) S h) = some (Outcome.returned none, (wput A (Ct_d sc pc sa pa) r h)) := by
  intro q1 q6 q7 q8 q9 q10 q11
  simp only [f962_7] at e
  rw [g962_7, b962_7]
  obtain ⟨S13, k1, e⟩ := Option.bind_eq_some_iff.mp e
  try dsimp only at e
  try simp -implicitDefEqProofs (disch := first | assumption | exact Nat.le_of_ble_eq_true rfl | decide) only [b962_0, g962_2, b962_2, g962_3, b962_3, g962_4, b962_4, g962_6, b962_6, g962_9, b962_9, g962_11, b962_11, g962_13, b962_13, g962_15, b962_15, g962_16, b962_16, g962_18, b962_18, pe_aload0, pe_iload2, pe_iload3, pe_iload4, pe_sipush, pe_call7, pm_af_ret, pm_af_void, pm_af_thr, pe_istore5, pe_goto_w, pe_iload5, pe_aload1, pe_call1, pe_icmp_ge, pe_call2, pe_astore6, pe_aload6, pe_getfield, pe_if_le, pe_call3, pe_if_eq, pe_iadd, pe_iinc5, pe_goto, pe_iand, pe_if_ne, pe_istore6, pe_ixor, pe_isub, pe_istore7, pe_istore8, pe_iload8, pe_iload6, pe_icmp_le, pe_istore9, pe_iload7, pe_aaload, pe_iaload, pe_istore10, pe_istore11, pe_iload9, pe_iload10, pe_iload11, pe_iinc8, pe_return, pm_prog_1, pm_ob_some, Nat.reduceDiv, Nat.reduceMod, Nat.reduceMul, Nat.reduceAdd, Int.reduceToNat, pm_kill_i, pm_kill_r, pm_kill_n, pm_kill_j, pm_kill_l, pm_kill_d, pm_cats_nil, pm_cats_i, pm_cats_r, pm_cats_n, pm_cats_l, pm_cats_d, sz_1, sz_2, sl_1, sl_2, lc_0, lc_lt, lc_le, li_ne, va_rf, wr_m1, we_m1, pm_kill_w, Int32.reduceOfInt, Int64.reduceOfInt, Int32.reduceOfNat, Int32.reduceLT, Int32.reduceLE, Prod.mk.injEq, Nat.reduceEqDiff, reduceCtorEq, and_true, true_and, and_false, false_and, and_self, ite_true, ite_false, ↓reduceIte, not_true_eq_false, not_false_eq_true, pe_ri, pe_rz, pe_rc, Ct_g1_0 hP hA, Ct_g1_1 hP hA, Ct_g1_2 hP hA, Ct_g25_4 hP hA, Ct_k25 hP hA, Ct_r2 hP hA, Ct_r3 hP hA, Ct_r30 hP hA, Ct_r31 hP hA, Ct_r4 hP hA, Ct_r5 hP hA]
  refine z962_8 hP hA hD k1 ?_ _ _ _ _
  dsimp only [ex962_8]
  intro q0 q1 q2 q3 q4 q5 q6 q7 q8 q9 q10 q11
  have e := Option.some.inj e; subst e
  simp -implicitDefEqProofs (disch := first | assumption | exact Nat.le_of_ble_eq_true rfl | decide) only [b962_0, g962_2, b962_2, g962_3, b962_3, g962_4, b962_4, g962_6, b962_6, g962_9, b962_9, g962_11, b962_11, g962_13, b962_13, g962_15, b962_15, g962_16, b962_16, g962_18, b962_18, pe_aload0, pe_iload2, pe_iload3, pe_iload4, pe_sipush, pe_call7, pm_af_ret, pm_af_void, pm_af_thr, pe_istore5, pe_goto_w, pe_iload5, pe_aload1, pe_call1, pe_icmp_ge, pe_call2, pe_astore6, pe_aload6, pe_getfield, pe_if_le, pe_call3, pe_if_eq, pe_iadd, pe_iinc5, pe_goto, pe_iand, pe_if_ne, pe_istore6, pe_ixor, pe_isub, pe_istore7, pe_istore8, pe_iload8, pe_iload6, pe_icmp_le, pe_istore9, pe_iload7, pe_aaload, pe_iaload, pe_istore10, pe_istore11, pe_iload9, pe_iload10, pe_iload11, pe_iinc8, pe_return, pm_prog_1, pm_ob_some, Nat.reduceDiv, Nat.reduceMod, Nat.reduceMul, Nat.reduceAdd, Int.reduceToNat, pm_kill_i, pm_kill_r, pm_kill_n, pm_kill_j, pm_kill_l, pm_kill_d, pm_cats_nil, pm_cats_i, pm_cats_r, pm_cats_n, pm_cats_l, pm_cats_d, sz_1, sz_2, sl_1, sl_2, lc_0, lc_lt, lc_le, li_ne, va_rf, wr_m1, we_m1, pm_kill_w, Int32.reduceOfInt, Int64.reduceOfInt, Int32.reduceOfNat, Int32.reduceLT, Int32.reduceLE, Prod.mk.injEq, Nat.reduceEqDiff, reduceCtorEq, and_true, true_and, and_false, false_and, and_self, ite_true, ite_false, ↓reduceIte, not_true_eq_false, not_false_eq_true, pe_ri, pe_rz, pe_rc, Ct_g1_0 hP hA, Ct_g1_1 hP hA, Ct_g1_2 hP hA, Ct_g25_4 hP hA, Ct_k25 hP hA, Ct_r2 hP hA, Ct_r3 hP hA, Ct_r30 hP hA, Ct_r31 hP hA, Ct_r4 hP hA, Ct_r5 hP hA]
theorem y962_5 {sc : Int32} {pc : Int32} {sa : Int32} {pa : Int32} {A : wK → Nat} {h : pm_H} {D : Nat} {S : wS} {x2 : Int32} {x3 : Int32} {x4 : Int32} {y0 : Int32} {r : wS} (hP : Ct_P sc pc sa pa) (hA : wok A (Ct_d sc pc sa pa) h.1) (hD : 3 ≤ D) (e : f962_5 sc pc sa pa S x2 x3 x4 y0 = some r) : ∀ q1 q5 q6 q7 q8 q9 q10 q11 : Value, pm_go pm_prog (pm_call pm_prog D) 962 5 [.ref (A (1, 0, 0)), q1, .int x2, .int x3, .int x4, q5, q6, q7, q8, q9, q10, q11] [.int y0] (wput A (Ct_d sc pc sa pa) S h) = some (Outcome.returned none, (wput A (Ct_d sc pc sa pa) r h)) := by
  intro q1 q5 q6 q7 q8 q9 q10 q11
  simp only [f962_5] at e
  rw [g962_5, b962_5]
  by_cases k1 : y0 = 0
  · rw [if_pos k1] at e
    have k2 := y962_7 (h := h) hP hA hD e
    simp -implicitDefEqProofs (disch := first | assumption | exact Nat.le_of_ble_eq_true rfl | decide) only [b962_0, g962_2, b962_2, g962_3, b962_3, g962_4, b962_4, g962_6, b962_6, g962_9, b962_9, g962_11, b962_11, g962_13, b962_13, g962_15, b962_15, g962_16, b962_16, g962_18, b962_18, pe_aload0, pe_iload2, pe_iload3, pe_iload4, pe_sipush, pe_call7, pm_af_ret, pm_af_void, pm_af_thr, pe_istore5, pe_goto_w, pe_iload5, pe_aload1, pe_call1, pe_icmp_ge, pe_call2, pe_astore6, pe_aload6, pe_getfield, pe_if_le, pe_call3, pe_if_eq, pe_iadd, pe_iinc5, pe_goto, pe_iand, pe_if_ne, pe_istore6, pe_ixor, pe_isub, pe_istore7, pe_istore8, pe_iload8, pe_iload6, pe_icmp_le, pe_istore9, pe_iload7, pe_aaload, pe_iaload, pe_istore10, pe_istore11, pe_iload9, pe_iload10, pe_iload11, pe_iinc8, pe_return, pm_prog_1, pm_ob_some, Nat.reduceDiv, Nat.reduceMod, Nat.reduceMul, Nat.reduceAdd, Int.reduceToNat, pm_kill_i, pm_kill_r, pm_kill_n, pm_kill_j, pm_kill_l, pm_kill_d, pm_cats_nil, pm_cats_i, pm_cats_r, pm_cats_n, pm_cats_l, pm_cats_d, sz_1, sz_2, sl_1, sl_2, lc_0, lc_lt, lc_le, li_ne, va_rf, wr_m1, we_m1, pm_kill_w, Int32.reduceOfInt, Int64.reduceOfInt, Int32.reduceOfNat, Int32.reduceLT, Int32.reduceLE, Prod.mk.injEq, Nat.reduceEqDiff, reduceCtorEq, and_true, true_and, and_false, false_and, and_self, ite_true, ite_false, ↓reduceIte, not_true_eq_false, not_false_eq_true, pe_ri, pe_rz, pe_rc, Ct_g1_0 hP hA, Ct_g1_1 hP hA, Ct_g1_2 hP hA, Ct_g25_4 hP hA, Ct_k25 hP hA, Ct_r2 hP hA, Ct_r3 hP hA, Ct_r30 hP hA, Ct_r31 hP hA, Ct_r4 hP hA, Ct_r5 hP hA, eq_true k1, k2]
  · rw [if_neg k1] at e
    have k3 := y962_7 (h := h) hP hA hD e
    simp -implicitDefEqProofs (disch := first | assumption | exact Nat.le_of_ble_eq_true rfl | decide) only [b962_0, g962_2, b962_2, g962_3, b962_3, g962_4, b962_4, g962_6, b962_6, g962_9, b962_9, g962_11, b962_11, g962_13, b962_13, g962_15, b962_15, g962_16, b962_16, g962_18, b962_18, pe_aload0, pe_iload2, pe_iload3, pe_iload4, pe_sipush, pe_call7, pm_af_ret, pm_af_void, pm_af_thr, pe_istore5, pe_goto_w, pe_iload5, pe_aload1, pe_call1, pe_icmp_ge, pe_call2, pe_astore6, pe_aload6, pe_getfield, pe_if_le, pe_call3, pe_if_eq, pe_iadd, pe_iinc5, pe_goto, pe_iand, pe_if_ne, pe_istore6, pe_ixor, pe_isub, pe_istore7, pe_istore8, pe_iload8, pe_iload6, pe_icmp_le, pe_istore9, pe_iload7, pe_aaload, pe_iaload, pe_istore10, pe_istore11, pe_iload9, pe_iload10, pe_iload11, pe_iinc8, pe_return, pm_prog_1, pm_ob_some, Nat.reduceDiv, Nat.reduceMod, Nat.reduceMul, Nat.reduceAdd, Int.reduceToNat, pm_kill_i, pm_kill_r, pm_kill_n, pm_kill_j, pm_kill_l, pm_kill_d, pm_cats_nil, pm_cats_i, pm_cats_r, pm_cats_n, pm_cats_l, pm_cats_d, sz_1, sz_2, sl_1, sl_2, lc_0, lc_lt, lc_le, li_ne, va_rf, wr_m1, we_m1, pm_kill_w, Int32.reduceOfInt, Int64.reduceOfInt, Int32.reduceOfNat, Int32.reduceLT, Int32.reduceLE, Prod.mk.injEq, Nat.reduceEqDiff, reduceCtorEq, and_true, true_and, and_false, false_and, and_self, ite_true, ite_false, ↓reduceIte, not_true_eq_false, not_false_eq_true, pe_ri, pe_rz, pe_rc, Ct_g1_0 hP hA, Ct_g1_1 hP hA, Ct_g1_2 hP hA, Ct_g25_4 hP hA, Ct_k25 hP hA, Ct_r2 hP hA, Ct_r3 hP hA, Ct_r30 hP hA, Ct_r31 hP hA, Ct_r4 hP hA, Ct_r5 hP hA, eq_false k1, k3]
theorem x962 {sc : Int32} {pc : Int32} {sa : Int32} {pa : Int32} {A : wK → Nat} {h : pm_H} {D : Nat} {S : wS} {x2 : Int32} {x3 : Int32} {x4 : Int32} {r : wS} (hP : Ct_P sc pc sa pa) (hA : wok A (Ct_d sc pc sa pa) h.1) (hD : 4 ≤ D) (e : f962 sc pc sa pa S x2 x3 x4 = some r) : pm_call pm_prog D 962 [.ref (A (1, 0, 0)), .ref (A (22, 0, 0)), .int x2, .int x3, .int x4] (wput A (Ct_d sc pc sa pa) S h) = some (Outcome.returned none, (wput A (Ct_d sc pc sa pa) r h)) := by
  obtain ⟨D, rfl⟩ : ∃ D', D = D' + 1 := ⟨D - 1, by omega⟩
  have hD : 3 ≤ D := by omega
  simp only [f962] at e
  rw [c962 (Ct_c1 hP hA), b962_0]
  obtain ⟨S1, k1, e⟩ := Option.bind_eq_some_iff.mp e
  try dsimp only at e
  have z1 := x963 (D := D) (h := h) hP hA (by omega) k1
  obtain ⟨⟨v9, v10, v11, S7⟩, k2, e⟩ := Option.bind_eq_some_iff.mp e
  try dsimp only at e
  try simp -implicitDefEqProofs (disch := first | assumption | exact Nat.le_of_ble_eq_true rfl | decide) only [b962_0, g962_2, b962_2, g962_3, b962_3, g962_4, b962_4, g962_6, b962_6, g962_9, b962_9, g962_11, b962_11, g962_13, b962_13, g962_15, b962_15, g962_16, b962_16, g962_18, b962_18, pe_aload0, pe_iload2, pe_iload3, pe_iload4, pe_sipush, pe_call7, pm_af_ret, pm_af_void, pm_af_thr, pe_istore5, pe_goto_w, pe_iload5, pe_aload1, pe_call1, pe_icmp_ge, pe_call2, pe_astore6, pe_aload6, pe_getfield, pe_if_le, pe_call3, pe_if_eq, pe_iadd, pe_iinc5, pe_goto, pe_iand, pe_if_ne, pe_istore6, pe_ixor, pe_isub, pe_istore7, pe_istore8, pe_iload8, pe_iload6, pe_icmp_le, pe_istore9, pe_iload7, pe_aaload, pe_iaload, pe_istore10, pe_istore11, pe_iload9, pe_iload10, pe_iload11, pe_iinc8, pe_return, pm_prog_1, pm_ob_some, Nat.reduceDiv, Nat.reduceMod, Nat.reduceMul, Nat.reduceAdd, Int.reduceToNat, pm_kill_i, pm_kill_r, pm_kill_n, pm_kill_j, pm_kill_l, pm_kill_d, pm_cats_nil, pm_cats_i, pm_cats_r, pm_cats_n, pm_cats_l, pm_cats_d, sz_1, sz_2, sl_1, sl_2, lc_0, lc_lt, lc_le, li_ne, va_rf, wr_m1, we_m1, pm_kill_w, Int32.reduceOfInt, Int64.reduceOfInt, Int32.reduceOfNat, Int32.reduceLT, Int32.reduceLE, Prod.mk.injEq, Nat.reduceEqDiff, reduceCtorEq, and_true, true_and, and_false, false_and, and_self, ite_true, ite_false, ↓reduceIte, not_true_eq_false, not_false_eq_true, pe_ri, pe_rz, pe_rc, Ct_g1_0 hP hA, Ct_g1_1 hP hA, Ct_g1_2 hP hA, Ct_g25_4 hP hA, Ct_k25 hP hA, Ct_r2 hP hA, Ct_r3 hP hA, Ct_r30 hP hA, Ct_r31 hP hA, Ct_r4 hP hA, Ct_r5 hP hA, z1]
  refine z962_1 hP hA hD k2 ?_ _ _ _ _ _ _
  dsimp only [ex962_1]
  intro q1 q5 q6 q7 q8 q9 q10 q11
  by_cases k3 : (v9 &&& 1) = 0
  · rw [if_pos k3] at e
    have k4 := y962_5 (h := h) hP hA hD e
    simp -implicitDefEqProofs (disch := first | assumption | exact Nat.le_of_ble_eq_true rfl | decide) only [b962_0, g962_2, b962_2, g962_3, b962_3, g962_4, b962_4, g962_6, b962_6, g962_9, b962_9, g962_11, b962_11, g962_13, b962_13, g962_15, b962_15, g962_16, b962_16, g962_18, b962_18, pe_aload0, pe_iload2, pe_iload3, pe_iload4, pe_sipush, pe_call7, pm_af_ret, pm_af_void, pm_af_thr, pe_istore5, pe_goto_w, pe_iload5, pe_aload1, pe_call1, pe_icmp_ge, pe_call2, pe_astore6, pe_aload6, pe_getfield, pe_if_le, pe_call3, pe_if_eq, pe_iadd, pe_iinc5, pe_goto, pe_iand, pe_if_ne, pe_istore6, pe_ixor, pe_isub, pe_istore7, pe_istore8, pe_iload8, pe_iload6, pe_icmp_le, pe_istore9, pe_iload7, pe_aaload, pe_iaload, pe_istore10, pe_istore11, pe_iload9, pe_iload10, pe_iload11, pe_iinc8, pe_return, pm_prog_1, pm_ob_some, Nat.reduceDiv, Nat.reduceMod, Nat.reduceMul, Nat.reduceAdd, Int.reduceToNat, pm_kill_i, pm_kill_r, pm_kill_n, pm_kill_j, pm_kill_l, pm_kill_d, pm_cats_nil, pm_cats_i, pm_cats_r, pm_cats_n, pm_cats_l, pm_cats_d, sz_1, sz_2, sl_1, sl_2, lc_0, lc_lt, lc_le, li_ne, va_rf, wr_m1, we_m1, pm_kill_w, Int32.reduceOfInt, Int64.reduceOfInt, Int32.reduceOfNat, Int32.reduceLT, Int32.reduceLE, Prod.mk.injEq, Nat.reduceEqDiff, reduceCtorEq, and_true, true_and, and_false, false_and, and_self, ite_true, ite_false, ↓reduceIte, not_true_eq_false, not_false_eq_true, pe_ri, pe_rz, pe_rc, Ct_g1_0 hP hA, Ct_g1_1 hP hA, Ct_g1_2 hP hA, Ct_g25_4 hP hA, Ct_k25 hP hA, Ct_r2 hP hA, Ct_r3 hP hA, Ct_r30 hP hA, Ct_r31 hP hA, Ct_r4 hP hA, Ct_r5 hP hA, z1, eq_true k3, k4]
  · rw [if_neg k3] at e
    have k5 := y962_5 (h := h) hP hA hD e
    simp -implicitDefEqProofs (disch := first | assumption | exact Nat.le_of_ble_eq_true rfl | decide) only [b962_0, g962_2, b962_2, g962_3, b962_3, g962_4, b962_4, g962_6, b962_6, g962_9, b962_9, g962_11, b962_11, g962_13, b962_13, g962_15, b962_15, g962_16, b962_16, g962_18, b962_18, pe_aload0, pe_iload2, pe_iload3, pe_iload4, pe_sipush, pe_call7, pm_af_ret, pm_af_void, pm_af_thr, pe_istore5, pe_goto_w, pe_iload5, pe_aload1, pe_call1, pe_icmp_ge, pe_call2, pe_astore6, pe_aload6, pe_getfield, pe_if_le, pe_call3, pe_if_eq, pe_iadd, pe_iinc5, pe_goto, pe_iand, pe_if_ne, pe_istore6, pe_ixor, pe_isub, pe_istore7, pe_istore8, pe_iload8, pe_iload6, pe_icmp_le, pe_istore9, pe_iload7, pe_aaload, pe_iaload, pe_istore10, pe_istore11, pe_iload9, pe_iload10, pe_iload11, pe_iinc8, pe_return, pm_prog_1, pm_ob_some, Nat.reduceDiv, Nat.reduceMod, Nat.reduceMul, Nat.reduceAdd, Int.reduceToNat, pm_kill_i, pm_kill_r, pm_kill_n, pm_kill_j, pm_kill_l, pm_kill_d, pm_cats_nil, pm_cats_i, pm_cats_r, pm_cats_n, pm_cats_l, pm_cats_d, sz_1, sz_2, sl_1, sl_2, lc_0, lc_lt, lc_le, li_ne, va_rf, wr_m1, we_m1, pm_kill_w, Int32.reduceOfInt, Int64.reduceOfInt, Int32.reduceOfNat, Int32.reduceLT, Int32.reduceLE, Prod.mk.injEq, Nat.reduceEqDiff, reduceCtorEq, and_true, true_and, and_false, false_and, and_self, ite_true, ite_false, ↓reduceIte, not_true_eq_false, not_false_eq_true, pe_ri, pe_rz, pe_rc, Ct_g1_0 hP hA, Ct_g1_1 hP hA, Ct_g1_2 hP hA, Ct_g25_4 hP hA, Ct_k25 hP hA, Ct_r2 hP hA, Ct_r3 hP hA, Ct_r30 hP hA, Ct_r31 hP hA, Ct_r4 hP hA, Ct_r5 hP hA, z1, eq_false k3, k5]
/-- TimberHouse$SheetTrees$Table.fill(Ljava/util/ArrayList;)V -/
theorem c961 {d : Nat} {h : pm_H} {a : Nat} {r0 : Nat} (hc : pm_cls h a = some 15) : pm_call pm_prog (d + 1) 961 [.ref a, .ref r0] h = pm_ev pm_prog (pm_call pm_prog d) 961 0 b961_0 [.ref a, .ref r0, pm_junk, pm_junk, pm_junk] [] h := pm_cal (pm_rc1 hc rfl) rfl rfl rfl
theorem g961_1 {cl : pm_C} {ls st : List Value} {h : pm_H} : pm_go pm_prog cl 961 1 ls st h = pm_ev pm_prog cl 961 1 b961_1 ls st h := pm_go_eq pm_prog cl 961 1 ls st h
theorem g961_2 {cl : pm_C} {ls st : List Value} {h : pm_H} : pm_go pm_prog cl 961 2 ls st h = pm_ev pm_prog cl 961 2 b961_2 ls st h := pm_go_eq pm_prog cl 961 2 ls st h
theorem g961_3 {cl : pm_C} {ls st : List Value} {h : pm_H} : pm_go pm_prog cl 961 3 ls st h = pm_ev pm_prog cl 961 3 b961_3 ls st h := pm_go_eq pm_prog cl 961 3 ls st h
theorem g961_4 {cl : pm_C} {ls st : List Value} {h : pm_H} : pm_go pm_prog cl 961 4 ls st h = pm_ev pm_prog cl 961 4 b961_4 ls st h := pm_go_eq pm_prog cl 961 4 ls st h
theorem g961_5 {cl : pm_C} {ls st : List Value} {h : pm_H} : pm_go pm_prog cl 961 5 ls st h = pm_ev pm_prog cl 961 5 b961_5 ls st h := pm_go_eq pm_prog cl 961 5 ls st h
theorem g961_6 {cl : pm_C} {ls st : List Value} {h : pm_H} : pm_go pm_prog cl 961 6 ls st h = pm_ev pm_prog cl 961 6 b961_6 ls st h := pm_go_eq pm_prog cl 961 6 ls st h
noncomputable def f961_b3 (sc : Int32) (pc : Int32) (sa : Int32) (pa : Int32) : Int32 × Int32 × Int32 × wS → Option ((Int32 × Int32 × Int32 × wS) ⊕ ((Int32 × Int32 × wS))) := fun (x2, x3, x4, S) =>
  if x4 ≤ 16 then
    (f962 sc pc sa pa S x2 x3 x4).bind fun S1 =>
    some (.inl (x2, x3, (x4 + 1), S1))
  else
    some (.inr (x2, x3, S))
noncomputable def f961_b2 (sc : Int32) (pc : Int32) (sa : Int32) (pa : Int32) : Int32 × Int32 × wS → Option ((Int32 × Int32 × wS) ⊕ ((Int32 × wS))) := fun (x2, x3, S) =>
  if x3 ≤ 16 then
    (lp (f961_b3 sc pc sa pa) FU (x2, x3, 1, S)).bind fun (v5, v6, S2) =>
    some (.inl (v5, (v6 + 1), S2))
  else
    some (.inr (x2, S))
noncomputable def f961_b1 (sc : Int32) (pc : Int32) (sa : Int32) (pa : Int32) : Int32 × wS → Option ((Int32 × wS) ⊕ ((wS))) := fun (x2, S) =>
  if x2 < 8 then
    (lp (f961_b2 sc pc sa pa) FU (x2, 1, S)).bind fun (v10, S7) =>
    some (.inl ((v10 + 1), S7))
  else
    some (.inr S)
/-- TimberHouse$SheetTrees$Table.fill(Ljava/util/ArrayList;)V -/
noncomputable def f961 (sc : Int32) (pc : Int32) (sa : Int32) (pa : Int32) (S : wS) : Option (wS) :=
  (lp (f961_b1 sc pc sa pa) FU (0, S)).bind fun S11 =>
  some S11
def go961_3 (sc : Int32) (pc : Int32) (sa : Int32) (pa : Int32) (A : wK → Nat) (h : pm_H) (D : Nat) (R : Outcome × pm_H) : Int32 × Int32 × Int32 × wS → Prop := fun (x2, x3, x4, S) => pm_go pm_prog (pm_call pm_prog D) 961 3 [.ref (A (1, 0, 0)), .ref (A (22, 0, 0)), .int x2, .int x3, .int x4] [] (wput A (Ct_d sc pc sa pa) S h) = some R
def ex961_3 (sc : Int32) (pc : Int32) (sa : Int32) (pa : Int32) (A : wK → Nat) (h : pm_H) (D : Nat) (R : Outcome × pm_H) : (Int32 × Int32 × wS) → Prop := fun (x2, x3, S) => ∀ q4 : Value, pm_go pm_prog (pm_call pm_prog D) 961 4 [.ref (A (1, 0, 0)), .ref (A (22, 0, 0)), .int x2, .int x3, q4] [] (wput A (Ct_d sc pc sa pa) S h) = some R
theorem y961_b3 {sc : Int32} {pc : Int32} {sa : Int32} {pa : Int32} {A : wK → Nat} {h : pm_H} {D : Nat} {R : Outcome × pm_H} (hP : Ct_P sc pc sa pa) (hA : wok A (Ct_d sc pc sa pa) h.1) (hD : 4 ≤ D) (a : Int32 × Int32 × Int32 × wS) (r : (Int32 × Int32 × Int32 × wS) ⊕ ((Int32 × Int32 × wS))) (e : f961_b3 sc pc sa pa a = some r) (hc : Sum.elim (go961_3 sc pc sa pa A h D R) (ex961_3 sc pc sa pa A h D R) r) : go961_3 sc pc sa pa A h D R a := by
  obtain ⟨x2, x3, x4, S⟩ := a
  dsimp only [go961_3]
  simp only [f961_b3] at e
  rw [g961_3, b961_3]
  by_cases k1 : x4 ≤ 16
  · rw [if_pos k1] at e
    obtain ⟨S1, k2, e⟩ := Option.bind_eq_some_iff.mp e
    try dsimp only at e
    have z2 := x962 (D := D) (h := h) hP hA (by omega) k2
    have e := Option.some.inj e; subst e
    dsimp only [Sum.elim_inl, go961_3] at hc
    simp -implicitDefEqProofs (disch := first | assumption | exact Nat.le_of_ble_eq_true rfl | decide) only [b961_0, g961_4, b961_4, g961_5, b961_5, g961_6, b961_6, pe_sipush, pe_istore2, pe_goto_w, pe_iload2, pe_icmp_ge, pe_istore3, pe_iload3, pe_icmp_gt, pe_istore4, pe_iload4, pe_aload0, pe_aload1, pe_call5, pm_af_ret, pm_af_void, pm_af_thr, pe_iinc4, pe_goto, pe_iinc3, pe_iinc2, pe_return, pm_prog_1, pm_ob_some, Nat.reduceDiv, Nat.reduceMod, Nat.reduceMul, Nat.reduceAdd, Int.reduceToNat, pm_kill_i, pm_kill_r, pm_kill_n, pm_kill_j, pm_kill_l, pm_kill_d, pm_cats_nil, pm_cats_i, pm_cats_r, pm_cats_n, pm_cats_l, pm_cats_d, sz_1, sz_2, sl_1, sl_2, lc_0, lc_lt, lc_le, li_ne, va_rf, wr_m1, we_m1, pm_kill_w, Int32.reduceOfInt, Int64.reduceOfInt, Int32.reduceOfNat, Int32.reduceLT, Int32.reduceLE, Prod.mk.injEq, Nat.reduceEqDiff, reduceCtorEq, and_true, true_and, and_false, false_and, and_self, ite_true, ite_false, ↓reduceIte, not_true_eq_false, not_false_eq_true, pe_ri, pe_rz, pe_rc, eq_true k1, z2, hc]
  · rw [if_neg k1] at e
    have e := Option.some.inj e; subst e
    dsimp only [Sum.elim_inr, ex961_3] at hc
    simp -implicitDefEqProofs (disch := first | assumption | exact Nat.le_of_ble_eq_true rfl | decide) only [b961_0, g961_4, b961_4, g961_5, b961_5, g961_6, b961_6, pe_sipush, pe_istore2, pe_goto_w, pe_iload2, pe_icmp_ge, pe_istore3, pe_iload3, pe_icmp_gt, pe_istore4, pe_iload4, pe_aload0, pe_aload1, pe_call5, pm_af_ret, pm_af_void, pm_af_thr, pe_iinc4, pe_goto, pe_iinc3, pe_iinc2, pe_return, pm_prog_1, pm_ob_some, Nat.reduceDiv, Nat.reduceMod, Nat.reduceMul, Nat.reduceAdd, Int.reduceToNat, pm_kill_i, pm_kill_r, pm_kill_n, pm_kill_j, pm_kill_l, pm_kill_d, pm_cats_nil, pm_cats_i, pm_cats_r, pm_cats_n, pm_cats_l, pm_cats_d, sz_1, sz_2, sl_1, sl_2, lc_0, lc_lt, lc_le, li_ne, va_rf, wr_m1, we_m1, pm_kill_w, Int32.reduceOfInt, Int64.reduceOfInt, Int32.reduceOfNat, Int32.reduceLT, Int32.reduceLE, Prod.mk.injEq, Nat.reduceEqDiff, reduceCtorEq, and_true, true_and, and_false, false_and, and_self, ite_true, ite_false, ↓reduceIte, not_true_eq_false, not_false_eq_true, pe_ri, pe_rz, pe_rc, eq_false k1, hc]
theorem z961_3 {sc : Int32} {pc : Int32} {sa : Int32} {pa : Int32} {A : wK → Nat} {h : pm_H} {D : Nat} {R : Outcome × pm_H} (hP : Ct_P sc pc sa pa) (hA : wok A (Ct_d sc pc sa pa) h.1) (hD : 4 ≤ D) {n : Nat} {a : Int32 × Int32 × Int32 × wS} {b : (Int32 × Int32 × wS)} (e : lp (f961_b3 sc pc sa pa) n a = some b) (hx : ex961_3 sc pc sa pa A h D R b) : go961_3 sc pc sa pa A h D R a := lp_run (fun a r => y961_b3 hP hA hD a r) n a b e hx
def go961_2 (sc : Int32) (pc : Int32) (sa : Int32) (pa : Int32) (A : wK → Nat) (h : pm_H) (D : Nat) (R : Outcome × pm_H) : Int32 × Int32 × wS → Prop := fun (x2, x3, S) => ∀ q4 : Value, pm_go pm_prog (pm_call pm_prog D) 961 2 [.ref (A (1, 0, 0)), .ref (A (22, 0, 0)), .int x2, .int x3, q4] [] (wput A (Ct_d sc pc sa pa) S h) = some R
def ex961_2 (sc : Int32) (pc : Int32) (sa : Int32) (pa : Int32) (A : wK → Nat) (h : pm_H) (D : Nat) (R : Outcome × pm_H) : (Int32 × wS) → Prop := fun (x2, S) => ∀ q3 q4 : Value, pm_go pm_prog (pm_call pm_prog D) 961 5 [.ref (A (1, 0, 0)), .ref (A (22, 0, 0)), .int x2, q3, q4] [] (wput A (Ct_d sc pc sa pa) S h) = some R
theorem y961_b2 {sc : Int32} {pc : Int32} {sa : Int32} {pa : Int32} {A : wK → Nat} {h : pm_H} {D : Nat} {R : Outcome × pm_H} (hP : Ct_P sc pc sa pa) (hA : wok A (Ct_d sc pc sa pa) h.1) (hD : 4 ≤ D) (a : Int32 × Int32 × wS) (r : (Int32 × Int32 × wS) ⊕ ((Int32 × wS))) (e : f961_b2 sc pc sa pa a = some r) (hc : Sum.elim (go961_2 sc pc sa pa A h D R) (ex961_2 sc pc sa pa A h D R) r) : go961_2 sc pc sa pa A h D R a := by
  obtain ⟨x2, x3, S⟩ := a
  dsimp only [go961_2]
  intro q4
  simp only [f961_b2] at e
  rw [g961_2, b961_2]
  by_cases k1 : x3 ≤ 16
  · rw [if_pos k1] at e
    obtain ⟨⟨v5, v6, S2⟩, k2, e⟩ := Option.bind_eq_some_iff.mp e
    try dsimp only at e
    try simp -implicitDefEqProofs (disch := first | assumption | exact Nat.le_of_ble_eq_true rfl | decide) only [b961_0, g961_4, b961_4, g961_5, b961_5, g961_6, b961_6, pe_sipush, pe_istore2, pe_goto_w, pe_iload2, pe_icmp_ge, pe_istore3, pe_iload3, pe_icmp_gt, pe_istore4, pe_iload4, pe_aload0, pe_aload1, pe_call5, pm_af_ret, pm_af_void, pm_af_thr, pe_iinc4, pe_goto, pe_iinc3, pe_iinc2, pe_return, pm_prog_1, pm_ob_some, Nat.reduceDiv, Nat.reduceMod, Nat.reduceMul, Nat.reduceAdd, Int.reduceToNat, pm_kill_i, pm_kill_r, pm_kill_n, pm_kill_j, pm_kill_l, pm_kill_d, pm_cats_nil, pm_cats_i, pm_cats_r, pm_cats_n, pm_cats_l, pm_cats_d, sz_1, sz_2, sl_1, sl_2, lc_0, lc_lt, lc_le, li_ne, va_rf, wr_m1, we_m1, pm_kill_w, Int32.reduceOfInt, Int64.reduceOfInt, Int32.reduceOfNat, Int32.reduceLT, Int32.reduceLE, Prod.mk.injEq, Nat.reduceEqDiff, reduceCtorEq, and_true, true_and, and_false, false_and, and_self, ite_true, ite_false, ↓reduceIte, not_true_eq_false, not_false_eq_true, pe_ri, pe_rz, pe_rc, eq_true k1]
    refine z961_3 hP hA hD k2 ?_
    dsimp only [ex961_3]
    intro q4
    have e := Option.some.inj e; subst e
    dsimp only [Sum.elim_inl, go961_2] at hc
    simp -implicitDefEqProofs (disch := first | assumption | exact Nat.le_of_ble_eq_true rfl | decide) only [b961_0, g961_4, b961_4, g961_5, b961_5, g961_6, b961_6, pe_sipush, pe_istore2, pe_goto_w, pe_iload2, pe_icmp_ge, pe_istore3, pe_iload3, pe_icmp_gt, pe_istore4, pe_iload4, pe_aload0, pe_aload1, pe_call5, pm_af_ret, pm_af_void, pm_af_thr, pe_iinc4, pe_goto, pe_iinc3, pe_iinc2, pe_return, pm_prog_1, pm_ob_some, Nat.reduceDiv, Nat.reduceMod, Nat.reduceMul, Nat.reduceAdd, Int.reduceToNat, pm_kill_i, pm_kill_r, pm_kill_n, pm_kill_j, pm_kill_l, pm_kill_d, pm_cats_nil, pm_cats_i, pm_cats_r, pm_cats_n, pm_cats_l, pm_cats_d, sz_1, sz_2, sl_1, sl_2, lc_0, lc_lt, lc_le, li_ne, va_rf, wr_m1, we_m1, pm_kill_w, Int32.reduceOfInt, Int64.reduceOfInt, Int32.reduceOfNat, Int32.reduceLT, Int32.reduceLE, Prod.mk.injEq, Nat.reduceEqDiff, reduceCtorEq, and_true, true_and, and_false, false_and, and_self, ite_true, ite_false, ↓reduceIte, not_true_eq_false, not_false_eq_true, pe_ri, pe_rz, pe_rc, eq_true k1, hc]
  · rw [if_neg k1] at e
    have e := Option.some.inj e; subst e
    dsimp only [Sum.elim_inr, ex961_2] at hc
    simp -implicitDefEqProofs (disch := first | assumption | exact Nat.le_of_ble_eq_true rfl | decide) only [b961_0, g961_4, b961_4, g961_5, b961_5, g961_6, b961_6, pe_sipush, pe_istore2, pe_goto_w, pe_iload2, pe_icmp_ge, pe_istore3, pe_iload3, pe_icmp_gt, pe_istore4, pe_iload4, pe_aload0, pe_aload1, pe_call5, pm_af_ret, pm_af_void, pm_af_thr, pe_iinc4, pe_goto, pe_iinc3, pe_iinc2, pe_return, pm_prog_1, pm_ob_some, Nat.reduceDiv, Nat.reduceMod, Nat.reduceMul, Nat.reduceAdd, Int.reduceToNat, pm_kill_i, pm_kill_r, pm_kill_n, pm_kill_j, pm_kill_l, pm_kill_d, pm_cats_nil, pm_cats_i, pm_cats_r, pm_cats_n, pm_cats_l, pm_cats_d, sz_1, sz_2, sl_1, sl_2, lc_0, lc_lt, lc_le, li_ne, va_rf, wr_m1, we_m1, pm_kill_w, Int32.reduceOfInt, Int64.reduceOfInt, Int32.reduceOfNat, Int32.reduceLT, Int32.reduceLE, Prod.mk.injEq, Nat.reduceEqDiff, reduceCtorEq, and_true, true_and, and_false, false_and, and_self, ite_true, ite_false, ↓reduceIte, not_true_eq_false, not_false_eq_true, pe_ri, pe_rz, pe_rc, eq_false k1, hc]
theorem z961_2 {sc : Int32} {pc : Int32} {sa : Int32} {pa : Int32} {A : wK → Nat} {h : pm_H} {D : Nat} {R : Outcome × pm_H} (hP : Ct_P sc pc sa pa) (hA : wok A (Ct_d sc pc sa pa) h.1) (hD : 4 ≤ D) {n : Nat} {a : Int32 × Int32 × wS} {b : (Int32 × wS)} (e : lp (f961_b2 sc pc sa pa) n a = some b) (hx : ex961_2 sc pc sa pa A h D R b) : go961_2 sc pc sa pa A h D R a := lp_run (fun a r => y961_b2 hP hA hD a r) n a b e hx
def go961_1 (sc : Int32) (pc : Int32) (sa : Int32) (pa : Int32) (A : wK → Nat) (h : pm_H) (D : Nat) (R : Outcome × pm_H) : Int32 × wS → Prop := fun (x2, S) => ∀ q3 q4 : Value, pm_go pm_prog (pm_call pm_prog D) 961 1 [.ref (A (1, 0, 0)), .ref (A (22, 0, 0)), .int x2, q3, q4] [] (wput A (Ct_d sc pc sa pa) S h) = some R
def ex961_1 (sc : Int32) (pc : Int32) (sa : Int32) (pa : Int32) (A : wK → Nat) (h : pm_H) (D : Nat) (R : Outcome × pm_H) : (wS) → Prop := fun S => ∀ q0 q1 q2 q3 q4 : Value, pm_go pm_prog (pm_call pm_prog D) 961 6 [q0, q1, q2, q3, q4] [] (wput A (Ct_d sc pc sa pa) S h) = some R
theorem y961_b1 {sc : Int32} {pc : Int32} {sa : Int32} {pa : Int32} {A : wK → Nat} {h : pm_H} {D : Nat} {R : Outcome × pm_H} (hP : Ct_P sc pc sa pa) (hA : wok A (Ct_d sc pc sa pa) h.1) (hD : 4 ≤ D) (a : Int32 × wS) (r : (Int32 × wS) ⊕ ((wS))) (e : f961_b1 sc pc sa pa a = some r) (hc : Sum.elim (go961_1 sc pc sa pa A h D R) (ex961_1 sc pc sa pa A h D R) r) : go961_1 sc pc sa pa A h D R a := by
  obtain ⟨x2, S⟩ := a
  dsimp only [go961_1]
  intro q3 q4
  simp only [f961_b1] at e
  rw [g961_1, b961_1]
  by_cases k1 : x2 < 8
  · rw [if_pos k1] at e
    obtain ⟨⟨v10, S7⟩, k2, e⟩ := Option.bind_eq_some_iff.mp e
    try dsimp only at e
    try simp -implicitDefEqProofs (disch := first | assumption | exact Nat.le_of_ble_eq_true rfl | decide) only [b961_0, g961_4, b961_4, g961_5, b961_5, g961_6, b961_6, pe_sipush, pe_istore2, pe_goto_w, pe_iload2, pe_icmp_ge, pe_istore3, pe_iload3, pe_icmp_gt, pe_istore4, pe_iload4, pe_aload0, pe_aload1, pe_call5, pm_af_ret, pm_af_void, pm_af_thr, pe_iinc4, pe_goto, pe_iinc3, pe_iinc2, pe_return, pm_prog_1, pm_ob_some, Nat.reduceDiv, Nat.reduceMod, Nat.reduceMul, Nat.reduceAdd, Int.reduceToNat, pm_kill_i, pm_kill_r, pm_kill_n, pm_kill_j, pm_kill_l, pm_kill_d, pm_cats_nil, pm_cats_i, pm_cats_r, pm_cats_n, pm_cats_l, pm_cats_d, sz_1, sz_2, sl_1, sl_2, lc_0, lc_lt, lc_le, li_ne, va_rf, wr_m1, we_m1, pm_kill_w, Int32.reduceOfInt, Int64.reduceOfInt, Int32.reduceOfNat, Int32.reduceLT, Int32.reduceLE, Prod.mk.injEq, Nat.reduceEqDiff, reduceCtorEq, and_true, true_and, and_false, false_and, and_self, ite_true, ite_false, ↓reduceIte, not_true_eq_false, not_false_eq_true, pe_ri, pe_rz, pe_rc, eq_true k1]
    refine z961_2 hP hA hD k2 ?_ _
    dsimp only [ex961_2]
    intro q3 q4
    have e := Option.some.inj e; subst e
    dsimp only [Sum.elim_inl, go961_1] at hc
    simp -implicitDefEqProofs (disch := first | assumption | exact Nat.le_of_ble_eq_true rfl | decide) only [b961_0, g961_4, b961_4, g961_5, b961_5, g961_6, b961_6, pe_sipush, pe_istore2, pe_goto_w, pe_iload2, pe_icmp_ge, pe_istore3, pe_iload3, pe_icmp_gt, pe_istore4, pe_iload4, pe_aload0, pe_aload1, pe_call5, pm_af_ret, pm_af_void, pm_af_thr, pe_iinc4, pe_goto, pe_iinc3, pe_iinc2, pe_return, pm_prog_1, pm_ob_some, Nat.reduceDiv, Nat.reduceMod, Nat.reduceMul, Nat.reduceAdd, Int.reduceToNat, pm_kill_i, pm_kill_r, pm_kill_n, pm_kill_j, pm_kill_l, pm_kill_d, pm_cats_nil, pm_cats_i, pm_cats_r, pm_cats_n, pm_cats_l, pm_cats_d, sz_1, sz_2, sl_1, sl_2, lc_0, lc_lt, lc_le, li_ne, va_rf, wr_m1, we_m1, pm_kill_w, Int32.reduceOfInt, Int64.reduceOfInt, Int32.reduceOfNat, Int32.reduceLT, Int32.reduceLE, Prod.mk.injEq, Nat.reduceEqDiff, reduceCtorEq, and_true, true_and, and_false, false_and, and_self, ite_true, ite_false, ↓reduceIte, not_true_eq_false, not_false_eq_true, pe_ri, pe_rz, pe_rc, eq_true k1, hc]
  · rw [if_neg k1] at e
    have e := Option.some.inj e; subst e
    dsimp only [Sum.elim_inr, ex961_1] at hc
    simp -implicitDefEqProofs (disch := first | assumption | exact Nat.le_of_ble_eq_true rfl | decide) only [b961_0, g961_4, b961_4, g961_5, b961_5, g961_6, b961_6, pe_sipush, pe_istore2, pe_goto_w, pe_iload2, pe_icmp_ge, pe_istore3, pe_iload3, pe_icmp_gt, pe_istore4, pe_iload4, pe_aload0, pe_aload1, pe_call5, pm_af_ret, pm_af_void, pm_af_thr, pe_iinc4, pe_goto, pe_iinc3, pe_iinc2, pe_return, pm_prog_1, pm_ob_some, Nat.reduceDiv, Nat.reduceMod, Nat.reduceMul, Nat.reduceAdd, Int.reduceToNat, pm_kill_i, pm_kill_r, pm_kill_n, pm_kill_j, pm_kill_l, pm_kill_d, pm_cats_nil, pm_cats_i, pm_cats_r, pm_cats_n, pm_cats_l, pm_cats_d, sz_1, sz_2, sl_1, sl_2, lc_0, lc_lt, lc_le, li_ne, va_rf, wr_m1, we_m1, pm_kill_w, Int32.reduceOfInt, Int64.reduceOfInt, Int32.reduceOfNat, Int32.reduceLT, Int32.reduceLE, Prod.mk.injEq, Nat.reduceEqDiff, reduceCtorEq, and_true, true_and, and_false, false_and, and_self, ite_true, ite_false, ↓reduceIte, not_true_eq_false, not_false_eq_true, pe_ri, pe_rz, pe_rc, eq_false k1, hc]
theorem z961_1 {sc : Int32} {pc : Int32} {sa : Int32} {pa : Int32} {A : wK → Nat} {h : pm_H} {D : Nat} {R : Outcome × pm_H} (hP : Ct_P sc pc sa pa) (hA : wok A (Ct_d sc pc sa pa) h.1) (hD : 4 ≤ D) {n : Nat} {a : Int32 × wS} {b : (wS)} (e : lp (f961_b1 sc pc sa pa) n a = some b) (hx : ex961_1 sc pc sa pa A h D R b) : go961_1 sc pc sa pa A h D R a := lp_run (fun a r => y961_b1 hP hA hD a r) n a b e hx
theorem x961 {sc : Int32} {pc : Int32} {sa : Int32} {pa : Int32} {A : wK → Nat} {h : pm_H} {D : Nat} {S : wS} {r : wS} (hP : Ct_P sc pc sa pa) (hA : wok A (Ct_d sc pc sa pa) h.1) (hD : 5 ≤ D) (e : f961 sc pc sa pa S = some r) : pm_call pm_prog D 961 [.ref (A (1, 0, 0)), .ref (A (22, 0, 0))] (wput A (Ct_d sc pc sa pa) S h) = some (Outcome.returned none, (wput A (Ct_d sc pc sa pa) r h)) := by
  obtain ⟨D, rfl⟩ : ∃ D', D = D' + 1 := ⟨D - 1, by omega⟩
  have hD : 4 ≤ D := by omega
  simp only [f961] at e
  rw [c961 (Ct_c1 hP hA), b961_0]
  obtain ⟨S11, k1, e⟩ := Option.bind_eq_some_iff.mp e
  try dsimp only at e
  try simp -implicitDefEqProofs (disch := first | assumption | exact Nat.le_of_ble_eq_true rfl | decide) only [b961_0, g961_4, b961_4, g961_5, b961_5, g961_6, b961_6, pe_sipush, pe_istore2, pe_goto_w, pe_iload2, pe_icmp_ge, pe_istore3, pe_iload3, pe_icmp_gt, pe_istore4, pe_iload4, pe_aload0, pe_aload1, pe_call5, pm_af_ret, pm_af_void, pm_af_thr, pe_iinc4, pe_goto, pe_iinc3, pe_iinc2, pe_return, pm_prog_1, pm_ob_some, Nat.reduceDiv, Nat.reduceMod, Nat.reduceMul, Nat.reduceAdd, Int.reduceToNat, pm_kill_i, pm_kill_r, pm_kill_n, pm_kill_j, pm_kill_l, pm_kill_d, pm_cats_nil, pm_cats_i, pm_cats_r, pm_cats_n, pm_cats_l, pm_cats_d, sz_1, sz_2, sl_1, sl_2, lc_0, lc_lt, lc_le, li_ne, va_rf, wr_m1, we_m1, pm_kill_w, Int32.reduceOfInt, Int64.reduceOfInt, Int32.reduceOfNat, Int32.reduceLT, Int32.reduceLE, Prod.mk.injEq, Nat.reduceEqDiff, reduceCtorEq, and_true, true_and, and_false, false_and, and_self, ite_true, ite_false, ↓reduceIte, not_true_eq_false, not_false_eq_true, pe_ri, pe_rz, pe_rc]
  refine z961_1 hP hA hD k1 ?_ _ _
  dsimp only [ex961_1]
  intro q0 q1 q2 q3 q4
  have e := Option.some.inj e; subst e
  simp -implicitDefEqProofs (disch := first | assumption | exact Nat.le_of_ble_eq_true rfl | decide) only [b961_0, g961_4, b961_4, g961_5, b961_5, g961_6, b961_6, pe_sipush, pe_istore2, pe_goto_w, pe_iload2, pe_icmp_ge, pe_istore3, pe_iload3, pe_icmp_gt, pe_istore4, pe_iload4, pe_aload0, pe_aload1, pe_call5, pm_af_ret, pm_af_void, pm_af_thr, pe_iinc4, pe_goto, pe_iinc3, pe_iinc2, pe_return, pm_prog_1, pm_ob_some, Nat.reduceDiv, Nat.reduceMod, Nat.reduceMul, Nat.reduceAdd, Int.reduceToNat, pm_kill_i, pm_kill_r, pm_kill_n, pm_kill_j, pm_kill_l, pm_kill_d, pm_cats_nil, pm_cats_i, pm_cats_r, pm_cats_n, pm_cats_l, pm_cats_d, sz_1, sz_2, sl_1, sl_2, lc_0, lc_lt, lc_le, li_ne, va_rf, wr_m1, we_m1, pm_kill_w, Int32.reduceOfInt, Int64.reduceOfInt, Int32.reduceOfNat, Int32.reduceLT, Int32.reduceLE, Prod.mk.injEq, Nat.reduceEqDiff, reduceCtorEq, and_true, true_and, and_false, false_and, and_self, ite_true, ite_false, ↓reduceIte, not_true_eq_false, not_false_eq_true, pe_ri, pe_rz, pe_rc]
/-- TimberHouse$SheetTrees$Table.of(II)I -/
theorem c964 {d : Nat} {h : pm_H} {x0 : Int32} {x1 : Int32} : pm_call pm_prog (d + 1) 964 [.int x0, .int x1] h = pm_ev pm_prog (pm_call pm_prog d) 964 0 b964_0 [.int x0, .int x1] [] h := pm_cal (pm_rc0 rfl) rfl rfl rfl
/-- TimberHouse$SheetTrees$Table.of(II)I -/
noncomputable def f964 (x0 : Int32) (x1 : Int32) : Option (Int32) :=
  some ((2 * x0) + x1)
theorem x964 {h : pm_H} {D : Nat} {x0 : Int32} {x1 : Int32} {r : Int32} (hD : 1 ≤ D) (e : f964 x0 x1 = some r) : pm_call pm_prog D 964 [.int x0, .int x1] h = some (Outcome.returned (some (.int r)), h) := by
  obtain ⟨D, rfl⟩ : ∃ D', D = D' + 1 := ⟨D - 1, by omega⟩
  have hD : 0 ≤ D := by omega
  simp only [f964] at e
  rw [c964, b964_0]
  have e := Option.some.inj e; subst e
  simp -implicitDefEqProofs (disch := first | assumption | exact Nat.le_of_ble_eq_true rfl | decide) only [b964_0, pe_sipush, pe_iload0, pe_imul, pe_iload1, pe_iadd, pm_prog_1, pm_ob_some, Nat.reduceDiv, Nat.reduceMod, Nat.reduceMul, Nat.reduceAdd, Int.reduceToNat, pm_kill_i, pm_kill_r, pm_kill_n, pm_kill_j, pm_kill_l, pm_kill_d, pm_cats_nil, pm_cats_i, pm_cats_r, pm_cats_n, pm_cats_l, pm_cats_d, sz_1, sz_2, sl_1, sl_2, lc_0, lc_lt, lc_le, li_ne, va_rf, wr_m1, we_m1, pm_kill_w, Int32.reduceOfInt, Int64.reduceOfInt, Int32.reduceOfNat, Int32.reduceLT, Int32.reduceLE, Prod.mk.injEq, Nat.reduceEqDiff, reduceCtorEq, and_true, true_and, and_false, false_and, and_self, ite_true, ite_false, ↓reduceIte, not_true_eq_false, not_false_eq_true, pe_ri, pe_rz, pe_rc]
/-- TimberHouse$SheetTrees$Table.isBetter(IIII)Z -/
theorem c965 {d : Nat} {h : pm_H} {a : Nat} {x0 : Int32} {x1 : Int32} {x2 : Int32} {x3 : Int32} (hc : pm_cls h a = some 15) : pm_call pm_prog (d + 1) 965 [.ref a, .int x0, .int x1, .int x2, .int x3] h = pm_ev pm_prog (pm_call pm_prog d) 965 0 b965_0 [.ref a, .int x0, .int x1, .int x2, .int x3] [] h := pm_cal (pm_rc1 hc rfl) rfl rfl rfl
theorem g965_1 {cl : pm_C} {ls st : List Value} {h : pm_H} : pm_go pm_prog cl 965 1 ls st h = pm_ev pm_prog cl 965 1 b965_1 ls st h := pm_go_eq pm_prog cl 965 1 ls st h
theorem g965_2 {cl : pm_C} {ls st : List Value} {h : pm_H} : pm_go pm_prog cl 965 2 ls st h = pm_ev pm_prog cl 965 2 b965_2 ls st h := pm_go_eq pm_prog cl 965 2 ls st h
theorem g965_3 {cl : pm_C} {ls st : List Value} {h : pm_H} : pm_go pm_prog cl 965 3 ls st h = pm_ev pm_prog cl 965 3 b965_3 ls st h := pm_go_eq pm_prog cl 965 3 ls st h
/-- TimberHouse$SheetTrees$Table.isBetter(IIII)Z -/
noncomputable def f965 (sc : Int32) (pc : Int32) (sa : Int32) (pa : Int32) (S : wS) (x1 : Int32) (x2 : Int32) (x3 : Int32) (x4 : Int32) : Option (Int32) :=
  if 0 ≤ x1 ∧ x1 < 8 then
    if 0 ≤ x3 ∧ x3 < 17 then
      if 0 ≤ x4 ∧ x4 < 17 then
        if 0 ≤ x2 ∧ x2 < 8 then
          if (S.1 (3, x1, x3) x4) ≤ (S.1 (3, x2, x3) x4) then
            if (S.1 (3, x1, x3) x4) = (S.1 (3, x2, x3) x4) then
              if (S.1 (5, x1, x3) x4) < (S.1 (5, x2, x3) x4) then
                some 1
              else
                some 0
            else
              some 0
          else
            some 1
        else none
      else none
    else none
  else none
theorem x965 {sc : Int32} {pc : Int32} {sa : Int32} {pa : Int32} {A : wK → Nat} {h : pm_H} {D : Nat} {S : wS} {x1 : Int32} {x2 : Int32} {x3 : Int32} {x4 : Int32} {r : Int32} (hP : Ct_P sc pc sa pa) (hA : wok A (Ct_d sc pc sa pa) h.1) (hD : 1 ≤ D) (e : f965 sc pc sa pa S x1 x2 x3 x4 = some r) : pm_call pm_prog D 965 [.ref (A (1, 0, 0)), .int x1, .int x2, .int x3, .int x4] (wput A (Ct_d sc pc sa pa) S h) = some (Outcome.returned (some (.int r)), (wput A (Ct_d sc pc sa pa) S h)) := by
  obtain ⟨D, rfl⟩ : ∃ D', D = D' + 1 := ⟨D - 1, by omega⟩
  have hD : 0 ≤ D := by omega
  simp only [f965] at e
  rw [c965 (Ct_c1 hP hA), b965_0]
  by_cases k1 : 0 ≤ x1 ∧ x1 < 8
  · rw [if_pos k1] at e
    by_cases k2 : 0 ≤ x3 ∧ x3 < 17
    · rw [if_pos k2] at e
      by_cases k3 : 0 ≤ x4 ∧ x4 < 17
      · rw [if_pos k3] at e
        by_cases k4 : 0 ≤ x2 ∧ x2 < 8
        · rw [if_pos k4] at e
          by_cases k5 : (S.1 (3, x1, x3) x4) ≤ (S.1 (3, x2, x3) x4)
          · rw [if_pos k5] at e
            by_cases k6 : (S.1 (3, x1, x3) x4) = (S.1 (3, x2, x3) x4)
            · rw [if_pos k6] at e
              by_cases k7 : (S.1 (5, x1, x3) x4) < (S.1 (5, x2, x3) x4)
              · rw [if_pos k7] at e
                have e := Option.some.inj e; subst e
                simp -implicitDefEqProofs (disch := first | assumption | exact Nat.le_of_ble_eq_true rfl | decide) only [b965_0, g965_1, b965_1, g965_2, b965_2, g965_3, b965_3, pe_aload0, pe_getfield, pe_iload1, pe_aaload, pe_iload3, pe_iload4, pe_iaload, pe_iload2, pe_icmp_gt, pe_icmp_ne, pe_icmp_ge, pe_goto_w, pe_sipush, pe_goto, pm_prog_1, pm_ob_some, Nat.reduceDiv, Nat.reduceMod, Nat.reduceMul, Nat.reduceAdd, Int.reduceToNat, pm_kill_i, pm_kill_r, pm_kill_n, pm_kill_j, pm_kill_l, pm_kill_d, pm_cats_nil, pm_cats_i, pm_cats_r, pm_cats_n, pm_cats_l, pm_cats_d, sz_1, sz_2, sl_1, sl_2, lc_0, lc_lt, lc_le, li_ne, va_rf, wr_m1, we_m1, pm_kill_w, Int32.reduceOfInt, Int64.reduceOfInt, Int32.reduceOfNat, Int32.reduceLT, Int32.reduceLE, Prod.mk.injEq, Nat.reduceEqDiff, reduceCtorEq, and_true, true_and, and_false, false_and, and_self, ite_true, ite_false, ↓reduceIte, not_true_eq_false, not_false_eq_true, pe_ri, pe_rz, pe_rc, Ct_g1_1 hP hA, Ct_g1_2 hP hA, Ct_r2 hP hA, Ct_r3 hP hA, Ct_r30 hP hA, Ct_r31 hP hA, Ct_r4 hP hA, Ct_r5 hP hA, eq_true k5, eq_true k6, eq_true k7]
              · rw [if_neg k7] at e
                have e := Option.some.inj e; subst e
                simp -implicitDefEqProofs (disch := first | assumption | exact Nat.le_of_ble_eq_true rfl | decide) only [b965_0, g965_1, b965_1, g965_2, b965_2, g965_3, b965_3, pe_aload0, pe_getfield, pe_iload1, pe_aaload, pe_iload3, pe_iload4, pe_iaload, pe_iload2, pe_icmp_gt, pe_icmp_ne, pe_icmp_ge, pe_goto_w, pe_sipush, pe_goto, pm_prog_1, pm_ob_some, Nat.reduceDiv, Nat.reduceMod, Nat.reduceMul, Nat.reduceAdd, Int.reduceToNat, pm_kill_i, pm_kill_r, pm_kill_n, pm_kill_j, pm_kill_l, pm_kill_d, pm_cats_nil, pm_cats_i, pm_cats_r, pm_cats_n, pm_cats_l, pm_cats_d, sz_1, sz_2, sl_1, sl_2, lc_0, lc_lt, lc_le, li_ne, va_rf, wr_m1, we_m1, pm_kill_w, Int32.reduceOfInt, Int64.reduceOfInt, Int32.reduceOfNat, Int32.reduceLT, Int32.reduceLE, Prod.mk.injEq, Nat.reduceEqDiff, reduceCtorEq, and_true, true_and, and_false, false_and, and_self, ite_true, ite_false, ↓reduceIte, not_true_eq_false, not_false_eq_true, pe_ri, pe_rz, pe_rc, Ct_g1_1 hP hA, Ct_g1_2 hP hA, Ct_r2 hP hA, Ct_r3 hP hA, Ct_r30 hP hA, Ct_r31 hP hA, Ct_r4 hP hA, Ct_r5 hP hA, eq_true k5, eq_true k6, eq_false k7]
            · rw [if_neg k6] at e
              have e := Option.some.inj e; subst e
              simp -implicitDefEqProofs (disch := first | assumption | exact Nat.le_of_ble_eq_true rfl | decide) only [b965_0, g965_1, b965_1, g965_2, b965_2, g965_3, b965_3, pe_aload0, pe_getfield, pe_iload1, pe_aaload, pe_iload3, pe_iload4, pe_iaload, pe_iload2, pe_icmp_gt, pe_icmp_ne, pe_icmp_ge, pe_goto_w, pe_sipush, pe_goto, pm_prog_1, pm_ob_some, Nat.reduceDiv, Nat.reduceMod, Nat.reduceMul, Nat.reduceAdd, Int.reduceToNat, pm_kill_i, pm_kill_r, pm_kill_n, pm_kill_j, pm_kill_l, pm_kill_d, pm_cats_nil, pm_cats_i, pm_cats_r, pm_cats_n, pm_cats_l, pm_cats_d, sz_1, sz_2, sl_1, sl_2, lc_0, lc_lt, lc_le, li_ne, va_rf, wr_m1, we_m1, pm_kill_w, Int32.reduceOfInt, Int64.reduceOfInt, Int32.reduceOfNat, Int32.reduceLT, Int32.reduceLE, Prod.mk.injEq, Nat.reduceEqDiff, reduceCtorEq, and_true, true_and, and_false, false_and, and_self, ite_true, ite_false, ↓reduceIte, not_true_eq_false, not_false_eq_true, pe_ri, pe_rz, pe_rc, Ct_g1_1 hP hA, Ct_g1_2 hP hA, Ct_r2 hP hA, Ct_r3 hP hA, Ct_r30 hP hA, Ct_r31 hP hA, Ct_r4 hP hA, Ct_r5 hP hA, eq_true k5, eq_false k6]
          · rw [if_neg k5] at e
            have e := Option.some.inj e; subst e
            simp -implicitDefEqProofs (disch := first | assumption | exact Nat.le_of_ble_eq_true rfl | decide) only [b965_0, g965_1, b965_1, g965_2, b965_2, g965_3, b965_3, pe_aload0, pe_getfield, pe_iload1, pe_aaload, pe_iload3, pe_iload4, pe_iaload, pe_iload2, pe_icmp_gt, pe_icmp_ne, pe_icmp_ge, pe_goto_w, pe_sipush, pe_goto, pm_prog_1, pm_ob_some, Nat.reduceDiv, Nat.reduceMod, Nat.reduceMul, Nat.reduceAdd, Int.reduceToNat, pm_kill_i, pm_kill_r, pm_kill_n, pm_kill_j, pm_kill_l, pm_kill_d, pm_cats_nil, pm_cats_i, pm_cats_r, pm_cats_n, pm_cats_l, pm_cats_d, sz_1, sz_2, sl_1, sl_2, lc_0, lc_lt, lc_le, li_ne, va_rf, wr_m1, we_m1, pm_kill_w, Int32.reduceOfInt, Int64.reduceOfInt, Int32.reduceOfNat, Int32.reduceLT, Int32.reduceLE, Prod.mk.injEq, Nat.reduceEqDiff, reduceCtorEq, and_true, true_and, and_false, false_and, and_self, ite_true, ite_false, ↓reduceIte, not_true_eq_false, not_false_eq_true, pe_ri, pe_rz, pe_rc, Ct_g1_1 hP hA, Ct_g1_2 hP hA, Ct_r2 hP hA, Ct_r3 hP hA, Ct_r30 hP hA, Ct_r31 hP hA, Ct_r4 hP hA, Ct_r5 hP hA, eq_false k5]
        · rw [if_neg k4] at e; cases e
      · rw [if_neg k3] at e; cases e
    · rw [if_neg k2] at e; cases e
  · rw [if_neg k1] at e; cases e
/-- TimberHouse$SheetTrees$CutSheet.begin(II)V -/
theorem c898 {d : Nat} {h : pm_H} {a : Nat} {x0 : Int32} {x1 : Int32} (hc : pm_cls h a = some 14) : pm_call pm_prog (d + 1) 898 [.ref a, .int x0, .int x1] h = pm_ev pm_prog (pm_call pm_prog d) 898 0 b898_0 [.ref a, .int x0, .int x1] [] h := pm_cal (pm_rc1 hc rfl) rfl rfl rfl
/-- TimberHouse$SheetTrees$CutSheet.begin(II)V -/
noncomputable def f898 (sc : Int32) (pc : Int32) (sa : Int32) (pa : Int32) (S : wS) (x1 : Int32) (x2 : Int32) : Option (wS) :=
  some (sz (sz (sz (sz (sz (sz (sz (sz S (15, 0, 0) 0 x1) (15, 0, 0) 1 x2) (15, 0, 0) 2 0) (15, 0, 0) 3 0) (15, 0, 0) 4 0) (15, 0, 0) 5 0) (15, 0, 0) 6 0) (15, 0, 0) 7 0)
theorem x898 {sc : Int32} {pc : Int32} {sa : Int32} {pa : Int32} {A : wK → Nat} {h : pm_H} {D : Nat} {S : wS} {x1 : Int32} {x2 : Int32} {r : wS} (hP : Ct_P sc pc sa pa) (hA : wok A (Ct_d sc pc sa pa) h.1) (hD : 1 ≤ D) (e : f898 sc pc sa pa S x1 x2 = some r) : pm_call pm_prog D 898 [.ref (A (15, 0, 0)), .int x1, .int x2] (wput A (Ct_d sc pc sa pa) S h) = some (Outcome.returned none, (wput A (Ct_d sc pc sa pa) r h)) := by
  obtain ⟨D, rfl⟩ : ∃ D', D = D' + 1 := ⟨D - 1, by omega⟩
  have hD : 0 ≤ D := by omega
  simp only [f898] at e
  rw [c898 (Ct_c15 hP hA), b898_0]
  have e := Option.some.inj e; subst e
  simp -implicitDefEqProofs (disch := first | assumption | exact Nat.le_of_ble_eq_true rfl | decide) only [b898_0, pe_aload0, pe_iload1, pe_putfield, pe_iload2, pe_sipush, pe_return, pm_prog_1, pm_ob_some, Nat.reduceDiv, Nat.reduceMod, Nat.reduceMul, Nat.reduceAdd, Int.reduceToNat, pm_kill_i, pm_kill_r, pm_kill_n, pm_kill_j, pm_kill_l, pm_kill_d, pm_cats_nil, pm_cats_i, pm_cats_r, pm_cats_n, pm_cats_l, pm_cats_d, sz_1, sz_2, sl_1, sl_2, lc_0, lc_lt, lc_le, li_ne, va_rf, wr_m1, we_m1, pm_kill_w, Int32.reduceOfInt, Int64.reduceOfInt, Int32.reduceOfNat, Int32.reduceLT, Int32.reduceLE, Prod.mk.injEq, Nat.reduceEqDiff, reduceCtorEq, and_true, true_and, and_false, false_and, and_self, ite_true, ite_false, ↓reduceIte, not_true_eq_false, not_false_eq_true, pe_ri, pe_rz, pe_rc, Ct_p15_0 hP hA, Ct_p15_1 hP hA, Ct_p15_2 hP hA, Ct_p15_3 hP hA, Ct_p15_4 hP hA, Ct_p15_5 hP hA, Ct_p15_6 hP hA, Ct_p15_7 hP hA]
/-- TimberHouse$SheetTrees$CutSheet.put([BIIIII)V -/
theorem c900 {d : Nat} {h : pm_H} {r0 : Nat} {x1 : Int32} {x2 : Int32} {x3 : Int32} {x4 : Int32} {x5 : Int32} : pm_call pm_prog (d + 1) 900 [.ref r0, .int x1, .int x2, .int x3, .int x4, .int x5] h = pm_ev pm_prog (pm_call pm_prog d) 900 0 b900_0 [.ref r0, .int x1, .int x2, .int x3, .int x4, .int x5] [] h := pm_cal (pm_rc0 rfl) rfl rfl rfl
/-- TimberHouse$SheetTrees$CutSheet.put([BIIIII)V -/
noncomputable def f900 (sc : Int32) (pc : Int32) (sa : Int32) (pa : Int32) (S : wS) (x1 : Int32) (x2 : Int32) (x3 : Int32) (x4 : Int32) (x5 : Int32) : Option (wS) :=
  if 0 ≤ x1 ∧ x1 < 1024 then
    if 0 ≤ (x1 + 1) ∧ (x1 + 1) < 1024 then
      if 0 ≤ (x1 + 2) ∧ (x1 + 2) < 1024 then
        if 0 ≤ (x1 + 3) ∧ (x1 + 3) < 1024 then
          some (sz (sz (sz (sz S (18, 0, 0) x1 (vp_nar .byte (Int8.toInt32 (Int32.toInt8 x2)))) (18, 0, 0) (x1 + 1) (vp_nar .byte (Int8.toInt32 (Int32.toInt8 x3)))) (18, 0, 0) (x1 + 2) (vp_nar .byte (Int8.toInt32 (Int32.toInt8 x4)))) (18, 0, 0) (x1 + 3) (vp_nar .byte (Int8.toInt32 (Int32.toInt8 x5))))
        else none
      else none
    else none
  else none
theorem x900 {sc : Int32} {pc : Int32} {sa : Int32} {pa : Int32} {A : wK → Nat} {h : pm_H} {D : Nat} {S : wS} {x1 : Int32} {x2 : Int32} {x3 : Int32} {x4 : Int32} {x5 : Int32} {r : wS} (hP : Ct_P sc pc sa pa) (hA : wok A (Ct_d sc pc sa pa) h.1) (hD : 1 ≤ D) (e : f900 sc pc sa pa S x1 x2 x3 x4 x5 = some r) : pm_call pm_prog D 900 [.ref (A (18, 0, 0)), .int x1, .int x2, .int x3, .int x4, .int x5] (wput A (Ct_d sc pc sa pa) S h) = some (Outcome.returned none, (wput A (Ct_d sc pc sa pa) r h)) := by
  obtain ⟨D, rfl⟩ : ∃ D', D = D' + 1 := ⟨D - 1, by omega⟩
  have hD : 0 ≤ D := by omega
  simp only [f900] at e
  rw [c900, b900_0]
  by_cases k1 : 0 ≤ x1 ∧ x1 < 1024
  · rw [if_pos k1] at e
    by_cases k2 : 0 ≤ (x1 + 1) ∧ (x1 + 1) < 1024
    · rw [if_pos k2] at e
      by_cases k3 : 0 ≤ (x1 + 2) ∧ (x1 + 2) < 1024
      · rw [if_pos k3] at e
        by_cases k4 : 0 ≤ (x1 + 3) ∧ (x1 + 3) < 1024
        · rw [if_pos k4] at e
          have e := Option.some.inj e; subst e
          simp -implicitDefEqProofs (disch := first | assumption | exact Nat.le_of_ble_eq_true rfl | decide) only [b900_0, pe_aload0, pe_iload1, pe_iload2, pe_i2b, pe_bastore, pe_sipush, pe_iadd, pe_iload3, pe_iload4, pe_iload5, pe_return, pm_prog_1, pm_ob_some, Nat.reduceDiv, Nat.reduceMod, Nat.reduceMul, Nat.reduceAdd, Int.reduceToNat, pm_kill_i, pm_kill_r, pm_kill_n, pm_kill_j, pm_kill_l, pm_kill_d, pm_cats_nil, pm_cats_i, pm_cats_r, pm_cats_n, pm_cats_l, pm_cats_d, sz_1, sz_2, sl_1, sl_2, lc_0, lc_lt, lc_le, li_ne, va_rf, wr_m1, we_m1, pm_kill_w, Int32.reduceOfInt, Int64.reduceOfInt, Int32.reduceOfNat, Int32.reduceLT, Int32.reduceLE, Prod.mk.injEq, Nat.reduceEqDiff, reduceCtorEq, and_true, true_and, and_false, false_and, and_self, ite_true, ite_false, ↓reduceIte, not_true_eq_false, not_false_eq_true, pe_ri, pe_rz, pe_rc, Ct_w18 hP hA]
        · rw [if_neg k4] at e; cases e
      · rw [if_neg k3] at e; cases e
    · rw [if_neg k2] at e; cases e
  · rw [if_neg k1] at e; cases e
/-- TimberHouse$SheetTrees$CutSheet.rest(IIII)V -/
theorem c899 {d : Nat} {h : pm_H} {a : Nat} {x0 : Int32} {x1 : Int32} {x2 : Int32} {x3 : Int32} (hc : pm_cls h a = some 14) : pm_call pm_prog (d + 1) 899 [.ref a, .int x0, .int x1, .int x2, .int x3] h = pm_ev pm_prog (pm_call pm_prog d) 899 0 b899_0 [.ref a, .int x0, .int x1, .int x2, .int x3] [] h := pm_cal (pm_rc1 hc rfl) rfl rfl rfl
/-- TimberHouse$SheetTrees$CutSheet.rest(IIII)V -/
noncomputable def f899 (sc : Int32) (pc : Int32) (sa : Int32) (pa : Int32) (S : wS) (x1 : Int32) (x2 : Int32) (x3 : Int32) (x4 : Int32) : Option (wS) :=
  (f900 sc pc sa pa S (4 * (S.1 (15, 0, 0) 3)) x1 x2 x3 x4).bind fun S1 =>
  some (sz S1 (15, 0, 0) 3 ((S1.1 (15, 0, 0) 3) + 1))
theorem x899 {sc : Int32} {pc : Int32} {sa : Int32} {pa : Int32} {A : wK → Nat} {h : pm_H} {D : Nat} {S : wS} {x1 : Int32} {x2 : Int32} {x3 : Int32} {x4 : Int32} {r : wS} (hP : Ct_P sc pc sa pa) (hA : wok A (Ct_d sc pc sa pa) h.1) (hD : 2 ≤ D) (e : f899 sc pc sa pa S x1 x2 x3 x4 = some r) : pm_call pm_prog D 899 [.ref (A (15, 0, 0)), .int x1, .int x2, .int x3, .int x4] (wput A (Ct_d sc pc sa pa) S h) = some (Outcome.returned none, (wput A (Ct_d sc pc sa pa) r h)) := by
  obtain ⟨D, rfl⟩ : ∃ D', D = D' + 1 := ⟨D - 1, by omega⟩
  have hD : 1 ≤ D := by omega
  simp only [f899] at e
  rw [c899 (Ct_c15 hP hA), b899_0]
  obtain ⟨S1, k1, e⟩ := Option.bind_eq_some_iff.mp e
  try dsimp only at e
  have z1 := x900 (D := D) (h := h) hP hA (by omega) k1
  have e := Option.some.inj e; subst e
  simp -implicitDefEqProofs (disch := first | assumption | exact Nat.le_of_ble_eq_true rfl | decide) only [b899_0, pe_aload0, pe_getfield, pe_sipush, pe_imul, pe_iload1, pe_iload2, pe_iload3, pe_iload4, pe_call6, pm_af_ret, pm_af_void, pm_af_thr, pe_dup_i, pe_dup_r, pe_iadd, pe_putfield, pe_return, pm_prog_1, pm_ob_some, Nat.reduceDiv, Nat.reduceMod, Nat.reduceMul, Nat.reduceAdd, Int.reduceToNat, pm_kill_i, pm_kill_r, pm_kill_n, pm_kill_j, pm_kill_l, pm_kill_d, pm_cats_nil, pm_cats_i, pm_cats_r, pm_cats_n, pm_cats_l, pm_cats_d, sz_1, sz_2, sl_1, sl_2, lc_0, lc_lt, lc_le, li_ne, va_rf, wr_m1, we_m1, pm_kill_w, Int32.reduceOfInt, Int64.reduceOfInt, Int32.reduceOfNat, Int32.reduceLT, Int32.reduceLE, Prod.mk.injEq, Nat.reduceEqDiff, reduceCtorEq, and_true, true_and, and_false, false_and, and_self, ite_true, ite_false, ↓reduceIte, not_true_eq_false, not_false_eq_true, pe_ri, pe_rz, pe_rc, Ct_g15_10 hP hA, Ct_g15_3 hP hA, Ct_p15_3 hP hA, z1]
/-- TimberHouse$SheetTrees$CutSheet.put([BIIIII)V -/
noncomputable def f900v1 (sc : Int32) (pc : Int32) (sa : Int32) (pa : Int32) (S : wS) (x1 : Int32) (x2 : Int32) (x3 : Int32) (x4 : Int32) (x5 : Int32) : Option (wS) :=
  if 0 ≤ x1 ∧ x1 < 1280 then
    if 0 ≤ (x1 + 1) ∧ (x1 + 1) < 1280 then
      if 0 ≤ (x1 + 2) ∧ (x1 + 2) < 1280 then
        if 0 ≤ (x1 + 3) ∧ (x1 + 3) < 1280 then
          some (sz (sz (sz (sz S (17, 0, 0) x1 (vp_nar .byte (Int8.toInt32 (Int32.toInt8 x2)))) (17, 0, 0) (x1 + 1) (vp_nar .byte (Int8.toInt32 (Int32.toInt8 x3)))) (17, 0, 0) (x1 + 2) (vp_nar .byte (Int8.toInt32 (Int32.toInt8 x4)))) (17, 0, 0) (x1 + 3) (vp_nar .byte (Int8.toInt32 (Int32.toInt8 x5))))
        else none
      else none
    else none
  else none
theorem x900v1 {sc : Int32} {pc : Int32} {sa : Int32} {pa : Int32} {A : wK → Nat} {h : pm_H} {D : Nat} {S : wS} {x1 : Int32} {x2 : Int32} {x3 : Int32} {x4 : Int32} {x5 : Int32} {r : wS} (hP : Ct_P sc pc sa pa) (hA : wok A (Ct_d sc pc sa pa) h.1) (hD : 1 ≤ D) (e : f900v1 sc pc sa pa S x1 x2 x3 x4 x5 = some r) : pm_call pm_prog D 900 [.ref (A (17, 0, 0)), .int x1, .int x2, .int x3, .int x4, .int x5] (wput A (Ct_d sc pc sa pa) S h) = some (Outcome.returned none, (wput A (Ct_d sc pc sa pa) r h)) := by
  obtain ⟨D, rfl⟩ : ∃ D', D = D' + 1 := ⟨D - 1, by omega⟩
  have hD : 0 ≤ D := by omega
  simp only [f900v1] at e
  rw [c900, b900_0]
  by_cases k1 : 0 ≤ x1 ∧ x1 < 1280
  · rw [if_pos k1] at e
    by_cases k2 : 0 ≤ (x1 + 1) ∧ (x1 + 1) < 1280
    · rw [if_pos k2] at e
      by_cases k3 : 0 ≤ (x1 + 2) ∧ (x1 + 2) < 1280
      · rw [if_pos k3] at e
        by_cases k4 : 0 ≤ (x1 + 3) ∧ (x1 + 3) < 1280
        · rw [if_pos k4] at e
          have e := Option.some.inj e; subst e
          simp -implicitDefEqProofs (disch := first | assumption | exact Nat.le_of_ble_eq_true rfl | decide) only [b900_0, pe_aload0, pe_iload1, pe_iload2, pe_i2b, pe_bastore, pe_sipush, pe_iadd, pe_iload3, pe_iload4, pe_iload5, pe_return, pm_prog_1, pm_ob_some, Nat.reduceDiv, Nat.reduceMod, Nat.reduceMul, Nat.reduceAdd, Int.reduceToNat, pm_kill_i, pm_kill_r, pm_kill_n, pm_kill_j, pm_kill_l, pm_kill_d, pm_cats_nil, pm_cats_i, pm_cats_r, pm_cats_n, pm_cats_l, pm_cats_d, sz_1, sz_2, sl_1, sl_2, lc_0, lc_lt, lc_le, li_ne, va_rf, wr_m1, we_m1, pm_kill_w, Int32.reduceOfInt, Int64.reduceOfInt, Int32.reduceOfNat, Int32.reduceLT, Int32.reduceLE, Prod.mk.injEq, Nat.reduceEqDiff, reduceCtorEq, and_true, true_and, and_false, false_and, and_self, ite_true, ite_false, ↓reduceIte, not_true_eq_false, not_false_eq_true, pe_ri, pe_rz, pe_rc, Ct_w17 hP hA]
        · rw [if_neg k4] at e; cases e
      · rw [if_neg k3] at e; cases e
    · rw [if_neg k2] at e; cases e
  · rw [if_neg k1] at e; cases e
/-- TimberHouse$SheetTrees$CutSheet.part(IIIII)V -/
theorem c901 {d : Nat} {h : pm_H} {a : Nat} {x0 : Int32} {x1 : Int32} {x2 : Int32} {x3 : Int32} {x4 : Int32} (hc : pm_cls h a = some 14) : pm_call pm_prog (d + 1) 901 [.ref a, .int x0, .int x1, .int x2, .int x3, .int x4] h = pm_ev pm_prog (pm_call pm_prog d) 901 0 b901_0 [.ref a, .int x0, .int x1, .int x2, .int x3, .int x4] [] h := pm_cal (pm_rc1 hc rfl) rfl rfl rfl
/-- TimberHouse$SheetTrees$CutSheet.part(IIIII)V -/
noncomputable def f901 (sc : Int32) (pc : Int32) (sa : Int32) (pa : Int32) (S : wS) (x1 : Int32) (x2 : Int32) (x3 : Int32) (x4 : Int32) (x5 : Int32) : Option (wS) :=
  if 0 ≤ (5 * (S.1 (15, 0, 0) 2)) ∧ (5 * (S.1 (15, 0, 0) 2)) < 1280 then
    (f900v1 sc pc sa pa (sz S (17, 0, 0) (5 * (S.1 (15, 0, 0) 2)) (vp_nar .byte (Int8.toInt32 (Int32.toInt8 x1)))) ((5 * (S.1 (15, 0, 0) 2)) + 1) x2 x3 x4 x5).bind fun S1 =>
    some (sz (sz S1 (15, 0, 0) 2 ((S1.1 (15, 0, 0) 2) + 1)) (15, 0, 0) 5 ((S1.1 (15, 0, 0) 5) + (x4 * x5)))
  else none
theorem x901 {sc : Int32} {pc : Int32} {sa : Int32} {pa : Int32} {A : wK → Nat} {h : pm_H} {D : Nat} {S : wS} {x1 : Int32} {x2 : Int32} {x3 : Int32} {x4 : Int32} {x5 : Int32} {r : wS} (hP : Ct_P sc pc sa pa) (hA : wok A (Ct_d sc pc sa pa) h.1) (hD : 2 ≤ D) (e : f901 sc pc sa pa S x1 x2 x3 x4 x5 = some r) : pm_call pm_prog D 901 [.ref (A (15, 0, 0)), .int x1, .int x2, .int x3, .int x4, .int x5] (wput A (Ct_d sc pc sa pa) S h) = some (Outcome.returned none, (wput A (Ct_d sc pc sa pa) r h)) := by
  obtain ⟨D, rfl⟩ : ∃ D', D = D' + 1 := ⟨D - 1, by omega⟩
  have hD : 1 ≤ D := by omega
  simp only [f901] at e
  rw [c901 (Ct_c15 hP hA), b901_0]
  by_cases k1 : 0 ≤ (5 * (S.1 (15, 0, 0) 2)) ∧ (5 * (S.1 (15, 0, 0) 2)) < 1280
  · rw [if_pos k1] at e
    obtain ⟨S1, k2, e⟩ := Option.bind_eq_some_iff.mp e
    try dsimp only at e
    have z2 := x900v1 (D := D) (h := h) hP hA (by omega) k2
    have e := Option.some.inj e; subst e
    simp -implicitDefEqProofs (disch := first | assumption | exact Nat.le_of_ble_eq_true rfl | decide) only [b901_0, pe_aload0, pe_getfield, pe_sipush, pe_imul, pe_iload1, pe_i2b, pe_bastore, pe_iadd, pe_iload2, pe_iload3, pe_iload4, pe_iload5, pe_call6, pm_af_ret, pm_af_void, pm_af_thr, pe_dup_i, pe_dup_r, pe_putfield, pe_return, pm_prog_1, pm_ob_some, Nat.reduceDiv, Nat.reduceMod, Nat.reduceMul, Nat.reduceAdd, Int.reduceToNat, pm_kill_i, pm_kill_r, pm_kill_n, pm_kill_j, pm_kill_l, pm_kill_d, pm_cats_nil, pm_cats_i, pm_cats_r, pm_cats_n, pm_cats_l, pm_cats_d, sz_1, sz_2, sl_1, sl_2, lc_0, lc_lt, lc_le, li_ne, va_rf, wr_m1, we_m1, pm_kill_w, Int32.reduceOfInt, Int64.reduceOfInt, Int32.reduceOfNat, Int32.reduceLT, Int32.reduceLE, Prod.mk.injEq, Nat.reduceEqDiff, reduceCtorEq, and_true, true_and, and_false, false_and, and_self, ite_true, ite_false, ↓reduceIte, not_true_eq_false, not_false_eq_true, pe_ri, pe_rz, pe_rc, Ct_g15_2 hP hA, Ct_g15_5 hP hA, Ct_g15_9 hP hA, Ct_p15_2 hP hA, Ct_p15_5 hP hA, Ct_w17 hP hA, z2]
  · rw [if_neg k1] at e; cases e
/-- TimberHouse$SheetTrees.walk(LTimberHouse$SheetTrees$CutSheet;IIIII)V -/
theorem c852 {d : Nat} {h : pm_H} {a : Nat} {r0 : Nat} {x1 : Int32} {x2 : Int32} {x3 : Int32} {x4 : Int32} {x5 : Int32} (hc : pm_cls h a = some 13) : pm_call pm_prog (d + 1) 852 [.ref a, .ref r0, .int x1, .int x2, .int x3, .int x4, .int x5] h = pm_ev pm_prog (pm_call pm_prog d) 852 0 b852_0 [.ref a, .ref r0, .int x1, .int x2, .int x3, .int x4, .int x5, pm_junk, pm_junk, pm_junk, pm_junk] [] h := pm_cal (pm_rc1 hc rfl) rfl rfl rfl
theorem g852_1 {cl : pm_C} {ls st : List Value} {h : pm_H} : pm_go pm_prog cl 852 1 ls st h = pm_ev pm_prog cl 852 1 b852_1 ls st h := pm_go_eq pm_prog cl 852 1 ls st h
theorem g852_2 {cl : pm_C} {ls st : List Value} {h : pm_H} : pm_go pm_prog cl 852 2 ls st h = pm_ev pm_prog cl 852 2 b852_2 ls st h := pm_go_eq pm_prog cl 852 2 ls st h
theorem g852_3 {cl : pm_C} {ls st : List Value} {h : pm_H} : pm_go pm_prog cl 852 3 ls st h = pm_ev pm_prog cl 852 3 b852_3 ls st h := pm_go_eq pm_prog cl 852 3 ls st h
theorem g852_4 {cl : pm_C} {ls st : List Value} {h : pm_H} : pm_go pm_prog cl 852 4 ls st h = pm_ev pm_prog cl 852 4 b852_4 ls st h := pm_go_eq pm_prog cl 852 4 ls st h
theorem g852_5 {cl : pm_C} {ls st : List Value} {h : pm_H} : pm_go pm_prog cl 852 5 ls st h = pm_ev pm_prog cl 852 5 b852_5 ls st h := pm_go_eq pm_prog cl 852 5 ls st h
theorem g852_6 {cl : pm_C} {ls st : List Value} {h : pm_H} : pm_go pm_prog cl 852 6 ls st h = pm_ev pm_prog cl 852 6 b852_6 ls st h := pm_go_eq pm_prog cl 852 6 ls st h
theorem g852_7 {cl : pm_C} {ls st : List Value} {h : pm_H} : pm_go pm_prog cl 852 7 ls st h = pm_ev pm_prog cl 852 7 b852_7 ls st h := pm_go_eq pm_prog cl 852 7 ls st h
theorem g852_8 {cl : pm_C} {ls st : List Value} {h : pm_H} : pm_go pm_prog cl 852 8 ls st h = pm_ev pm_prog cl 852 8 b852_8 ls st h := pm_go_eq pm_prog cl 852 8 ls st h
theorem g852_9 {cl : pm_C} {ls st : List Value} {h : pm_H} : pm_go pm_prog cl 852 9 ls st h = pm_ev pm_prog cl 852 9 b852_9 ls st h := pm_go_eq pm_prog cl 852 9 ls st h
theorem g852_10 {cl : pm_C} {ls st : List Value} {h : pm_H} : pm_go pm_prog cl 852 10 ls st h = pm_ev pm_prog cl 852 10 b852_10 ls st h := pm_go_eq pm_prog cl 852 10 ls st h
theorem g852_11 {cl : pm_C} {ls st : List Value} {h : pm_H} : pm_go pm_prog cl 852 11 ls st h = pm_ev pm_prog cl 852 11 b852_11 ls st h := pm_go_eq pm_prog cl 852 11 ls st h
theorem g852_12 {cl : pm_C} {ls st : List Value} {h : pm_H} : pm_go pm_prog cl 852 12 ls st h = pm_ev pm_prog cl 852 12 b852_12 ls st h := pm_go_eq pm_prog cl 852 12 ls st h
theorem g852_13 {cl : pm_C} {ls st : List Value} {h : pm_H} : pm_go pm_prog cl 852 13 ls st h = pm_ev pm_prog cl 852 13 b852_13 ls st h := pm_go_eq pm_prog cl 852 13 ls st h
def FOK852 (sc : Int32) (pc : Int32) (sa : Int32) (pa : Int32) (A : wK → Nat) (h : pm_H) (E : Nat) (F : wS → Int32 → Int32 → Int32 → Int32 → Int32 → Option (wS)) : Prop := ∀ (D : Nat) (S : wS) (x2 : Int32) (x3 : Int32) (x4 : Int32) (x5 : Int32) (x6 : Int32) (r : wS), E ≤ D → F S x2 x3 x4 x5 x6 = some r → pm_call pm_prog D 852 [.ref (A (0, 0, 0)), .ref (A (15, 0, 0)), .int x2, .int x3, .int x4, .int x5, .int x6] (wput A (Ct_d sc pc sa pa) S h) = some (Outcome.returned none, (wput A (Ct_d sc pc sa pa) r h))
noncomputable def f852_12 (sc : Int32) (pc : Int32) (sa : Int32) (pa : Int32) (F : wS → Int32 → Int32 → Int32 → Int32 → Int32 → Option (wS)) (S : wS) (x2 : Int32) (x3 : Int32) (x4 : Int32) (x5 : Int32) (x6 : Int32) (x9 : Int32) (x10 : Int32) : Option (wS) :=
  if x9 = 0 then
    if x10 < x6 then
      (F S x2 x3 (x4 + x10) x5 (x6 - x10)).bind fun S4 =>
      some S4
    else
      some S
  else
    some S
noncomputable def f852_11 (sc : Int32) (pc : Int32) (sa : Int32) (pa : Int32) (F : wS → Int32 → Int32 → Int32 → Int32 → Int32 → Option (wS)) (S : wS) (x2 : Int32) (x3 : Int32) (x4 : Int32) (x5 : Int32) (x6 : Int32) (x9 : Int32) (x10 : Int32) (y2 : Int32) (y3 : Int32) (y4 : Int32) (y5 : Int32) (y6 : Int32) : Option (wS) :=
  (F S y2 y3 y4 y5 y6).bind fun S3 =>
  if x9 = 0 then
    f852_12 sc pc sa pa F S3 x2 x3 x4 x5 x6 x9 x10
  else
    if x10 < x5 then
      (F S3 x2 (x3 + x10) x4 (x5 - x10) x6).bind fun S5 =>
      some S5
    else
      f852_12 sc pc sa pa F S3 x2 x3 x4 x5 x6 x9 x10
noncomputable def f852_9 (sc : Int32) (pc : Int32) (sa : Int32) (pa : Int32) (F : wS → Int32 → Int32 → Int32 → Int32 → Int32 → Option (wS)) (S : wS) (x2 : Int32) (x3 : Int32) (x4 : Int32) (x5 : Int32) (x6 : Int32) (x8 : Int32) (x9 : Int32) (x10 : Int32) (y2 : Int32) (y3 : Int32) (y4 : Int32) (y5 : Int32) : Option (wS) :=
  if x9 = 0 then
    f852_11 sc pc sa pa F S x2 x3 x4 x5 x6 x9 x10 y2 y3 y4 y5 x8
  else
    f852_11 sc pc sa pa F S x2 x3 x4 x5 x6 x9 x10 y2 y3 y4 y5 x6
noncomputable def f852_7 (sc : Int32) (pc : Int32) (sa : Int32) (pa : Int32) (F : wS → Int32 → Int32 → Int32 → Int32 → Int32 → Option (wS)) (S : wS) (x2 : Int32) (x3 : Int32) (x4 : Int32) (x5 : Int32) (x6 : Int32) (x8 : Int32) (x9 : Int32) (x10 : Int32) (y1 : Int32) (y2 : Int32) : Option (wS) :=
  if x9 = 0 then
    f852_9 sc pc sa pa F (sz S (15, 0, 0) 6 (y1 + y2)) x2 x3 x4 x5 x6 x8 x9 x10 ((x2 ^^^ 1) - 2) x3 x4 x5
  else
    f852_9 sc pc sa pa F (sz S (15, 0, 0) 6 (y1 + y2)) x2 x3 x4 x5 x6 x8 x9 x10 ((x2 ^^^ 1) - 2) x3 x4 x8
noncomputable def f852_5 (sc : Int32) (pc : Int32) (sa : Int32) (pa : Int32) (F : wS → Int32 → Int32 → Int32 → Int32 → Int32 → Option (wS)) (S : wS) (x2 : Int32) (x3 : Int32) (x4 : Int32) (x5 : Int32) (x6 : Int32) (x8 : Int32) (y0 : Int32) : Option (wS) :=
  if y0 = 0 then
    f852_7 sc pc sa pa F (sz S (15, 0, 0) 4 ((S.1 (15, 0, 0) 4) + 1)) x2 x3 x4 x5 x6 x8 y0 (x8 + (S.1 (1, 0, 0) 0)) (S.1 (15, 0, 0) 6) x5
  else
    f852_7 sc pc sa pa F (sz S (15, 0, 0) 4 ((S.1 (15, 0, 0) 4) + 1)) x2 x3 x4 x5 x6 x8 y0 (x8 + (S.1 (1, 0, 0) 0)) (S.1 (15, 0, 0) 6) x6
/-- TimberHouse$SheetTrees.walk(LTimberHouse$SheetTrees$CutSheet;IIIII)V -/
noncomputable def f852 (sc : Int32) (pc : Int32) (sa : Int32) (pa : Int32) (F : wS → Int32 → Int32 → Int32 → Int32 → Int32 → Option (wS)) (S : wS) (x2 : Int32) (x3 : Int32) (x4 : Int32) (x5 : Int32) (x6 : Int32) : Option (wS) :=
  if 0 ≤ x2 ∧ x2 < 8 then
    if 0 ≤ x5 ∧ x5 < 17 then
      if 0 ≤ x6 ∧ x6 < 17 then
        if 0 ≤ (S.1 (15, 0, 0) 7) ∧ (S.1 (15, 0, 0) 7) < 512 then
          if (S.1 (7, x2, x5) x6) = 0 then
            if x5 < (S.1 (0, 0, 0) 2) then
              some (sz (sz S (15, 0, 0) 7 ((S.1 (15, 0, 0) 7) + 1)) (16, 0, 0) (S.1 (15, 0, 0) 7) (vp_nar .byte (Int8.toInt32 (Int32.toInt8 (S.1 (7, x2, x5) x6)))))
            else
              if x6 < (S.1 (0, 0, 0) 2) then
                some (sz (sz S (15, 0, 0) 7 ((S.1 (15, 0, 0) 7) + 1)) (16, 0, 0) (S.1 (15, 0, 0) 7) (vp_nar .byte (Int8.toInt32 (Int32.toInt8 (S.1 (7, x2, x5) x6)))))
              else
                (f899 sc pc sa pa (sz (sz S (15, 0, 0) 7 ((S.1 (15, 0, 0) 7) + 1)) (16, 0, 0) (S.1 (15, 0, 0) 7) (vp_nar .byte (Int8.toInt32 (Int32.toInt8 (S.1 (7, x2, x5) x6))))) x3 x4 x5 x6).bind fun S1 =>
                some S1
          else
            if (S.1 (7, x2, x5) x6) < 100 then
              if 0 ≤ ((S.1 (7, x2, x5) x6) - 1) ∧ ((S.1 (7, x2, x5) x6) - 1) < 8 then
                if (S.1 (14, 0, 0) ((S.1 (7, x2, x5) x6) - 1)) ≤ 0 then
                  some (sz (sz S (15, 0, 0) 7 ((S.1 (15, 0, 0) 7) + 1)) (16, 0, 0) (S.1 (15, 0, 0) 7) (vp_nar .byte (Int8.toInt32 (Int32.toInt8 (S.1 (7, x2, x5) x6)))))
                else
                  (f901 sc pc sa pa (sz (sz (sz S (15, 0, 0) 7 ((S.1 (15, 0, 0) 7) + 1)) (16, 0, 0) (S.1 (15, 0, 0) 7) (vp_nar .byte (Int8.toInt32 (Int32.toInt8 (S.1 (7, x2, x5) x6))))) (14, 0, 0) ((S.1 (7, x2, x5) x6) - 1) ((S.1 (14, 0, 0) ((S.1 (7, x2, x5) x6) - 1)) - 1)) ((S.1 (7, x2, x5) x6) - 1) x3 x4 x5 x6).bind fun S2 =>
                  some S2
              else none
            else
              if (x2 &&& 1) = 0 then
                f852_5 sc pc sa pa F (sz (sz S (15, 0, 0) 7 ((S.1 (15, 0, 0) 7) + 1)) (16, 0, 0) (S.1 (15, 0, 0) 7) (vp_nar .byte (Int8.toInt32 (Int32.toInt8 (S.1 (7, x2, x5) x6))))) x2 x3 x4 x5 x6 ((S.1 (7, x2, x5) x6) - 100) 1
              else
                f852_5 sc pc sa pa F (sz (sz S (15, 0, 0) 7 ((S.1 (15, 0, 0) 7) + 1)) (16, 0, 0) (S.1 (15, 0, 0) 7) (vp_nar .byte (Int8.toInt32 (Int32.toInt8 (S.1 (7, x2, x5) x6))))) x2 x3 x4 x5 x6 ((S.1 (7, x2, x5) x6) - 100) 0
        else none
      else none
    else none
  else none
theorem y852_12 {sc : Int32} {pc : Int32} {sa : Int32} {pa : Int32} {A : wK → Nat} {h : pm_H} {D : Nat} {F : wS → Int32 → Int32 → Int32 → Int32 → Int32 → Option (wS)} {E : Nat} {S : wS} {x2 : Int32} {x3 : Int32} {x4 : Int32} {x5 : Int32} {x6 : Int32} {x9 : Int32} {x10 : Int32} {r : wS} (hP : Ct_P sc pc sa pa) (hA : wok A (Ct_d sc pc sa pa) h.1) (hF : FOK852 sc pc sa pa A h E F) (hE : E + 0 ≤ D) (hD : 2 ≤ D) (e : f852_12 sc pc sa pa F S x2 x3 x4 x5 x6 x9 x10 = some r) : ∀ q7 q8 : Value, pm_go pm_prog (pm_call pm_prog D) 852 12 [.ref (A (0, 0, 0)), .ref (A (15, 0, 0)), .int x2, .int x3, .int x4, .int x5, .int x6, q7, q8, .int x9, .int x10] [] (wput A (Ct_d sc pc sa pa) S h) = some (Outcome.returned none, (wput A (Ct_d sc pc sa pa) r h)) := by
  intro q7 q8
  simp only [f852_12] at e
  rw [g852_12, b852_12]
  by_cases k1 : x9 = 0
  · rw [if_pos k1] at e
    by_cases k2 : x10 < x6
    · rw [if_pos k2] at e
      obtain ⟨S4, k3, e⟩ := Option.bind_eq_some_iff.mp e
      try dsimp only at e
      have z3 := hF D _ _ _ _ _ _ _ (by omega) k3
      have e := Option.some.inj e; subst e
      simp -implicitDefEqProofs (disch := first | assumption | exact Nat.le_of_ble_eq_true rfl | decide) only [b852_0, g852_1, b852_1, g852_2, b852_2, g852_3, b852_3, g852_4, b852_4, g852_6, b852_6, g852_8, b852_8, g852_10, b852_10, g852_13, b852_13, pe_aload0, pe_getfield, pe_iload2, pe_aaload, pe_iload5, pe_iload6, pe_baload, pe_istore7, pe_aload1, pe_dup_i, pe_dup_r, pe_dup_x1_ii, pe_dup_x1_ir, pe_dup_x1_ri, pe_dup_x1_rr, pe_sipush, pe_iadd, pe_putfield, pe_iload7, pe_i2b, pe_bastore, pe_if_ne, pe_icmp_lt, pe_iload3, pe_iload4, pe_call5, pm_af_ret, pm_af_void, pm_af_thr, pe_goto, pe_icmp_ge, pe_isub, pe_istore8, pe_iload8, pe_iaload, pe_if_le, pe_dup2_ii, pe_dup2_ir, pe_dup2_l, pe_iastore, pe_call6, pe_goto_w, pe_iand, pe_istore9, pe_istore10, pe_iload9, pe_if_eq, pe_ixor, pe_call7, pe_iload10, pe_return, pm_prog_1, pm_ob_some, Nat.reduceDiv, Nat.reduceMod, Nat.reduceMul, Nat.reduceAdd, Int.reduceToNat, pm_kill_i, pm_kill_r, pm_kill_n, pm_kill_j, pm_kill_l, pm_kill_d, pm_cats_nil, pm_cats_i, pm_cats_r, pm_cats_n, pm_cats_l, pm_cats_d, sz_1, sz_2, sl_1, sl_2, lc_0, lc_lt, lc_le, li_ne, va_rf, wr_m1, we_m1, pm_kill_w, Int32.reduceOfInt, Int64.reduceOfInt, Int32.reduceOfNat, Int32.reduceLT, Int32.reduceLE, Prod.mk.injEq, Nat.reduceEqDiff, reduceCtorEq, and_true, true_and, and_false, false_and, and_self, ite_true, ite_false, ↓reduceIte, not_true_eq_false, not_false_eq_true, pe_ri, pe_rz, pe_rc, Ct_g0_0 hP hA, Ct_g0_2 hP hA, Ct_g0_7 hP hA, Ct_g1_0 hP hA, Ct_g1_3 hP hA, Ct_g15_4 hP hA, Ct_g15_6 hP hA, Ct_g15_7 hP hA, Ct_g15_8 hP hA, Ct_p15_4 hP hA, Ct_p15_6 hP hA, Ct_p15_7 hP hA, Ct_r14 hP hA, Ct_r32 hP hA, Ct_r6 hP hA, Ct_r7 hP hA, Ct_w14 hP hA, Ct_w16 hP hA, eq_true k1, eq_true k2, z3]
    · rw [if_neg k2] at e
      have e := Option.some.inj e; subst e
      simp -implicitDefEqProofs (disch := first | assumption | exact Nat.le_of_ble_eq_true rfl | decide) only [b852_0, g852_1, b852_1, g852_2, b852_2, g852_3, b852_3, g852_4, b852_4, g852_6, b852_6, g852_8, b852_8, g852_10, b852_10, g852_13, b852_13, pe_aload0, pe_getfield, pe_iload2, pe_aaload, pe_iload5, pe_iload6, pe_baload, pe_istore7, pe_aload1, pe_dup_i, pe_dup_r, pe_dup_x1_ii, pe_dup_x1_ir, pe_dup_x1_ri, pe_dup_x1_rr, pe_sipush, pe_iadd, pe_putfield, pe_iload7, pe_i2b, pe_bastore, pe_if_ne, pe_icmp_lt, pe_iload3, pe_iload4, pe_call5, pm_af_ret, pm_af_void, pm_af_thr, pe_goto, pe_icmp_ge, pe_isub, pe_istore8, pe_iload8, pe_iaload, pe_if_le, pe_dup2_ii, pe_dup2_ir, pe_dup2_l, pe_iastore, pe_call6, pe_goto_w, pe_iand, pe_istore9, pe_istore10, pe_iload9, pe_if_eq, pe_ixor, pe_call7, pe_iload10, pe_return, pm_prog_1, pm_ob_some, Nat.reduceDiv, Nat.reduceMod, Nat.reduceMul, Nat.reduceAdd, Int.reduceToNat, pm_kill_i, pm_kill_r, pm_kill_n, pm_kill_j, pm_kill_l, pm_kill_d, pm_cats_nil, pm_cats_i, pm_cats_r, pm_cats_n, pm_cats_l, pm_cats_d, sz_1, sz_2, sl_1, sl_2, lc_0, lc_lt, lc_le, li_ne, va_rf, wr_m1, we_m1, pm_kill_w, Int32.reduceOfInt, Int64.reduceOfInt, Int32.reduceOfNat, Int32.reduceLT, Int32.reduceLE, Prod.mk.injEq, Nat.reduceEqDiff, reduceCtorEq, and_true, true_and, and_false, false_and, and_self, ite_true, ite_false, ↓reduceIte, not_true_eq_false, not_false_eq_true, pe_ri, pe_rz, pe_rc, Ct_g0_0 hP hA, Ct_g0_2 hP hA, Ct_g0_7 hP hA, Ct_g1_0 hP hA, Ct_g1_3 hP hA, Ct_g15_4 hP hA, Ct_g15_6 hP hA, Ct_g15_7 hP hA, Ct_g15_8 hP hA, Ct_p15_4 hP hA, Ct_p15_6 hP hA, Ct_p15_7 hP hA, Ct_r14 hP hA, Ct_r32 hP hA, Ct_r6 hP hA, Ct_r7 hP hA, Ct_w14 hP hA, Ct_w16 hP hA, eq_true k1, eq_false k2]
  · rw [if_neg k1] at e
    have e := Option.some.inj e; subst e
    simp -implicitDefEqProofs (disch := first | assumption | exact Nat.le_of_ble_eq_true rfl | decide) only [b852_0, g852_1, b852_1, g852_2, b852_2, g852_3, b852_3, g852_4, b852_4, g852_6, b852_6, g852_8, b852_8, g852_10, b852_10, g852_13, b852_13, pe_aload0, pe_getfield, pe_iload2, pe_aaload, pe_iload5, pe_iload6, pe_baload, pe_istore7, pe_aload1, pe_dup_i, pe_dup_r, pe_dup_x1_ii, pe_dup_x1_ir, pe_dup_x1_ri, pe_dup_x1_rr, pe_sipush, pe_iadd, pe_putfield, pe_iload7, pe_i2b, pe_bastore, pe_if_ne, pe_icmp_lt, pe_iload3, pe_iload4, pe_call5, pm_af_ret, pm_af_void, pm_af_thr, pe_goto, pe_icmp_ge, pe_isub, pe_istore8, pe_iload8, pe_iaload, pe_if_le, pe_dup2_ii, pe_dup2_ir, pe_dup2_l, pe_iastore, pe_call6, pe_goto_w, pe_iand, pe_istore9, pe_istore10, pe_iload9, pe_if_eq, pe_ixor, pe_call7, pe_iload10, pe_return, pm_prog_1, pm_ob_some, Nat.reduceDiv, Nat.reduceMod, Nat.reduceMul, Nat.reduceAdd, Int.reduceToNat, pm_kill_i, pm_kill_r, pm_kill_n, pm_kill_j, pm_kill_l, pm_kill_d, pm_cats_nil, pm_cats_i, pm_cats_r, pm_cats_n, pm_cats_l, pm_cats_d, sz_1, sz_2, sl_1, sl_2, lc_0, lc_lt, lc_le, li_ne, va_rf, wr_m1, we_m1, pm_kill_w, Int32.reduceOfInt, Int64.reduceOfInt, Int32.reduceOfNat, Int32.reduceLT, Int32.reduceLE, Prod.mk.injEq, Nat.reduceEqDiff, reduceCtorEq, and_true, true_and, and_false, false_and, and_self, ite_true, ite_false, ↓reduceIte, not_true_eq_false, not_false_eq_true, pe_ri, pe_rz, pe_rc, Ct_g0_0 hP hA, Ct_g0_2 hP hA, Ct_g0_7 hP hA, Ct_g1_0 hP hA, Ct_g1_3 hP hA, Ct_g15_4 hP hA, Ct_g15_6 hP hA, Ct_g15_7 hP hA, Ct_g15_8 hP hA, Ct_p15_4 hP hA, Ct_p15_6 hP hA, Ct_p15_7 hP hA, Ct_r14 hP hA, Ct_r32 hP hA, Ct_r6 hP hA, Ct_r7 hP hA, Ct_w14 hP hA, Ct_w16 hP hA, eq_false k1]
theorem y852_11 {sc : Int32} {pc : Int32} {sa : Int32} {pa : Int32} {A : wK → Nat} {h : pm_H} {D : Nat} {F : wS → Int32 → Int32 → Int32 → Int32 → Int32 → Option (wS)} {E : Nat} {S : wS} {x2 : Int32} {x3 : Int32} {x4 : Int32} {x5 : Int32} {x6 : Int32} {x9 : Int32} {x10 : Int32} {y2 : Int32} {y3 : Int32} {y4 : Int32} {y5 : Int32} {y6 : Int32} {r : wS} (hP : Ct_P sc pc sa pa) (hA : wok A (Ct_d sc pc sa pa) h.1) (hF : FOK852 sc pc sa pa A h E F) (hE : E + 0 ≤ D) (hD : 2 ≤ D) (e : f852_11 sc pc sa pa F S x2 x3 x4 x5 x6 x9 x10 y2 y3 y4 y5 y6 = some r) : ∀ q7 q8 : Value, pm_go pm_prog (pm_call pm_prog D) 852 11 [.ref (A (0, 0, 0)), .ref (A (15, 0, 0)), .int x2, .int x3, .int x4, .int x5, .int x6, q7, q8, .int x9, .int x10] [.int y6, .int y5, .int y4, .int y3, .int y2, .ref (A (15, 0, 0)), .ref (A (0, 0, 0))] (wput A (Ct_d sc pc sa pa) S h) = some (Outcome.returned none, (wput A (Ct_d sc pc sa pa) r h)) := by
  intro q7 q8
  simp only [f852_11] at e
  rw [g852_11, b852_11]
  obtain ⟨S3, k1, e⟩ := Option.bind_eq_some_iff.mp e
  try dsimp only at e
  have z1 := hF D _ _ _ _ _ _ _ (by omega) k1
  by_cases k2 : x9 = 0
  · rw [if_pos k2] at e
    have k3 := y852_12 (h := h) hP hA hF hE hD e
    simp -implicitDefEqProofs (disch := first | assumption | exact Nat.le_of_ble_eq_true rfl | decide) only [b852_0, g852_1, b852_1, g852_2, b852_2, g852_3, b852_3, g852_4, b852_4, g852_6, b852_6, g852_8, b852_8, g852_10, b852_10, g852_13, b852_13, pe_aload0, pe_getfield, pe_iload2, pe_aaload, pe_iload5, pe_iload6, pe_baload, pe_istore7, pe_aload1, pe_dup_i, pe_dup_r, pe_dup_x1_ii, pe_dup_x1_ir, pe_dup_x1_ri, pe_dup_x1_rr, pe_sipush, pe_iadd, pe_putfield, pe_iload7, pe_i2b, pe_bastore, pe_if_ne, pe_icmp_lt, pe_iload3, pe_iload4, pe_call5, pm_af_ret, pm_af_void, pm_af_thr, pe_goto, pe_icmp_ge, pe_isub, pe_istore8, pe_iload8, pe_iaload, pe_if_le, pe_dup2_ii, pe_dup2_ir, pe_dup2_l, pe_iastore, pe_call6, pe_goto_w, pe_iand, pe_istore9, pe_istore10, pe_iload9, pe_if_eq, pe_ixor, pe_call7, pe_iload10, pe_return, pm_prog_1, pm_ob_some, Nat.reduceDiv, Nat.reduceMod, Nat.reduceMul, Nat.reduceAdd, Int.reduceToNat, pm_kill_i, pm_kill_r, pm_kill_n, pm_kill_j, pm_kill_l, pm_kill_d, pm_cats_nil, pm_cats_i, pm_cats_r, pm_cats_n, pm_cats_l, pm_cats_d, sz_1, sz_2, sl_1, sl_2, lc_0, lc_lt, lc_le, li_ne, va_rf, wr_m1, we_m1, pm_kill_w, Int32.reduceOfInt, Int64.reduceOfInt, Int32.reduceOfNat, Int32.reduceLT, Int32.reduceLE, Prod.mk.injEq, Nat.reduceEqDiff, reduceCtorEq, and_true, true_and, and_false, false_and, and_self, ite_true, ite_false, ↓reduceIte, not_true_eq_false, not_false_eq_true, pe_ri, pe_rz, pe_rc, Ct_g0_0 hP hA, Ct_g0_2 hP hA, Ct_g0_7 hP hA, Ct_g1_0 hP hA, Ct_g1_3 hP hA, Ct_g15_4 hP hA, Ct_g15_6 hP hA, Ct_g15_7 hP hA, Ct_g15_8 hP hA, Ct_p15_4 hP hA, Ct_p15_6 hP hA, Ct_p15_7 hP hA, Ct_r14 hP hA, Ct_r32 hP hA, Ct_r6 hP hA, Ct_r7 hP hA, Ct_w14 hP hA, Ct_w16 hP hA, z1, eq_true k2, k3]
  · rw [if_neg k2] at e
    by_cases k4 : x10 < x5
    · rw [if_pos k4] at e
      obtain ⟨S5, k5, e⟩ := Option.bind_eq_some_iff.mp e
      try dsimp only at e
      have z5 := hF D _ _ _ _ _ _ _ (by omega) k5
      have e := Option.some.inj e; subst e
      simp -implicitDefEqProofs (disch := first | assumption | exact Nat.le_of_ble_eq_true rfl | decide) only [b852_0, g852_1, b852_1, g852_2, b852_2, g852_3, b852_3, g852_4, b852_4, g852_6, b852_6, g852_8, b852_8, g852_10, b852_10, g852_13, b852_13, pe_aload0, pe_getfield, pe_iload2, pe_aaload, pe_iload5, pe_iload6, pe_baload, pe_istore7, pe_aload1, pe_dup_i, pe_dup_r, pe_dup_x1_ii, pe_dup_x1_ir, pe_dup_x1_ri, pe_dup_x1_rr, pe_sipush, pe_iadd, pe_putfield, pe_iload7, pe_i2b, pe_bastore, pe_if_ne, pe_icmp_lt, pe_iload3, pe_iload4, pe_call5, pm_af_ret, pm_af_void, pm_af_thr, pe_goto, pe_icmp_ge, pe_isub, pe_istore8, pe_iload8, pe_iaload, pe_if_le, pe_dup2_ii, pe_dup2_ir, pe_dup2_l, pe_iastore, pe_call6, pe_goto_w, pe_iand, pe_istore9, pe_istore10, pe_iload9, pe_if_eq, pe_ixor, pe_call7, pe_iload10, pe_return, pm_prog_1, pm_ob_some, Nat.reduceDiv, Nat.reduceMod, Nat.reduceMul, Nat.reduceAdd, Int.reduceToNat, pm_kill_i, pm_kill_r, pm_kill_n, pm_kill_j, pm_kill_l, pm_kill_d, pm_cats_nil, pm_cats_i, pm_cats_r, pm_cats_n, pm_cats_l, pm_cats_d, sz_1, sz_2, sl_1, sl_2, lc_0, lc_lt, lc_le, li_ne, va_rf, wr_m1, we_m1, pm_kill_w, Int32.reduceOfInt, Int64.reduceOfInt, Int32.reduceOfNat, Int32.reduceLT, Int32.reduceLE, Prod.mk.injEq, Nat.reduceEqDiff, reduceCtorEq, and_true, true_and, and_false, false_and, and_self, ite_true, ite_false, ↓reduceIte, not_true_eq_false, not_false_eq_true, pe_ri, pe_rz, pe_rc, Ct_g0_0 hP hA, Ct_g0_2 hP hA, Ct_g0_7 hP hA, Ct_g1_0 hP hA, Ct_g1_3 hP hA, Ct_g15_4 hP hA, Ct_g15_6 hP hA, Ct_g15_7 hP hA, Ct_g15_8 hP hA, Ct_p15_4 hP hA, Ct_p15_6 hP hA, Ct_p15_7 hP hA, Ct_r14 hP hA, Ct_r32 hP hA, Ct_r6 hP hA, Ct_r7 hP hA, Ct_w14 hP hA, Ct_w16 hP hA, z1, eq_false k2, eq_true k4, z5]
    · rw [if_neg k4] at e
      have k6 := y852_12 (h := h) hP hA hF hE hD e
      simp -implicitDefEqProofs (disch := first | assumption | exact Nat.le_of_ble_eq_true rfl | decide) only [b852_0, g852_1, b852_1, g852_2, b852_2, g852_3, b852_3, g852_4, b852_4, g852_6, b852_6, g852_8, b852_8, g852_10, b852_10, g852_13, b852_13, pe_aload0, pe_getfield, pe_iload2, pe_aaload, pe_iload5, pe_iload6, pe_baload, pe_istore7, pe_aload1, pe_dup_i, pe_dup_r, pe_dup_x1_ii, pe_dup_x1_ir, pe_dup_x1_ri, pe_dup_x1_rr, pe_sipush, pe_iadd, pe_putfield, pe_iload7, pe_i2b, pe_bastore, pe_if_ne, pe_icmp_lt, pe_iload3, pe_iload4, pe_call5, pm_af_ret, pm_af_void, pm_af_thr, pe_goto, pe_icmp_ge, pe_isub, pe_istore8, pe_iload8, pe_iaload, pe_if_le, pe_dup2_ii, pe_dup2_ir, pe_dup2_l, pe_iastore, pe_call6, pe_goto_w, pe_iand, pe_istore9, pe_istore10, pe_iload9, pe_if_eq, pe_ixor, pe_call7, pe_iload10, pe_return, pm_prog_1, pm_ob_some, Nat.reduceDiv, Nat.reduceMod, Nat.reduceMul, Nat.reduceAdd, Int.reduceToNat, pm_kill_i, pm_kill_r, pm_kill_n, pm_kill_j, pm_kill_l, pm_kill_d, pm_cats_nil, pm_cats_i, pm_cats_r, pm_cats_n, pm_cats_l, pm_cats_d, sz_1, sz_2, sl_1, sl_2, lc_0, lc_lt, lc_le, li_ne, va_rf, wr_m1, we_m1, pm_kill_w, Int32.reduceOfInt, Int64.reduceOfInt, Int32.reduceOfNat, Int32.reduceLT, Int32.reduceLE, Prod.mk.injEq, Nat.reduceEqDiff, reduceCtorEq, and_true, true_and, and_false, false_and, and_self, ite_true, ite_false, ↓reduceIte, not_true_eq_false, not_false_eq_true, pe_ri, pe_rz, pe_rc, Ct_g0_0 hP hA, Ct_g0_2 hP hA, Ct_g0_7 hP hA, Ct_g1_0 hP hA, Ct_g1_3 hP hA, Ct_g15_4 hP hA, Ct_g15_6 hP hA, Ct_g15_7 hP hA, Ct_g15_8 hP hA, Ct_p15_4 hP hA, Ct_p15_6 hP hA, Ct_p15_7 hP hA, Ct_r14 hP hA, Ct_r32 hP hA, Ct_r6 hP hA, Ct_r7 hP hA, Ct_w14 hP hA, Ct_w16 hP hA, z1, eq_false k2, eq_false k4, k6]
theorem y852_9 {sc : Int32} {pc : Int32} {sa : Int32} {pa : Int32} {A : wK → Nat} {h : pm_H} {D : Nat} {F : wS → Int32 → Int32 → Int32 → Int32 → Int32 → Option (wS)} {E : Nat} {S : wS} {x2 : Int32} {x3 : Int32} {x4 : Int32} {x5 : Int32} {x6 : Int32} {x8 : Int32} {x9 : Int32} {x10 : Int32} {y2 : Int32} {y3 : Int32} {y4 : Int32} {y5 : Int32} {r : wS} (hP : Ct_P sc pc sa pa) (hA : wok A (Ct_d sc pc sa pa) h.1) (hF : FOK852 sc pc sa pa A h E F) (hE : E + 0 ≤ D) (hD : 2 ≤ D) (e : f852_9 sc pc sa pa F S x2 x3 x4 x5 x6 x8 x9 x10 y2 y3 y4 y5 = some r) : ∀ q7 : Value, pm_go pm_prog (pm_call pm_prog D) 852 9 [.ref (A (0, 0, 0)), .ref (A (15, 0, 0)), .int x2, .int x3, .int x4, .int x5, .int x6, q7, .int x8, .int x9, .int x10] [.int y5, .int y4, .int y3, .int y2, .ref (A (15, 0, 0)), .ref (A (0, 0, 0))] (wput A (Ct_d sc pc sa pa) S h) = some (Outcome.returned none, (wput A (Ct_d sc pc sa pa) r h)) := by
  intro q7
  simp only [f852_9] at e
  rw [g852_9, b852_9]
  by_cases k1 : x9 = 0
  · rw [if_pos k1] at e
    have k2 := y852_11 (h := h) hP hA hF hE hD e
    simp -implicitDefEqProofs (disch := first | assumption | exact Nat.le_of_ble_eq_true rfl | decide) only [b852_0, g852_1, b852_1, g852_2, b852_2, g852_3, b852_3, g852_4, b852_4, g852_6, b852_6, g852_8, b852_8, g852_10, b852_10, g852_13, b852_13, pe_aload0, pe_getfield, pe_iload2, pe_aaload, pe_iload5, pe_iload6, pe_baload, pe_istore7, pe_aload1, pe_dup_i, pe_dup_r, pe_dup_x1_ii, pe_dup_x1_ir, pe_dup_x1_ri, pe_dup_x1_rr, pe_sipush, pe_iadd, pe_putfield, pe_iload7, pe_i2b, pe_bastore, pe_if_ne, pe_icmp_lt, pe_iload3, pe_iload4, pe_call5, pm_af_ret, pm_af_void, pm_af_thr, pe_goto, pe_icmp_ge, pe_isub, pe_istore8, pe_iload8, pe_iaload, pe_if_le, pe_dup2_ii, pe_dup2_ir, pe_dup2_l, pe_iastore, pe_call6, pe_goto_w, pe_iand, pe_istore9, pe_istore10, pe_iload9, pe_if_eq, pe_ixor, pe_call7, pe_iload10, pe_return, pm_prog_1, pm_ob_some, Nat.reduceDiv, Nat.reduceMod, Nat.reduceMul, Nat.reduceAdd, Int.reduceToNat, pm_kill_i, pm_kill_r, pm_kill_n, pm_kill_j, pm_kill_l, pm_kill_d, pm_cats_nil, pm_cats_i, pm_cats_r, pm_cats_n, pm_cats_l, pm_cats_d, sz_1, sz_2, sl_1, sl_2, lc_0, lc_lt, lc_le, li_ne, va_rf, wr_m1, we_m1, pm_kill_w, Int32.reduceOfInt, Int64.reduceOfInt, Int32.reduceOfNat, Int32.reduceLT, Int32.reduceLE, Prod.mk.injEq, Nat.reduceEqDiff, reduceCtorEq, and_true, true_and, and_false, false_and, and_self, ite_true, ite_false, ↓reduceIte, not_true_eq_false, not_false_eq_true, pe_ri, pe_rz, pe_rc, Ct_g0_0 hP hA, Ct_g0_2 hP hA, Ct_g0_7 hP hA, Ct_g1_0 hP hA, Ct_g1_3 hP hA, Ct_g15_4 hP hA, Ct_g15_6 hP hA, Ct_g15_7 hP hA, Ct_g15_8 hP hA, Ct_p15_4 hP hA, Ct_p15_6 hP hA, Ct_p15_7 hP hA, Ct_r14 hP hA, Ct_r32 hP hA, Ct_r6 hP hA, Ct_r7 hP hA, Ct_w14 hP hA, Ct_w16 hP hA, eq_true k1, k2]
  · rw [if_neg k1] at e
    have k3 := y852_11 (h := h) hP hA hF hE hD e
    simp -implicitDefEqProofs (disch := first | assumption | exact Nat.le_of_ble_eq_true rfl | decide) only [b852_0, g852_1, b852_1, g852_2, b852_2, g852_3, b852_3, g852_4, b852_4, g852_6, b852_6, g852_8, b852_8, g852_10, b852_10, g852_13, b852_13, pe_aload0, pe_getfield, pe_iload2, pe_aaload, pe_iload5, pe_iload6, pe_baload, pe_istore7, pe_aload1, pe_dup_i, pe_dup_r, pe_dup_x1_ii, pe_dup_x1_ir, pe_dup_x1_ri, pe_dup_x1_rr, pe_sipush, pe_iadd, pe_putfield, pe_iload7, pe_i2b, pe_bastore, pe_if_ne, pe_icmp_lt, pe_iload3, pe_iload4, pe_call5, pm_af_ret, pm_af_void, pm_af_thr, pe_goto, pe_icmp_ge, pe_isub, pe_istore8, pe_iload8, pe_iaload, pe_if_le, pe_dup2_ii, pe_dup2_ir, pe_dup2_l, pe_iastore, pe_call6, pe_goto_w, pe_iand, pe_istore9, pe_istore10, pe_iload9, pe_if_eq, pe_ixor, pe_call7, pe_iload10, pe_return, pm_prog_1, pm_ob_some, Nat.reduceDiv, Nat.reduceMod, Nat.reduceMul, Nat.reduceAdd, Int.reduceToNat, pm_kill_i, pm_kill_r, pm_kill_n, pm_kill_j, pm_kill_l, pm_kill_d, pm_cats_nil, pm_cats_i, pm_cats_r, pm_cats_n, pm_cats_l, pm_cats_d, sz_1, sz_2, sl_1, sl_2, lc_0, lc_lt, lc_le, li_ne, va_rf, wr_m1, we_m1, pm_kill_w, Int32.reduceOfInt, Int64.reduceOfInt, Int32.reduceOfNat, Int32.reduceLT, Int32.reduceLE, Prod.mk.injEq, Nat.reduceEqDiff, reduceCtorEq, and_true, true_and, and_false, false_and, and_self, ite_true, ite_false, ↓reduceIte, not_true_eq_false, not_false_eq_true, pe_ri, pe_rz, pe_rc, Ct_g0_0 hP hA, Ct_g0_2 hP hA, Ct_g0_7 hP hA, Ct_g1_0 hP hA, Ct_g1_3 hP hA, Ct_g15_4 hP hA, Ct_g15_6 hP hA, Ct_g15_7 hP hA, Ct_g15_8 hP hA, Ct_p15_4 hP hA, Ct_p15_6 hP hA, Ct_p15_7 hP hA, Ct_r14 hP hA, Ct_r32 hP hA, Ct_r6 hP hA, Ct_r7 hP hA, Ct_w14 hP hA, Ct_w16 hP hA, eq_false k1, k3]
theorem y852_7 {sc : Int32} {pc : Int32} {sa : Int32} {pa : Int32} {A : wK → Nat} {h : pm_H} {D : Nat} {F : wS → Int32 → Int32 → Int32 → Int32 → Int32 → Option (wS)} {E : Nat} {S : wS} {x2 : Int32} {x3 : Int32} {x4 : Int32} {x5 : Int32} {x6 : Int32} {x8 : Int32} {x9 : Int32} {x10 : Int32} {y1 : Int32} {y2 : Int32} {r : wS} (hP : Ct_P sc pc sa pa) (hA : wok A (Ct_d sc pc sa pa) h.1) (hF : FOK852 sc pc sa pa A h E F) (hE : E + 0 ≤ D) (hD : 2 ≤ D) (e : f852_7 sc pc sa pa F S x2 x3 x4 x5 x6 x8 x9 x10 y1 y2 = some r) : ∀ q7 : Value, pm_go pm_prog (pm_call pm_prog D) 852 7 [.ref (A (0, 0, 0)), .ref (A (15, 0, 0)), .int x2, .int x3, .int x4, .int x5, .int x6, q7, .int x8, .int x9, .int x10] [.int y2, .int y1, .ref (A (15, 0, 0))] (wput A (Ct_d sc pc sa pa) S h) = some (Outcome.returned none, (wput A (Ct_d sc pc sa pa) r h)) := by
  intro q7
  simp only [f852_7] at e
  rw [g852_7, b852_7]
  by_cases k1 : x9 = 0
  · rw [if_pos k1] at e
    have k2 := y852_9 (h := h) hP hA hF hE hD e
    simp -implicitDefEqProofs (disch := first | assumption | exact Nat.le_of_ble_eq_true rfl | decide) only [b852_0, g852_1, b852_1, g852_2, b852_2, g852_3, b852_3, g852_4, b852_4, g852_6, b852_6, g852_8, b852_8, g852_10, b852_10, g852_13, b852_13, pe_aload0, pe_getfield, pe_iload2, pe_aaload, pe_iload5, pe_iload6, pe_baload, pe_istore7, pe_aload1, pe_dup_i, pe_dup_r, pe_dup_x1_ii, pe_dup_x1_ir, pe_dup_x1_ri, pe_dup_x1_rr, pe_sipush, pe_iadd, pe_putfield, pe_iload7, pe_i2b, pe_bastore, pe_if_ne, pe_icmp_lt, pe_iload3, pe_iload4, pe_call5, pm_af_ret, pm_af_void, pm_af_thr, pe_goto, pe_icmp_ge, pe_isub, pe_istore8, pe_iload8, pe_iaload, pe_if_le, pe_dup2_ii, pe_dup2_ir, pe_dup2_l, pe_iastore, pe_call6, pe_goto_w, pe_iand, pe_istore9, pe_istore10, pe_iload9, pe_if_eq, pe_ixor, pe_call7, pe_iload10, pe_return, pm_prog_1, pm_ob_some, Nat.reduceDiv, Nat.reduceMod, Nat.reduceMul, Nat.reduceAdd, Int.reduceToNat, pm_kill_i, pm_kill_r, pm_kill_n, pm_kill_j, pm_kill_l, pm_kill_d, pm_cats_nil, pm_cats_i, pm_cats_r, pm_cats_n, pm_cats_l, pm_cats_d, sz_1, sz_2, sl_1, sl_2, lc_0, lc_lt, lc_le, li_ne, va_rf, wr_m1, we_m1, pm_kill_w, Int32.reduceOfInt, Int64.reduceOfInt, Int32.reduceOfNat, Int32.reduceLT, Int32.reduceLE, Prod.mk.injEq, Nat.reduceEqDiff, reduceCtorEq, and_true, true_and, and_false, false_and, and_self, ite_true, ite_false, ↓reduceIte, not_true_eq_false, not_false_eq_true, pe_ri, pe_rz, pe_rc, Ct_g0_0 hP hA, Ct_g0_2 hP hA, Ct_g0_7 hP hA, Ct_g1_0 hP hA, Ct_g1_3 hP hA, Ct_g15_4 hP hA, Ct_g15_6 hP hA, Ct_g15_7 hP hA, Ct_g15_8 hP hA, Ct_p15_4 hP hA, Ct_p15_6 hP hA, Ct_p15_7 hP hA, Ct_r14 hP hA, Ct_r32 hP hA, Ct_r6 hP hA, Ct_r7 hP hA, Ct_w14 hP hA, Ct_w16 hP hA, eq_true k1, k2]
  · rw [if_neg k1] at e
    have k3 := y852_9 (h := h) hP hA hF hE hD e
    simp -implicitDefEqProofs (disch := first | assumption | exact Nat.le_of_ble_eq_true rfl | decide) only [b852_0, g852_1, b852_1, g852_2, b852_2, g852_3, b852_3, g852_4, b852_4, g852_6, b852_6, g852_8, b852_8, g852_10, b852_10, g852_13, b852_13, pe_aload0, pe_getfield, pe_iload2, pe_aaload, pe_iload5, pe_iload6, pe_baload, pe_istore7, pe_aload1, pe_dup_i, pe_dup_r, pe_dup_x1_ii, pe_dup_x1_ir, pe_dup_x1_ri, pe_dup_x1_rr, pe_sipush, pe_iadd, pe_putfield, pe_iload7, pe_i2b, pe_bastore, pe_if_ne, pe_icmp_lt, pe_iload3, pe_iload4, pe_call5, pm_af_ret, pm_af_void, pm_af_thr, pe_goto, pe_icmp_ge, pe_isub, pe_istore8, pe_iload8, pe_iaload, pe_if_le, pe_dup2_ii, pe_dup2_ir, pe_dup2_l, pe_iastore, pe_call6, pe_goto_w, pe_iand, pe_istore9, pe_istore10, pe_iload9, pe_if_eq, pe_ixor, pe_call7, pe_iload10, pe_return, pm_prog_1, pm_ob_some, Nat.reduceDiv, Nat.reduceMod, Nat.reduceMul, Nat.reduceAdd, Int.reduceToNat, pm_kill_i, pm_kill_r, pm_kill_n, pm_kill_j, pm_kill_l, pm_kill_d, pm_cats_nil, pm_cats_i, pm_cats_r, pm_cats_n, pm_cats_l, pm_cats_d, sz_1, sz_2, sl_1, sl_2, lc_0, lc_lt, lc_le, li_ne, va_rf, wr_m1, we_m1, pm_kill_w, Int32.reduceOfInt, Int64.reduceOfInt, Int32.reduceOfNat, Int32.reduceLT, Int32.reduceLE, Prod.mk.injEq, Nat.reduceEqDiff, reduceCtorEq, and_true, true_and, and_false, false_and, and_self, ite_true, ite_false, ↓reduceIte, not_true_eq_false, not_false_eq_true, pe_ri, pe_rz, pe_rc, Ct_g0_0 hP hA, Ct_g0_2 hP hA, Ct_g0_7 hP hA, Ct_g1_0 hP hA, Ct_g1_3 hP hA, Ct_g15_4 hP hA, Ct_g15_6 hP hA, Ct_g15_7 hP hA, Ct_g15_8 hP hA, Ct_p15_4 hP hA, Ct_p15_6 hP hA, Ct_p15_7 hP hA, Ct_r14 hP hA, Ct_r32 hP hA, Ct_r6 hP hA, Ct_r7 hP hA, Ct_w14 hP hA, Ct_w16 hP hA, eq_false k1, k3]
theorem y852_5 {sc : Int32} {pc : Int32} {sa : Int32} {pa : Int32} {A : wK → Nat} {h : pm_H} {D : Nat} {F : wS → Int32 → Int32 → Int32 → Int32 → Int32 → Option (wS)} {E : Nat} {S : wS} {x2 : Int32} {x3 : Int32} {x4 : Int32} {x5 : Int32} {x6 : Int32} {x8 : Int32} {y0 : Int32} {r : wS} (hP : Ct_P sc pc sa pa) (hA : wok A (Ct_d sc pc sa pa) h.1) (hF : FOK852 sc pc sa pa A h E F) (hE : E + 0 ≤ D) (hD : 2 ≤ D) (e : f852_5 sc pc sa pa F S x2 x3 x4 x5 x6 x8 y0 = some r) : ∀ q7 q9 q10 : Value, pm_go pm_prog (pm_call pm_prog D) 852 5 [.ref (A (0, 0, 0)), .ref (A (15, 0, 0)), .int x2, .int x3, .int x4, .int x5, .int x6, q7, .int x8, q9, q10] [.int y0] (wput A (Ct_d sc pc sa pa) S h) = some (Outcome.returned none, (wput A (Ct_d sc pc sa pa) r h)) := by
  intro q7 q9 q10
  simp only [f852_5] at e
  rw [g852_5, b852_5]
  by_cases k1 : y0 = 0
  · rw [if_pos k1] at e
    have k2 := y852_7 (h := h) hP hA hF hE hD e
    simp -implicitDefEqProofs (disch := first | assumption | exact Nat.le_of_ble_eq_true rfl | decide) only [b852_0, g852_1, b852_1, g852_2, b852_2, g852_3, b852_3, g852_4, b852_4, g852_6, b852_6, g852_8, b852_8, g852_10, b852_10, g852_13, b852_13, pe_aload0, pe_getfield, pe_iload2, pe_aaload, pe_iload5, pe_iload6, pe_baload, pe_istore7, pe_aload1, pe_dup_i, pe_dup_r, pe_dup_x1_ii, pe_dup_x1_ir, pe_dup_x1_ri, pe_dup_x1_rr, pe_sipush, pe_iadd, pe_putfield, pe_iload7, pe_i2b, pe_bastore, pe_if_ne, pe_icmp_lt, pe_iload3, pe_iload4, pe_call5, pm_af_ret, pm_af_void, pm_af_thr, pe_goto, pe_icmp_ge, pe_isub, pe_istore8, pe_iload8, pe_iaload, pe_if_le, pe_dup2_ii, pe_dup2_ir, pe_dup2_l, pe_iastore, pe_call6, pe_goto_w, pe_iand, pe_istore9, pe_istore10, pe_iload9, pe_if_eq, pe_ixor, pe_call7, pe_iload10, pe_return, pm_prog_1, pm_ob_some, Nat.reduceDiv, Nat.reduceMod, Nat.reduceMul, Nat.reduceAdd, Int.reduceToNat, pm_kill_i, pm_kill_r, pm_kill_n, pm_kill_j, pm_kill_l, pm_kill_d, pm_cats_nil, pm_cats_i, pm_cats_r, pm_cats_n, pm_cats_l, pm_cats_d, sz_1, sz_2, sl_1, sl_2, lc_0, lc_lt, lc_le, li_ne, va_rf, wr_m1, we_m1, pm_kill_w, Int32.reduceOfInt, Int64.reduceOfInt, Int32.reduceOfNat, Int32.reduceLT, Int32.reduceLE, Prod.mk.injEq, Nat.reduceEqDiff, reduceCtorEq, and_true, true_and, and_false, false_and, and_self, ite_true, ite_false, ↓reduceIte, not_true_eq_false, not_false_eq_true, pe_ri, pe_rz, pe_rc, Ct_g0_0 hP hA, Ct_g0_2 hP hA, Ct_g0_7 hP hA, Ct_g1_0 hP hA, Ct_g1_3 hP hA, Ct_g15_4 hP hA, Ct_g15_6 hP hA, Ct_g15_7 hP hA, Ct_g15_8 hP hA, Ct_p15_4 hP hA, Ct_p15_6 hP hA, Ct_p15_7 hP hA, Ct_r14 hP hA, Ct_r32 hP hA, Ct_r6 hP hA, Ct_r7 hP hA, Ct_w14 hP hA, Ct_w16 hP hA, eq_true k1, k2]
  · rw [if_neg k1] at e
    have k3 := y852_7 (h := h) hP hA hF hE hD e
    simp -implicitDefEqProofs (disch := first | assumption | exact Nat.le_of_ble_eq_true rfl | decide) only [b852_0, g852_1, b852_1, g852_2, b852_2, g852_3, b852_3, g852_4, b852_4, g852_6, b852_6, g852_8, b852_8, g852_10, b852_10, g852_13, b852_13, pe_aload0, pe_getfield, pe_iload2, pe_aaload, pe_iload5, pe_iload6, pe_baload, pe_istore7, pe_aload1, pe_dup_i, pe_dup_r, pe_dup_x1_ii, pe_dup_x1_ir, pe_dup_x1_ri, pe_dup_x1_rr, pe_sipush, pe_iadd, pe_putfield, pe_iload7, pe_i2b, pe_bastore, pe_if_ne, pe_icmp_lt, pe_iload3, pe_iload4, pe_call5, pm_af_ret, pm_af_void, pm_af_thr, pe_goto, pe_icmp_ge, pe_isub, pe_istore8, pe_iload8, pe_iaload, pe_if_le, pe_dup2_ii, pe_dup2_ir, pe_dup2_l, pe_iastore, pe_call6, pe_goto_w, pe_iand, pe_istore9, pe_istore10, pe_iload9, pe_if_eq, pe_ixor, pe_call7, pe_iload10, pe_return, pm_prog_1, pm_ob_some, Nat.reduceDiv, Nat.reduceMod, Nat.reduceMul, Nat.reduceAdd, Int.reduceToNat, pm_kill_i, pm_kill_r, pm_kill_n, pm_kill_j, pm_kill_l, pm_kill_d, pm_cats_nil, pm_cats_i, pm_cats_r, pm_cats_n, pm_cats_l, pm_cats_d, sz_1, sz_2, sl_1, sl_2, lc_0, lc_lt, lc_le, li_ne, va_rf, wr_m1, we_m1, pm_kill_w, Int32.reduceOfInt, Int64.reduceOfInt, Int32.reduceOfNat, Int32.reduceLT, Int32.reduceLE, Prod.mk.injEq, Nat.reduceEqDiff, reduceCtorEq, and_true, true_and, and_false, false_and, and_self, ite_true, ite_false, ↓reduceIte, not_true_eq_false, not_false_eq_true, pe_ri, pe_rz, pe_rc, Ct_g0_0 hP hA, Ct_g0_2 hP hA, Ct_g0_7 hP hA, Ct_g1_0 hP hA, Ct_g1_3 hP hA, Ct_g15_4 hP hA, Ct_g15_6 hP hA, Ct_g15_7 hP hA, Ct_g15_8 hP hA, Ct_p15_4 hP hA, Ct_p15_6 hP hA, Ct_p15_7 hP hA, Ct_r14 hP hA, Ct_r32 hP hA, Ct_r6 hP hA, Ct_r7 hP hA, Ct_w14 hP hA, Ct_w16 hP hA, eq_false k1, k3]
theorem x852 {sc : Int32} {pc : Int32} {sa : Int32} {pa : Int32} {A : wK → Nat} {h : pm_H} {D : Nat} {F : wS → Int32 → Int32 → Int32 → Int32 → Int32 → Option (wS)} {E : Nat} {S : wS} {x2 : Int32} {x3 : Int32} {x4 : Int32} {x5 : Int32} {x6 : Int32} {r : wS} (hP : Ct_P sc pc sa pa) (hA : wok A (Ct_d sc pc sa pa) h.1) (hF : FOK852 sc pc sa pa A h E F) (hE : E + 1 ≤ D) (hD : 3 ≤ D) (e : f852 sc pc sa pa F S x2 x3 x4 x5 x6 = some r) : pm_call pm_prog D 852 [.ref (A (0, 0, 0)), .ref (A (15, 0, 0)), .int x2, .int x3, .int x4, .int x5, .int x6] (wput A (Ct_d sc pc sa pa) S h) = some (Outcome.returned none, (wput A (Ct_d sc pc sa pa) r h)) := by
  obtain ⟨D, rfl⟩ : ∃ D', D = D' + 1 := ⟨D - 1, by omega⟩
  have hE : E + 0 ≤ D := by omega
  have hD : 2 ≤ D := by omega
  simp only [f852] at e
  rw [c852 (Ct_c0 hP hA), b852_0]
  by_cases k1 : 0 ≤ x2 ∧ x2 < 8
  · rw [if_pos k1] at e
    by_cases k2 : 0 ≤ x5 ∧ x5 < 17
    · rw [if_pos k2] at e
      by_cases k3 : 0 ≤ x6 ∧ x6 < 17
      · rw [if_pos k3] at e
        by_cases k4 : 0 ≤ (S.1 (15, 0, 0) 7) ∧ (S.1 (15, 0, 0) 7) < 512
        · rw [if_pos k4] at e
          by_cases k5 : (S.1 (7, x2, x5) x6) = 0
          · rw [if_pos k5] at e
            by_cases k6 : x5 < (S.1 (0, 0, 0) 2)
            · rw [if_pos k6] at e
              have e := Option.some.inj e; subst e
              simp -implicitDefEqProofs (disch := first | assumption | exact Nat.le_of_ble_eq_true rfl | decide) only [b852_0, g852_1, b852_1, g852_2, b852_2, g852_3, b852_3, g852_4, b852_4, g852_6, b852_6, g852_8, b852_8, g852_10, b852_10, g852_13, b852_13, pe_aload0, pe_getfield, pe_iload2, pe_aaload, pe_iload5, pe_iload6, pe_baload, pe_istore7, pe_aload1, pe_dup_i, pe_dup_r, pe_dup_x1_ii, pe_dup_x1_ir, pe_dup_x1_ri, pe_dup_x1_rr, pe_sipush, pe_iadd, pe_putfield, pe_iload7, pe_i2b, pe_bastore, pe_if_ne, pe_icmp_lt, pe_iload3, pe_iload4, pe_call5, pm_af_ret, pm_af_void, pm_af_thr, pe_goto, pe_icmp_ge, pe_isub, pe_istore8, pe_iload8, pe_iaload, pe_if_le, pe_dup2_ii, pe_dup2_ir, pe_dup2_l, pe_iastore, pe_call6, pe_goto_w, pe_iand, pe_istore9, pe_istore10, pe_iload9, pe_if_eq, pe_ixor, pe_call7, pe_iload10, pe_return, pm_prog_1, pm_ob_some, Nat.reduceDiv, Nat.reduceMod, Nat.reduceMul, Nat.reduceAdd, Int.reduceToNat, pm_kill_i, pm_kill_r, pm_kill_n, pm_kill_j, pm_kill_l, pm_kill_d, pm_cats_nil, pm_cats_i, pm_cats_r, pm_cats_n, pm_cats_l, pm_cats_d, sz_1, sz_2, sl_1, sl_2, lc_0, lc_lt, lc_le, li_ne, va_rf, wr_m1, we_m1, pm_kill_w, Int32.reduceOfInt, Int64.reduceOfInt, Int32.reduceOfNat, Int32.reduceLT, Int32.reduceLE, Prod.mk.injEq, Nat.reduceEqDiff, reduceCtorEq, and_true, true_and, and_false, false_and, and_self, ite_true, ite_false, ↓reduceIte, not_true_eq_false, not_false_eq_true, pe_ri, pe_rz, pe_rc, Ct_g0_0 hP hA, Ct_g0_2 hP hA, Ct_g0_7 hP hA, Ct_g1_0 hP hA, Ct_g1_3 hP hA, Ct_g15_4 hP hA, Ct_g15_6 hP hA, Ct_g15_7 hP hA, Ct_g15_8 hP hA, Ct_p15_4 hP hA, Ct_p15_6 hP hA, Ct_p15_7 hP hA, Ct_r14 hP hA, Ct_r32 hP hA, Ct_r6 hP hA, Ct_r7 hP hA, Ct_w14 hP hA, Ct_w16 hP hA, eq_true k5, eq_true k6]
            · rw [if_neg k6] at e
              by_cases k7 : x6 < (S.1 (0, 0, 0) 2)
              · rw [if_pos k7] at e
                have e := Option.some.inj e; subst e
                simp -implicitDefEqProofs (disch := first | assumption | exact Nat.le_of_ble_eq_true rfl | decide) only [b852_0, g852_1, b852_1, g852_2, b852_2, g852_3, b852_3, g852_4, b852_4, g852_6, b852_6, g852_8, b852_8, g852_10, b852_10, g852_13, b852_13, pe_aload0, pe_getfield, pe_iload2, pe_aaload, pe_iload5, pe_iload6, pe_baload, pe_istore7, pe_aload1, pe_dup_i, pe_dup_r, pe_dup_x1_ii, pe_dup_x1_ir, pe_dup_x1_ri, pe_dup_x1_rr, pe_sipush, pe_iadd, pe_putfield, pe_iload7, pe_i2b, pe_bastore, pe_if_ne, pe_icmp_lt, pe_iload3, pe_iload4, pe_call5, pm_af_ret, pm_af_void, pm_af_thr, pe_goto, pe_icmp_ge, pe_isub, pe_istore8, pe_iload8, pe_iaload, pe_if_le, pe_dup2_ii, pe_dup2_ir, pe_dup2_l, pe_iastore, pe_call6, pe_goto_w, pe_iand, pe_istore9, pe_istore10, pe_iload9, pe_if_eq, pe_ixor, pe_call7, pe_iload10, pe_return, pm_prog_1, pm_ob_some, Nat.reduceDiv, Nat.reduceMod, Nat.reduceMul, Nat.reduceAdd, Int.reduceToNat, pm_kill_i, pm_kill_r, pm_kill_n, pm_kill_j, pm_kill_l, pm_kill_d, pm_cats_nil, pm_cats_i, pm_cats_r, pm_cats_n, pm_cats_l, pm_cats_d, sz_1, sz_2, sl_1, sl_2, lc_0, lc_lt, lc_le, li_ne, va_rf, wr_m1, we_m1, pm_kill_w, Int32.reduceOfInt, Int64.reduceOfInt, Int32.reduceOfNat, Int32.reduceLT, Int32.reduceLE, Prod.mk.injEq, Nat.reduceEqDiff, reduceCtorEq, and_true, true_and, and_false, false_and, and_self, ite_true, ite_false, ↓reduceIte, not_true_eq_false, not_false_eq_true, pe_ri, pe_rz, pe_rc, Ct_g0_0 hP hA, Ct_g0_2 hP hA, Ct_g0_7 hP hA, Ct_g1_0 hP hA, Ct_g1_3 hP hA, Ct_g15_4 hP hA, Ct_g15_6 hP hA, Ct_g15_7 hP hA, Ct_g15_8 hP hA, Ct_p15_4 hP hA, Ct_p15_6 hP hA, Ct_p15_7 hP hA, Ct_r14 hP hA, Ct_r32 hP hA, Ct_r6 hP hA, Ct_r7 hP hA, Ct_w14 hP hA, Ct_w16 hP hA, eq_true k5, eq_false k6, eq_true k7]
              · rw [if_neg k7] at e
                obtain ⟨S1, k8, e⟩ := Option.bind_eq_some_iff.mp e
                try dsimp only at e
                have z8 := x899 (D := D) (h := h) hP hA (by omega) k8
                have e := Option.some.inj e; subst e
                simp -implicitDefEqProofs (disch := first | assumption | exact Nat.le_of_ble_eq_true rfl | decide) only [b852_0, g852_1, b852_1, g852_2, b852_2, g852_3, b852_3, g852_4, b852_4, g852_6, b852_6, g852_8, b852_8, g852_10, b852_10, g852_13, b852_13, pe_aload0, pe_getfield, pe_iload2, pe_aaload, pe_iload5, pe_iload6, pe_baload, pe_istore7, pe_aload1, pe_dup_i, pe_dup_r, pe_dup_x1_ii, pe_dup_x1_ir, pe_dup_x1_ri, pe_dup_x1_rr, pe_sipush, pe_iadd, pe_putfield, pe_iload7, pe_i2b, pe_bastore, pe_if_ne, pe_icmp_lt, pe_iload3, pe_iload4, pe_call5, pm_af_ret, pm_af_void, pm_af_thr, pe_goto, pe_icmp_ge, pe_isub, pe_istore8, pe_iload8, pe_iaload, pe_if_le, pe_dup2_ii, pe_dup2_ir, pe_dup2_l, pe_iastore, pe_call6, pe_goto_w, pe_iand, pe_istore9, pe_istore10, pe_iload9, pe_if_eq, pe_ixor, pe_call7, pe_iload10, pe_return, pm_prog_1, pm_ob_some, Nat.reduceDiv, Nat.reduceMod, Nat.reduceMul, Nat.reduceAdd, Int.reduceToNat, pm_kill_i, pm_kill_r, pm_kill_n, pm_kill_j, pm_kill_l, pm_kill_d, pm_cats_nil, pm_cats_i, pm_cats_r, pm_cats_n, pm_cats_l, pm_cats_d, sz_1, sz_2, sl_1, sl_2, lc_0, lc_lt, lc_le, li_ne, va_rf, wr_m1, we_m1, pm_kill_w, Int32.reduceOfInt, Int64.reduceOfInt, Int32.reduceOfNat, Int32.reduceLT, Int32.reduceLE, Prod.mk.injEq, Nat.reduceEqDiff, reduceCtorEq, and_true, true_and, and_false, false_and, and_self, ite_true, ite_false, ↓reduceIte, not_true_eq_false, not_false_eq_true, pe_ri, pe_rz, pe_rc, Ct_g0_0 hP hA, Ct_g0_2 hP hA, Ct_g0_7 hP hA, Ct_g1_0 hP hA, Ct_g1_3 hP hA, Ct_g15_4 hP hA, Ct_g15_6 hP hA, Ct_g15_7 hP hA, Ct_g15_8 hP hA, Ct_p15_4 hP hA, Ct_p15_6 hP hA, Ct_p15_7 hP hA, Ct_r14 hP hA, Ct_r32 hP hA, Ct_r6 hP hA, Ct_r7 hP hA, Ct_w14 hP hA, Ct_w16 hP hA, eq_true k5, eq_false k6, eq_false k7, z8]
          · rw [if_neg k5] at e
            by_cases k9 : (S.1 (7, x2, x5) x6) < 100
            · rw [if_pos k9] at e
              by_cases k10 : 0 ≤ ((S.1 (7, x2, x5) x6) - 1) ∧ ((S.1 (7, x2, x5) x6) - 1) < 8
              · rw [if_pos k10] at e
                by_cases k11 : (S.1 (14, 0, 0) ((S.1 (7, x2, x5) x6) - 1)) ≤ 0
                · rw [if_pos k11] at e
                  have e := Option.some.inj e; subst e
                  simp -implicitDefEqProofs (disch := first | assumption | exact Nat.le_of_ble_eq_true rfl | decide) only [b852_0, g852_1, b852_1, g852_2, b852_2, g852_3, b852_3, g852_4, b852_4, g852_6, b852_6, g852_8, b852_8, g852_10, b852_10, g852_13, b852_13, pe_aload0, pe_getfield, pe_iload2, pe_aaload, pe_iload5, pe_iload6, pe_baload, pe_istore7, pe_aload1, pe_dup_i, pe_dup_r, pe_dup_x1_ii, pe_dup_x1_ir, pe_dup_x1_ri, pe_dup_x1_rr, pe_sipush, pe_iadd, pe_putfield, pe_iload7, pe_i2b, pe_bastore, pe_if_ne, pe_icmp_lt, pe_iload3, pe_iload4, pe_call5, pm_af_ret, pm_af_void, pm_af_thr, pe_goto, pe_icmp_ge, pe_isub, pe_istore8, pe_iload8, pe_iaload, pe_if_le, pe_dup2_ii, pe_dup2_ir, pe_dup2_l, pe_iastore, pe_call6, pe_goto_w, pe_iand, pe_istore9, pe_istore10, pe_iload9, pe_if_eq, pe_ixor, pe_call7, pe_iload10, pe_return, pm_prog_1, pm_ob_some, Nat.reduceDiv, Nat.reduceMod, Nat.reduceMul, Nat.reduceAdd, Int.reduceToNat, pm_kill_i, pm_kill_r, pm_kill_n, pm_kill_j, pm_kill_l, pm_kill_d, pm_cats_nil, pm_cats_i, pm_cats_r, pm_cats_n, pm_cats_l, pm_cats_d, sz_1, sz_2, sl_1, sl_2, lc_0, lc_lt, lc_le, li_ne, va_rf, wr_m1, we_m1, pm_kill_w, Int32.reduceOfInt, Int64.reduceOfInt, Int32.reduceOfNat, Int32.reduceLT, Int32.reduceLE, Prod.mk.injEq, Nat.reduceEqDiff, reduceCtorEq, and_true, true_and, and_false, false_and, and_self, ite_true, ite_false, ↓reduceIte, not_true_eq_false, not_false_eq_true, pe_ri, pe_rz, pe_rc, Ct_g0_0 hP hA, Ct_g0_2 hP hA, Ct_g0_7 hP hA, Ct_g1_0 hP hA, Ct_g1_3 hP hA, Ct_g15_4 hP hA, Ct_g15_6 hP hA, Ct_g15_7 hP hA, Ct_g15_8 hP hA, Ct_p15_4 hP hA, Ct_p15_6 hP hA, Ct_p15_7 hP hA, Ct_r14 hP hA, Ct_r32 hP hA, Ct_r6 hP hA, Ct_r7 hP hA, Ct_w14 hP hA, Ct_w16 hP hA, eq_false k5, eq_true k9, eq_true k11]
                · rw [if_neg k11] at e
                  obtain ⟨S2, k12, e⟩ := Option.bind_eq_some_iff.mp e
                  try dsimp only at e
                  have z12 := x901 (D := D) (h := h) hP hA (by omega) k12
                  have e := Option.some.inj e; subst e
                  simp -implicitDefEqProofs (disch := first | assumption | exact Nat.le_of_ble_eq_true rfl | decide) only [b852_0, g852_1, b852_1, g852_2, b852_2, g852_3, b852_3, g852_4, b852_4, g852_6, b852_6, g852_8, b852_8, g852_10, b852_10, g852_13, b852_13, pe_aload0, pe_getfield, pe_iload2, pe_aaload, pe_iload5, pe_iload6, pe_baload, pe_istore7, pe_aload1, pe_dup_i, pe_dup_r, pe_dup_x1_ii, pe_dup_x1_ir, pe_dup_x1_ri, pe_dup_x1_rr, pe_sipush, pe_iadd, pe_putfield, pe_iload7, pe_i2b, pe_bastore, pe_if_ne, pe_icmp_lt, pe_iload3, pe_iload4, pe_call5, pm_af_ret, pm_af_void, pm_af_thr, pe_goto, pe_icmp_ge, pe_isub, pe_istore8, pe_iload8, pe_iaload, pe_if_le, pe_dup2_ii, pe_dup2_ir, pe_dup2_l, pe_iastore, pe_call6, pe_goto_w, pe_iand, pe_istore9, pe_istore10, pe_iload9, pe_if_eq, pe_ixor, pe_call7, pe_iload10, pe_return, pm_prog_1, pm_ob_some, Nat.reduceDiv, Nat.reduceMod, Nat.reduceMul, Nat.reduceAdd, Int.reduceToNat, pm_kill_i, pm_kill_r, pm_kill_n, pm_kill_j, pm_kill_l, pm_kill_d, pm_cats_nil, pm_cats_i, pm_cats_r, pm_cats_n, pm_cats_l, pm_cats_d, sz_1, sz_2, sl_1, sl_2, lc_0, lc_lt, lc_le, li_ne, va_rf, wr_m1, we_m1, pm_kill_w, Int32.reduceOfInt, Int64.reduceOfInt, Int32.reduceOfNat, Int32.reduceLT, Int32.reduceLE, Prod.mk.injEq, Nat.reduceEqDiff, reduceCtorEq, and_true, true_and, and_false, false_and, and_self, ite_true, ite_false, ↓reduceIte, not_true_eq_false, not_false_eq_true, pe_ri, pe_rz, pe_rc, Ct_g0_0 hP hA, Ct_g0_2 hP hA, Ct_g0_7 hP hA, Ct_g1_0 hP hA, Ct_g1_3 hP hA, Ct_g15_4 hP hA, Ct_g15_6 hP hA, Ct_g15_7 hP hA, Ct_g15_8 hP hA, Ct_p15_4 hP hA, Ct_p15_6 hP hA, Ct_p15_7 hP hA, Ct_r14 hP hA, Ct_r32 hP hA, Ct_r6 hP hA, Ct_r7 hP hA, Ct_w14 hP hA, Ct_w16 hP hA, eq_false k5, eq_true k9, eq_false k11, z12]
              · rw [if_neg k10] at e; cases e
            · rw [if_neg k9] at e
              by_cases k13 : (x2 &&& 1) = 0
              · rw [if_pos k13] at e
                have k14 := y852_5 (h := h) hP hA hF hE hD e
                simp -implicitDefEqProofs (disch := first | assumption | exact Nat.le_of_ble_eq_true rfl | decide) only [b852_0, g852_1, b852_1, g852_2, b852_2, g852_3, b852_3, g852_4, b852_4, g852_6, b852_6, g852_8, b852_8, g852_10, b852_10, g852_13, b852_13, pe_aload0, pe_getfield, pe_iload2, pe_aaload, pe_iload5, pe_iload6, pe_baload, pe_istore7, pe_aload1, pe_dup_i, pe_dup_r, pe_dup_x1_ii, pe_dup_x1_ir, pe_dup_x1_ri, pe_dup_x1_rr, pe_sipush, pe_iadd, pe_putfield, pe_iload7, pe_i2b, pe_bastore, pe_if_ne, pe_icmp_lt, pe_iload3, pe_iload4, pe_call5, pm_af_ret, pm_af_void, pm_af_thr, pe_goto, pe_icmp_ge, pe_isub, pe_istore8, pe_iload8, pe_iaload, pe_if_le, pe_dup2_ii, pe_dup2_ir, pe_dup2_l, pe_iastore, pe_call6, pe_goto_w, pe_iand, pe_istore9, pe_istore10, pe_iload9, pe_if_eq, pe_ixor, pe_call7, pe_iload10, pe_return, pm_prog_1, pm_ob_some, Nat.reduceDiv, Nat.reduceMod, Nat.reduceMul, Nat.reduceAdd, Int.reduceToNat, pm_kill_i, pm_kill_r, pm_kill_n, pm_kill_j, pm_kill_l, pm_kill_d, pm_cats_nil, pm_cats_i, pm_cats_r, pm_cats_n, pm_cats_l, pm_cats_d, sz_1, sz_2, sl_1, sl_2, lc_0, lc_lt, lc_le, li_ne, va_rf, wr_m1, we_m1, pm_kill_w, Int32.reduceOfInt, Int64.reduceOfInt, Int32.reduceOfNat, Int32.reduceLT, Int32.reduceLE, Prod.mk.injEq, Nat.reduceEqDiff, reduceCtorEq, and_true, true_and, and_false, false_and, and_self, ite_true, ite_false, ↓reduceIte, not_true_eq_false, not_false_eq_true, pe_ri, pe_rz, pe_rc, Ct_g0_0 hP hA, Ct_g0_2 hP hA, Ct_g0_7 hP hA, Ct_g1_0 hP hA, Ct_g1_3 hP hA, Ct_g15_4 hP hA, Ct_g15_6 hP hA, Ct_g15_7 hP hA, Ct_g15_8 hP hA, Ct_p15_4 hP hA, Ct_p15_6 hP hA, Ct_p15_7 hP hA, Ct_r14 hP hA, Ct_r32 hP hA, Ct_r6 hP hA, Ct_r7 hP hA, Ct_w14 hP hA, Ct_w16 hP hA, eq_false k5, eq_false k9, eq_true k13, k14]
              · rw [if_neg k13] at e
                have k15 := y852_5 (h := h) hP hA hF hE hD e
                simp -implicitDefEqProofs (disch := first | assumption | exact Nat.le_of_ble_eq_true rfl | decide) only [b852_0, g852_1, b852_1, g852_2, b852_2, g852_3, b852_3, g852_4, b852_4, g852_6, b852_6, g852_8, b852_8, g852_10, b852_10, g852_13, b852_13, pe_aload0, pe_getfield, pe_iload2, pe_aaload, pe_iload5, pe_iload6, pe_baload, pe_istore7, pe_aload1, pe_dup_i, pe_dup_r, pe_dup_x1_ii, pe_dup_x1_ir, pe_dup_x1_ri, pe_dup_x1_rr, pe_sipush, pe_iadd, pe_putfield, pe_iload7, pe_i2b, pe_bastore, pe_if_ne, pe_icmp_lt, pe_iload3, pe_iload4, pe_call5, pm_af_ret, pm_af_void, pm_af_thr, pe_goto, pe_icmp_ge, pe_isub, pe_istore8, pe_iload8, pe_iaload, pe_if_le, pe_dup2_ii, pe_dup2_ir, pe_dup2_l, pe_iastore, pe_call6, pe_goto_w, pe_iand, pe_istore9, pe_istore10, pe_iload9, pe_if_eq, pe_ixor, pe_call7, pe_iload10, pe_return, pm_prog_1, pm_ob_some, Nat.reduceDiv, Nat.reduceMod, Nat.reduceMul, Nat.reduceAdd, Int.reduceToNat, pm_kill_i, pm_kill_r, pm_kill_n, pm_kill_j, pm_kill_l, pm_kill_d, pm_cats_nil, pm_cats_i, pm_cats_r, pm_cats_n, pm_cats_l, pm_cats_d, sz_1, sz_2, sl_1, sl_2, lc_0, lc_lt, lc_le, li_ne, va_rf, wr_m1, we_m1, pm_kill_w, Int32.reduceOfInt, Int64.reduceOfInt, Int32.reduceOfNat, Int32.reduceLT, Int32.reduceLE, Prod.mk.injEq, Nat.reduceEqDiff, reduceCtorEq, and_true, true_and, and_false, false_and, and_self, ite_true, ite_false, ↓reduceIte, not_true_eq_false, not_false_eq_true, pe_ri, pe_rz, pe_rc, Ct_g0_0 hP hA, Ct_g0_2 hP hA, Ct_g0_7 hP hA, Ct_g1_0 hP hA, Ct_g1_3 hP hA, Ct_g15_4 hP hA, Ct_g15_6 hP hA, Ct_g15_7 hP hA, Ct_g15_8 hP hA, Ct_p15_4 hP hA, Ct_p15_6 hP hA, Ct_p15_7 hP hA, Ct_r14 hP hA, Ct_r32 hP hA, Ct_r6 hP hA, Ct_r7 hP hA, Ct_w14 hP hA, Ct_w16 hP hA, eq_false k5, eq_false k9, eq_false k13, k15]
        · rw [if_neg k4] at e; cases e
      · rw [if_neg k3] at e; cases e
    · rw [if_neg k2] at e; cases e
  · rw [if_neg k1] at e; cases e
noncomputable def r852 (sc : Int32) (pc : Int32) (sa : Int32) (pa : Int32) : Nat → wS → Int32 → Int32 → Int32 → Int32 → Int32 → Option (wS)
  | 0 => fun _ _ _ _ _ _ => none
  | n + 1 => fun S x2 x3 x4 x5 x6 => f852 sc pc sa pa (r852 sc pc sa pa n) S x2 x3 x4 x5 x6
theorem w852 {sc : Int32} {pc : Int32} {sa : Int32} {pa : Int32} {A : wK → Nat} {h : pm_H} (hP : Ct_P sc pc sa pa) (hA : wok A (Ct_d sc pc sa pa) h.1) : ∀ n, FOK852 sc pc sa pa A h (3 + 1 * n) (r852 sc pc sa pa n)
  | 0 => by
    intro D S x2 x3 x4 x5 x6 r _ e
    exact absurd e (by simp [r852])
  | n + 1 => by
    intro D S x2 x3 x4 x5 x6 r hE e
    exact x852 hP hA (w852 hP hA n) (by omega) (by omega) e
/-- TimberHouse$SheetTrees.draw(LTimberHouse$SheetTrees$CutSheet;I)V -/
theorem c851 {d : Nat} {h : pm_H} {a : Nat} {r0 : Nat} {x1 : Int32} (hc : pm_cls h a = some 13) : pm_call pm_prog (d + 1) 851 [.ref a, .ref r0, .int x1] h = pm_ev pm_prog (pm_call pm_prog d) 851 0 b851_0 [.ref a, .ref r0, .int x1, pm_junk, pm_junk, pm_junk, pm_junk] [] h := pm_cal (pm_rc1 hc rfl) rfl rfl rfl
theorem g851_1 {cl : pm_C} {ls st : List Value} {h : pm_H} : pm_go pm_prog cl 851 1 ls st h = pm_ev pm_prog cl 851 1 b851_1 ls st h := pm_go_eq pm_prog cl 851 1 ls st h
theorem g851_2 {cl : pm_C} {ls st : List Value} {h : pm_H} : pm_go pm_prog cl 851 2 ls st h = pm_ev pm_prog cl 851 2 b851_2 ls st h := pm_go_eq pm_prog cl 851 2 ls st h
theorem g851_3 {cl : pm_C} {ls st : List Value} {h : pm_H} : pm_go pm_prog cl 851 3 ls st h = pm_ev pm_prog cl 851 3 b851_3 ls st h := pm_go_eq pm_prog cl 851 3 ls st h
theorem g851_4 {cl : pm_C} {ls st : List Value} {h : pm_H} : pm_go pm_prog cl 851 4 ls st h = pm_ev pm_prog cl 851 4 b851_4 ls st h := pm_go_eq pm_prog cl 851 4 ls st h
noncomputable def f851_b3 (sc : Int32) (pc : Int32) (sa : Int32) (pa : Int32) : Int32 × Int32 × Int32 × Int32 × Int32 × wS → Option ((Int32 × Int32 × Int32 × Int32 × Int32 × wS) ⊕ ((Int32 × Int32 × Int32 × Int32 × wS))) := fun (x2, x3i, x4, x5, x6, S) =>
  if 0 ≤ x3i ∧ x3i < sc then
    (f4033tv1 sc pc sa pa S).bind fun v4 =>
    if x6 < v4 then
      (f4034tv1 sc pc sa pa S x6).bind fun v5i =>
      if 0 ≤ v5i ∧ v5i < pc then
        if 0 ≤ x6 ∧ x6 < 8 then
          some (.inl (x2, x3i, x4, x5, (x6 + 1), (sz S (14, 0, 0) x6 (S.1 (25, v5i, 0) 4))))
        else none
      else none
    else
      some (.inr (x2, x3i, x4, x5, S))
  else none
noncomputable def f851_2 (sc : Int32) (pc : Int32) (sa : Int32) (pa : Int32) (S : wS) (x2 : Int32) (x3i : Int32) (x4 : Int32) (y0 : Int32) : Option (wS) :=
  if 0 ≤ x3i ∧ x3i < sc then
    (lp (f851_b3 sc pc sa pa) FU (x2, x3i, x4, y0, 0, S)).bind fun (v9, v10i, v11, v12, S6) =>
    if 0 ≤ v10i ∧ v10i < sc then
      (f898 sc pc sa pa S6 v9 v12).bind fun S13 =>
      (f852 sc pc sa pa (r852 sc pc sa pa 200) S13 (v11 + v12) 0 0 (S13.1 (24, v10i, 0) 0) (S13.1 (24, v10i, 0) 1)).bind fun S14 =>
      some S14
    else none
  else none
/-- TimberHouse$SheetTrees.draw(LTimberHouse$SheetTrees$CutSheet;I)V -/
noncomputable def f851 (sc : Int32) (pc : Int32) (sa : Int32) (pa : Int32) (S : wS) (x2 : Int32) : Option (wS) :=
  (f4034t sc pc sa pa S x2).bind fun v1i =>
  if 0 ≤ v1i ∧ v1i < sc then
    (f964 (S.1 (0, 0, 0) 1) 0).bind fun v2 =>
    (f965 sc pc sa pa S (v2 + 1) v2 (S.1 (24, v1i, 0) 0) (S.1 (24, v1i, 0) 1)).bind fun v3 =>
    if v3 = 0 then
      f851_2 sc pc sa pa S x2 v1i v2 0
    else
      f851_2 sc pc sa pa S x2 v1i v2 1
  else none
def go851_3 (sc : Int32) (pc : Int32) (sa : Int32) (pa : Int32) (A : wK → Nat) (h : pm_H) (D : Nat) (R : Outcome × pm_H) : Int32 × Int32 × Int32 × Int32 × Int32 × wS → Prop := fun (x2, x3i, x4, x5, x6, S) => pm_go pm_prog (pm_call pm_prog D) 851 3 [.ref (A (0, 0, 0)), .ref (A (15, 0, 0)), .int x2, .ref (A (24, x3i, 0)), .int x4, .int x5, .int x6] [] (wput A (Ct_d sc pc sa pa) S h) = some R
def ex851_3 (sc : Int32) (pc : Int32) (sa : Int32) (pa : Int32) (A : wK → Nat) (h : pm_H) (D : Nat) (R : Outcome × pm_H) : (Int32 × Int32 × Int32 × Int32 × wS) → Prop := fun (x2, x3i, x4, x5, S) => ∀ q6 : Value, pm_go pm_prog (pm_call pm_prog D) 851 4 [.ref (A (0, 0, 0)), .ref (A (15, 0, 0)), .int x2, .ref (A (24, x3i, 0)), .int x4, .int x5, q6] [] (wput A (Ct_d sc pc sa pa) S h) = some R
theorem y851_b3 {sc : Int32} {pc : Int32} {sa : Int32} {pa : Int32} {A : wK → Nat} {h : pm_H} {D : Nat} {R : Outcome × pm_H} (hP : Ct_P sc pc sa pa) (hA : wok A (Ct_d sc pc sa pa) h.1) (hD : 204 ≤ D) (a : Int32 × Int32 × Int32 × Int32 × Int32 × wS) (r : (Int32 × Int32 × Int32 × Int32 × Int32 × wS) ⊕ ((Int32 × Int32 × Int32 × Int32 × wS))) (e : f851_b3 sc pc sa pa a = some r) (hc : Sum.elim (go851_3 sc pc sa pa A h D R) (ex851_3 sc pc sa pa A h D R) r) : go851_3 sc pc sa pa A h D R a := by
  obtain ⟨x2, x3i, x4, x5, x6, S⟩ := a
  dsimp only [go851_3]
  simp only [f851_b3] at e
  rw [g851_3, b851_3]
  by_cases k1 : 0 ≤ x3i ∧ x3i < sc
  · rw [if_pos k1] at e
    obtain ⟨v4, k2, e⟩ := Option.bind_eq_some_iff.mp e
    try dsimp only at e
    have z2 := x4033tv1 (D := D) (h := h) hP hA (by omega) k2
    by_cases k3 : x6 < v4
    · rw [if_pos k3] at e
      obtain ⟨v5i, k4, e⟩ := Option.bind_eq_some_iff.mp e
      try dsimp only at e
      have z4 := x4034tv1 (D := D) (h := h) hP hA (by omega) k4
      by_cases k5 : 0 ≤ v5i ∧ v5i < pc
      · rw [if_pos k5] at e
        by_cases k6 : 0 ≤ x6 ∧ x6 < 8
        · rw [if_pos k6] at e
          have e := Option.some.inj e; subst e
          dsimp only [Sum.elim_inl, go851_3] at hc
          simp -implicitDefEqProofs (disch := first | assumption | exact Nat.le_of_ble_eq_true rfl | decide) only [b851_0, g851_1, b851_1, g851_4, b851_4, pe_aload0, pe_getfield, pe_iload2, pe_call2, pm_af_ret, pm_af_void, pm_af_thr, pe_astore3, pe_sipush, pe_istore4, pe_iload4, pe_iadd, pe_aload3, pe_call5, pe_if_eq, pe_goto, pe_goto_w, pe_istore5, pe_istore6, pe_iload6, pe_call1, pe_icmp_ge, pe_iastore, pe_iinc6, pe_aload1, pe_iload5, pe_call3, pe_call7, pe_return, pm_prog_1, pm_ob_some, Nat.reduceDiv, Nat.reduceMod, Nat.reduceMul, Nat.reduceAdd, Int.reduceToNat, pm_kill_i, pm_kill_r, pm_kill_n, pm_kill_j, pm_kill_l, pm_kill_d, pm_cats_nil, pm_cats_i, pm_cats_r, pm_cats_n, pm_cats_l, pm_cats_d, sz_1, sz_2, sl_1, sl_2, lc_0, lc_lt, lc_le, li_ne, va_rf, wr_m1, we_m1, pm_kill_w, Int32.reduceOfInt, Int64.reduceOfInt, Int32.reduceOfNat, Int32.reduceLT, Int32.reduceLE, Prod.mk.injEq, Nat.reduceEqDiff, reduceCtorEq, and_true, true_and, and_false, false_and, and_self, ite_true, ite_false, ↓reduceIte, not_true_eq_false, not_false_eq_true, pe_ri, pe_rz, pe_rc, Ct_g0_0 hP hA, Ct_g0_1 hP hA, Ct_g0_3 hP hA, Ct_g0_4 hP hA, Ct_g0_7 hP hA, Ct_g24_0 hP hA, Ct_g24_1 hP hA, Ct_g25_4 hP hA, Ct_k24 hP hA, Ct_k25 hP hA, Ct_w14 hP hA, z2, eq_true k3, z4, hc]
        · rw [if_neg k6] at e; cases e
      · rw [if_neg k5] at e; cases e
    · rw [if_neg k3] at e
      have e := Option.some.inj e; subst e
      dsimp only [Sum.elim_inr, ex851_3] at hc
      simp -implicitDefEqProofs (disch := first | assumption | exact Nat.le_of_ble_eq_true rfl | decide) only [b851_0, g851_1, b851_1, g851_4, b851_4, pe_aload0, pe_getfield, pe_iload2, pe_call2, pm_af_ret, pm_af_void, pm_af_thr, pe_astore3, pe_sipush, pe_istore4, pe_iload4, pe_iadd, pe_aload3, pe_call5, pe_if_eq, pe_goto, pe_goto_w, pe_istore5, pe_istore6, pe_iload6, pe_call1, pe_icmp_ge, pe_iastore, pe_iinc6, pe_aload1, pe_iload5, pe_call3, pe_call7, pe_return, pm_prog_1, pm_ob_some, Nat.reduceDiv, Nat.reduceMod, Nat.reduceMul, Nat.reduceAdd, Int.reduceToNat, pm_kill_i, pm_kill_r, pm_kill_n, pm_kill_j, pm_kill_l, pm_kill_d, pm_cats_nil, pm_cats_i, pm_cats_r, pm_cats_n, pm_cats_l, pm_cats_d, sz_1, sz_2, sl_1, sl_2, lc_0, lc_lt, lc_le, li_ne, va_rf, wr_m1, we_m1, pm_kill_w, Int32.reduceOfInt, Int64.reduceOfInt, Int32.reduceOfNat, Int32.reduceLT, Int32.reduceLE, Prod.mk.injEq, Nat.reduceEqDiff, reduceCtorEq, and_true, true_and, and_false, false_and, and_self, ite_true, ite_false, ↓reduceIte, not_true_eq_false, not_false_eq_true, pe_ri, pe_rz, pe_rc, Ct_g0_0 hP hA, Ct_g0_1 hP hA, Ct_g0_3 hP hA, Ct_g0_4 hP hA, Ct_g0_7 hP hA, Ct_g24_0 hP hA, Ct_g24_1 hP hA, Ct_g25_4 hP hA, Ct_k24 hP hA, Ct_k25 hP hA, Ct_w14 hP hA, z2, eq_false k3, hc]
  · rw [if_neg k1] at e; cases e
theorem z851_3 {sc : Int32} {pc : Int32} {sa : Int32} {pa : Int32} {A : wK → Nat} {h : pm_H} {D : Nat} {R : Outcome × pm_H} (hP : Ct_P sc pc sa pa) (hA : wok A (Ct_d sc pc sa pa) h.1) (hD : 204 ≤ D) {n : Nat} {a : Int32 × Int32 × Int32 × Int32 × Int32 × wS} {b : (Int32 × Int32 × Int32 × Int32 × wS)} (e : lp (f851_b3 sc pc sa pa) n a = some b) (hx : ex851_3 sc pc sa pa A h D R b) : go851_3 sc pc sa pa A h D R a := lp_run (fun a r => y851_b3 hP hA hD a r) n a b e hx
theorem y851_2 {sc : Int32} {pc : Int32} {sa : Int32} {pa : Int32} {A : wK → Nat} {h : pm_H} {D : Nat} {S : wS} {x2 : Int32} {x3i : Int32} {x4 : Int32} {y0 : Int32} {r : wS} (hP : Ct_P sc pc sa pa) (hA : wok A (Ct_d sc pc sa pa) h.1) (hD : 204 ≤ D) (e : f851_2 sc pc sa pa S x2 x3i x4 y0 = some r) : ∀ q5 q6 : Value, pm_go pm_prog (pm_call pm_prog D) 851 2 [.ref (A (0, 0, 0)), .ref (A (15, 0, 0)), .int x2, .ref (A (24, x3i, 0)), .int x4, q5, q6] [.int y0] (wput A (Ct_d sc pc sa pa) S h) = some (Outcome.returned none, (wput A (Ct_d sc pc sa pa) r h)) := by
  intro q5 q6
  simp only [f851_2] at e
  rw [g851_2, b851_2]
  by_cases k1 : 0 ≤ x3i ∧ x3i < sc
  · rw [if_pos k1] at e
    obtain ⟨⟨v9, v10i, v11, v12, S6⟩, k2, e⟩ := Option.bind_eq_some_iff.mp e
    try dsimp only at e
    try simp -implicitDefEqProofs (disch := first | assumption | exact Nat.le_of_ble_eq_true rfl | decide) only [b851_0, g851_1, b851_1, g851_4, b851_4, pe_aload0, pe_getfield, pe_iload2, pe_call2, pm_af_ret, pm_af_void, pm_af_thr, pe_astore3, pe_sipush, pe_istore4, pe_iload4, pe_iadd, pe_aload3, pe_call5, pe_if_eq, pe_goto, pe_goto_w, pe_istore5, pe_istore6, pe_iload6, pe_call1, pe_icmp_ge, pe_iastore, pe_iinc6, pe_aload1, pe_iload5, pe_call3, pe_call7, pe_return, pm_prog_1, pm_ob_some, Nat.reduceDiv, Nat.reduceMod, Nat.reduceMul, Nat.reduceAdd, Int.reduceToNat, pm_kill_i, pm_kill_r, pm_kill_n, pm_kill_j, pm_kill_l, pm_kill_d, pm_cats_nil, pm_cats_i, pm_cats_r, pm_cats_n, pm_cats_l, pm_cats_d, sz_1, sz_2, sl_1, sl_2, lc_0, lc_lt, lc_le, li_ne, va_rf, wr_m1, we_m1, pm_kill_w, Int32.reduceOfInt, Int64.reduceOfInt, Int32.reduceOfNat, Int32.reduceLT, Int32.reduceLE, Prod.mk.injEq, Nat.reduceEqDiff, reduceCtorEq, and_true, true_and, and_false, false_and, and_self, ite_true, ite_false, ↓reduceIte, not_true_eq_false, not_false_eq_true, pe_ri, pe_rz, pe_rc, Ct_g0_0 hP hA, Ct_g0_1 hP hA, Ct_g0_3 hP hA, Ct_g0_4 hP hA, Ct_g0_7 hP hA, Ct_g24_0 hP hA, Ct_g24_1 hP hA, Ct_g25_4 hP hA, Ct_k24 hP hA, Ct_k25 hP hA, Ct_w14 hP hA]
    refine z851_3 hP hA hD k2 ?_
    dsimp only [ex851_3]
    intro q6
    by_cases k3 : 0 ≤ v10i ∧ v10i < sc
    · rw [if_pos k3] at e
      obtain ⟨S13, k4, e⟩ := Option.bind_eq_some_iff.mp e
      try dsimp only at e
      have z4 := x898 (D := D) (h := h) hP hA (by omega) k4
      obtain ⟨S14, k5, e⟩ := Option.bind_eq_some_iff.mp e
      try dsimp only at e
      have z5 := x852 (D := D) (h := h) hP hA (w852 hP hA 200) (by omega) (by omega) k5
      have e := Option.some.inj e; subst e
      simp -implicitDefEqProofs (disch := first | assumption | exact Nat.le_of_ble_eq_true rfl | decide) only [b851_0, g851_1, b851_1, g851_4, b851_4, pe_aload0, pe_getfield, pe_iload2, pe_call2, pm_af_ret, pm_af_void, pm_af_thr, pe_astore3, pe_sipush, pe_istore4, pe_iload4, pe_iadd, pe_aload3, pe_call5, pe_if_eq, pe_goto, pe_goto_w, pe_istore5, pe_istore6, pe_iload6, pe_call1, pe_icmp_ge, pe_iastore, pe_iinc6, pe_aload1, pe_iload5, pe_call3, pe_call7, pe_return, pm_prog_1, pm_ob_some, Nat.reduceDiv, Nat.reduceMod, Nat.reduceMul, Nat.reduceAdd, Int.reduceToNat, pm_kill_i, pm_kill_r, pm_kill_n, pm_kill_j, pm_kill_l, pm_kill_d, pm_cats_nil, pm_cats_i, pm_cats_r, pm_cats_n, pm_cats_l, pm_cats_d, sz_1, sz_2, sl_1, sl_2, lc_0, lc_lt, lc_le, li_ne, va_rf, wr_m1, we_m1, pm_kill_w, Int32.reduceOfInt, Int64.reduceOfInt, Int32.reduceOfNat, Int32.reduceLT, Int32.reduceLE, Prod.mk.injEq, Nat.reduceEqDiff, reduceCtorEq, and_true, true_and, and_false, false_and, and_self, ite_true, ite_false, ↓reduceIte, not_true_eq_false, not_false_eq_true, pe_ri, pe_rz, pe_rc, Ct_g0_0 hP hA, Ct_g0_1 hP hA, Ct_g0_3 hP hA, Ct_g0_4 hP hA, Ct_g0_7 hP hA, Ct_g24_0 hP hA, Ct_g24_1 hP hA, Ct_g25_4 hP hA, Ct_k24 hP hA, Ct_k25 hP hA, Ct_w14 hP hA, z4, z5]
    · rw [if_neg k3] at e; cases e
  · rw [if_neg k1] at e; cases e
theorem x851 {sc : Int32} {pc : Int32} {sa : Int32} {pa : Int32} {A : wK → Nat} {h : pm_H} {D : Nat} {S : wS} {x2 : Int32} {r : wS} (hP : Ct_P sc pc sa pa) (hA : wok A (Ct_d sc pc sa pa) h.1) (hD : 205 ≤ D) (e : f851 sc pc sa pa S x2 = some r) : pm_call pm_prog D 851 [.ref (A (0, 0, 0)), .ref (A (15, 0, 0)), .int x2] (wput A (Ct_d sc pc sa pa) S h) = some (Outcome.returned none, (wput A (Ct_d sc pc sa pa) r h)) := by
  obtain ⟨D, rfl⟩ : ∃ D', D = D' + 1 := ⟨D - 1, by omega⟩
  have hD : 204 ≤ D := by omega
  simp only [f851] at e
  rw [c851 (Ct_c0 hP hA), b851_0]
  obtain ⟨v1i, k1, e⟩ := Option.bind_eq_some_iff.mp e
  try dsimp only at e
  have z1 := x4034t (D := D) (h := h) hP hA (by omega) k1
  by_cases k2 : 0 ≤ v1i ∧ v1i < sc
  · rw [if_pos k2] at e
    obtain ⟨v2, k3, e⟩ := Option.bind_eq_some_iff.mp e
    try dsimp only at e
    have z3 := fun h => x964 (D := D) (h := h) (by omega) k3
    obtain ⟨v3, k4, e⟩ := Option.bind_eq_some_iff.mp e
    try dsimp only at e
    have z4 := x965 (D := D) (h := h) hP hA (by omega) k4
    by_cases k5 : v3 = 0
    · rw [if_pos k5] at e
      have k6 := y851_2 (h := h) hP hA hD e
      simp -implicitDefEqProofs (disch := first | assumption | exact Nat.le_of_ble_eq_true rfl | decide) only [b851_0, g851_1, b851_1, g851_4, b851_4, pe_aload0, pe_getfield, pe_iload2, pe_call2, pm_af_ret, pm_af_void, pm_af_thr, pe_astore3, pe_sipush, pe_istore4, pe_iload4, pe_iadd, pe_aload3, pe_call5, pe_if_eq, pe_goto, pe_goto_w, pe_istore5, pe_istore6, pe_iload6, pe_call1, pe_icmp_ge, pe_iastore, pe_iinc6, pe_aload1, pe_iload5, pe_call3, pe_call7, pe_return, pm_prog_1, pm_ob_some, Nat.reduceDiv, Nat.reduceMod, Nat.reduceMul, Nat.reduceAdd, Int.reduceToNat, pm_kill_i, pm_kill_r, pm_kill_n, pm_kill_j, pm_kill_l, pm_kill_d, pm_cats_nil, pm_cats_i, pm_cats_r, pm_cats_n, pm_cats_l, pm_cats_d, sz_1, sz_2, sl_1, sl_2, lc_0, lc_lt, lc_le, li_ne, va_rf, wr_m1, we_m1, pm_kill_w, Int32.reduceOfInt, Int64.reduceOfInt, Int32.reduceOfNat, Int32.reduceLT, Int32.reduceLE, Prod.mk.injEq, Nat.reduceEqDiff, reduceCtorEq, and_true, true_and, and_false, false_and, and_self, ite_true, ite_false, ↓reduceIte, not_true_eq_false, not_false_eq_true, pe_ri, pe_rz, pe_rc, Ct_g0_0 hP hA, Ct_g0_1 hP hA, Ct_g0_3 hP hA, Ct_g0_4 hP hA, Ct_g0_7 hP hA, Ct_g24_0 hP hA, Ct_g24_1 hP hA, Ct_g25_4 hP hA, Ct_k24 hP hA, Ct_k25 hP hA, Ct_w14 hP hA, z1, z3, z4, eq_true k5, k6]
    · rw [if_neg k5] at e
      have k7 := y851_2 (h := h) hP hA hD e
      simp -implicitDefEqProofs (disch := first | assumption | exact Nat.le_of_ble_eq_true rfl | decide) only [b851_0, g851_1, b851_1, g851_4, b851_4, pe_aload0, pe_getfield, pe_iload2, pe_call2, pm_af_ret, pm_af_void, pm_af_thr, pe_astore3, pe_sipush, pe_istore4, pe_iload4, pe_iadd, pe_aload3, pe_call5, pe_if_eq, pe_goto, pe_goto_w, pe_istore5, pe_istore6, pe_iload6, pe_call1, pe_icmp_ge, pe_iastore, pe_iinc6, pe_aload1, pe_iload5, pe_call3, pe_call7, pe_return, pm_prog_1, pm_ob_some, Nat.reduceDiv, Nat.reduceMod, Nat.reduceMul, Nat.reduceAdd, Int.reduceToNat, pm_kill_i, pm_kill_r, pm_kill_n, pm_kill_j, pm_kill_l, pm_kill_d, pm_cats_nil, pm_cats_i, pm_cats_r, pm_cats_n, pm_cats_l, pm_cats_d, sz_1, sz_2, sl_1, sl_2, lc_0, lc_lt, lc_le, li_ne, va_rf, wr_m1, we_m1, pm_kill_w, Int32.reduceOfInt, Int64.reduceOfInt, Int32.reduceOfNat, Int32.reduceLT, Int32.reduceLE, Prod.mk.injEq, Nat.reduceEqDiff, reduceCtorEq, and_true, true_and, and_false, false_and, and_self, ite_true, ite_false, ↓reduceIte, not_true_eq_false, not_false_eq_true, pe_ri, pe_rz, pe_rc, Ct_g0_0 hP hA, Ct_g0_1 hP hA, Ct_g0_3 hP hA, Ct_g0_4 hP hA, Ct_g0_7 hP hA, Ct_g24_0 hP hA, Ct_g24_1 hP hA, Ct_g25_4 hP hA, Ct_k24 hP hA, Ct_k25 hP hA, Ct_w14 hP hA, z1, z3, z4, eq_false k5, k7]
  · rw [if_neg k2] at e; cases e
/-- TimberHouse$SheetTrees.next()I -/
theorem c850 {d : Nat} {h : pm_H} {a : Nat} (hc : pm_cls h a = some 13) : pm_call pm_prog (d + 1) 850 [.ref a] h = pm_ev pm_prog (pm_call pm_prog d) 850 0 b850_0 [.ref a, pm_junk, pm_junk, pm_junk, pm_junk] [] h := pm_cal (pm_rc1 hc rfl) rfl rfl rfl
theorem g850_1 {cl : pm_C} {ls st : List Value} {h : pm_H} : pm_go pm_prog cl 850 1 ls st h = pm_ev pm_prog cl 850 1 b850_1 ls st h := pm_go_eq pm_prog cl 850 1 ls st h
theorem g850_2 {cl : pm_C} {ls st : List Value} {h : pm_H} : pm_go pm_prog cl 850 2 ls st h = pm_ev pm_prog cl 850 2 b850_2 ls st h := pm_go_eq pm_prog cl 850 2 ls st h
theorem g850_3 {cl : pm_C} {ls st : List Value} {h : pm_H} : pm_go pm_prog cl 850 3 ls st h = pm_ev pm_prog cl 850 3 b850_3 ls st h := pm_go_eq pm_prog cl 850 3 ls st h
theorem g850_4 {cl : pm_C} {ls st : List Value} {h : pm_H} : pm_go pm_prog cl 850 4 ls st h = pm_ev pm_prog cl 850 4 b850_4 ls st h := pm_go_eq pm_prog cl 850 4 ls st h
theorem g850_5 {cl : pm_C} {ls st : List Value} {h : pm_H} : pm_go pm_prog cl 850 5 ls st h = pm_ev pm_prog cl 850 5 b850_5 ls st h := pm_go_eq pm_prog cl 850 5 ls st h
noncomputable def f850_b1 (sc : Int32) (pc : Int32) (sa : Int32) (pa : Int32) : Int32 × Int32 × Int32 × wS → Option ((Int32 × Int32 × Int32 × wS) ⊕ ((Int32 × wS))) := fun (x1, x2, x3, S) =>
  (f4033t sc pc sa pa S).bind fun v1 =>
  if x3 < v1 then
    (f4034t sc pc sa pa S x3).bind fun v2i =>
    if 0 ≤ v2i ∧ v2i < sc then
      if (S.1 (24, v2i, 0) 4) = 0 then
        some (.inl (x1, x2, (x3 + 1), S))
      else
        (f851 sc pc sa pa S x3).bind fun S3 =>
        if (S3.1 (15, 0, 0) 5) ≤ 0 then
          some (.inl (x1, x2, (x3 + 1), S3))
        else
          if x1 = (-1) then
            some (.inl (x3, (S3.1 (15, 0, 0) 5), (x3 + 1), S3))
          else
            (f4034t sc pc sa pa S3 x1).bind fun v4i =>
            if 0 ≤ v4i ∧ v4i < sc then
              if ((S3.1 (15, 0, 0) 5) * (S3.1 (24, v4i, 0) 2)) ≤ (x2 * (S3.1 (24, v2i, 0) 2)) then
                some (.inl (x1, x2, (x3 + 1), S3))
              else
                some (.inl (x3, (S3.1 (15, 0, 0) 5), (x3 + 1), S3))
            else none
    else none
  else
    some (.inr (x1, S))
/-- TimberHouse$SheetTrees.next()I -/
noncomputable def f850 (sc : Int32) (pc : Int32) (sa : Int32) (pa : Int32) (S : wS) : Option (Int32 × wS) :=
  (lp (f850_b1 sc pc sa pa) FU ((-1), 0, 0, S)).bind fun (v6, S5) =>
  some (v6, S5)
def go850_1 (sc : Int32) (pc : Int32) (sa : Int32) (pa : Int32) (A : wK → Nat) (h : pm_H) (D : Nat) (R : Outcome × pm_H) : Int32 × Int32 × Int32 × wS → Prop := fun (x1, x2, x3, S) => ∀ q4 : Value, pm_go pm_prog (pm_call pm_prog D) 850 1 [.ref (A (0, 0, 0)), .int x1, .int x2, .int x3, q4] [] (wput A (Ct_d sc pc sa pa) S h) = some R
def ex850_1 (sc : Int32) (pc : Int32) (sa : Int32) (pa : Int32) (A : wK → Nat) (h : pm_H) (D : Nat) (R : Outcome × pm_H) : (Int32 × wS) → Prop := fun (x1, S) => ∀ q0 q2 q3 q4 : Value, pm_go pm_prog (pm_call pm_prog D) 850 5 [q0, .int x1, q2, q3, q4] [] (wput A (Ct_d sc pc sa pa) S h) = some R
theorem y850_b1 {sc : Int32} {pc : Int32} {sa : Int32} {pa : Int32} {A : wK → Nat} {h : pm_H} {D : Nat} {R : Outcome × pm_H} (hP : Ct_P sc pc sa pa) (hA : wok A (Ct_d sc pc sa pa) h.1) (hD : 205 ≤ D) (a : Int32 × Int32 × Int32 × wS) (r : (Int32 × Int32 × Int32 × wS) ⊕ ((Int32 × wS))) (e : f850_b1 sc pc sa pa a = some r) (hc : Sum.elim (go850_1 sc pc sa pa A h D R) (ex850_1 sc pc sa pa A h D R) r) : go850_1 sc pc sa pa A h D R a := by
  obtain ⟨x1, x2, x3, S⟩ := a
  dsimp only [go850_1]
  intro q4
  simp only [f850_b1] at e
  rw [g850_1, b850_1]
  obtain ⟨v1, k1, e⟩ := Option.bind_eq_some_iff.mp e
  try dsimp only at e
  have z1 := x4033t (D := D) (h := h) hP hA (by omega) k1
  by_cases k2 : x3 < v1
  · rw [if_pos k2] at e
    obtain ⟨v2i, k3, e⟩ := Option.bind_eq_some_iff.mp e
    try dsimp only at e
    have z3 := x4034t (D := D) (h := h) hP hA (by omega) k3
    by_cases k4 : 0 ≤ v2i ∧ v2i < sc
    · rw [if_pos k4] at e
      by_cases k5 : (S.1 (24, v2i, 0) 4) = 0
      · rw [if_pos k5] at e
        have e := Option.some.inj e; subst e
        dsimp only [Sum.elim_inl, go850_1] at hc
        simp -implicitDefEqProofs (disch := first | assumption | exact Nat.le_of_ble_eq_true rfl | decide) only [b850_0, g850_2, b850_2, g850_3, b850_3, g850_4, b850_4, g850_5, b850_5, pe_sipush, pe_istore1, pe_istore2, pe_istore3, pe_goto_w, pe_iload3, pe_aload0, pe_getfield, pe_call1, pm_af_ret, pm_af_void, pm_af_thr, pe_icmp_ge, pe_call2, pe_astore4, pe_aload4, pe_if_ne, pe_goto, pe_call3, pe_if_le, pe_iload1, pe_icmp_eq, pe_imul, pe_iload2, pe_icmp_le, pe_iinc3, pm_prog_1, pm_ob_some, Nat.reduceDiv, Nat.reduceMod, Nat.reduceMul, Nat.reduceAdd, Int.reduceToNat, pm_kill_i, pm_kill_r, pm_kill_n, pm_kill_j, pm_kill_l, pm_kill_d, pm_cats_nil, pm_cats_i, pm_cats_r, pm_cats_n, pm_cats_l, pm_cats_d, sz_1, sz_2, sl_1, sl_2, lc_0, lc_lt, lc_le, li_ne, va_rf, wr_m1, we_m1, pm_kill_w, Int32.reduceOfInt, Int64.reduceOfInt, Int32.reduceOfNat, Int32.reduceLT, Int32.reduceLE, Prod.mk.injEq, Nat.reduceEqDiff, reduceCtorEq, and_true, true_and, and_false, false_and, and_self, ite_true, ite_false, ↓reduceIte, not_true_eq_false, not_false_eq_true, pe_ri, pe_rz, pe_rc, Ct_g0_3 hP hA, Ct_g0_6 hP hA, Ct_g15_5 hP hA, Ct_g24_2 hP hA, Ct_g24_4 hP hA, Ct_k24 hP hA, z1, eq_true k2, z3, eq_true k5, hc]
      · rw [if_neg k5] at e
        obtain ⟨S3, k6, e⟩ := Option.bind_eq_some_iff.mp e
        try dsimp only at e
        have z6 := x851 (D := D) (h := h) hP hA (by omega) k6
        by_cases k7 : (S3.1 (15, 0, 0) 5) ≤ 0
        · rw [if_pos k7] at e
          have e := Option.some.inj e; subst e
          dsimp only [Sum.elim_inl, go850_1] at hc
          simp -implicitDefEqProofs (disch := first | assumption | exact Nat.le_of_ble_eq_true rfl | decide) only [b850_0, g850_2, b850_2, g850_3, b850_3, g850_4, b850_4, g850_5, b850_5, pe_sipush, pe_istore1, pe_istore2, pe_istore3, pe_goto_w, pe_iload3, pe_aload0, pe_getfield, pe_call1, pm_af_ret, pm_af_void, pm_af_thr, pe_icmp_ge, pe_call2, pe_astore4, pe_aload4, pe_if_ne, pe_goto, pe_call3, pe_if_le, pe_iload1, pe_icmp_eq, pe_imul, pe_iload2, pe_icmp_le, pe_iinc3, pm_prog_1, pm_ob_some, Nat.reduceDiv, Nat.reduceMod, Nat.reduceMul, Nat.reduceAdd, Int.reduceToNat, pm_kill_i, pm_kill_r, pm_kill_n, pm_kill_j, pm_kill_l, pm_kill_d, pm_cats_nil, pm_cats_i, pm_cats_r, pm_cats_n, pm_cats_l, pm_cats_d, sz_1, sz_2, sl_1, sl_2, lc_0, lc_lt, lc_le, li_ne, va_rf, wr_m1, we_m1, pm_kill_w, Int32.reduceOfInt, Int64.reduceOfInt, Int32.reduceOfNat, Int32.reduceLT, Int32.reduceLE, Prod.mk.injEq, Nat.reduceEqDiff, reduceCtorEq, and_true, true_and, and_false, false_and, and_self, ite_true, ite_false, ↓reduceIte, not_true_eq_false, not_false_eq_true, pe_ri, pe_rz, pe_rc, Ct_g0_3 hP hA, Ct_g0_6 hP hA, Ct_g15_5 hP hA, Ct_g24_2 hP hA, Ct_g24_4 hP hA, Ct_k24 hP hA, z1, eq_true k2, z3, eq_false k5, z6, eq_true k7, hc]
        · rw [if_neg k7] at e
          by_cases k8 : x1 = (-1)
          · rw [if_pos k8] at e
            have e := Option.some.inj e; subst e
            dsimp only [Sum.elim_inl, go850_1] at hc
            simp -implicitDefEqProofs (disch := first | assumption | exact Nat.le_of_ble_eq_true rfl | decide) only [b850_0, g850_2, b850_2, g850_3, b850_3, g850_4, b850_4, g850_5, b850_5, pe_sipush, pe_istore1, pe_istore2, pe_istore3, pe_goto_w, pe_iload3, pe_aload0, pe_getfield, pe_call1, pm_af_ret, pm_af_void, pm_af_thr, pe_icmp_ge, pe_call2, pe_astore4, pe_aload4, pe_if_ne, pe_goto, pe_call3, pe_if_le, pe_iload1, pe_icmp_eq, pe_imul, pe_iload2, pe_icmp_le, pe_iinc3, pm_prog_1, pm_ob_some, Nat.reduceDiv, Nat.reduceMod, Nat.reduceMul, Nat.reduceAdd, Int.reduceToNat, pm_kill_i, pm_kill_r, pm_kill_n, pm_kill_j, pm_kill_l, pm_kill_d, pm_cats_nil, pm_cats_i, pm_cats_r, pm_cats_n, pm_cats_l, pm_cats_d, sz_1, sz_2, sl_1, sl_2, lc_0, lc_lt, lc_le, li_ne, va_rf, wr_m1, we_m1, pm_kill_w, Int32.reduceOfInt, Int64.reduceOfInt, Int32.reduceOfNat, Int32.reduceLT, Int32.reduceLE, Prod.mk.injEq, Nat.reduceEqDiff, reduceCtorEq, and_true, true_and, and_false, false_and, and_self, ite_true, ite_false, ↓reduceIte, not_true_eq_false, not_false_eq_true, pe_ri, pe_rz, pe_rc, Ct_g0_3 hP hA, Ct_g0_6 hP hA, Ct_g15_5 hP hA, Ct_g24_2 hP hA, Ct_g24_4 hP hA, Ct_k24 hP hA, z1, eq_true k2, z3, eq_false k5, z6, eq_false k7, eq_true k8, hc]
          · rw [if_neg k8] at e
            obtain ⟨v4i, k9, e⟩ := Option.bind_eq_some_iff.mp e
            try dsimp only at e
            have z9 := x4034t (D := D) (h := h) hP hA (by omega) k9
            by_cases k10 : 0 ≤ v4i ∧ v4i < sc
            · rw [if_pos k10] at e
              by_cases k11 : ((S3.1 (15, 0, 0) 5) * (S3.1 (24, v4i, 0) 2)) ≤ (x2 * (S3.1 (24, v2i, 0) 2))
              · rw [if_pos k11] at e
                have e := Option.some.inj e; subst e
                dsimp only [Sum.elim_inl, go850_1] at hc
                simp -implicitDefEqProofs (disch := first | assumption | exact Nat.le_of_ble_eq_true rfl | decide) only [b850_0, g850_2, b850_2, g850_3, b850_3, g850_4, b850_4, g850_5, b850_5, pe_sipush, pe_istore1, pe_istore2, pe_istore3, pe_goto_w, pe_iload3, pe_aload0, pe_getfield, pe_call1, pm_af_ret, pm_af_void, pm_af_thr, pe_icmp_ge, pe_call2, pe_astore4, pe_aload4, pe_if_ne, pe_goto, pe_call3, pe_if_le, pe_iload1, pe_icmp_eq, pe_imul, pe_iload2, pe_icmp_le, pe_iinc3, pm_prog_1, pm_ob_some, Nat.reduceDiv, Nat.reduceMod, Nat.reduceMul, Nat.reduceAdd, Int.reduceToNat, pm_kill_i, pm_kill_r, pm_kill_n, pm_kill_j, pm_kill_l, pm_kill_d, pm_cats_nil, pm_cats_i, pm_cats_r, pm_cats_n, pm_cats_l, pm_cats_d, sz_1, sz_2, sl_1, sl_2, lc_0, lc_lt, lc_le, li_ne, va_rf, wr_m1, we_m1, pm_kill_w, Int32.reduceOfInt, Int64.reduceOfInt, Int32.reduceOfNat, Int32.reduceLT, Int32.reduceLE, Prod.mk.injEq, Nat.reduceEqDiff, reduceCtorEq, and_true, true_and, and_false, false_and, and_self, ite_true, ite_false, ↓reduceIte, not_true_eq_false, not_false_eq_true, pe_ri, pe_rz, pe_rc, Ct_g0_3 hP hA, Ct_g0_6 hP hA, Ct_g15_5 hP hA, Ct_g24_2 hP hA, Ct_g24_4 hP hA, Ct_k24 hP hA, z1, eq_true k2, z3, eq_false k5, z6, eq_false k7, eq_false k8, z9, eq_true k11, hc]
              · rw [if_neg k11] at e
                have e := Option.some.inj e; subst e
                dsimp only [Sum.elim_inl, go850_1] at hc
                simp -implicitDefEqProofs (disch := first | assumption | exact Nat.le_of_ble_eq_true rfl | decide) only [b850_0, g850_2, b850_2, g850_3, b850_3, g850_4, b850_4, g850_5, b850_5, pe_sipush, pe_istore1, pe_istore2, pe_istore3, pe_goto_w, pe_iload3, pe_aload0, pe_getfield, pe_call1, pm_af_ret, pm_af_void, pm_af_thr, pe_icmp_ge, pe_call2, pe_astore4, pe_aload4, pe_if_ne, pe_goto, pe_call3, pe_if_le, pe_iload1, pe_icmp_eq, pe_imul, pe_iload2, pe_icmp_le, pe_iinc3, pm_prog_1, pm_ob_some, Nat.reduceDiv, Nat.reduceMod, Nat.reduceMul, Nat.reduceAdd, Int.reduceToNat, pm_kill_i, pm_kill_r, pm_kill_n, pm_kill_j, pm_kill_l, pm_kill_d, pm_cats_nil, pm_cats_i, pm_cats_r, pm_cats_n, pm_cats_l, pm_cats_d, sz_1, sz_2, sl_1, sl_2, lc_0, lc_lt, lc_le, li_ne, va_rf, wr_m1, we_m1, pm_kill_w, Int32.reduceOfInt, Int64.reduceOfInt, Int32.reduceOfNat, Int32.reduceLT, Int32.reduceLE, Prod.mk.injEq, Nat.reduceEqDiff, reduceCtorEq, and_true, true_and, and_false, false_and, and_self, ite_true, ite_false, ↓reduceIte, not_true_eq_false, not_false_eq_true, pe_ri, pe_rz, pe_rc, Ct_g0_3 hP hA, Ct_g0_6 hP hA, Ct_g15_5 hP hA, Ct_g24_2 hP hA, Ct_g24_4 hP hA, Ct_k24 hP hA, z1, eq_true k2, z3, eq_false k5, z6, eq_false k7, eq_false k8, z9, eq_false k11, hc]
            · rw [if_neg k10] at e; cases e
    · rw [if_neg k4] at e; cases e
  · rw [if_neg k2] at e
    have e := Option.some.inj e; subst e
    dsimp only [Sum.elim_inr, ex850_1] at hc
    simp -implicitDefEqProofs (disch := first | assumption | exact Nat.le_of_ble_eq_true rfl | decide) only [b850_0, g850_2, b850_2, g850_3, b850_3, g850_4, b850_4, g850_5, b850_5, pe_sipush, pe_istore1, pe_istore2, pe_istore3, pe_goto_w, pe_iload3, pe_aload0, pe_getfield, pe_call1, pm_af_ret, pm_af_void, pm_af_thr, pe_icmp_ge, pe_call2, pe_astore4, pe_aload4, pe_if_ne, pe_goto, pe_call3, pe_if_le, pe_iload1, pe_icmp_eq, pe_imul, pe_iload2, pe_icmp_le, pe_iinc3, pm_prog_1, pm_ob_some, Nat.reduceDiv, Nat.reduceMod, Nat.reduceMul, Nat.reduceAdd, Int.reduceToNat, pm_kill_i, pm_kill_r, pm_kill_n, pm_kill_j, pm_kill_l, pm_kill_d, pm_cats_nil, pm_cats_i, pm_cats_r, pm_cats_n, pm_cats_l, pm_cats_d, sz_1, sz_2, sl_1, sl_2, lc_0, lc_lt, lc_le, li_ne, va_rf, wr_m1, we_m1, pm_kill_w, Int32.reduceOfInt, Int64.reduceOfInt, Int32.reduceOfNat, Int32.reduceLT, Int32.reduceLE, Prod.mk.injEq, Nat.reduceEqDiff, reduceCtorEq, and_true, true_and, and_false, false_and, and_self, ite_true, ite_false, ↓reduceIte, not_true_eq_false, not_false_eq_true, pe_ri, pe_rz, pe_rc, Ct_g0_3 hP hA, Ct_g0_6 hP hA, Ct_g15_5 hP hA, Ct_g24_2 hP hA, Ct_g24_4 hP hA, Ct_k24 hP hA, z1, eq_false k2, hc]
theorem z850_1 {sc : Int32} {pc : Int32} {sa : Int32} {pa : Int32} {A : wK → Nat} {h : pm_H} {D : Nat} {R : Outcome × pm_H} (hP : Ct_P sc pc sa pa) (hA : wok A (Ct_d sc pc sa pa) h.1) (hD : 205 ≤ D) {n : Nat} {a : Int32 × Int32 × Int32 × wS} {b : (Int32 × wS)} (e : lp (f850_b1 sc pc sa pa) n a = some b) (hx : ex850_1 sc pc sa pa A h D R b) : go850_1 sc pc sa pa A h D R a := lp_run (fun a r => y850_b1 hP hA hD a r) n a b e hx
theorem x850 {sc : Int32} {pc : Int32} {sa : Int32} {pa : Int32} {A : wK → Nat} {h : pm_H} {D : Nat} {S : wS} {r : Int32 × wS} (hP : Ct_P sc pc sa pa) (hA : wok A (Ct_d sc pc sa pa) h.1) (hD : 206 ≤ D) (e : f850 sc pc sa pa S = some r) : pm_call pm_prog D 850 [.ref (A (0, 0, 0))] (wput A (Ct_d sc pc sa pa) S h) = some (match (generalizing := false) r with | (w0, S1) => (Outcome.returned (some (.int w0)), (wput A (Ct_d sc pc sa pa) S1 h))) := by
  obtain ⟨D, rfl⟩ : ∃ D', D = D' + 1 := ⟨D - 1, by omega⟩
  have hD : 205 ≤ D := by omega
  simp only [f850] at e
  rw [c850 (Ct_c0 hP hA), b850_0]
  obtain ⟨⟨v6, S5⟩, k1, e⟩ := Option.bind_eq_some_iff.mp e
  try dsimp only at e
  try simp -implicitDefEqProofs (disch := first | assumption | exact Nat.le_of_ble_eq_true rfl | decide) only [b850_0, g850_2, b850_2, g850_3, b850_3, g850_4, b850_4, g850_5, b850_5, pe_sipush, pe_istore1, pe_istore2, pe_istore3, pe_goto_w, pe_iload3, pe_aload0, pe_getfield, pe_call1, pm_af_ret, pm_af_void, pm_af_thr, pe_icmp_ge, pe_call2, pe_astore4, pe_aload4, pe_if_ne, pe_goto, pe_call3, pe_if_le, pe_iload1, pe_icmp_eq, pe_imul, pe_iload2, pe_icmp_le, pe_iinc3, pm_prog_1, pm_ob_some, Nat.reduceDiv, Nat.reduceMod, Nat.reduceMul, Nat.reduceAdd, Int.reduceToNat, pm_kill_i, pm_kill_r, pm_kill_n, pm_kill_j, pm_kill_l, pm_kill_d, pm_cats_nil, pm_cats_i, pm_cats_r, pm_cats_n, pm_cats_l, pm_cats_d, sz_1, sz_2, sl_1, sl_2, lc_0, lc_lt, lc_le, li_ne, va_rf, wr_m1, we_m1, pm_kill_w, Int32.reduceOfInt, Int64.reduceOfInt, Int32.reduceOfNat, Int32.reduceLT, Int32.reduceLE, Prod.mk.injEq, Nat.reduceEqDiff, reduceCtorEq, and_true, true_and, and_false, false_and, and_self, ite_true, ite_false, ↓reduceIte, not_true_eq_false, not_false_eq_true, pe_ri, pe_rz, pe_rc, Ct_g0_3 hP hA, Ct_g0_6 hP hA, Ct_g15_5 hP hA, Ct_g24_2 hP hA, Ct_g24_4 hP hA, Ct_k24 hP hA]
  refine z850_1 hP hA hD k1 ?_ _
  dsimp only [ex850_1]
  intro q0 q2 q3 q4
  have e := Option.some.inj e; subst e
  simp -implicitDefEqProofs (disch := first | assumption | exact Nat.le_of_ble_eq_true rfl | decide) only [b850_0, g850_2, b850_2, g850_3, b850_3, g850_4, b850_4, g850_5, b850_5, pe_sipush, pe_istore1, pe_istore2, pe_istore3, pe_goto_w, pe_iload3, pe_aload0, pe_getfield, pe_call1, pm_af_ret, pm_af_void, pm_af_thr, pe_icmp_ge, pe_call2, pe_astore4, pe_aload4, pe_if_ne, pe_goto, pe_call3, pe_if_le, pe_iload1, pe_icmp_eq, pe_imul, pe_iload2, pe_icmp_le, pe_iinc3, pm_prog_1, pm_ob_some, Nat.reduceDiv, Nat.reduceMod, Nat.reduceMul, Nat.reduceAdd, Int.reduceToNat, pm_kill_i, pm_kill_r, pm_kill_n, pm_kill_j, pm_kill_l, pm_kill_d, pm_cats_nil, pm_cats_i, pm_cats_r, pm_cats_n, pm_cats_l, pm_cats_d, sz_1, sz_2, sl_1, sl_2, lc_0, lc_lt, lc_le, li_ne, va_rf, wr_m1, we_m1, pm_kill_w, Int32.reduceOfInt, Int64.reduceOfInt, Int32.reduceOfNat, Int32.reduceLT, Int32.reduceLE, Prod.mk.injEq, Nat.reduceEqDiff, reduceCtorEq, and_true, true_and, and_false, false_and, and_self, ite_true, ite_false, ↓reduceIte, not_true_eq_false, not_false_eq_true, pe_ri, pe_rz, pe_rc, Ct_g0_3 hP hA, Ct_g0_6 hP hA, Ct_g15_5 hP hA, Ct_g24_2 hP hA, Ct_g24_4 hP hA, Ct_k24 hP hA]
/-- TimberHouse$SheetTrees$CutSheet.begin(II)V -/
noncomputable def f898v1 (sc : Int32) (pc : Int32) (sa : Int32) (pa : Int32) (S : wS) (x0i : Int32) (x1 : Int32) (x2 : Int32) : Option (wS) :=
  if 0 ≤ x0i ∧ x0i < 20 then
    some (sz (sz (sz (sz (sz (sz (sz (sz S (10, x0i, 0) 0 x1) (10, x0i, 0) 1 x2) (10, x0i, 0) 2 0) (10, x0i, 0) 3 0) (10, x0i, 0) 4 0) (10, x0i, 0) 5 0) (10, x0i, 0) 6 0) (10, x0i, 0) 7 0)
  else none
theorem x898v1 {sc : Int32} {pc : Int32} {sa : Int32} {pa : Int32} {A : wK → Nat} {h : pm_H} {D : Nat} {S : wS} {x0i : Int32} {x1 : Int32} {x2 : Int32} {r : wS} (hP : Ct_P sc pc sa pa) (hA : wok A (Ct_d sc pc sa pa) h.1) (hD : 1 ≤ D) (e : f898v1 sc pc sa pa S x0i x1 x2 = some r) : pm_call pm_prog D 898 [.ref (A (10, x0i, 0)), .int x1, .int x2] (wput A (Ct_d sc pc sa pa) S h) = some (Outcome.returned none, (wput A (Ct_d sc pc sa pa) r h)) := by
  obtain ⟨D, rfl⟩ : ∃ D', D = D' + 1 := ⟨D - 1, by omega⟩
  have hD : 0 ≤ D := by omega
  simp only [f898v1] at e
  have k1 : 0 ≤ x0i ∧ x0i < 20 := by
    by_cases q : 0 ≤ x0i ∧ x0i < 20
    · exact q
    · rw [if_neg q] at e; cases e
  rw [if_pos k1] at e
  rw [c898 (Ct_c10 hP hA k1), b898_0]
  have e := Option.some.inj e; subst e
  simp -implicitDefEqProofs (disch := first | assumption | exact Nat.le_of_ble_eq_true rfl | decide) only [b898_0, pe_aload0, pe_iload1, pe_putfield, pe_iload2, pe_sipush, pe_return, pm_prog_1, pm_ob_some, Nat.reduceDiv, Nat.reduceMod, Nat.reduceMul, Nat.reduceAdd, Int.reduceToNat, pm_kill_i, pm_kill_r, pm_kill_n, pm_kill_j, pm_kill_l, pm_kill_d, pm_cats_nil, pm_cats_i, pm_cats_r, pm_cats_n, pm_cats_l, pm_cats_d, sz_1, sz_2, sl_1, sl_2, lc_0, lc_lt, lc_le, li_ne, va_rf, wr_m1, we_m1, pm_kill_w, Int32.reduceOfInt, Int64.reduceOfInt, Int32.reduceOfNat, Int32.reduceLT, Int32.reduceLE, Prod.mk.injEq, Nat.reduceEqDiff, reduceCtorEq, and_true, true_and, and_false, false_and, and_self, ite_true, ite_false, ↓reduceIte, not_true_eq_false, not_false_eq_true, pe_ri, pe_rz, pe_rc, Ct_p10_0 hP hA, Ct_p10_1 hP hA, Ct_p10_2 hP hA, Ct_p10_3 hP hA, Ct_p10_4 hP hA, Ct_p10_5 hP hA, Ct_p10_6 hP hA, Ct_p10_7 hP hA]
/-- TimberHouse$SheetTrees$CutSheet.put([BIIIII)V -/
noncomputable def f900v2 (sc : Int32) (pc : Int32) (sa : Int32) (pa : Int32) (S : wS) (x0i : Int32) (x1 : Int32) (x2 : Int32) (x3 : Int32) (x4 : Int32) (x5 : Int32) : Option (wS) :=
  if 0 ≤ x0i ∧ x0i < 20 then
    if 0 ≤ x1 ∧ x1 < 1024 then
      if 0 ≤ (x1 + 1) ∧ (x1 + 1) < 1024 then
        if 0 ≤ (x1 + 2) ∧ (x1 + 2) < 1024 then
          if 0 ≤ (x1 + 3) ∧ (x1 + 3) < 1024 then
            some (sz (sz (sz (sz S (13, x0i, 0) x1 (vp_nar .byte (Int8.toInt32 (Int32.toInt8 x2)))) (13, x0i, 0) (x1 + 1) (vp_nar .byte (Int8.toInt32 (Int32.toInt8 x3)))) (13, x0i, 0) (x1 + 2) (vp_nar .byte (Int8.toInt32 (Int32.toInt8 x4)))) (13, x0i, 0) (x1 + 3) (vp_nar .byte (Int8.toInt32 (Int32.toInt8 x5))))
          else none
        else none
      else none
    else none
  else none
theorem x900v2 {sc : Int32} {pc : Int32} {sa : Int32} {pa : Int32} {A : wK → Nat} {h : pm_H} {D : Nat} {S : wS} {x0i : Int32} {x1 : Int32} {x2 : Int32} {x3 : Int32} {x4 : Int32} {x5 : Int32} {r : wS} (hP : Ct_P sc pc sa pa) (hA : wok A (Ct_d sc pc sa pa) h.1) (hD : 1 ≤ D) (e : f900v2 sc pc sa pa S x0i x1 x2 x3 x4 x5 = some r) : pm_call pm_prog D 900 [.ref (A (13, x0i, 0)), .int x1, .int x2, .int x3, .int x4, .int x5] (wput A (Ct_d sc pc sa pa) S h) = some (Outcome.returned none, (wput A (Ct_d sc pc sa pa) r h)) := by
  obtain ⟨D, rfl⟩ : ∃ D', D = D' + 1 := ⟨D - 1, by omega⟩
  have hD : 0 ≤ D := by omega
  simp only [f900v2] at e
  have k1 : 0 ≤ x0i ∧ x0i < 20 := by
    by_cases q : 0 ≤ x0i ∧ x0i < 20
    · exact q
    · rw [if_neg q] at e; cases e
  rw [if_pos k1] at e
  rw [c900, b900_0]
  by_cases k2 : 0 ≤ x1 ∧ x1 < 1024
  · rw [if_pos k2] at e
    by_cases k3 : 0 ≤ (x1 + 1) ∧ (x1 + 1) < 1024
    · rw [if_pos k3] at e
      by_cases k4 : 0 ≤ (x1 + 2) ∧ (x1 + 2) < 1024
      · rw [if_pos k4] at e
        by_cases k5 : 0 ≤ (x1 + 3) ∧ (x1 + 3) < 1024
        · rw [if_pos k5] at e
          have e := Option.some.inj e; subst e
          simp -implicitDefEqProofs (disch := first | assumption | exact Nat.le_of_ble_eq_true rfl | decide) only [b900_0, pe_aload0, pe_iload1, pe_iload2, pe_i2b, pe_bastore, pe_sipush, pe_iadd, pe_iload3, pe_iload4, pe_iload5, pe_return, pm_prog_1, pm_ob_some, Nat.reduceDiv, Nat.reduceMod, Nat.reduceMul, Nat.reduceAdd, Int.reduceToNat, pm_kill_i, pm_kill_r, pm_kill_n, pm_kill_j, pm_kill_l, pm_kill_d, pm_cats_nil, pm_cats_i, pm_cats_r, pm_cats_n, pm_cats_l, pm_cats_d, sz_1, sz_2, sl_1, sl_2, lc_0, lc_lt, lc_le, li_ne, va_rf, wr_m1, we_m1, pm_kill_w, Int32.reduceOfInt, Int64.reduceOfInt, Int32.reduceOfNat, Int32.reduceLT, Int32.reduceLE, Prod.mk.injEq, Nat.reduceEqDiff, reduceCtorEq, and_true, true_and, and_false, false_and, and_self, ite_true, ite_false, ↓reduceIte, not_true_eq_false, not_false_eq_true, pe_ri, pe_rz, pe_rc, Ct_w13 hP hA]
        · rw [if_neg k5] at e; cases e
      · rw [if_neg k4] at e; cases e
    · rw [if_neg k3] at e; cases e
  · rw [if_neg k2] at e; cases e
/-- TimberHouse$SheetTrees$CutSheet.rest(IIII)V -/
noncomputable def f899v1 (sc : Int32) (pc : Int32) (sa : Int32) (pa : Int32) (S : wS) (x0i : Int32) (x1 : Int32) (x2 : Int32) (x3 : Int32) (x4 : Int32) : Option (wS) :=
  if 0 ≤ x0i ∧ x0i < 20 then
    (f900v2 sc pc sa pa S x0i (4 * (S.1 (10, x0i, 0) 3)) x1 x2 x3 x4).bind fun S1 =>
    some (sz S1 (10, x0i, 0) 3 ((S1.1 (10, x0i, 0) 3) + 1))
  else none
theorem x899v1 {sc : Int32} {pc : Int32} {sa : Int32} {pa : Int32} {A : wK → Nat} {h : pm_H} {D : Nat} {S : wS} {x0i : Int32} {x1 : Int32} {x2 : Int32} {x3 : Int32} {x4 : Int32} {r : wS} (hP : Ct_P sc pc sa pa) (hA : wok A (Ct_d sc pc sa pa) h.1) (hD : 2 ≤ D) (e : f899v1 sc pc sa pa S x0i x1 x2 x3 x4 = some r) : pm_call pm_prog D 899 [.ref (A (10, x0i, 0)), .int x1, .int x2, .int x3, .int x4] (wput A (Ct_d sc pc sa pa) S h) = some (Outcome.returned none, (wput A (Ct_d sc pc sa pa) r h)) := by
  obtain ⟨D, rfl⟩ : ∃ D', D = D' + 1 := ⟨D - 1, by omega⟩
  have hD : 1 ≤ D := by omega
  simp only [f899v1] at e
  have k1 : 0 ≤ x0i ∧ x0i < 20 := by
    by_cases q : 0 ≤ x0i ∧ x0i < 20
    · exact q
    · rw [if_neg q] at e; cases e
  rw [if_pos k1] at e
  rw [c899 (Ct_c10 hP hA k1), b899_0]
  obtain ⟨S1, k2, e⟩ := Option.bind_eq_some_iff.mp e
  try dsimp only at e
  have z2 := x900v2 (D := D) (h := h) hP hA (by omega) k2
  have e := Option.some.inj e; subst e
  simp -implicitDefEqProofs (disch := first | assumption | exact Nat.le_of_ble_eq_true rfl | decide) only [b899_0, pe_aload0, pe_getfield, pe_sipush, pe_imul, pe_iload1, pe_iload2, pe_iload3, pe_iload4, pe_call6, pm_af_ret, pm_af_void, pm_af_thr, pe_dup_i, pe_dup_r, pe_iadd, pe_putfield, pe_return, pm_prog_1, pm_ob_some, Nat.reduceDiv, Nat.reduceMod, Nat.reduceMul, Nat.reduceAdd, Int.reduceToNat, pm_kill_i, pm_kill_r, pm_kill_n, pm_kill_j, pm_kill_l, pm_kill_d, pm_cats_nil, pm_cats_i, pm_cats_r, pm_cats_n, pm_cats_l, pm_cats_d, sz_1, sz_2, sl_1, sl_2, lc_0, lc_lt, lc_le, li_ne, va_rf, wr_m1, we_m1, pm_kill_w, Int32.reduceOfInt, Int64.reduceOfInt, Int32.reduceOfNat, Int32.reduceLT, Int32.reduceLE, Prod.mk.injEq, Nat.reduceEqDiff, reduceCtorEq, and_true, true_and, and_false, false_and, and_self, ite_true, ite_false, ↓reduceIte, not_true_eq_false, not_false_eq_true, pe_ri, pe_rz, pe_rc, Ct_g10_10 hP hA, Ct_g10_3 hP hA, Ct_p10_3 hP hA, z2]
/-- TimberHouse$SheetTrees$CutSheet.put([BIIIII)V -/
noncomputable def f900v3 (sc : Int32) (pc : Int32) (sa : Int32) (pa : Int32) (S : wS) (x0i : Int32) (x1 : Int32) (x2 : Int32) (x3 : Int32) (x4 : Int32) (x5 : Int32) : Option (wS) :=
  if 0 ≤ x0i ∧ x0i < 20 then
    if 0 ≤ x1 ∧ x1 < 1280 then
      if 0 ≤ (x1 + 1) ∧ (x1 + 1) < 1280 then
        if 0 ≤ (x1 + 2) ∧ (x1 + 2) < 1280 then
          if 0 ≤ (x1 + 3) ∧ (x1 + 3) < 1280 then
            some (sz (sz (sz (sz S (12, x0i, 0) x1 (vp_nar .byte (Int8.toInt32 (Int32.toInt8 x2)))) (12, x0i, 0) (x1 + 1) (vp_nar .byte (Int8.toInt32 (Int32.toInt8 x3)))) (12, x0i, 0) (x1 + 2) (vp_nar .byte (Int8.toInt32 (Int32.toInt8 x4)))) (12, x0i, 0) (x1 + 3) (vp_nar .byte (Int8.toInt32 (Int32.toInt8 x5))))
          else none
        else none
      else none
    else none
  else none
theorem x900v3 {sc : Int32} {pc : Int32} {sa : Int32} {pa : Int32} {A : wK → Nat} {h : pm_H} {D : Nat} {S : wS} {x0i : Int32} {x1 : Int32} {x2 : Int32} {x3 : Int32} {x4 : Int32} {x5 : Int32} {r : wS} (hP : Ct_P sc pc sa pa) (hA : wok A (Ct_d sc pc sa pa) h.1) (hD : 1 ≤ D) (e : f900v3 sc pc sa pa S x0i x1 x2 x3 x4 x5 = some r) : pm_call pm_prog D 900 [.ref (A (12, x0i, 0)), .int x1, .int x2, .int x3, .int x4, .int x5] (wput A (Ct_d sc pc sa pa) S h) = some (Outcome.returned none, (wput A (Ct_d sc pc sa pa) r h)) := by
  obtain ⟨D, rfl⟩ : ∃ D', D = D' + 1 := ⟨D - 1, by omega⟩
  have hD : 0 ≤ D := by omega
  simp only [f900v3] at e
  have k1 : 0 ≤ x0i ∧ x0i < 20 := by
    by_cases q : 0 ≤ x0i ∧ x0i < 20
    · exact q
    · rw [if_neg q] at e; cases e
  rw [if_pos k1] at e
  rw [c900, b900_0]
  by_cases k2 : 0 ≤ x1 ∧ x1 < 1280
  · rw [if_pos k2] at e
    by_cases k3 : 0 ≤ (x1 + 1) ∧ (x1 + 1) < 1280
    · rw [if_pos k3] at e
      by_cases k4 : 0 ≤ (x1 + 2) ∧ (x1 + 2) < 1280
      · rw [if_pos k4] at e
        by_cases k5 : 0 ≤ (x1 + 3) ∧ (x1 + 3) < 1280
        · rw [if_pos k5] at e
          have e := Option.some.inj e; subst e
          simp -implicitDefEqProofs (disch := first | assumption | exact Nat.le_of_ble_eq_true rfl | decide) only [b900_0, pe_aload0, pe_iload1, pe_iload2, pe_i2b, pe_bastore, pe_sipush, pe_iadd, pe_iload3, pe_iload4, pe_iload5, pe_return, pm_prog_1, pm_ob_some, Nat.reduceDiv, Nat.reduceMod, Nat.reduceMul, Nat.reduceAdd, Int.reduceToNat, pm_kill_i, pm_kill_r, pm_kill_n, pm_kill_j, pm_kill_l, pm_kill_d, pm_cats_nil, pm_cats_i, pm_cats_r, pm_cats_n, pm_cats_l, pm_cats_d, sz_1, sz_2, sl_1, sl_2, lc_0, lc_lt, lc_le, li_ne, va_rf, wr_m1, we_m1, pm_kill_w, Int32.reduceOfInt, Int64.reduceOfInt, Int32.reduceOfNat, Int32.reduceLT, Int32.reduceLE, Prod.mk.injEq, Nat.reduceEqDiff, reduceCtorEq, and_true, true_and, and_false, false_and, and_self, ite_true, ite_false, ↓reduceIte, not_true_eq_false, not_false_eq_true, pe_ri, pe_rz, pe_rc, Ct_w12 hP hA]
        · rw [if_neg k5] at e; cases e
      · rw [if_neg k4] at e; cases e
    · rw [if_neg k3] at e; cases e
  · rw [if_neg k2] at e; cases e
/-- TimberHouse$SheetTrees$CutSheet.part(IIIII)V -/
noncomputable def f901v1 (sc : Int32) (pc : Int32) (sa : Int32) (pa : Int32) (S : wS) (x0i : Int32) (x1 : Int32) (x2 : Int32) (x3 : Int32) (x4 : Int32) (x5 : Int32) : Option (wS) :=
  if 0 ≤ x0i ∧ x0i < 20 then
    if 0 ≤ (5 * (S.1 (10, x0i, 0) 2)) ∧ (5 * (S.1 (10, x0i, 0) 2)) < 1280 then
      (f900v3 sc pc sa pa (sz S (12, x0i, 0) (5 * (S.1 (10, x0i, 0) 2)) (vp_nar .byte (Int8.toInt32 (Int32.toInt8 x1)))) x0i ((5 * (S.1 (10, x0i, 0) 2)) + 1) x2 x3 x4 x5).bind fun S1 =>
      some (sz (sz S1 (10, x0i, 0) 2 ((S1.1 (10, x0i, 0) 2) + 1)) (10, x0i, 0) 5 ((S1.1 (10, x0i, 0) 5) + (x4 * x5)))
    else none
  else none
theorem x901v1 {sc : Int32} {pc : Int32} {sa : Int32} {pa : Int32} {A : wK → Nat} {h : pm_H} {D : Nat} {S : wS} {x0i : Int32} {x1 : Int32} {x2 : Int32} {x3 : Int32} {x4 : Int32} {x5 : Int32} {r : wS} (hP : Ct_P sc pc sa pa) (hA : wok A (Ct_d sc pc sa pa) h.1) (hD : 2 ≤ D) (e : f901v1 sc pc sa pa S x0i x1 x2 x3 x4 x5 = some r) : pm_call pm_prog D 901 [.ref (A (10, x0i, 0)), .int x1, .int x2, .int x3, .int x4, .int x5] (wput A (Ct_d sc pc sa pa) S h) = some (Outcome.returned none, (wput A (Ct_d sc pc sa pa) r h)) := by
  obtain ⟨D, rfl⟩ : ∃ D', D = D' + 1 := ⟨D - 1, by omega⟩
  have hD : 1 ≤ D := by omega
  simp only [f901v1] at e
  have k1 : 0 ≤ x0i ∧ x0i < 20 := by
    by_cases q : 0 ≤ x0i ∧ x0i < 20
    · exact q
    · rw [if_neg q] at e; cases e
  rw [if_pos k1] at e
  rw [c901 (Ct_c10 hP hA k1), b901_0]
  by_cases k2 : 0 ≤ (5 * (S.1 (10, x0i, 0) 2)) ∧ (5 * (S.1 (10, x0i, 0) 2)) < 1280
  · rw [if_pos k2] at e
    obtain ⟨S1, k3, e⟩ := Option.bind_eq_some_iff.mp e
    try dsimp only at e
    have z3 := x900v3 (D := D) (h := h) hP hA (by omega) k3
    have e := Option.some.inj e; subst e
    simp -implicitDefEqProofs (disch := first | assumption | exact Nat.le_of_ble_eq_true rfl | decide) only [b901_0, pe_aload0, pe_getfield, pe_sipush, pe_imul, pe_iload1, pe_i2b, pe_bastore, pe_iadd, pe_iload2, pe_iload3, pe_iload4, pe_iload5, pe_call6, pm_af_ret, pm_af_void, pm_af_thr, pe_dup_i, pe_dup_r, pe_putfield, pe_return, pm_prog_1, pm_ob_some, Nat.reduceDiv, Nat.reduceMod, Nat.reduceMul, Nat.reduceAdd, Int.reduceToNat, pm_kill_i, pm_kill_r, pm_kill_n, pm_kill_j, pm_kill_l, pm_kill_d, pm_cats_nil, pm_cats_i, pm_cats_r, pm_cats_n, pm_cats_l, pm_cats_d, sz_1, sz_2, sl_1, sl_2, lc_0, lc_lt, lc_le, li_ne, va_rf, wr_m1, we_m1, pm_kill_w, Int32.reduceOfInt, Int64.reduceOfInt, Int32.reduceOfNat, Int32.reduceLT, Int32.reduceLE, Prod.mk.injEq, Nat.reduceEqDiff, reduceCtorEq, and_true, true_and, and_false, false_and, and_self, ite_true, ite_false, ↓reduceIte, not_true_eq_false, not_false_eq_true, pe_ri, pe_rz, pe_rc, Ct_g10_2 hP hA, Ct_g10_5 hP hA, Ct_g10_9 hP hA, Ct_p10_2 hP hA, Ct_p10_5 hP hA, Ct_w12 hP hA, z3]
  · rw [if_neg k2] at e; cases e
def FOK852v1 (sc : Int32) (pc : Int32) (sa : Int32) (pa : Int32) (A : wK → Nat) (h : pm_H) (E : Nat) (F : wS → Int32 → Int32 → Int32 → Int32 → Int32 → Int32 → Option (wS)) : Prop := ∀ (D : Nat) (S : wS) (x1i : Int32) (x2 : Int32) (x3 : Int32) (x4 : Int32) (x5 : Int32) (x6 : Int32) (r : wS), E ≤ D → F S x1i x2 x3 x4 x5 x6 = some r → pm_call pm_prog D 852 [.ref (A (0, 0, 0)), .ref (A (10, x1i, 0)), .int x2, .int x3, .int x4, .int x5, .int x6] (wput A (Ct_d sc pc sa pa) S h) = some (Outcome.returned none, (wput A (Ct_d sc pc sa pa) r h))
noncomputable def f852v1_12 (sc : Int32) (pc : Int32) (sa : Int32) (pa : Int32) (F : wS → Int32 → Int32 → Int32 → Int32 → Int32 → Int32 → Option (wS)) (S : wS) (x1i : Int32) (x2 : Int32) (x3 : Int32) (x4 : Int32) (x5 : Int32) (x6 : Int32) (x9 : Int32) (x10 : Int32) : Option (wS) :=
  if 0 ≤ x1i ∧ x1i < 20 then
    if x9 = 0 then
      if x10 < x6 then
        (F S x1i x2 x3 (x4 + x10) x5 (x6 - x10)).bind fun S4 =>
        some S4
      else
        some S
    else
      some S
  else none
noncomputable def f852v1_11 (sc : Int32) (pc : Int32) (sa : Int32) (pa : Int32) (F : wS → Int32 → Int32 → Int32 → Int32 → Int32 → Int32 → Option (wS)) (S : wS) (x1i : Int32) (x2 : Int32) (x3 : Int32) (x4 : Int32) (x5 : Int32) (x6 : Int32) (x9 : Int32) (x10 : Int32) (y1i : Int32) (y2 : Int32) (y3 : Int32) (y4 : Int32) (y5 : Int32) (y6 : Int32) : Option (wS) :=
  if 0 ≤ x1i ∧ x1i < 20 then
    if 0 ≤ y1i ∧ y1i < 20 then
      (F S y1i y2 y3 y4 y5 y6).bind fun S3 =>
      if x9 = 0 then
        f852v1_12 sc pc sa pa F S3 x1i x2 x3 x4 x5 x6 x9 x10
      else
        if x10 < x5 then
          (F S3 x1i x2 (x3 + x10) x4 (x5 - x10) x6).bind fun S5 =>
          some S5
        else
          f852v1_12 sc pc sa pa F S3 x1i x2 x3 x4 x5 x6 x9 x10
    else none
  else none
noncomputable def f852v1_9 (sc : Int32) (pc : Int32) (sa : Int32) (pa : Int32) (F : wS → Int32 → Int32 → Int32 → Int32 → Int32 → Int32 → Option (wS)) (S : wS) (x1i : Int32) (x2 : Int32) (x3 : Int32) (x4 : Int32) (x5 : Int32) (x6 : Int32) (x8 : Int32) (x9 : Int32) (x10 : Int32) (y1i : Int32) (y2 : Int32) (y3 : Int32) (y4 : Int32) (y5 : Int32) : Option (wS) :=
  if 0 ≤ x1i ∧ x1i < 20 then
    if 0 ≤ y1i ∧ y1i < 20 then
      if x9 = 0 then
        f852v1_11 sc pc sa pa F S x1i x2 x3 x4 x5 x6 x9 x10 y1i y2 y3 y4 y5 x8
      else
        f852v1_11 sc pc sa pa F S x1i x2 x3 x4 x5 x6 x9 x10 y1i y2 y3 y4 y5 x6
    else none
  else none
noncomputable def f852v1_7 (sc : Int32) (pc : Int32) (sa : Int32) (pa : Int32) (F : wS → Int32 → Int32 → Int32 → Int32 → Int32 → Int32 → Option (wS)) (S : wS) (x1i : Int32) (x2 : Int32) (x3 : Int32) (x4 : Int32) (x5 : Int32) (x6 : Int32) (x8 : Int32) (x9 : Int32) (x10 : Int32) (y0i : Int32) (y1 : Int32) (y2 : Int32) : Option (wS) :=
  if 0 ≤ x1i ∧ x1i < 20 then
    if 0 ≤ y0i ∧ y0i < 20 then
      if x9 = 0 then
        f852v1_9 sc pc sa pa F (sz S (10, y0i, 0) 6 (y1 + y2)) x1i x2 x3 x4 x5 x6 x8 x9 x10 x1i ((x2 ^^^ 1) - 2) x3 x4 x5
      else
        f852v1_9 sc pc sa pa F (sz S (10, y0i, 0) 6 (y1 + y2)) x1i x2 x3 x4 x5 x6 x8 x9 x10 x1i ((x2 ^^^ 1) - 2) x3 x4 x8
    else none
  else none
noncomputable def f852v1_5 (sc : Int32) (pc : Int32) (sa : Int32) (pa : Int32) (F : wS → Int32 → Int32 → Int32 → Int32 → Int32 → Int32 → Option (wS)) (S : wS) (x1i : Int32) (x2 : Int32) (x3 : Int32) (x4 : Int32) (x5 : Int32) (x6 : Int32) (x8 : Int32) (y0 : Int32) : Option (wS) :=
  if 0 ≤ x1i ∧ x1i < 20 then
    if y0 = 0 then
      f852v1_7 sc pc sa pa F (sz S (10, x1i, 0) 4 ((S.1 (10, x1i, 0) 4) + 1)) x1i x2 x3 x4 x5 x6 x8 y0 (x8 + (S.1 (1, 0, 0) 0)) x1i (S.1 (10, x1i, 0) 6) x5
    else
      f852v1_7 sc pc sa pa F (sz S (10, x1i, 0) 4 ((S.1 (10, x1i, 0) 4) + 1)) x1i x2 x3 x4 x5 x6 x8 y0 (x8 + (S.1 (1, 0, 0) 0)) x1i (S.1 (10, x1i, 0) 6) x6
  else none
/-- TimberHouse$SheetTrees.walk(LTimberHouse$SheetTrees$CutSheet;IIIII)V -/
noncomputable def f852v1 (sc : Int32) (pc : Int32) (sa : Int32) (pa : Int32) (F : wS → Int32 → Int32 → Int32 → Int32 → Int32 → Int32 → Option (wS)) (S : wS) (x1i : Int32) (x2 : Int32) (x3 : Int32) (x4 : Int32) (x5 : Int32) (x6 : Int32) : Option (wS) :=
  if 0 ≤ x1i ∧ x1i < 20 then
    if 0 ≤ x2 ∧ x2 < 8 then
      if 0 ≤ x5 ∧ x5 < 17 then
        if 0 ≤ x6 ∧ x6 < 17 then
          if 0 ≤ (S.1 (10, x1i, 0) 7) ∧ (S.1 (10, x1i, 0) 7) < 512 then
            if (S.1 (7, x2, x5) x6) = 0 then
              if x5 < (S.1 (0, 0, 0) 2) then
                some (sz (sz S (10, x1i, 0) 7 ((S.1 (10, x1i, 0) 7) + 1)) (11, x1i, 0) (S.1 (10, x1i, 0) 7) (vp_nar .byte (Int8.toInt32 (Int32.toInt8 (S.1 (7, x2, x5) x6)))))
              else
                if x6 < (S.1 (0, 0, 0) 2) then
                  some (sz (sz S (10, x1i, 0) 7 ((S.1 (10, x1i, 0) 7) + 1)) (11, x1i, 0) (S.1 (10, x1i, 0) 7) (vp_nar .byte (Int8.toInt32 (Int32.toInt8 (S.1 (7, x2, x5) x6)))))
                else
                  (f899v1 sc pc sa pa (sz (sz S (10, x1i, 0) 7 ((S.1 (10, x1i, 0) 7) + 1)) (11, x1i, 0) (S.1 (10, x1i, 0) 7) (vp_nar .byte (Int8.toInt32 (Int32.toInt8 (S.1 (7, x2, x5) x6))))) x1i x3 x4 x5 x6).bind fun S1 =>
                  some S1
            else
              if (S.1 (7, x2, x5) x6) < 100 then
                if 0 ≤ ((S.1 (7, x2, x5) x6) - 1) ∧ ((S.1 (7, x2, x5) x6) - 1) < 8 then
                  if (S.1 (14, 0, 0) ((S.1 (7, x2, x5) x6) - 1)) ≤ 0 then
                    some (sz (sz S (10, x1i, 0) 7 ((S.1 (10, x1i, 0) 7) + 1)) (11, x1i, 0) (S.1 (10, x1i, 0) 7) (vp_nar .byte (Int8.toInt32 (Int32.toInt8 (S.1 (7, x2, x5) x6)))))
                  else
                    (f901v1 sc pc sa pa (sz (sz (sz S (10, x1i, 0) 7 ((S.1 (10, x1i, 0) 7) + 1)) (11, x1i, 0) (S.1 (10, x1i, 0) 7) (vp_nar .byte (Int8.toInt32 (Int32.toInt8 (S.1 (7, x2, x5) x6))))) (14, 0, 0) ((S.1 (7, x2, x5) x6) - 1) ((S.1 (14, 0, 0) ((S.1 (7, x2, x5) x6) - 1)) - 1)) x1i ((S.1 (7, x2, x5) x6) - 1) x3 x4 x5 x6).bind fun S2 =>
                    some S2
                else none
              else
                if (x2 &&& 1) = 0 then
                  f852v1_5 sc pc sa pa F (sz (sz S (10, x1i, 0) 7 ((S.1 (10, x1i, 0) 7) + 1)) (11, x1i, 0) (S.1 (10, x1i, 0) 7) (vp_nar .byte (Int8.toInt32 (Int32.toInt8 (S.1 (7, x2, x5) x6))))) x1i x2 x3 x4 x5 x6 ((S.1 (7, x2, x5) x6) - 100) 1
                else
                  f852v1_5 sc pc sa pa F (sz (sz S (10, x1i, 0) 7 ((S.1 (10, x1i, 0) 7) + 1)) (11, x1i, 0) (S.1 (10, x1i, 0) 7) (vp_nar .byte (Int8.toInt32 (Int32.toInt8 (S.1 (7, x2, x5) x6))))) x1i x2 x3 x4 x5 x6 ((S.1 (7, x2, x5) x6) - 100) 0
          else none
        else none
      else none
    else none
  else none
theorem y852v1_12 {sc : Int32} {pc : Int32} {sa : Int32} {pa : Int32} {A : wK → Nat} {h : pm_H} {D : Nat} {F : wS → Int32 → Int32 → Int32 → Int32 → Int32 → Int32 → Option (wS)} {E : Nat} {S : wS} {x1i : Int32} {x2 : Int32} {x3 : Int32} {x4 : Int32} {x5 : Int32} {x6 : Int32} {x9 : Int32} {x10 : Int32} {r : wS} (hP : Ct_P sc pc sa pa) (hA : wok A (Ct_d sc pc sa pa) h.1) (hF : FOK852v1 sc pc sa pa A h E F) (hE : E + 0 ≤ D) (hD : 2 ≤ D) (e : f852v1_12 sc pc sa pa F S x1i x2 x3 x4 x5 x6 x9 x10 = some r) : ∀ q7 q8 : Value, pm_go pm_prog (pm_call pm_prog D) 852 12 [.ref (A (0, 0, 0)), .ref (A (10, x1i, 0)), .int x2, .int x3, .int x4, .int x5, .int x6, q7, q8, .int x9, .int x10] [] (wput A (Ct_d sc pc sa pa) S h) = some (Outcome.returned none, (wput A (Ct_d sc pc sa pa) r h)) := by
  intro q7 q8
  simp only [f852v1_12] at e
  rw [g852_12, b852_12]
  by_cases k1 : 0 ≤ x1i ∧ x1i < 20
  · rw [if_pos k1] at e
    by_cases k2 : x9 = 0
    · rw [if_pos k2] at e
      by_cases k3 : x10 < x6
      · rw [if_pos k3] at e
        obtain ⟨S4, k4, e⟩ := Option.bind_eq_some_iff.mp e
        try dsimp only at e
        have z4 := hF D _ _ _ _ _ _ _ _ (by omega) k4
        have e := Option.some.inj e; subst e
        simp -implicitDefEqProofs (disch := first | assumption | exact Nat.le_of_ble_eq_true rfl | decide) only [b852_0, g852_1, b852_1, g852_2, b852_2, g852_3, b852_3, g852_4, b852_4, g852_6, b852_6, g852_8, b852_8, g852_10, b852_10, g852_13, b852_13, pe_aload0, pe_getfield, pe_iload2, pe_aaload, pe_iload5, pe_iload6, pe_baload, pe_istore7, pe_aload1, pe_dup_i, pe_dup_r, pe_dup_x1_ii, pe_dup_x1_ir, pe_dup_x1_ri, pe_dup_x1_rr, pe_sipush, pe_iadd, pe_putfield, pe_iload7, pe_i2b, pe_bastore, pe_if_ne, pe_icmp_lt, pe_iload3, pe_iload4, pe_call5, pm_af_ret, pm_af_void, pm_af_thr, pe_goto, pe_icmp_ge, pe_isub, pe_istore8, pe_iload8, pe_iaload, pe_if_le, pe_dup2_ii, pe_dup2_ir, pe_dup2_l, pe_iastore, pe_call6, pe_goto_w, pe_iand, pe_istore9, pe_istore10, pe_iload9, pe_if_eq, pe_ixor, pe_call7, pe_iload10, pe_return, pm_prog_1, pm_ob_some, Nat.reduceDiv, Nat.reduceMod, Nat.reduceMul, Nat.reduceAdd, Int.reduceToNat, pm_kill_i, pm_kill_r, pm_kill_n, pm_kill_j, pm_kill_l, pm_kill_d, pm_cats_nil, pm_cats_i, pm_cats_r, pm_cats_n, pm_cats_l, pm_cats_d, sz_1, sz_2, sl_1, sl_2, lc_0, lc_lt, lc_le, li_ne, va_rf, wr_m1, we_m1, pm_kill_w, Int32.reduceOfInt, Int64.reduceOfInt, Int32.reduceOfNat, Int32.reduceLT, Int32.reduceLE, Prod.mk.injEq, Nat.reduceEqDiff, reduceCtorEq, and_true, true_and, and_false, false_and, and_self, ite_true, ite_false, ↓reduceIte, not_true_eq_false, not_false_eq_true, pe_ri, pe_rz, pe_rc, Ct_g0_0 hP hA, Ct_g0_2 hP hA, Ct_g0_7 hP hA, Ct_g1_0 hP hA, Ct_g1_3 hP hA, Ct_g10_4 hP hA, Ct_g10_6 hP hA, Ct_g10_7 hP hA, Ct_g10_8 hP hA, Ct_p10_4 hP hA, Ct_p10_6 hP hA, Ct_p10_7 hP hA, Ct_r14 hP hA, Ct_r32 hP hA, Ct_r6 hP hA, Ct_r7 hP hA, Ct_w11 hP hA, Ct_w14 hP hA, eq_true k2, eq_true k3, z4]
      · rw [if_neg k3] at e
        have e := Option.some.inj e; subst e
        simp -implicitDefEqProofs (disch := first | assumption | exact Nat.le_of_ble_eq_true rfl | decide) only [b852_0, g852_1, b852_1, g852_2, b852_2, g852_3, b852_3, g852_4, b852_4, g852_6, b852_6, g852_8, b852_8, g852_10, b852_10, g852_13, b852_13, pe_aload0, pe_getfield, pe_iload2, pe_aaload, pe_iload5, pe_iload6, pe_baload, pe_istore7, pe_aload1, pe_dup_i, pe_dup_r, pe_dup_x1_ii, pe_dup_x1_ir, pe_dup_x1_ri, pe_dup_x1_rr, pe_sipush, pe_iadd, pe_putfield, pe_iload7, pe_i2b, pe_bastore, pe_if_ne, pe_icmp_lt, pe_iload3, pe_iload4, pe_call5, pm_af_ret, pm_af_void, pm_af_thr, pe_goto, pe_icmp_ge, pe_isub, pe_istore8, pe_iload8, pe_iaload, pe_if_le, pe_dup2_ii, pe_dup2_ir, pe_dup2_l, pe_iastore, pe_call6, pe_goto_w, pe_iand, pe_istore9, pe_istore10, pe_iload9, pe_if_eq, pe_ixor, pe_call7, pe_iload10, pe_return, pm_prog_1, pm_ob_some, Nat.reduceDiv, Nat.reduceMod, Nat.reduceMul, Nat.reduceAdd, Int.reduceToNat, pm_kill_i, pm_kill_r, pm_kill_n, pm_kill_j, pm_kill_l, pm_kill_d, pm_cats_nil, pm_cats_i, pm_cats_r, pm_cats_n, pm_cats_l, pm_cats_d, sz_1, sz_2, sl_1, sl_2, lc_0, lc_lt, lc_le, li_ne, va_rf, wr_m1, we_m1, pm_kill_w, Int32.reduceOfInt, Int64.reduceOfInt, Int32.reduceOfNat, Int32.reduceLT, Int32.reduceLE, Prod.mk.injEq, Nat.reduceEqDiff, reduceCtorEq, and_true, true_and, and_false, false_and, and_self, ite_true, ite_false, ↓reduceIte, not_true_eq_false, not_false_eq_true, pe_ri, pe_rz, pe_rc, Ct_g0_0 hP hA, Ct_g0_2 hP hA, Ct_g0_7 hP hA, Ct_g1_0 hP hA, Ct_g1_3 hP hA, Ct_g10_4 hP hA, Ct_g10_6 hP hA, Ct_g10_7 hP hA, Ct_g10_8 hP hA, Ct_p10_4 hP hA, Ct_p10_6 hP hA, Ct_p10_7 hP hA, Ct_r14 hP hA, Ct_r32 hP hA, Ct_r6 hP hA, Ct_r7 hP hA, Ct_w11 hP hA, Ct_w14 hP hA, eq_true k2, eq_false k3]
    · rw [if_neg k2] at e
      have e := Option.some.inj e; subst e
      simp -implicitDefEqProofs (disch := first | assumption | exact Nat.le_of_ble_eq_true rfl | decide) only [b852_0, g852_1, b852_1, g852_2, b852_2, g852_3, b852_3, g852_4, b852_4, g852_6, b852_6, g852_8, b852_8, g852_10, b852_10, g852_13, b852_13, pe_aload0, pe_getfield, pe_iload2, pe_aaload, pe_iload5, pe_iload6, pe_baload, pe_istore7, pe_aload1, pe_dup_i, pe_dup_r, pe_dup_x1_ii, pe_dup_x1_ir, pe_dup_x1_ri, pe_dup_x1_rr, pe_sipush, pe_iadd, pe_putfield, pe_iload7, pe_i2b, pe_bastore, pe_if_ne, pe_icmp_lt, pe_iload3, pe_iload4, pe_call5, pm_af_ret, pm_af_void, pm_af_thr, pe_goto, pe_icmp_ge, pe_isub, pe_istore8, pe_iload8, pe_iaload, pe_if_le, pe_dup2_ii, pe_dup2_ir, pe_dup2_l, pe_iastore, pe_call6, pe_goto_w, pe_iand, pe_istore9, pe_istore10, pe_iload9, pe_if_eq, pe_ixor, pe_call7, pe_iload10, pe_return, pm_prog_1, pm_ob_some, Nat.reduceDiv, Nat.reduceMod, Nat.reduceMul, Nat.reduceAdd, Int.reduceToNat, pm_kill_i, pm_kill_r, pm_kill_n, pm_kill_j, pm_kill_l, pm_kill_d, pm_cats_nil, pm_cats_i, pm_cats_r, pm_cats_n, pm_cats_l, pm_cats_d, sz_1, sz_2, sl_1, sl_2, lc_0, lc_lt, lc_le, li_ne, va_rf, wr_m1, we_m1, pm_kill_w, Int32.reduceOfInt, Int64.reduceOfInt, Int32.reduceOfNat, Int32.reduceLT, Int32.reduceLE, Prod.mk.injEq, Nat.reduceEqDiff, reduceCtorEq, and_true, true_and, and_false, false_and, and_self, ite_true, ite_false, ↓reduceIte, not_true_eq_false, not_false_eq_true, pe_ri, pe_rz, pe_rc, Ct_g0_0 hP hA, Ct_g0_2 hP hA, Ct_g0_7 hP hA, Ct_g1_0 hP hA, Ct_g1_3 hP hA, Ct_g10_4 hP hA, Ct_g10_6 hP hA, Ct_g10_7 hP hA, Ct_g10_8 hP hA, Ct_p10_4 hP hA, Ct_p10_6 hP hA, Ct_p10_7 hP hA, Ct_r14 hP hA, Ct_r32 hP hA, Ct_r6 hP hA, Ct_r7 hP hA, Ct_w11 hP hA, Ct_w14 hP hA, eq_false k2]
  · rw [if_neg k1] at e; cases e
theorem y852v1_11 {sc : Int32} {pc : Int32} {sa : Int32} {pa : Int32} {A : wK → Nat} {h : pm_H} {D : Nat} {F : wS → Int32 → Int32 → Int32 → Int32 → Int32 → Int32 → Option (wS)} {E : Nat} {S : wS} {x1i : Int32} {x2 : Int32} {x3 : Int32} {x4 : Int32} {x5 : Int32} {x6 : Int32} {x9 : Int32} {x10 : Int32} {y1i : Int32} {y2 : Int32} {y3 : Int32} {y4 : Int32} {y5 : Int32} {y6 : Int32} {r : wS} (hP : Ct_P sc pc sa pa) (hA : wok A (Ct_d sc pc sa pa) h.1) (hF : FOK852v1 sc pc sa pa A h E F) (hE : E + 0 ≤ D) (hD : 2 ≤ D) (e : f852v1_11 sc pc sa pa F S x1i x2 x3 x4 x5 x6 x9 x10 y1i y2 y3 y4 y5 y6 = some r) : ∀ q7 q8 : Value, pm_go pm_prog (pm_call pm_prog D) 852 11 [.ref (A (0, 0, 0)), .ref (A (10, x1i, 0)), .int x2, .int x3, .int x4, .int x5, .int x6, q7, q8, .int x9, .int x10] [.int y6, .int y5, .int y4, .int y3, .int y2, .ref (A (10, y1i, 0)), .ref (A (0, 0, 0))] (wput A (Ct_d sc pc sa pa) S h) = some (Outcome.returned none, (wput A (Ct_d sc pc sa pa) r h)) := by
  intro q7 q8
  simp only [f852v1_11] at e
  rw [g852_11, b852_11]
  by_cases k1 : 0 ≤ x1i ∧ x1i < 20
  · rw [if_pos k1] at e
    by_cases k2 : 0 ≤ y1i ∧ y1i < 20
    · rw [if_pos k2] at e
      obtain ⟨S3, k3, e⟩ := Option.bind_eq_some_iff.mp e
      try dsimp only at e
      have z3 := hF D _ _ _ _ _ _ _ _ (by omega) k3
      by_cases k4 : x9 = 0
      · rw [if_pos k4] at e
        have k5 := y852v1_12 (h := h) hP hA hF hE hD e
        simp -implicitDefEqProofs (disch := first | assumption | exact Nat.le_of_ble_eq_true rfl | decide) only [b852_0, g852_1, b852_1, g852_2, b852_2, g852_3, b852_3, g852_4, b852_4, g852_6, b852_6, g852_8, b852_8, g852_10, b852_10, g852_13, b852_13, pe_aload0, pe_getfield, pe_iload2, pe_aaload, pe_iload5, pe_iload6, pe_baload, pe_istore7, pe_aload1, pe_dup_i, pe_dup_r, pe_dup_x1_ii, pe_dup_x1_ir, pe_dup_x1_ri, pe_dup_x1_rr, pe_sipush, pe_iadd, pe_putfield, pe_iload7, pe_i2b, pe_bastore, pe_if_ne, pe_icmp_lt, pe_iload3, pe_iload4, pe_call5, pm_af_ret, pm_af_void, pm_af_thr, pe_goto, pe_icmp_ge, pe_isub, pe_istore8, pe_iload8, pe_iaload, pe_if_le, pe_dup2_ii, pe_dup2_ir, pe_dup2_l, pe_iastore, pe_call6, pe_goto_w, pe_iand, pe_istore9, pe_istore10, pe_iload9, pe_if_eq, pe_ixor, pe_call7, pe_iload10, pe_return, pm_prog_1, pm_ob_some, Nat.reduceDiv, Nat.reduceMod, Nat.reduceMul, Nat.reduceAdd, Int.reduceToNat, pm_kill_i, pm_kill_r, pm_kill_n, pm_kill_j, pm_kill_l, pm_kill_d, pm_cats_nil, pm_cats_i, pm_cats_r, pm_cats_n, pm_cats_l, pm_cats_d, sz_1, sz_2, sl_1, sl_2, lc_0, lc_lt, lc_le, li_ne, va_rf, wr_m1, we_m1, pm_kill_w, Int32.reduceOfInt, Int64.reduceOfInt, Int32.reduceOfNat, Int32.reduceLT, Int32.reduceLE, Prod.mk.injEq, Nat.reduceEqDiff, reduceCtorEq, and_true, true_and, and_false, false_and, and_self, ite_true, ite_false, ↓reduceIte, not_true_eq_false, not_false_eq_true, pe_ri, pe_rz, pe_rc, Ct_g0_0 hP hA, Ct_g0_2 hP hA, Ct_g0_7 hP hA, Ct_g1_0 hP hA, Ct_g1_3 hP hA, Ct_g10_4 hP hA, Ct_g10_6 hP hA, Ct_g10_7 hP hA, Ct_g10_8 hP hA, Ct_p10_4 hP hA, Ct_p10_6 hP hA, Ct_p10_7 hP hA, Ct_r14 hP hA, Ct_r32 hP hA, Ct_r6 hP hA, Ct_r7 hP hA, Ct_w11 hP hA, Ct_w14 hP hA, z3, eq_true k4, k5]
      · rw [if_neg k4] at e
        by_cases k6 : x10 < x5
        · rw [if_pos k6] at e
          obtain ⟨S5, k7, e⟩ := Option.bind_eq_some_iff.mp e
          try dsimp only at e
          have z7 := hF D _ _ _ _ _ _ _ _ (by omega) k7
          have e := Option.some.inj e; subst e
          simp -implicitDefEqProofs (disch := first | assumption | exact Nat.le_of_ble_eq_true rfl | decide) only [b852_0, g852_1, b852_1, g852_2, b852_2, g852_3, b852_3, g852_4, b852_4, g852_6, b852_6, g852_8, b852_8, g852_10, b852_10, g852_13, b852_13, pe_aload0, pe_getfield, pe_iload2, pe_aaload, pe_iload5, pe_iload6, pe_baload, pe_istore7, pe_aload1, pe_dup_i, pe_dup_r, pe_dup_x1_ii, pe_dup_x1_ir, pe_dup_x1_ri, pe_dup_x1_rr, pe_sipush, pe_iadd, pe_putfield, pe_iload7, pe_i2b, pe_bastore, pe_if_ne, pe_icmp_lt, pe_iload3, pe_iload4, pe_call5, pm_af_ret, pm_af_void, pm_af_thr, pe_goto, pe_icmp_ge, pe_isub, pe_istore8, pe_iload8, pe_iaload, pe_if_le, pe_dup2_ii, pe_dup2_ir, pe_dup2_l, pe_iastore, pe_call6, pe_goto_w, pe_iand, pe_istore9, pe_istore10, pe_iload9, pe_if_eq, pe_ixor, pe_call7, pe_iload10, pe_return, pm_prog_1, pm_ob_some, Nat.reduceDiv, Nat.reduceMod, Nat.reduceMul, Nat.reduceAdd, Int.reduceToNat, pm_kill_i, pm_kill_r, pm_kill_n, pm_kill_j, pm_kill_l, pm_kill_d, pm_cats_nil, pm_cats_i, pm_cats_r, pm_cats_n, pm_cats_l, pm_cats_d, sz_1, sz_2, sl_1, sl_2, lc_0, lc_lt, lc_le, li_ne, va_rf, wr_m1, we_m1, pm_kill_w, Int32.reduceOfInt, Int64.reduceOfInt, Int32.reduceOfNat, Int32.reduceLT, Int32.reduceLE, Prod.mk.injEq, Nat.reduceEqDiff, reduceCtorEq, and_true, true_and, and_false, false_and, and_self, ite_true, ite_false, ↓reduceIte, not_true_eq_false, not_false_eq_true, pe_ri, pe_rz, pe_rc, Ct_g0_0 hP hA, Ct_g0_2 hP hA, Ct_g0_7 hP hA, Ct_g1_0 hP hA, Ct_g1_3 hP hA, Ct_g10_4 hP hA, Ct_g10_6 hP hA, Ct_g10_7 hP hA, Ct_g10_8 hP hA, Ct_p10_4 hP hA, Ct_p10_6 hP hA, Ct_p10_7 hP hA, Ct_r14 hP hA, Ct_r32 hP hA, Ct_r6 hP hA, Ct_r7 hP hA, Ct_w11 hP hA, Ct_w14 hP hA, z3, eq_false k4, eq_true k6, z7]
        · rw [if_neg k6] at e
          have k8 := y852v1_12 (h := h) hP hA hF hE hD e
          simp -implicitDefEqProofs (disch := first | assumption | exact Nat.le_of_ble_eq_true rfl | decide) only [b852_0, g852_1, b852_1, g852_2, b852_2, g852_3, b852_3, g852_4, b852_4, g852_6, b852_6, g852_8, b852_8, g852_10, b852_10, g852_13, b852_13, pe_aload0, pe_getfield, pe_iload2, pe_aaload, pe_iload5, pe_iload6, pe_baload, pe_istore7, pe_aload1, pe_dup_i, pe_dup_r, pe_dup_x1_ii, pe_dup_x1_ir, pe_dup_x1_ri, pe_dup_x1_rr, pe_sipush, pe_iadd, pe_putfield, pe_iload7, pe_i2b, pe_bastore, pe_if_ne, pe_icmp_lt, pe_iload3, pe_iload4, pe_call5, pm_af_ret, pm_af_void, pm_af_thr, pe_goto, pe_icmp_ge, pe_isub, pe_istore8, pe_iload8, pe_iaload, pe_if_le, pe_dup2_ii, pe_dup2_ir, pe_dup2_l, pe_iastore, pe_call6, pe_goto_w, pe_iand, pe_istore9, pe_istore10, pe_iload9, pe_if_eq, pe_ixor, pe_call7, pe_iload10, pe_return, pm_prog_1, pm_ob_some, Nat.reduceDiv, Nat.reduceMod, Nat.reduceMul, Nat.reduceAdd, Int.reduceToNat, pm_kill_i, pm_kill_r, pm_kill_n, pm_kill_j, pm_kill_l, pm_kill_d, pm_cats_nil, pm_cats_i, pm_cats_r, pm_cats_n, pm_cats_l, pm_cats_d, sz_1, sz_2, sl_1, sl_2, lc_0, lc_lt, lc_le, li_ne, va_rf, wr_m1, we_m1, pm_kill_w, Int32.reduceOfInt, Int64.reduceOfInt, Int32.reduceOfNat, Int32.reduceLT, Int32.reduceLE, Prod.mk.injEq, Nat.reduceEqDiff, reduceCtorEq, and_true, true_and, and_false, false_and, and_self, ite_true, ite_false, ↓reduceIte, not_true_eq_false, not_false_eq_true, pe_ri, pe_rz, pe_rc, Ct_g0_0 hP hA, Ct_g0_2 hP hA, Ct_g0_7 hP hA, Ct_g1_0 hP hA, Ct_g1_3 hP hA, Ct_g10_4 hP hA, Ct_g10_6 hP hA, Ct_g10_7 hP hA, Ct_g10_8 hP hA, Ct_p10_4 hP hA, Ct_p10_6 hP hA, Ct_p10_7 hP hA, Ct_r14 hP hA, Ct_r32 hP hA, Ct_r6 hP hA, Ct_r7 hP hA, Ct_w11 hP hA, Ct_w14 hP hA, z3, eq_false k4, eq_false k6, k8]
    · rw [if_neg k2] at e; cases e
  · rw [if_neg k1] at e; cases e
theorem y852v1_9 {sc : Int32} {pc : Int32} {sa : Int32} {pa : Int32} {A : wK → Nat} {h : pm_H} {D : Nat} {F : wS → Int32 → Int32 → Int32 → Int32 → Int32 → Int32 → Option (wS)} {E : Nat} {S : wS} {x1i : Int32} {x2 : Int32} {x3 : Int32} {x4 : Int32} {x5 : Int32} {x6 : Int32} {x8 : Int32} {x9 : Int32} {x10 : Int32} {y1i : Int32} {y2 : Int32} {y3 : Int32} {y4 : Int32} {y5 : Int32} {r : wS} (hP : Ct_P sc pc sa pa) (hA : wok A (Ct_d sc pc sa pa) h.1) (hF : FOK852v1 sc pc sa pa A h E F) (hE : E + 0 ≤ D) (hD : 2 ≤ D) (e : f852v1_9 sc pc sa pa F S x1i x2 x3 x4 x5 x6 x8 x9 x10 y1i y2 y3 y4 y5 = some r) : ∀ q7 : Value, pm_go pm_prog (pm_call pm_prog D) 852 9 [.ref (A (0, 0, 0)), .ref (A (10, x1i, 0)), .int x2, .int x3, .int x4, .int x5, .int x6, q7, .int x8, .int x9, .int x10] [.int y5, .int y4, .int y3, .int y2, .ref (A (10, y1i, 0)), .ref (A (0, 0, 0))] (wput A (Ct_d sc pc sa pa) S h) = some (Outcome.returned none, (wput A (Ct_d sc pc sa pa) r h)) := by
  intro q7
  simp only [f852v1_9] at e
  rw [g852_9, b852_9]
  by_cases k1 : 0 ≤ x1i ∧ x1i < 20
  · rw [if_pos k1] at e
    by_cases k2 : 0 ≤ y1i ∧ y1i < 20
    · rw [if_pos k2] at e
      by_cases k3 : x9 = 0
      · rw [if_pos k3] at e
        have k4 := y852v1_11 (h := h) hP hA hF hE hD e
        simp -implicitDefEqProofs (disch := first | assumption | exact Nat.le_of_ble_eq_true rfl | decide) only [b852_0, g852_1, b852_1, g852_2, b852_2, g852_3, b852_3, g852_4, b852_4, g852_6, b852_6, g852_8, b852_8, g852_10, b852_10, g852_13, b852_13, pe_aload0, pe_getfield, pe_iload2, pe_aaload, pe_iload5, pe_iload6, pe_baload, pe_istore7, pe_aload1, pe_dup_i, pe_dup_r, pe_dup_x1_ii, pe_dup_x1_ir, pe_dup_x1_ri, pe_dup_x1_rr, pe_sipush, pe_iadd, pe_putfield, pe_iload7, pe_i2b, pe_bastore, pe_if_ne, pe_icmp_lt, pe_iload3, pe_iload4, pe_call5, pm_af_ret, pm_af_void, pm_af_thr, pe_goto, pe_icmp_ge, pe_isub, pe_istore8, pe_iload8, pe_iaload, pe_if_le, pe_dup2_ii, pe_dup2_ir, pe_dup2_l, pe_iastore, pe_call6, pe_goto_w, pe_iand, pe_istore9, pe_istore10, pe_iload9, pe_if_eq, pe_ixor, pe_call7, pe_iload10, pe_return, pm_prog_1, pm_ob_some, Nat.reduceDiv, Nat.reduceMod, Nat.reduceMul, Nat.reduceAdd, Int.reduceToNat, pm_kill_i, pm_kill_r, pm_kill_n, pm_kill_j, pm_kill_l, pm_kill_d, pm_cats_nil, pm_cats_i, pm_cats_r, pm_cats_n, pm_cats_l, pm_cats_d, sz_1, sz_2, sl_1, sl_2, lc_0, lc_lt, lc_le, li_ne, va_rf, wr_m1, we_m1, pm_kill_w, Int32.reduceOfInt, Int64.reduceOfInt, Int32.reduceOfNat, Int32.reduceLT, Int32.reduceLE, Prod.mk.injEq, Nat.reduceEqDiff, reduceCtorEq, and_true, true_and, and_false, false_and, and_self, ite_true, ite_false, ↓reduceIte, not_true_eq_false, not_false_eq_true, pe_ri, pe_rz, pe_rc, Ct_g0_0 hP hA, Ct_g0_2 hP hA, Ct_g0_7 hP hA, Ct_g1_0 hP hA, Ct_g1_3 hP hA, Ct_g10_4 hP hA, Ct_g10_6 hP hA, Ct_g10_7 hP hA, Ct_g10_8 hP hA, Ct_p10_4 hP hA, Ct_p10_6 hP hA, Ct_p10_7 hP hA, Ct_r14 hP hA, Ct_r32 hP hA, Ct_r6 hP hA, Ct_r7 hP hA, Ct_w11 hP hA, Ct_w14 hP hA, eq_true k3, k4]
      · rw [if_neg k3] at e
        have k5 := y852v1_11 (h := h) hP hA hF hE hD e
        simp -implicitDefEqProofs (disch := first | assumption | exact Nat.le_of_ble_eq_true rfl | decide) only [b852_0, g852_1, b852_1, g852_2, b852_2, g852_3, b852_3, g852_4, b852_4, g852_6, b852_6, g852_8, b852_8, g852_10, b852_10, g852_13, b852_13, pe_aload0, pe_getfield, pe_iload2, pe_aaload, pe_iload5, pe_iload6, pe_baload, pe_istore7, pe_aload1, pe_dup_i, pe_dup_r, pe_dup_x1_ii, pe_dup_x1_ir, pe_dup_x1_ri, pe_dup_x1_rr, pe_sipush, pe_iadd, pe_putfield, pe_iload7, pe_i2b, pe_bastore, pe_if_ne, pe_icmp_lt, pe_iload3, pe_iload4, pe_call5, pm_af_ret, pm_af_void, pm_af_thr, pe_goto, pe_icmp_ge, pe_isub, pe_istore8, pe_iload8, pe_iaload, pe_if_le, pe_dup2_ii, pe_dup2_ir, pe_dup2_l, pe_iastore, pe_call6, pe_goto_w, pe_iand, pe_istore9, pe_istore10, pe_iload9, pe_if_eq, pe_ixor, pe_call7, pe_iload10, pe_return, pm_prog_1, pm_ob_some, Nat.reduceDiv, Nat.reduceMod, Nat.reduceMul, Nat.reduceAdd, Int.reduceToNat, pm_kill_i, pm_kill_r, pm_kill_n, pm_kill_j, pm_kill_l, pm_kill_d, pm_cats_nil, pm_cats_i, pm_cats_r, pm_cats_n, pm_cats_l, pm_cats_d, sz_1, sz_2, sl_1, sl_2, lc_0, lc_lt, lc_le, li_ne, va_rf, wr_m1, we_m1, pm_kill_w, Int32.reduceOfInt, Int64.reduceOfInt, Int32.reduceOfNat, Int32.reduceLT, Int32.reduceLE, Prod.mk.injEq, Nat.reduceEqDiff, reduceCtorEq, and_true, true_and, and_false, false_and, and_self, ite_true, ite_false, ↓reduceIte, not_true_eq_false, not_false_eq_true, pe_ri, pe_rz, pe_rc, Ct_g0_0 hP hA, Ct_g0_2 hP hA, Ct_g0_7 hP hA, Ct_g1_0 hP hA, Ct_g1_3 hP hA, Ct_g10_4 hP hA, Ct_g10_6 hP hA, Ct_g10_7 hP hA, Ct_g10_8 hP hA, Ct_p10_4 hP hA, Ct_p10_6 hP hA, Ct_p10_7 hP hA, Ct_r14 hP hA, Ct_r32 hP hA, Ct_r6 hP hA, Ct_r7 hP hA, Ct_w11 hP hA, Ct_w14 hP hA, eq_false k3, k5]
    · rw [if_neg k2] at e; cases e
  · rw [if_neg k1] at e; cases e
theorem y852v1_7 {sc : Int32} {pc : Int32} {sa : Int32} {pa : Int32} {A : wK → Nat} {h : pm_H} {D : Nat} {F : wS → Int32 → Int32 → Int32 → Int32 → Int32 → Int32 → Option (wS)} {E : Nat} {S : wS} {x1i : Int32} {x2 : Int32} {x3 : Int32} {x4 : Int32} {x5 : Int32} {x6 : Int32} {x8 : Int32} {x9 : Int32} {x10 : Int32} {y0i : Int32} {y1 : Int32} {y2 : Int32} {r : wS} (hP : Ct_P sc pc sa pa) (hA : wok A (Ct_d sc pc sa pa) h.1) (hF : FOK852v1 sc pc sa pa A h E F) (hE : E + 0 ≤ D) (hD : 2 ≤ D) (e : f852v1_7 sc pc sa pa F S x1i x2 x3 x4 x5 x6 x8 x9 x10 y0i y1 y2 = some r) : ∀ q7 : Value, pm_go pm_prog (pm_call pm_prog D) 852 7 [.ref (A (0, 0, 0)), .ref (A (10, x1i, 0)), .int x2, .int x3, .int x4, .int x5, .int x6, q7, .int x8, .int x9, .int x10] [.int y2, .int y1, .ref (A (10, y0i, 0))] (wput A (Ct_d sc pc sa pa) S h) = some (Outcome.returned none, (wput A (Ct_d sc pc sa pa) r h)) := by
  intro q7
  simp only [f852v1_7] at e
  rw [g852_7, b852_7]
  by_cases k1 : 0 ≤ x1i ∧ x1i < 20
  · rw [if_pos k1] at e
    by_cases k2 : 0 ≤ y0i ∧ y0i < 20
    · rw [if_pos k2] at e
      by_cases k3 : x9 = 0
      · rw [if_pos k3] at e
        have k4 := y852v1_9 (h := h) hP hA hF hE hD e
        simp -implicitDefEqProofs (disch := first | assumption | exact Nat.le_of_ble_eq_true rfl | decide) only [b852_0, g852_1, b852_1, g852_2, b852_2, g852_3, b852_3, g852_4, b852_4, g852_6, b852_6, g852_8, b852_8, g852_10, b852_10, g852_13, b852_13, pe_aload0, pe_getfield, pe_iload2, pe_aaload, pe_iload5, pe_iload6, pe_baload, pe_istore7, pe_aload1, pe_dup_i, pe_dup_r, pe_dup_x1_ii, pe_dup_x1_ir, pe_dup_x1_ri, pe_dup_x1_rr, pe_sipush, pe_iadd, pe_putfield, pe_iload7, pe_i2b, pe_bastore, pe_if_ne, pe_icmp_lt, pe_iload3, pe_iload4, pe_call5, pm_af_ret, pm_af_void, pm_af_thr, pe_goto, pe_icmp_ge, pe_isub, pe_istore8, pe_iload8, pe_iaload, pe_if_le, pe_dup2_ii, pe_dup2_ir, pe_dup2_l, pe_iastore, pe_call6, pe_goto_w, pe_iand, pe_istore9, pe_istore10, pe_iload9, pe_if_eq, pe_ixor, pe_call7, pe_iload10, pe_return, pm_prog_1, pm_ob_some, Nat.reduceDiv, Nat.reduceMod, Nat.reduceMul, Nat.reduceAdd, Int.reduceToNat, pm_kill_i, pm_kill_r, pm_kill_n, pm_kill_j, pm_kill_l, pm_kill_d, pm_cats_nil, pm_cats_i, pm_cats_r, pm_cats_n, pm_cats_l, pm_cats_d, sz_1, sz_2, sl_1, sl_2, lc_0, lc_lt, lc_le, li_ne, va_rf, wr_m1, we_m1, pm_kill_w, Int32.reduceOfInt, Int64.reduceOfInt, Int32.reduceOfNat, Int32.reduceLT, Int32.reduceLE, Prod.mk.injEq, Nat.reduceEqDiff, reduceCtorEq, and_true, true_and, and_false, false_and, and_self, ite_true, ite_false, ↓reduceIte, not_true_eq_false, not_false_eq_true, pe_ri, pe_rz, pe_rc, Ct_g0_0 hP hA, Ct_g0_2 hP hA, Ct_g0_7 hP hA, Ct_g1_0 hP hA, Ct_g1_3 hP hA, Ct_g10_4 hP hA, Ct_g10_6 hP hA, Ct_g10_7 hP hA, Ct_g10_8 hP hA, Ct_p10_4 hP hA, Ct_p10_6 hP hA, Ct_p10_7 hP hA, Ct_r14 hP hA, Ct_r32 hP hA, Ct_r6 hP hA, Ct_r7 hP hA, Ct_w11 hP hA, Ct_w14 hP hA, eq_true k3, k4]
      · rw [if_neg k3] at e
        have k5 := y852v1_9 (h := h) hP hA hF hE hD e
        simp -implicitDefEqProofs (disch := first | assumption | exact Nat.le_of_ble_eq_true rfl | decide) only [b852_0, g852_1, b852_1, g852_2, b852_2, g852_3, b852_3, g852_4, b852_4, g852_6, b852_6, g852_8, b852_8, g852_10, b852_10, g852_13, b852_13, pe_aload0, pe_getfield, pe_iload2, pe_aaload, pe_iload5, pe_iload6, pe_baload, pe_istore7, pe_aload1, pe_dup_i, pe_dup_r, pe_dup_x1_ii, pe_dup_x1_ir, pe_dup_x1_ri, pe_dup_x1_rr, pe_sipush, pe_iadd, pe_putfield, pe_iload7, pe_i2b, pe_bastore, pe_if_ne, pe_icmp_lt, pe_iload3, pe_iload4, pe_call5, pm_af_ret, pm_af_void, pm_af_thr, pe_goto, pe_icmp_ge, pe_isub, pe_istore8, pe_iload8, pe_iaload, pe_if_le, pe_dup2_ii, pe_dup2_ir, pe_dup2_l, pe_iastore, pe_call6, pe_goto_w, pe_iand, pe_istore9, pe_istore10, pe_iload9, pe_if_eq, pe_ixor, pe_call7, pe_iload10, pe_return, pm_prog_1, pm_ob_some, Nat.reduceDiv, Nat.reduceMod, Nat.reduceMul, Nat.reduceAdd, Int.reduceToNat, pm_kill_i, pm_kill_r, pm_kill_n, pm_kill_j, pm_kill_l, pm_kill_d, pm_cats_nil, pm_cats_i, pm_cats_r, pm_cats_n, pm_cats_l, pm_cats_d, sz_1, sz_2, sl_1, sl_2, lc_0, lc_lt, lc_le, li_ne, va_rf, wr_m1, we_m1, pm_kill_w, Int32.reduceOfInt, Int64.reduceOfInt, Int32.reduceOfNat, Int32.reduceLT, Int32.reduceLE, Prod.mk.injEq, Nat.reduceEqDiff, reduceCtorEq, and_true, true_and, and_false, false_and, and_self, ite_true, ite_false, ↓reduceIte, not_true_eq_false, not_false_eq_true, pe_ri, pe_rz, pe_rc, Ct_g0_0 hP hA, Ct_g0_2 hP hA, Ct_g0_7 hP hA, Ct_g1_0 hP hA, Ct_g1_3 hP hA, Ct_g10_4 hP hA, Ct_g10_6 hP hA, Ct_g10_7 hP hA, Ct_g10_8 hP hA, Ct_p10_4 hP hA, Ct_p10_6 hP hA, Ct_p10_7 hP hA, Ct_r14 hP hA, Ct_r32 hP hA, Ct_r6 hP hA, Ct_r7 hP hA, Ct_w11 hP hA, Ct_w14 hP hA, eq_false k3, k5]
    · rw [if_neg k2] at e; cases e
  · rw [if_neg k1] at e; cases e
theorem y852v1_5 {sc : Int32} {pc : Int32} {sa : Int32} {pa : Int32} {A : wK → Nat} {h : pm_H} {D : Nat} {F : wS → Int32 → Int32 → Int32 → Int32 → Int32 → Int32 → Option (wS)} {E : Nat} {S : wS} {x1i : Int32} {x2 : Int32} {x3 : Int32} {x4 : Int32} {x5 : Int32} {x6 : Int32} {x8 : Int32} {y0 : Int32} {r : wS} (hP : Ct_P sc pc sa pa) (hA : wok A (Ct_d sc pc sa pa) h.1) (hF : FOK852v1 sc pc sa pa A h E F) (hE : E + 0 ≤ D) (hD : 2 ≤ D) (e : f852v1_5 sc pc sa pa F S x1i x2 x3 x4 x5 x6 x8 y0 = some r) : ∀ q7 q9 q10 : Value, pm_go pm_prog (pm_call pm_prog D) 852 5 [.ref (A (0, 0, 0)), .ref (A (10, x1i, 0)), .int x2, .int x3, .int x4, .int x5, .int x6, q7, .int x8, q9, q10] [.int y0] (wput A (Ct_d sc pc sa pa) S h) = some (Outcome.returned none, (wput A (Ct_d sc pc sa pa) r h)) := by
  intro q7 q9 q10
  simp only [f852v1_5] at e
  rw [g852_5, b852_5]
  by_cases k1 : 0 ≤ x1i ∧ x1i < 20
  · rw [if_pos k1] at e
    by_cases k2 : y0 = 0
    · rw [if_pos k2] at e
      have k3 := y852v1_7 (h := h) hP hA hF hE hD e
      simp -implicitDefEqProofs (disch := first | assumption | exact Nat.le_of_ble_eq_true rfl | decide) only [b852_0, g852_1, b852_1, g852_2, b852_2, g852_3, b852_3, g852_4, b852_4, g852_6, b852_6, g852_8, b852_8, g852_10, b852_10, g852_13, b852_13, pe_aload0, pe_getfield, pe_iload2, pe_aaload, pe_iload5, pe_iload6, pe_baload, pe_istore7, pe_aload1, pe_dup_i, pe_dup_r, pe_dup_x1_ii, pe_dup_x1_ir, pe_dup_x1_ri, pe_dup_x1_rr, pe_sipush, pe_iadd, pe_putfield, pe_iload7, pe_i2b, pe_bastore, pe_if_ne, pe_icmp_lt, pe_iload3, pe_iload4, pe_call5, pm_af_ret, pm_af_void, pm_af_thr, pe_goto, pe_icmp_ge, pe_isub, pe_istore8, pe_iload8, pe_iaload, pe_if_le, pe_dup2_ii, pe_dup2_ir, pe_dup2_l, pe_iastore, pe_call6, pe_goto_w, pe_iand, pe_istore9, pe_istore10, pe_iload9, pe_if_eq, pe_ixor, pe_call7, pe_iload10, pe_return, pm_prog_1, pm_ob_some, Nat.reduceDiv, Nat.reduceMod, Nat.reduceMul, Nat.reduceAdd, Int.reduceToNat, pm_kill_i, pm_kill_r, pm_kill_n, pm_kill_j, pm_kill_l, pm_kill_d, pm_cats_nil, pm_cats_i, pm_cats_r, pm_cats_n, pm_cats_l, pm_cats_d, sz_1, sz_2, sl_1, sl_2, lc_0, lc_lt, lc_le, li_ne, va_rf, wr_m1, we_m1, pm_kill_w, Int32.reduceOfInt, Int64.reduceOfInt, Int32.reduceOfNat, Int32.reduceLT, Int32.reduceLE, Prod.mk.injEq, Nat.reduceEqDiff, reduceCtorEq, and_true, true_and, and_false, false_and, and_self, ite_true, ite_false, ↓reduceIte, not_true_eq_false, not_false_eq_true, pe_ri, pe_rz, pe_rc, Ct_g0_0 hP hA, Ct_g0_2 hP hA, Ct_g0_7 hP hA, Ct_g1_0 hP hA, Ct_g1_3 hP hA, Ct_g10_4 hP hA, Ct_g10_6 hP hA, Ct_g10_7 hP hA, Ct_g10_8 hP hA, Ct_p10_4 hP hA, Ct_p10_6 hP hA, Ct_p10_7 hP hA, Ct_r14 hP hA, Ct_r32 hP hA, Ct_r6 hP hA, Ct_r7 hP hA, Ct_w11 hP hA, Ct_w14 hP hA, eq_true k2, k3]
    · rw [if_neg k2] at e
      have k4 := y852v1_7 (h := h) hP hA hF hE hD e
      simp -implicitDefEqProofs (disch := first | assumption | exact Nat.le_of_ble_eq_true rfl | decide) only [b852_0, g852_1, b852_1, g852_2, b852_2, g852_3, b852_3, g852_4, b852_4, g852_6, b852_6, g852_8, b852_8, g852_10, b852_10, g852_13, b852_13, pe_aload0, pe_getfield, pe_iload2, pe_aaload, pe_iload5, pe_iload6, pe_baload, pe_istore7, pe_aload1, pe_dup_i, pe_dup_r, pe_dup_x1_ii, pe_dup_x1_ir, pe_dup_x1_ri, pe_dup_x1_rr, pe_sipush, pe_iadd, pe_putfield, pe_iload7, pe_i2b, pe_bastore, pe_if_ne, pe_icmp_lt, pe_iload3, pe_iload4, pe_call5, pm_af_ret, pm_af_void, pm_af_thr, pe_goto, pe_icmp_ge, pe_isub, pe_istore8, pe_iload8, pe_iaload, pe_if_le, pe_dup2_ii, pe_dup2_ir, pe_dup2_l, pe_iastore, pe_call6, pe_goto_w, pe_iand, pe_istore9, pe_istore10, pe_iload9, pe_if_eq, pe_ixor, pe_call7, pe_iload10, pe_return, pm_prog_1, pm_ob_some, Nat.reduceDiv, Nat.reduceMod, Nat.reduceMul, Nat.reduceAdd, Int.reduceToNat, pm_kill_i, pm_kill_r, pm_kill_n, pm_kill_j, pm_kill_l, pm_kill_d, pm_cats_nil, pm_cats_i, pm_cats_r, pm_cats_n, pm_cats_l, pm_cats_d, sz_1, sz_2, sl_1, sl_2, lc_0, lc_lt, lc_le, li_ne, va_rf, wr_m1, we_m1, pm_kill_w, Int32.reduceOfInt, Int64.reduceOfInt, Int32.reduceOfNat, Int32.reduceLT, Int32.reduceLE, Prod.mk.injEq, Nat.reduceEqDiff, reduceCtorEq, and_true, true_and, and_false, false_and, and_self, ite_true, ite_false, ↓reduceIte, not_true_eq_false, not_false_eq_true, pe_ri, pe_rz, pe_rc, Ct_g0_0 hP hA, Ct_g0_2 hP hA, Ct_g0_7 hP hA, Ct_g1_0 hP hA, Ct_g1_3 hP hA, Ct_g10_4 hP hA, Ct_g10_6 hP hA, Ct_g10_7 hP hA, Ct_g10_8 hP hA, Ct_p10_4 hP hA, Ct_p10_6 hP hA, Ct_p10_7 hP hA, Ct_r14 hP hA, Ct_r32 hP hA, Ct_r6 hP hA, Ct_r7 hP hA, Ct_w11 hP hA, Ct_w14 hP hA, eq_false k2, k4]
  · rw [if_neg k1] at e; cases e
theorem x852v1 {sc : Int32} {pc : Int32} {sa : Int32} {pa : Int32} {A : wK → Nat} {h : pm_H} {D : Nat} {F : wS → Int32 → Int32 → Int32 → Int32 → Int32 → Int32 → Option (wS)} {E : Nat} {S : wS} {x1i : Int32} {x2 : Int32} {x3 : Int32} {x4 : Int32} {x5 : Int32} {x6 : Int32} {r : wS} (hP : Ct_P sc pc sa pa) (hA : wok A (Ct_d sc pc sa pa) h.1) (hF : FOK852v1 sc pc sa pa A h E F) (hE : E + 1 ≤ D) (hD : 3 ≤ D) (e : f852v1 sc pc sa pa F S x1i x2 x3 x4 x5 x6 = some r) : pm_call pm_prog D 852 [.ref (A (0, 0, 0)), .ref (A (10, x1i, 0)), .int x2, .int x3, .int x4, .int x5, .int x6] (wput A (Ct_d sc pc sa pa) S h) = some (Outcome.returned none, (wput A (Ct_d sc pc sa pa) r h)) := by
  obtain ⟨D, rfl⟩ : ∃ D', D = D' + 1 := ⟨D - 1, by omega⟩
  have hE : E + 0 ≤ D := by omega
  have hD : 2 ≤ D := by omega
  simp only [f852v1] at e
  have k1 : 0 ≤ x1i ∧ x1i < 20 := by
    by_cases q : 0 ≤ x1i ∧ x1i < 20
    · exact q
    · rw [if_neg q] at e; cases e
  rw [if_pos k1] at e
  rw [c852 (Ct_c0 hP hA), b852_0]
  by_cases k2 : 0 ≤ x2 ∧ x2 < 8
  · rw [if_pos k2] at e
    by_cases k3 : 0 ≤ x5 ∧ x5 < 17
    · rw [if_pos k3] at e
      by_cases k4 : 0 ≤ x6 ∧ x6 < 17
      · rw [if_pos k4] at e
        by_cases k5 : 0 ≤ (S.1 (10, x1i, 0) 7) ∧ (S.1 (10, x1i, 0) 7) < 512
        · rw [if_pos k5] at e
          by_cases k6 : (S.1 (7, x2, x5) x6) = 0
          · rw [if_pos k6] at e
            by_cases k7 : x5 < (S.1 (0, 0, 0) 2)
            · rw [if_pos k7] at e
              have e := Option.some.inj e; subst e
              simp -implicitDefEqProofs (disch := first | assumption | exact Nat.le_of_ble_eq_true rfl | decide) only [b852_0, g852_1, b852_1, g852_2, b852_2, g852_3, b852_3, g852_4, b852_4, g852_6, b852_6, g852_8, b852_8, g852_10, b852_10, g852_13, b852_13, pe_aload0, pe_getfield, pe_iload2, pe_aaload, pe_iload5, pe_iload6, pe_baload, pe_istore7, pe_aload1, pe_dup_i, pe_dup_r, pe_dup_x1_ii, pe_dup_x1_ir, pe_dup_x1_ri, pe_dup_x1_rr, pe_sipush, pe_iadd, pe_putfield, pe_iload7, pe_i2b, pe_bastore, pe_if_ne, pe_icmp_lt, pe_iload3, pe_iload4, pe_call5, pm_af_ret, pm_af_void, pm_af_thr, pe_goto, pe_icmp_ge, pe_isub, pe_istore8, pe_iload8, pe_iaload, pe_if_le, pe_dup2_ii, pe_dup2_ir, pe_dup2_l, pe_iastore, pe_call6, pe_goto_w, pe_iand, pe_istore9, pe_istore10, pe_iload9, pe_if_eq, pe_ixor, pe_call7, pe_iload10, pe_return, pm_prog_1, pm_ob_some, Nat.reduceDiv, Nat.reduceMod, Nat.reduceMul, Nat.reduceAdd, Int.reduceToNat, pm_kill_i, pm_kill_r, pm_kill_n, pm_kill_j, pm_kill_l, pm_kill_d, pm_cats_nil, pm_cats_i, pm_cats_r, pm_cats_n, pm_cats_l, pm_cats_d, sz_1, sz_2, sl_1, sl_2, lc_0, lc_lt, lc_le, li_ne, va_rf, wr_m1, we_m1, pm_kill_w, Int32.reduceOfInt, Int64.reduceOfInt, Int32.reduceOfNat, Int32.reduceLT, Int32.reduceLE, Prod.mk.injEq, Nat.reduceEqDiff, reduceCtorEq, and_true, true_and, and_false, false_and, and_self, ite_true, ite_false, ↓reduceIte, not_true_eq_false, not_false_eq_true, pe_ri, pe_rz, pe_rc, Ct_g0_0 hP hA, Ct_g0_2 hP hA, Ct_g0_7 hP hA, Ct_g1_0 hP hA, Ct_g1_3 hP hA, Ct_g10_4 hP hA, Ct_g10_6 hP hA, Ct_g10_7 hP hA, Ct_g10_8 hP hA, Ct_p10_4 hP hA, Ct_p10_6 hP hA, Ct_p10_7 hP hA, Ct_r14 hP hA, Ct_r32 hP hA, Ct_r6 hP hA, Ct_r7 hP hA, Ct_w11 hP hA, Ct_w14 hP hA, eq_true k6, eq_true k7]
            · rw [if_neg k7] at e
              by_cases k8 : x6 < (S.1 (0, 0, 0) 2)
              · rw [if_pos k8] at e
                have e := Option.some.inj e; subst e
                simp -implicitDefEqProofs (disch := first | assumption | exact Nat.le_of_ble_eq_true rfl | decide) only [b852_0, g852_1, b852_1, g852_2, b852_2, g852_3, b852_3, g852_4, b852_4, g852_6, b852_6, g852_8, b852_8, g852_10, b852_10, g852_13, b852_13, pe_aload0, pe_getfield, pe_iload2, pe_aaload, pe_iload5, pe_iload6, pe_baload, pe_istore7, pe_aload1, pe_dup_i, pe_dup_r, pe_dup_x1_ii, pe_dup_x1_ir, pe_dup_x1_ri, pe_dup_x1_rr, pe_sipush, pe_iadd, pe_putfield, pe_iload7, pe_i2b, pe_bastore, pe_if_ne, pe_icmp_lt, pe_iload3, pe_iload4, pe_call5, pm_af_ret, pm_af_void, pm_af_thr, pe_goto, pe_icmp_ge, pe_isub, pe_istore8, pe_iload8, pe_iaload, pe_if_le, pe_dup2_ii, pe_dup2_ir, pe_dup2_l, pe_iastore, pe_call6, pe_goto_w, pe_iand, pe_istore9, pe_istore10, pe_iload9, pe_if_eq, pe_ixor, pe_call7, pe_iload10, pe_return, pm_prog_1, pm_ob_some, Nat.reduceDiv, Nat.reduceMod, Nat.reduceMul, Nat.reduceAdd, Int.reduceToNat, pm_kill_i, pm_kill_r, pm_kill_n, pm_kill_j, pm_kill_l, pm_kill_d, pm_cats_nil, pm_cats_i, pm_cats_r, pm_cats_n, pm_cats_l, pm_cats_d, sz_1, sz_2, sl_1, sl_2, lc_0, lc_lt, lc_le, li_ne, va_rf, wr_m1, we_m1, pm_kill_w, Int32.reduceOfInt, Int64.reduceOfInt, Int32.reduceOfNat, Int32.reduceLT, Int32.reduceLE, Prod.mk.injEq, Nat.reduceEqDiff, reduceCtorEq, and_true, true_and, and_false, false_and, and_self, ite_true, ite_false, ↓reduceIte, not_true_eq_false, not_false_eq_true, pe_ri, pe_rz, pe_rc, Ct_g0_0 hP hA, Ct_g0_2 hP hA, Ct_g0_7 hP hA, Ct_g1_0 hP hA, Ct_g1_3 hP hA, Ct_g10_4 hP hA, Ct_g10_6 hP hA, Ct_g10_7 hP hA, Ct_g10_8 hP hA, Ct_p10_4 hP hA, Ct_p10_6 hP hA, Ct_p10_7 hP hA, Ct_r14 hP hA, Ct_r32 hP hA, Ct_r6 hP hA, Ct_r7 hP hA, Ct_w11 hP hA, Ct_w14 hP hA, eq_true k6, eq_false k7, eq_true k8]
              · rw [if_neg k8] at e
                obtain ⟨S1, k9, e⟩ := Option.bind_eq_some_iff.mp e
                try dsimp only at e
                have z9 := x899v1 (D := D) (h := h) hP hA (by omega) k9
                have e := Option.some.inj e; subst e
                simp -implicitDefEqProofs (disch := first | assumption | exact Nat.le_of_ble_eq_true rfl | decide) only [b852_0, g852_1, b852_1, g852_2, b852_2, g852_3, b852_3, g852_4, b852_4, g852_6, b852_6, g852_8, b852_8, g852_10, b852_10, g852_13, b852_13, pe_aload0, pe_getfield, pe_iload2, pe_aaload, pe_iload5, pe_iload6, pe_baload, pe_istore7, pe_aload1, pe_dup_i, pe_dup_r, pe_dup_x1_ii, pe_dup_x1_ir, pe_dup_x1_ri, pe_dup_x1_rr, pe_sipush, pe_iadd, pe_putfield, pe_iload7, pe_i2b, pe_bastore, pe_if_ne, pe_icmp_lt, pe_iload3, pe_iload4, pe_call5, pm_af_ret, pm_af_void, pm_af_thr, pe_goto, pe_icmp_ge, pe_isub, pe_istore8, pe_iload8, pe_iaload, pe_if_le, pe_dup2_ii, pe_dup2_ir, pe_dup2_l, pe_iastore, pe_call6, pe_goto_w, pe_iand, pe_istore9, pe_istore10, pe_iload9, pe_if_eq, pe_ixor, pe_call7, pe_iload10, pe_return, pm_prog_1, pm_ob_some, Nat.reduceDiv, Nat.reduceMod, Nat.reduceMul, Nat.reduceAdd, Int.reduceToNat, pm_kill_i, pm_kill_r, pm_kill_n, pm_kill_j, pm_kill_l, pm_kill_d, pm_cats_nil, pm_cats_i, pm_cats_r, pm_cats_n, pm_cats_l, pm_cats_d, sz_1, sz_2, sl_1, sl_2, lc_0, lc_lt, lc_le, li_ne, va_rf, wr_m1, we_m1, pm_kill_w, Int32.reduceOfInt, Int64.reduceOfInt, Int32.reduceOfNat, Int32.reduceLT, Int32.reduceLE, Prod.mk.injEq, Nat.reduceEqDiff, reduceCtorEq, and_true, true_and, and_false, false_and, and_self, ite_true, ite_false, ↓reduceIte, not_true_eq_false, not_false_eq_true, pe_ri, pe_rz, pe_rc, Ct_g0_0 hP hA, Ct_g0_2 hP hA, Ct_g0_7 hP hA, Ct_g1_0 hP hA, Ct_g1_3 hP hA, Ct_g10_4 hP hA, Ct_g10_6 hP hA, Ct_g10_7 hP hA, Ct_g10_8 hP hA, Ct_p10_4 hP hA, Ct_p10_6 hP hA, Ct_p10_7 hP hA, Ct_r14 hP hA, Ct_r32 hP hA, Ct_r6 hP hA, Ct_r7 hP hA, Ct_w11 hP hA, Ct_w14 hP hA, eq_true k6, eq_false k7, eq_false k8, z9]
          · rw [if_neg k6] at e
            by_cases k10 : (S.1 (7, x2, x5) x6) < 100
            · rw [if_pos k10] at e
              by_cases k11 : 0 ≤ ((S.1 (7, x2, x5) x6) - 1) ∧ ((S.1 (7, x2, x5) x6) - 1) < 8
              · rw [if_pos k11] at e
                by_cases k12 : (S.1 (14, 0, 0) ((S.1 (7, x2, x5) x6) - 1)) ≤ 0
                · rw [if_pos k12] at e
                  have e := Option.some.inj e; subst e
                  simp -implicitDefEqProofs (disch := first | assumption | exact Nat.le_of_ble_eq_true rfl | decide) only [b852_0, g852_1, b852_1, g852_2, b852_2, g852_3, b852_3, g852_4, b852_4, g852_6, b852_6, g852_8, b852_8, g852_10, b852_10, g852_13, b852_13, pe_aload0, pe_getfield, pe_iload2, pe_aaload, pe_iload5, pe_iload6, pe_baload, pe_istore7, pe_aload1, pe_dup_i, pe_dup_r, pe_dup_x1_ii, pe_dup_x1_ir, pe_dup_x1_ri, pe_dup_x1_rr, pe_sipush, pe_iadd, pe_putfield, pe_iload7, pe_i2b, pe_bastore, pe_if_ne, pe_icmp_lt, pe_iload3, pe_iload4, pe_call5, pm_af_ret, pm_af_void, pm_af_thr, pe_goto, pe_icmp_ge, pe_isub, pe_istore8, pe_iload8, pe_iaload, pe_if_le, pe_dup2_ii, pe_dup2_ir, pe_dup2_l, pe_iastore, pe_call6, pe_goto_w, pe_iand, pe_istore9, pe_istore10, pe_iload9, pe_if_eq, pe_ixor, pe_call7, pe_iload10, pe_return, pm_prog_1, pm_ob_some, Nat.reduceDiv, Nat.reduceMod, Nat.reduceMul, Nat.reduceAdd, Int.reduceToNat, pm_kill_i, pm_kill_r, pm_kill_n, pm_kill_j, pm_kill_l, pm_kill_d, pm_cats_nil, pm_cats_i, pm_cats_r, pm_cats_n, pm_cats_l, pm_cats_d, sz_1, sz_2, sl_1, sl_2, lc_0, lc_lt, lc_le, li_ne, va_rf, wr_m1, we_m1, pm_kill_w, Int32.reduceOfInt, Int64.reduceOfInt, Int32.reduceOfNat, Int32.reduceLT, Int32.reduceLE, Prod.mk.injEq, Nat.reduceEqDiff, reduceCtorEq, and_true, true_and, and_false, false_and, and_self, ite_true, ite_false, ↓reduceIte, not_true_eq_false, not_false_eq_true, pe_ri, pe_rz, pe_rc, Ct_g0_0 hP hA, Ct_g0_2 hP hA, Ct_g0_7 hP hA, Ct_g1_0 hP hA, Ct_g1_3 hP hA, Ct_g10_4 hP hA, Ct_g10_6 hP hA, Ct_g10_7 hP hA, Ct_g10_8 hP hA, Ct_p10_4 hP hA, Ct_p10_6 hP hA, Ct_p10_7 hP hA, Ct_r14 hP hA, Ct_r32 hP hA, Ct_r6 hP hA, Ct_r7 hP hA, Ct_w11 hP hA, Ct_w14 hP hA, eq_false k6, eq_true k10, eq_true k12]
                · rw [if_neg k12] at e
                  obtain ⟨S2, k13, e⟩ := Option.bind_eq_some_iff.mp e
                  try dsimp only at e
                  have z13 := x901v1 (D := D) (h := h) hP hA (by omega) k13
                  have e := Option.some.inj e; subst e
                  simp -implicitDefEqProofs (disch := first | assumption | exact Nat.le_of_ble_eq_true rfl | decide) only [b852_0, g852_1, b852_1, g852_2, b852_2, g852_3, b852_3, g852_4, b852_4, g852_6, b852_6, g852_8, b852_8, g852_10, b852_10, g852_13, b852_13, pe_aload0, pe_getfield, pe_iload2, pe_aaload, pe_iload5, pe_iload6, pe_baload, pe_istore7, pe_aload1, pe_dup_i, pe_dup_r, pe_dup_x1_ii, pe_dup_x1_ir, pe_dup_x1_ri, pe_dup_x1_rr, pe_sipush, pe_iadd, pe_putfield, pe_iload7, pe_i2b, pe_bastore, pe_if_ne, pe_icmp_lt, pe_iload3, pe_iload4, pe_call5, pm_af_ret, pm_af_void, pm_af_thr, pe_goto, pe_icmp_ge, pe_isub, pe_istore8, pe_iload8, pe_iaload, pe_if_le, pe_dup2_ii, pe_dup2_ir, pe_dup2_l, pe_iastore, pe_call6, pe_goto_w, pe_iand, pe_istore9, pe_istore10, pe_iload9, pe_if_eq, pe_ixor, pe_call7, pe_iload10, pe_return, pm_prog_1, pm_ob_some, Nat.reduceDiv, Nat.reduceMod, Nat.reduceMul, Nat.reduceAdd, Int.reduceToNat, pm_kill_i, pm_kill_r, pm_kill_n, pm_kill_j, pm_kill_l, pm_kill_d, pm_cats_nil, pm_cats_i, pm_cats_r, pm_cats_n, pm_cats_l, pm_cats_d, sz_1, sz_2, sl_1, sl_2, lc_0, lc_lt, lc_le, li_ne, va_rf, wr_m1, we_m1, pm_kill_w, Int32.reduceOfInt, Int64.reduceOfInt, Int32.reduceOfNat, Int32.reduceLT, Int32.reduceLE, Prod.mk.injEq, Nat.reduceEqDiff, reduceCtorEq, and_true, true_and, and_false, false_and, and_self, ite_true, ite_false, ↓reduceIte, not_true_eq_false, not_false_eq_true, pe_ri, pe_rz, pe_rc, Ct_g0_0 hP hA, Ct_g0_2 hP hA, Ct_g0_7 hP hA, Ct_g1_0 hP hA, Ct_g1_3 hP hA, Ct_g10_4 hP hA, Ct_g10_6 hP hA, Ct_g10_7 hP hA, Ct_g10_8 hP hA, Ct_p10_4 hP hA, Ct_p10_6 hP hA, Ct_p10_7 hP hA, Ct_r14 hP hA, Ct_r32 hP hA, Ct_r6 hP hA, Ct_r7 hP hA, Ct_w11 hP hA, Ct_w14 hP hA, eq_false k6, eq_true k10, eq_false k12, z13]
              · rw [if_neg k11] at e; cases e
            · rw [if_neg k10] at e
              by_cases k14 : (x2 &&& 1) = 0
              · rw [if_pos k14] at e
                have k15 := y852v1_5 (h := h) hP hA hF hE hD e
                simp -implicitDefEqProofs (disch := first | assumption | exact Nat.le_of_ble_eq_true rfl | decide) only [b852_0, g852_1, b852_1, g852_2, b852_2, g852_3, b852_3, g852_4, b852_4, g852_6, b852_6, g852_8, b852_8, g852_10, b852_10, g852_13, b852_13, pe_aload0, pe_getfield, pe_iload2, pe_aaload, pe_iload5, pe_iload6, pe_baload, pe_istore7, pe_aload1, pe_dup_i, pe_dup_r, pe_dup_x1_ii, pe_dup_x1_ir, pe_dup_x1_ri, pe_dup_x1_rr, pe_sipush, pe_iadd, pe_putfield, pe_iload7, pe_i2b, pe_bastore, pe_if_ne, pe_icmp_lt, pe_iload3, pe_iload4, pe_call5, pm_af_ret, pm_af_void, pm_af_thr, pe_goto, pe_icmp_ge, pe_isub, pe_istore8, pe_iload8, pe_iaload, pe_if_le, pe_dup2_ii, pe_dup2_ir, pe_dup2_l, pe_iastore, pe_call6, pe_goto_w, pe_iand, pe_istore9, pe_istore10, pe_iload9, pe_if_eq, pe_ixor, pe_call7, pe_iload10, pe_return, pm_prog_1, pm_ob_some, Nat.reduceDiv, Nat.reduceMod, Nat.reduceMul, Nat.reduceAdd, Int.reduceToNat, pm_kill_i, pm_kill_r, pm_kill_n, pm_kill_j, pm_kill_l, pm_kill_d, pm_cats_nil, pm_cats_i, pm_cats_r, pm_cats_n, pm_cats_l, pm_cats_d, sz_1, sz_2, sl_1, sl_2, lc_0, lc_lt, lc_le, li_ne, va_rf, wr_m1, we_m1, pm_kill_w, Int32.reduceOfInt, Int64.reduceOfInt, Int32.reduceOfNat, Int32.reduceLT, Int32.reduceLE, Prod.mk.injEq, Nat.reduceEqDiff, reduceCtorEq, and_true, true_and, and_false, false_and, and_self, ite_true, ite_false, ↓reduceIte, not_true_eq_false, not_false_eq_true, pe_ri, pe_rz, pe_rc, Ct_g0_0 hP hA, Ct_g0_2 hP hA, Ct_g0_7 hP hA, Ct_g1_0 hP hA, Ct_g1_3 hP hA, Ct_g10_4 hP hA, Ct_g10_6 hP hA, Ct_g10_7 hP hA, Ct_g10_8 hP hA, Ct_p10_4 hP hA, Ct_p10_6 hP hA, Ct_p10_7 hP hA, Ct_r14 hP hA, Ct_r32 hP hA, Ct_r6 hP hA, Ct_r7 hP hA, Ct_w11 hP hA, Ct_w14 hP hA, eq_false k6, eq_false k10, eq_true k14, k15]
              · rw [if_neg k14] at e
                have k16 := y852v1_5 (h := h) hP hA hF hE hD e
                simp -implicitDefEqProofs (disch := first | assumption | exact Nat.le_of_ble_eq_true rfl | decide) only [b852_0, g852_1, b852_1, g852_2, b852_2, g852_3, b852_3, g852_4, b852_4, g852_6, b852_6, g852_8, b852_8, g852_10, b852_10, g852_13, b852_13, pe_aload0, pe_getfield, pe_iload2, pe_aaload, pe_iload5, pe_iload6, pe_baload, pe_istore7, pe_aload1, pe_dup_i, pe_dup_r, pe_dup_x1_ii, pe_dup_x1_ir, pe_dup_x1_ri, pe_dup_x1_rr, pe_sipush, pe_iadd, pe_putfield, pe_iload7, pe_i2b, pe_bastore, pe_if_ne, pe_icmp_lt, pe_iload3, pe_iload4, pe_call5, pm_af_ret, pm_af_void, pm_af_thr, pe_goto, pe_icmp_ge, pe_isub, pe_istore8, pe_iload8, pe_iaload, pe_if_le, pe_dup2_ii, pe_dup2_ir, pe_dup2_l, pe_iastore, pe_call6, pe_goto_w, pe_iand, pe_istore9, pe_istore10, pe_iload9, pe_if_eq, pe_ixor, pe_call7, pe_iload10, pe_return, pm_prog_1, pm_ob_some, Nat.reduceDiv, Nat.reduceMod, Nat.reduceMul, Nat.reduceAdd, Int.reduceToNat, pm_kill_i, pm_kill_r, pm_kill_n, pm_kill_j, pm_kill_l, pm_kill_d, pm_cats_nil, pm_cats_i, pm_cats_r, pm_cats_n, pm_cats_l, pm_cats_d, sz_1, sz_2, sl_1, sl_2, lc_0, lc_lt, lc_le, li_ne, va_rf, wr_m1, we_m1, pm_kill_w, Int32.reduceOfInt, Int64.reduceOfInt, Int32.reduceOfNat, Int32.reduceLT, Int32.reduceLE, Prod.mk.injEq, Nat.reduceEqDiff, reduceCtorEq, and_true, true_and, and_false, false_and, and_self, ite_true, ite_false, ↓reduceIte, not_true_eq_false, not_false_eq_true, pe_ri, pe_rz, pe_rc, Ct_g0_0 hP hA, Ct_g0_2 hP hA, Ct_g0_7 hP hA, Ct_g1_0 hP hA, Ct_g1_3 hP hA, Ct_g10_4 hP hA, Ct_g10_6 hP hA, Ct_g10_7 hP hA, Ct_g10_8 hP hA, Ct_p10_4 hP hA, Ct_p10_6 hP hA, Ct_p10_7 hP hA, Ct_r14 hP hA, Ct_r32 hP hA, Ct_r6 hP hA, Ct_r7 hP hA, Ct_w11 hP hA, Ct_w14 hP hA, eq_false k6, eq_false k10, eq_false k14, k16]
        · rw [if_neg k5] at e; cases e
      · rw [if_neg k4] at e; cases e
    · rw [if_neg k3] at e; cases e
  · rw [if_neg k2] at e; cases e
noncomputable def r852v1 (sc : Int32) (pc : Int32) (sa : Int32) (pa : Int32) : Nat → wS → Int32 → Int32 → Int32 → Int32 → Int32 → Int32 → Option (wS)
  | 0 => fun _ _ _ _ _ _ _ => none
  | n + 1 => fun S x1i x2 x3 x4 x5 x6 => f852v1 sc pc sa pa (r852v1 sc pc sa pa n) S x1i x2 x3 x4 x5 x6
theorem w852v1 {sc : Int32} {pc : Int32} {sa : Int32} {pa : Int32} {A : wK → Nat} {h : pm_H} (hP : Ct_P sc pc sa pa) (hA : wok A (Ct_d sc pc sa pa) h.1) : ∀ n, FOK852v1 sc pc sa pa A h (3 + 1 * n) (r852v1 sc pc sa pa n)
  | 0 => by
    intro D S x1i x2 x3 x4 x5 x6 r _ e
    exact absurd e (by simp [r852v1])
  | n + 1 => by
    intro D S x1i x2 x3 x4 x5 x6 r hE e
    exact x852v1 hP hA (w852v1 hP hA n) (by omega) (by omega) e
noncomputable def f851v1_b3 (sc : Int32) (pc : Int32) (sa : Int32) (pa : Int32) : Int32 × Int32 × Int32 × Int32 × Int32 × Int32 × wS → Option ((Int32 × Int32 × Int32 × Int32 × Int32 × Int32 × wS) ⊕ ((Int32 × Int32 × Int32 × Int32 × Int32 × wS))) := fun (x1i, x2, x3i, x4, x5, x6, S) =>
  if 0 ≤ x1i ∧ x1i < 20 then
    if 0 ≤ x3i ∧ x3i < sc then
      (f4033tv1 sc pc sa pa S).bind fun v4 =>
      if x6 < v4 then
        (f4034tv1 sc pc sa pa S x6).bind fun v5i =>
        if 0 ≤ v5i ∧ v5i < pc then
          if 0 ≤ x6 ∧ x6 < 8 then
            some (.inl (x1i, x2, x3i, x4, x5, (x6 + 1), (sz S (14, 0, 0) x6 (S.1 (25, v5i, 0) 4))))
          else none
        else none
      else
        some (.inr (x1i, x2, x3i, x4, x5, S))
    else none
  else none
noncomputable def f851v1_2 (sc : Int32) (pc : Int32) (sa : Int32) (pa : Int32) (S : wS) (x1i : Int32) (x2 : Int32) (x3i : Int32) (x4 : Int32) (y0 : Int32) : Option (wS) :=
  if 0 ≤ x1i ∧ x1i < 20 then
    if 0 ≤ x3i ∧ x3i < sc then
      (lp (f851v1_b3 sc pc sa pa) FU (x1i, x2, x3i, x4, y0, 0, S)).bind fun (v8i, v9, v10i, v11, v12, S6) =>
      if 0 ≤ v8i ∧ v8i < 20 then
        if 0 ≤ v10i ∧ v10i < sc then
          (f898v1 sc pc sa pa S6 v8i v9 v12).bind fun S13 =>
          (f852v1 sc pc sa pa (r852v1 sc pc sa pa 200) S13 v8i (v11 + v12) 0 0 (S13.1 (24, v10i, 0) 0) (S13.1 (24, v10i, 0) 1)).bind fun S14 =>
          some S14
        else none
      else none
    else none
  else none
/-- TimberHouse$SheetTrees.draw(LTimberHouse$SheetTrees$CutSheet;I)V -/
noncomputable def f851v1 (sc : Int32) (pc : Int32) (sa : Int32) (pa : Int32) (S : wS) (x1i : Int32) (x2 : Int32) : Option (wS) :=
  if 0 ≤ x1i ∧ x1i < 20 then
    (f4034t sc pc sa pa S x2).bind fun v1i =>
    if 0 ≤ v1i ∧ v1i < sc then
      (f964 (S.1 (0, 0, 0) 1) 0).bind fun v2 =>
      (f965 sc pc sa pa S (v2 + 1) v2 (S.1 (24, v1i, 0) 0) (S.1 (24, v1i, 0) 1)).bind fun v3 =>
      if v3 = 0 then
        f851v1_2 sc pc sa pa S x1i x2 v1i v2 0
      else
        f851v1_2 sc pc sa pa S x1i x2 v1i v2 1
    else none
  else none
def go851v1_3 (sc : Int32) (pc : Int32) (sa : Int32) (pa : Int32) (A : wK → Nat) (h : pm_H) (D : Nat) (R : Outcome × pm_H) : Int32 × Int32 × Int32 × Int32 × Int32 × Int32 × wS → Prop := fun (x1i, x2, x3i, x4, x5, x6, S) => pm_go pm_prog (pm_call pm_prog D) 851 3 [.ref (A (0, 0, 0)), .ref (A (10, x1i, 0)), .int x2, .ref (A (24, x3i, 0)), .int x4, .int x5, .int x6] [] (wput A (Ct_d sc pc sa pa) S h) = some R
def ex851v1_3 (sc : Int32) (pc : Int32) (sa : Int32) (pa : Int32) (A : wK → Nat) (h : pm_H) (D : Nat) (R : Outcome × pm_H) : (Int32 × Int32 × Int32 × Int32 × Int32 × wS) → Prop := fun (x1i, x2, x3i, x4, x5, S) => ∀ q6 : Value, pm_go pm_prog (pm_call pm_prog D) 851 4 [.ref (A (0, 0, 0)), .ref (A (10, x1i, 0)), .int x2, .ref (A (24, x3i, 0)), .int x4, .int x5, q6] [] (wput A (Ct_d sc pc sa pa) S h) = some R
theorem y851v1_b3 {sc : Int32} {pc : Int32} {sa : Int32} {pa : Int32} {A : wK → Nat} {h : pm_H} {D : Nat} {R : Outcome × pm_H} (hP : Ct_P sc pc sa pa) (hA : wok A (Ct_d sc pc sa pa) h.1) (hD : 204 ≤ D) (a : Int32 × Int32 × Int32 × Int32 × Int32 × Int32 × wS) (r : (Int32 × Int32 × Int32 × Int32 × Int32 × Int32 × wS) ⊕ ((Int32 × Int32 × Int32 × Int32 × Int32 × wS))) (e : f851v1_b3 sc pc sa pa a = some r) (hc : Sum.elim (go851v1_3 sc pc sa pa A h D R) (ex851v1_3 sc pc sa pa A h D R) r) : go851v1_3 sc pc sa pa A h D R a := by
  obtain ⟨x1i, x2, x3i, x4, x5, x6, S⟩ := a
  dsimp only [go851v1_3]
  simp only [f851v1_b3] at e
  rw [g851_3, b851_3]
  by_cases k1 : 0 ≤ x1i ∧ x1i < 20
  · rw [if_pos k1] at e
    by_cases k2 : 0 ≤ x3i ∧ x3i < sc
    · rw [if_pos k2] at e
      obtain ⟨v4, k3, e⟩ := Option.bind_eq_some_iff.mp e
      try dsimp only at e
      have z3 := x4033tv1 (D := D) (h := h) hP hA (by omega) k3
      by_cases k4 : x6 < v4
      · rw [if_pos k4] at e
        obtain ⟨v5i, k5, e⟩ := Option.bind_eq_some_iff.mp e
        try dsimp only at e
        have z5 := x4034tv1 (D := D) (h := h) hP hA (by omega) k5
        by_cases k6 : 0 ≤ v5i ∧ v5i < pc
        · rw [if_pos k6] at e
          by_cases k7 : 0 ≤ x6 ∧ x6 < 8
          · rw [if_pos k7] at e
            have e := Option.some.inj e; subst e
            dsimp only [Sum.elim_inl, go851v1_3] at hc
            simp -implicitDefEqProofs (disch := first | assumption | exact Nat.le_of_ble_eq_true rfl | decide) only [b851_0, g851_1, b851_1, g851_4, b851_4, pe_aload0, pe_getfield, pe_iload2, pe_call2, pm_af_ret, pm_af_void, pm_af_thr, pe_astore3, pe_sipush, pe_istore4, pe_iload4, pe_iadd, pe_aload3, pe_call5, pe_if_eq, pe_goto, pe_goto_w, pe_istore5, pe_istore6, pe_iload6, pe_call1, pe_icmp_ge, pe_iastore, pe_iinc6, pe_aload1, pe_iload5, pe_call3, pe_call7, pe_return, pm_prog_1, pm_ob_some, Nat.reduceDiv, Nat.reduceMod, Nat.reduceMul, Nat.reduceAdd, Int.reduceToNat, pm_kill_i, pm_kill_r, pm_kill_n, pm_kill_j, pm_kill_l, pm_kill_d, pm_cats_nil, pm_cats_i, pm_cats_r, pm_cats_n, pm_cats_l, pm_cats_d, sz_1, sz_2, sl_1, sl_2, lc_0, lc_lt, lc_le, li_ne, va_rf, wr_m1, we_m1, pm_kill_w, Int32.reduceOfInt, Int64.reduceOfInt, Int32.reduceOfNat, Int32.reduceLT, Int32.reduceLE, Prod.mk.injEq, Nat.reduceEqDiff, reduceCtorEq, and_true, true_and, and_false, false_and, and_self, ite_true, ite_false, ↓reduceIte, not_true_eq_false, not_false_eq_true, pe_ri, pe_rz, pe_rc, Ct_g0_0 hP hA, Ct_g0_1 hP hA, Ct_g0_3 hP hA, Ct_g0_4 hP hA, Ct_g0_7 hP hA, Ct_g24_0 hP hA, Ct_g24_1 hP hA, Ct_g25_4 hP hA, Ct_k24 hP hA, Ct_k25 hP hA, Ct_w14 hP hA, z3, eq_true k4, z5, hc]
          · rw [if_neg k7] at e; cases e
        · rw [if_neg k6] at e; cases e
      · rw [if_neg k4] at e
        have e := Option.some.inj e; subst e
        dsimp only [Sum.elim_inr, ex851v1_3] at hc
        simp -implicitDefEqProofs (disch := first | assumption | exact Nat.le_of_ble_eq_true rfl | decide) only [b851_0, g851_1, b851_1, g851_4, b851_4, pe_aload0, pe_getfield, pe_iload2, pe_call2, pm_af_ret, pm_af_void, pm_af_thr, pe_astore3, pe_sipush, pe_istore4, pe_iload4, pe_iadd, pe_aload3, pe_call5, pe_if_eq, pe_goto, pe_goto_w, pe_istore5, pe_istore6, pe_iload6, pe_call1, pe_icmp_ge, pe_iastore, pe_iinc6, pe_aload1, pe_iload5, pe_call3, pe_call7, pe_return, pm_prog_1, pm_ob_some, Nat.reduceDiv, Nat.reduceMod, Nat.reduceMul, Nat.reduceAdd, Int.reduceToNat, pm_kill_i, pm_kill_r, pm_kill_n, pm_kill_j, pm_kill_l, pm_kill_d, pm_cats_nil, pm_cats_i, pm_cats_r, pm_cats_n, pm_cats_l, pm_cats_d, sz_1, sz_2, sl_1, sl_2, lc_0, lc_lt, lc_le, li_ne, va_rf, wr_m1, we_m1, pm_kill_w, Int32.reduceOfInt, Int64.reduceOfInt, Int32.reduceOfNat, Int32.reduceLT, Int32.reduceLE, Prod.mk.injEq, Nat.reduceEqDiff, reduceCtorEq, and_true, true_and, and_false, false_and, and_self, ite_true, ite_false, ↓reduceIte, not_true_eq_false, not_false_eq_true, pe_ri, pe_rz, pe_rc, Ct_g0_0 hP hA, Ct_g0_1 hP hA, Ct_g0_3 hP hA, Ct_g0_4 hP hA, Ct_g0_7 hP hA, Ct_g24_0 hP hA, Ct_g24_1 hP hA, Ct_g25_4 hP hA, Ct_k24 hP hA, Ct_k25 hP hA, Ct_w14 hP hA, z3, eq_false k4, hc]
    · rw [if_neg k2] at e; cases e
  · rw [if_neg k1] at e; cases e
theorem z851v1_3 {sc : Int32} {pc : Int32} {sa : Int32} {pa : Int32} {A : wK → Nat} {h : pm_H} {D : Nat} {R : Outcome × pm_H} (hP : Ct_P sc pc sa pa) (hA : wok A (Ct_d sc pc sa pa) h.1) (hD : 204 ≤ D) {n : Nat} {a : Int32 × Int32 × Int32 × Int32 × Int32 × Int32 × wS} {b : (Int32 × Int32 × Int32 × Int32 × Int32 × wS)} (e : lp (f851v1_b3 sc pc sa pa) n a = some b) (hx : ex851v1_3 sc pc sa pa A h D R b) : go851v1_3 sc pc sa pa A h D R a := lp_run (fun a r => y851v1_b3 hP hA hD a r) n a b e hx
theorem y851v1_2 {sc : Int32} {pc : Int32} {sa : Int32} {pa : Int32} {A : wK → Nat} {h : pm_H} {D : Nat} {S : wS} {x1i : Int32} {x2 : Int32} {x3i : Int32} {x4 : Int32} {y0 : Int32} {r : wS} (hP : Ct_P sc pc sa pa) (hA : wok A (Ct_d sc pc sa pa) h.1) (hD : 204 ≤ D) (e : f851v1_2 sc pc sa pa S x1i x2 x3i x4 y0 = some r) : ∀ q5 q6 : Value, pm_go pm_prog (pm_call pm_prog D) 851 2 [.ref (A (0, 0, 0)), .ref (A (10, x1i, 0)), .int x2, .ref (A (24, x3i, 0)), .int x4, q5, q6] [.int y0] (wput A (Ct_d sc pc sa pa) S h) = some (Outcome.returned none, (wput A (Ct_d sc pc sa pa) r h)) := by
  intro q5 q6
  simp only [f851v1_2] at e
  rw [g851_2, b851_2]
  by_cases k1 : 0 ≤ x1i ∧ x1i < 20
  · rw [if_pos k1] at e
    by_cases k2 : 0 ≤ x3i ∧ x3i < sc
    · rw [if_pos k2] at e
      obtain ⟨⟨v8i, v9, v10i, v11, v12, S6⟩, k3, e⟩ := Option.bind_eq_some_iff.mp e
      try dsimp only at e
      try simp -implicitDefEqProofs (disch := first | assumption | exact Nat.le_of_ble_eq_true rfl | decide) only [b851_0, g851_1, b851_1, g851_4, b851_4, pe_aload0, pe_getfield, pe_iload2, pe_call2, pm_af_ret, pm_af_void, pm_af_thr, pe_astore3, pe_sipush, pe_istore4, pe_iload4, pe_iadd, pe_aload3, pe_call5, pe_if_eq, pe_goto, pe_goto_w, pe_istore5, pe_istore6, pe_iload6, pe_call1, pe_icmp_ge, pe_iastore, pe_iinc6, pe_aload1, pe_iload5, pe_call3, pe_call7, pe_return, pm_prog_1, pm_ob_some, Nat.reduceDiv, Nat.reduceMod, Nat.reduceMul, Nat.reduceAdd, Int.reduceToNat, pm_kill_i, pm_kill_r, pm_kill_n, pm_kill_j, pm_kill_l, pm_kill_d, pm_cats_nil, pm_cats_i, pm_cats_r, pm_cats_n, pm_cats_l, pm_cats_d, sz_1, sz_2, sl_1, sl_2, lc_0, lc_lt, lc_le, li_ne, va_rf, wr_m1, we_m1, pm_kill_w, Int32.reduceOfInt, Int64.reduceOfInt, Int32.reduceOfNat, Int32.reduceLT, Int32.reduceLE, Prod.mk.injEq, Nat.reduceEqDiff, reduceCtorEq, and_true, true_and, and_false, false_and, and_self, ite_true, ite_false, ↓reduceIte, not_true_eq_false, not_false_eq_true, pe_ri, pe_rz, pe_rc, Ct_g0_0 hP hA, Ct_g0_1 hP hA, Ct_g0_3 hP hA, Ct_g0_4 hP hA, Ct_g0_7 hP hA, Ct_g24_0 hP hA, Ct_g24_1 hP hA, Ct_g25_4 hP hA, Ct_k24 hP hA, Ct_k25 hP hA, Ct_w14 hP hA]
      refine z851v1_3 hP hA hD k3 ?_
      dsimp only [ex851v1_3]
      intro q6
      by_cases k4 : 0 ≤ v8i ∧ v8i < 20
      · rw [if_pos k4] at e
        by_cases k5 : 0 ≤ v10i ∧ v10i < sc
        · rw [if_pos k5] at e
          obtain ⟨S13, k6, e⟩ := Option.bind_eq_some_iff.mp e
          try dsimp only at e
          have z6 := x898v1 (D := D) (h := h) hP hA (by omega) k6
          obtain ⟨S14, k7, e⟩ := Option.bind_eq_some_iff.mp e
          try dsimp only at e
          have z7 := x852v1 (D := D) (h := h) hP hA (w852v1 hP hA 200) (by omega) (by omega) k7
          have e := Option.some.inj e; subst e
          simp -implicitDefEqProofs (disch := first | assumption | exact Nat.le_of_ble_eq_true rfl | decide) only [b851_0, g851_1, b851_1, g851_4, b851_4, pe_aload0, pe_getfield, pe_iload2, pe_call2, pm_af_ret, pm_af_void, pm_af_thr, pe_astore3, pe_sipush, pe_istore4, pe_iload4, pe_iadd, pe_aload3, pe_call5, pe_if_eq, pe_goto, pe_goto_w, pe_istore5, pe_istore6, pe_iload6, pe_call1, pe_icmp_ge, pe_iastore, pe_iinc6, pe_aload1, pe_iload5, pe_call3, pe_call7, pe_return, pm_prog_1, pm_ob_some, Nat.reduceDiv, Nat.reduceMod, Nat.reduceMul, Nat.reduceAdd, Int.reduceToNat, pm_kill_i, pm_kill_r, pm_kill_n, pm_kill_j, pm_kill_l, pm_kill_d, pm_cats_nil, pm_cats_i, pm_cats_r, pm_cats_n, pm_cats_l, pm_cats_d, sz_1, sz_2, sl_1, sl_2, lc_0, lc_lt, lc_le, li_ne, va_rf, wr_m1, we_m1, pm_kill_w, Int32.reduceOfInt, Int64.reduceOfInt, Int32.reduceOfNat, Int32.reduceLT, Int32.reduceLE, Prod.mk.injEq, Nat.reduceEqDiff, reduceCtorEq, and_true, true_and, and_false, false_and, and_self, ite_true, ite_false, ↓reduceIte, not_true_eq_false, not_false_eq_true, pe_ri, pe_rz, pe_rc, Ct_g0_0 hP hA, Ct_g0_1 hP hA, Ct_g0_3 hP hA, Ct_g0_4 hP hA, Ct_g0_7 hP hA, Ct_g24_0 hP hA, Ct_g24_1 hP hA, Ct_g25_4 hP hA, Ct_k24 hP hA, Ct_k25 hP hA, Ct_w14 hP hA, z6, z7]
        · rw [if_neg k5] at e; cases e
      · rw [if_neg k4] at e; cases e
    · rw [if_neg k2] at e; cases e
  · rw [if_neg k1] at e; cases e
theorem x851v1 {sc : Int32} {pc : Int32} {sa : Int32} {pa : Int32} {A : wK → Nat} {h : pm_H} {D : Nat} {S : wS} {x1i : Int32} {x2 : Int32} {r : wS} (hP : Ct_P sc pc sa pa) (hA : wok A (Ct_d sc pc sa pa) h.1) (hD : 205 ≤ D) (e : f851v1 sc pc sa pa S x1i x2 = some r) : pm_call pm_prog D 851 [.ref (A (0, 0, 0)), .ref (A (10, x1i, 0)), .int x2] (wput A (Ct_d sc pc sa pa) S h) = some (Outcome.returned none, (wput A (Ct_d sc pc sa pa) r h)) := by
  obtain ⟨D, rfl⟩ : ∃ D', D = D' + 1 := ⟨D - 1, by omega⟩
  have hD : 204 ≤ D := by omega
  simp only [f851v1] at e
  have k1 : 0 ≤ x1i ∧ x1i < 20 := by
    by_cases q : 0 ≤ x1i ∧ x1i < 20
    · exact q
    · rw [if_neg q] at e; cases e
  rw [if_pos k1] at e
  rw [c851 (Ct_c0 hP hA), b851_0]
  obtain ⟨v1i, k2, e⟩ := Option.bind_eq_some_iff.mp e
  try dsimp only at e
  have z2 := x4034t (D := D) (h := h) hP hA (by omega) k2
  by_cases k3 : 0 ≤ v1i ∧ v1i < sc
  · rw [if_pos k3] at e
    obtain ⟨v2, k4, e⟩ := Option.bind_eq_some_iff.mp e
    try dsimp only at e
    have z4 := fun h => x964 (D := D) (h := h) (by omega) k4
    obtain ⟨v3, k5, e⟩ := Option.bind_eq_some_iff.mp e
    try dsimp only at e
    have z5 := x965 (D := D) (h := h) hP hA (by omega) k5
    by_cases k6 : v3 = 0
    · rw [if_pos k6] at e
      have k7 := y851v1_2 (h := h) hP hA hD e
      simp -implicitDefEqProofs (disch := first | assumption | exact Nat.le_of_ble_eq_true rfl | decide) only [b851_0, g851_1, b851_1, g851_4, b851_4, pe_aload0, pe_getfield, pe_iload2, pe_call2, pm_af_ret, pm_af_void, pm_af_thr, pe_astore3, pe_sipush, pe_istore4, pe_iload4, pe_iadd, pe_aload3, pe_call5, pe_if_eq, pe_goto, pe_goto_w, pe_istore5, pe_istore6, pe_iload6, pe_call1, pe_icmp_ge, pe_iastore, pe_iinc6, pe_aload1, pe_iload5, pe_call3, pe_call7, pe_return, pm_prog_1, pm_ob_some, Nat.reduceDiv, Nat.reduceMod, Nat.reduceMul, Nat.reduceAdd, Int.reduceToNat, pm_kill_i, pm_kill_r, pm_kill_n, pm_kill_j, pm_kill_l, pm_kill_d, pm_cats_nil, pm_cats_i, pm_cats_r, pm_cats_n, pm_cats_l, pm_cats_d, sz_1, sz_2, sl_1, sl_2, lc_0, lc_lt, lc_le, li_ne, va_rf, wr_m1, we_m1, pm_kill_w, Int32.reduceOfInt, Int64.reduceOfInt, Int32.reduceOfNat, Int32.reduceLT, Int32.reduceLE, Prod.mk.injEq, Nat.reduceEqDiff, reduceCtorEq, and_true, true_and, and_false, false_and, and_self, ite_true, ite_false, ↓reduceIte, not_true_eq_false, not_false_eq_true, pe_ri, pe_rz, pe_rc, Ct_g0_0 hP hA, Ct_g0_1 hP hA, Ct_g0_3 hP hA, Ct_g0_4 hP hA, Ct_g0_7 hP hA, Ct_g24_0 hP hA, Ct_g24_1 hP hA, Ct_g25_4 hP hA, Ct_k24 hP hA, Ct_k25 hP hA, Ct_w14 hP hA, z2, z4, z5, eq_true k6, k7]
    · rw [if_neg k6] at e
      have k8 := y851v1_2 (h := h) hP hA hD e
      simp -implicitDefEqProofs (disch := first | assumption | exact Nat.le_of_ble_eq_true rfl | decide) only [b851_0, g851_1, b851_1, g851_4, b851_4, pe_aload0, pe_getfield, pe_iload2, pe_call2, pm_af_ret, pm_af_void, pm_af_thr, pe_astore3, pe_sipush, pe_istore4, pe_iload4, pe_iadd, pe_aload3, pe_call5, pe_if_eq, pe_goto, pe_goto_w, pe_istore5, pe_istore6, pe_iload6, pe_call1, pe_icmp_ge, pe_iastore, pe_iinc6, pe_aload1, pe_iload5, pe_call3, pe_call7, pe_return, pm_prog_1, pm_ob_some, Nat.reduceDiv, Nat.reduceMod, Nat.reduceMul, Nat.reduceAdd, Int.reduceToNat, pm_kill_i, pm_kill_r, pm_kill_n, pm_kill_j, pm_kill_l, pm_kill_d, pm_cats_nil, pm_cats_i, pm_cats_r, pm_cats_n, pm_cats_l, pm_cats_d, sz_1, sz_2, sl_1, sl_2, lc_0, lc_lt, lc_le, li_ne, va_rf, wr_m1, we_m1, pm_kill_w, Int32.reduceOfInt, Int64.reduceOfInt, Int32.reduceOfNat, Int32.reduceLT, Int32.reduceLE, Prod.mk.injEq, Nat.reduceEqDiff, reduceCtorEq, and_true, true_and, and_false, false_and, and_self, ite_true, ite_false, ↓reduceIte, not_true_eq_false, not_false_eq_true, pe_ri, pe_rz, pe_rc, Ct_g0_0 hP hA, Ct_g0_1 hP hA, Ct_g0_3 hP hA, Ct_g0_4 hP hA, Ct_g0_7 hP hA, Ct_g24_0 hP hA, Ct_g24_1 hP hA, Ct_g25_4 hP hA, Ct_k24 hP hA, Ct_k25 hP hA, Ct_w14 hP hA, z2, z4, z5, eq_false k6, k8]
  · rw [if_neg k3] at e; cases e
/-- TimberHouse$SheetTrees.run()I -/
theorem c848 {d : Nat} {h : pm_H} {a : Nat} (hc : pm_cls h a = some 13) : pm_call pm_prog (d + 1) 848 [.ref a] h = pm_ev pm_prog (pm_call pm_prog d) 848 0 b848_0 [.ref a, pm_junk, pm_junk, pm_junk] [] h := pm_cal (pm_rc1 hc rfl) rfl rfl rfl
theorem g848_1 {cl : pm_C} {ls st : List Value} {h : pm_H} : pm_go pm_prog cl 848 1 ls st h = pm_ev pm_prog cl 848 1 b848_1 ls st h := pm_go_eq pm_prog cl 848 1 ls st h
theorem g848_2 {cl : pm_C} {ls st : List Value} {h : pm_H} : pm_go pm_prog cl 848 2 ls st h = pm_ev pm_prog cl 848 2 b848_2 ls st h := pm_go_eq pm_prog cl 848 2 ls st h
theorem g848_3 {cl : pm_C} {ls st : List Value} {h : pm_H} : pm_go pm_prog cl 848 3 ls st h = pm_ev pm_prog cl 848 3 b848_3 ls st h := pm_go_eq pm_prog cl 848 3 ls st h
theorem g848_4 {cl : pm_C} {ls st : List Value} {h : pm_H} : pm_go pm_prog cl 848 4 ls st h = pm_ev pm_prog cl 848 4 b848_4 ls st h := pm_go_eq pm_prog cl 848 4 ls st h
theorem g848_5 {cl : pm_C} {ls st : List Value} {h : pm_H} : pm_go pm_prog cl 848 5 ls st h = pm_ev pm_prog cl 848 5 b848_5 ls st h := pm_go_eq pm_prog cl 848 5 ls st h
theorem g848_6 {cl : pm_C} {ls st : List Value} {h : pm_H} : pm_go pm_prog cl 848 6 ls st h = pm_ev pm_prog cl 848 6 b848_6 ls st h := pm_go_eq pm_prog cl 848 6 ls st h
noncomputable def f848_b4 (sc : Int32) (pc : Int32) (sa : Int32) (pa : Int32) : Int32 × Int32 × wS → Option ((Int32 × Int32 × wS) ⊕ ((Int32 × wS))) := fun (x1, x3, S) =>
  (f4033tv1 sc pc sa pa S).bind fun v7 =>
  if x3 < v7 then
    (f4034tv1 sc pc sa pa S x3).bind fun v8i =>
    if 0 ≤ v8i ∧ v8i < pc then
      if 0 ≤ x3 ∧ x3 < 8 then
        some (.inl (x1, (x3 + 1), (sz S (25, v8i, 0) 4 (S.1 (14, 0, 0) x3))))
      else none
    else none
  else
    some (.inr (x1, S))
noncomputable def f848_3_1 (sc : Int32) (pc : Int32) (sa : Int32) (pa : Int32) (S : wS) (x2 : Int32) (y0 : Int32) : Option ((Int32 × wS) ⊕ ((wS))) :=
  if y0 = 0 then
    some (.inl (y0, S))
  else
    if 0 ≤ (S.1 (0, 0, 0) 8) ∧ (S.1 (0, 0, 0) 8) < 20 then
      (f851v1 sc pc sa pa (sz S (0, 0, 0) 8 ((S.1 (0, 0, 0) 8) + 1)) (S.1 (0, 0, 0) 8) x2).bind fun S5 =>
      (f4034t sc pc sa pa S5 x2).bind fun v6i =>
      if 0 ≤ v6i ∧ v6i < sc then
        (lp (f848_b4 sc pc sa pa) FU (y0, 0, (sz S5 (24, v6i, 0) 4 ((S5.1 (24, v6i, 0) 4) - 1)))).bind fun (v11, S9) =>
        some (.inl (v11, S9))
      else none
    else none
noncomputable def f848_b1 (sc : Int32) (pc : Int32) (sa : Int32) (pa : Int32) : Int32 × wS → Option ((Int32 × wS) ⊕ ((wS))) := fun (x1, S) =>
  if x1 = 0 then
    some (.inr S)
  else
    if (S.1 (0, 0, 0) 8) < 20 then
      (f961 sc pc sa pa S).bind fun S2 =>
      (f850 sc pc sa pa S2).bind fun (v3, S4) =>
      if v3 = (-1) then
        f848_3_1 sc pc sa pa S4 v3 0
      else
        f848_3_1 sc pc sa pa S4 v3 1
    else
      some (.inr S)
/-- TimberHouse$SheetTrees.run()I -/
noncomputable def f848 (sc : Int32) (pc : Int32) (sa : Int32) (pa : Int32) (S : wS) : Option (Int32 × wS) :=
  (f849 sc pc sa pa S).bind fun S1 =>
  (lp (f848_b1 sc pc sa pa) FU (1, (sz (sz S1 (0, 0, 0) 8 0) (0, 0, 0) 9 1))).bind fun S12 =>
  some ((S12.1 (0, 0, 0) 8), S12)
def go848_4 (sc : Int32) (pc : Int32) (sa : Int32) (pa : Int32) (A : wK → Nat) (h : pm_H) (D : Nat) (R : Outcome × pm_H) : Int32 × Int32 × wS → Prop := fun (x1, x3, S) => ∀ q2 : Value, pm_go pm_prog (pm_call pm_prog D) 848 4 [.ref (A (0, 0, 0)), .int x1, q2, .int x3] [] (wput A (Ct_d sc pc sa pa) S h) = some R
def ex848_4 (sc : Int32) (pc : Int32) (sa : Int32) (pa : Int32) (A : wK → Nat) (h : pm_H) (D : Nat) (R : Outcome × pm_H) : (Int32 × wS) → Prop := fun (x1, S) => ∀ q2 q3 : Value, pm_go pm_prog (pm_call pm_prog D) 848 5 [.ref (A (0, 0, 0)), .int x1, q2, q3] [] (wput A (Ct_d sc pc sa pa) S h) = some R
theorem y848_b4 {sc : Int32} {pc : Int32} {sa : Int32} {pa : Int32} {A : wK → Nat} {h : pm_H} {D : Nat} {R : Outcome × pm_H} (hP : Ct_P sc pc sa pa) (hA : wok A (Ct_d sc pc sa pa) h.1) (hD : 206 ≤ D) (a : Int32 × Int32 × wS) (r : (Int32 × Int32 × wS) ⊕ ((Int32 × wS))) (e : f848_b4 sc pc sa pa a = some r) (hc : Sum.elim (go848_4 sc pc sa pa A h D R) (ex848_4 sc pc sa pa A h D R) r) : go848_4 sc pc sa pa A h D R a := by
  obtain ⟨x1, x3, S⟩ := a
  dsimp only [go848_4]
  intro q2
  simp only [f848_b4] at e
  rw [g848_4, b848_4]
  obtain ⟨v7, k1, e⟩ := Option.bind_eq_some_iff.mp e
  try dsimp only at e
  have z1 := x4033tv1 (D := D) (h := h) hP hA (by omega) k1
  by_cases k2 : x3 < v7
  · rw [if_pos k2] at e
    obtain ⟨v8i, k3, e⟩ := Option.bind_eq_some_iff.mp e
    try dsimp only at e
    have z3 := x4034tv1 (D := D) (h := h) hP hA (by omega) k3
    by_cases k4 : 0 ≤ v8i ∧ v8i < pc
    · rw [if_pos k4] at e
      by_cases k5 : 0 ≤ x3 ∧ x3 < 8
      · rw [if_pos k5] at e
        have e := Option.some.inj e; subst e
        dsimp only [Sum.elim_inl, go848_4] at hc
        simp -implicitDefEqProofs (disch := first | assumption | exact Nat.le_of_ble_eq_true rfl | decide) only [b848_0, g848_2, b848_2, g848_5, b848_5, g848_6, b848_6, pe_aload0, pe_call1, pm_af_ret, pm_af_void, pm_af_thr, pe_sipush, pe_putfield, pe_istore1, pe_goto_w, pe_iload1, pe_if_eq, pe_getfield, pe_icmp_ge, pe_call2, pe_istore2, pe_iload2, pe_icmp_eq, pe_goto, pe_dup_i, pe_dup_r, pe_dup_x1_ii, pe_dup_x1_ir, pe_dup_x1_ri, pe_dup_x1_rr, pe_iadd, pe_aaload, pe_call3, pe_isub, pe_istore3, pe_iload3, pe_iaload, pe_iinc3, pm_prog_1, pm_ob_some, Nat.reduceDiv, Nat.reduceMod, Nat.reduceMul, Nat.reduceAdd, Int.reduceToNat, pm_kill_i, pm_kill_r, pm_kill_n, pm_kill_j, pm_kill_l, pm_kill_d, pm_cats_nil, pm_cats_i, pm_cats_r, pm_cats_n, pm_cats_l, pm_cats_d, sz_1, sz_2, sl_1, sl_2, lc_0, lc_lt, lc_le, li_ne, va_rf, wr_m1, we_m1, pm_kill_w, Int32.reduceOfInt, Int64.reduceOfInt, Int32.reduceOfNat, Int32.reduceLT, Int32.reduceLE, Prod.mk.injEq, Nat.reduceEqDiff, reduceCtorEq, and_true, true_and, and_false, false_and, and_self, ite_true, ite_false, ↓reduceIte, not_true_eq_false, not_false_eq_true, pe_ri, pe_rz, pe_rc, Ct_g0_0 hP hA, Ct_g0_3 hP hA, Ct_g0_4 hP hA, Ct_g0_5 hP hA, Ct_g0_7 hP hA, Ct_g0_8 hP hA, Ct_g24_4 hP hA, Ct_k24 hP hA, Ct_k25 hP hA, Ct_p0_8 hP hA, Ct_p0_9 hP hA, Ct_p24_4 hP hA, Ct_p25_4 hP hA, Ct_r14 hP hA, Ct_r9 hP hA, z1, eq_true k2, z3, hc]
      · rw [if_neg k5] at e; cases e
    · rw [if_neg k4] at e; cases e
  · rw [if_neg k2] at e
    have e := Option.some.inj e; subst e
    dsimp only [Sum.elim_inr, ex848_4] at hc
    simp -implicitDefEqProofs (disch := first | assumption | exact Nat.le_of_ble_eq_true rfl | decide) only [b848_0, g848_2, b848_2, g848_5, b848_5, g848_6, b848_6, pe_aload0, pe_call1, pm_af_ret, pm_af_void, pm_af_thr, pe_sipush, pe_putfield, pe_istore1, pe_goto_w, pe_iload1, pe_if_eq, pe_getfield, pe_icmp_ge, pe_call2, pe_istore2, pe_iload2, pe_icmp_eq, pe_goto, pe_dup_i, pe_dup_r, pe_dup_x1_ii, pe_dup_x1_ir, pe_dup_x1_ri, pe_dup_x1_rr, pe_iadd, pe_aaload, pe_call3, pe_isub, pe_istore3, pe_iload3, pe_iaload, pe_iinc3, pm_prog_1, pm_ob_some, Nat.reduceDiv, Nat.reduceMod, Nat.reduceMul, Nat.reduceAdd, Int.reduceToNat, pm_kill_i, pm_kill_r, pm_kill_n, pm_kill_j, pm_kill_l, pm_kill_d, pm_cats_nil, pm_cats_i, pm_cats_r, pm_cats_n, pm_cats_l, pm_cats_d, sz_1, sz_2, sl_1, sl_2, lc_0, lc_lt, lc_le, li_ne, va_rf, wr_m1, we_m1, pm_kill_w, Int32.reduceOfInt, Int64.reduceOfInt, Int32.reduceOfNat, Int32.reduceLT, Int32.reduceLE, Prod.mk.injEq, Nat.reduceEqDiff, reduceCtorEq, and_true, true_and, and_false, false_and, and_self, ite_true, ite_false, ↓reduceIte, not_true_eq_false, not_false_eq_true, pe_ri, pe_rz, pe_rc, Ct_g0_0 hP hA, Ct_g0_3 hP hA, Ct_g0_4 hP hA, Ct_g0_5 hP hA, Ct_g0_7 hP hA, Ct_g0_8 hP hA, Ct_g24_4 hP hA, Ct_k24 hP hA, Ct_k25 hP hA, Ct_p0_8 hP hA, Ct_p0_9 hP hA, Ct_p24_4 hP hA, Ct_p25_4 hP hA, Ct_r14 hP hA, Ct_r9 hP hA, z1, eq_false k2, hc]
theorem z848_4 {sc : Int32} {pc : Int32} {sa : Int32} {pa : Int32} {A : wK → Nat} {h : pm_H} {D : Nat} {R : Outcome × pm_H} (hP : Ct_P sc pc sa pa) (hA : wok A (Ct_d sc pc sa pa) h.1) (hD : 206 ≤ D) {n : Nat} {a : Int32 × Int32 × wS} {b : (Int32 × wS)} (e : lp (f848_b4 sc pc sa pa) n a = some b) (hx : ex848_4 sc pc sa pa A h D R b) : go848_4 sc pc sa pa A h D R a := lp_run (fun a r => y848_b4 hP hA hD a r) n a b e hx
def go848_1 (sc : Int32) (pc : Int32) (sa : Int32) (pa : Int32) (A : wK → Nat) (h : pm_H) (D : Nat) (R : Outcome × pm_H) : Int32 × wS → Prop := fun (x1, S) => ∀ q2 q3 : Value, pm_go pm_prog (pm_call pm_prog D) 848 1 [.ref (A (0, 0, 0)), .int x1, q2, q3] [] (wput A (Ct_d sc pc sa pa) S h) = some R
def ex848_1 (sc : Int32) (pc : Int32) (sa : Int32) (pa : Int32) (A : wK → Nat) (h : pm_H) (D : Nat) (R : Outcome × pm_H) : (wS) → Prop := fun S => ∀ q1 q2 q3 : Value, pm_go pm_prog (pm_call pm_prog D) 848 6 [.ref (A (0, 0, 0)), q1, q2, q3] [] (wput A (Ct_d sc pc sa pa) S h) = some R
theorem y848_3_1 {sc : Int32} {pc : Int32} {sa : Int32} {pa : Int32} {A : wK → Nat} {h : pm_H} {D : Nat} {R : Outcome × pm_H} {S : wS} {x2 : Int32} {y0 : Int32} {r : (Int32 × wS) ⊕ ((wS))} (hP : Ct_P sc pc sa pa) (hA : wok A (Ct_d sc pc sa pa) h.1) (hD : 206 ≤ D) (e : f848_3_1 sc pc sa pa S x2 y0 = some r) (hc : Sum.elim (go848_1 sc pc sa pa A h D R) (ex848_1 sc pc sa pa A h D R) r) : ∀ q1 q3 : Value, pm_go pm_prog (pm_call pm_prog D) 848 3 [.ref (A (0, 0, 0)), q1, .int x2, q3] [.int y0] (wput A (Ct_d sc pc sa pa) S h) = some R := by
  intro q1 q3
  simp only [f848_3_1] at e
  rw [g848_3, b848_3]
  by_cases k1 : y0 = 0
  · rw [if_pos k1] at e
    have e := Option.some.inj e; subst e
    dsimp only [Sum.elim_inl, go848_1] at hc
    simp -implicitDefEqProofs (disch := first | assumption | exact Nat.le_of_ble_eq_true rfl | decide) only [b848_0, g848_2, b848_2, g848_5, b848_5, g848_6, b848_6, pe_aload0, pe_call1, pm_af_ret, pm_af_void, pm_af_thr, pe_sipush, pe_putfield, pe_istore1, pe_goto_w, pe_iload1, pe_if_eq, pe_getfield, pe_icmp_ge, pe_call2, pe_istore2, pe_iload2, pe_icmp_eq, pe_goto, pe_dup_i, pe_dup_r, pe_dup_x1_ii, pe_dup_x1_ir, pe_dup_x1_ri, pe_dup_x1_rr, pe_iadd, pe_aaload, pe_call3, pe_isub, pe_istore3, pe_iload3, pe_iaload, pe_iinc3, pm_prog_1, pm_ob_some, Nat.reduceDiv, Nat.reduceMod, Nat.reduceMul, Nat.reduceAdd, Int.reduceToNat, pm_kill_i, pm_kill_r, pm_kill_n, pm_kill_j, pm_kill_l, pm_kill_d, pm_cats_nil, pm_cats_i, pm_cats_r, pm_cats_n, pm_cats_l, pm_cats_d, sz_1, sz_2, sl_1, sl_2, lc_0, lc_lt, lc_le, li_ne, va_rf, wr_m1, we_m1, pm_kill_w, Int32.reduceOfInt, Int64.reduceOfInt, Int32.reduceOfNat, Int32.reduceLT, Int32.reduceLE, Prod.mk.injEq, Nat.reduceEqDiff, reduceCtorEq, and_true, true_and, and_false, false_and, and_self, ite_true, ite_false, ↓reduceIte, not_true_eq_false, not_false_eq_true, pe_ri, pe_rz, pe_rc, Ct_g0_0 hP hA, Ct_g0_3 hP hA, Ct_g0_4 hP hA, Ct_g0_5 hP hA, Ct_g0_7 hP hA, Ct_g0_8 hP hA, Ct_g24_4 hP hA, Ct_k24 hP hA, Ct_k25 hP hA, Ct_p0_8 hP hA, Ct_p0_9 hP hA, Ct_p24_4 hP hA, Ct_p25_4 hP hA, Ct_r14 hP hA, Ct_r9 hP hA, eq_true k1, hc]
  · rw [if_neg k1] at e
    by_cases k2 : 0 ≤ (S.1 (0, 0, 0) 8) ∧ (S.1 (0, 0, 0) 8) < 20
    · rw [if_pos k2] at e
      obtain ⟨S5, k3, e⟩ := Option.bind_eq_some_iff.mp e
      try dsimp only at e
      have z3 := x851v1 (D := D) (h := h) hP hA (by omega) k3
      obtain ⟨v6i, k4, e⟩ := Option.bind_eq_some_iff.mp e
      try dsimp only at e
      have z4 := x4034t (D := D) (h := h) hP hA (by omega) k4
      by_cases k5 : 0 ≤ v6i ∧ v6i < sc
      · rw [if_pos k5] at e
        obtain ⟨⟨v11, S9⟩, k6, e⟩ := Option.bind_eq_some_iff.mp e
        try dsimp only at e
        try simp -implicitDefEqProofs (disch := first | assumption | exact Nat.le_of_ble_eq_true rfl | decide) only [b848_0, g848_2, b848_2, g848_5, b848_5, g848_6, b848_6, pe_aload0, pe_call1, pm_af_ret, pm_af_void, pm_af_thr, pe_sipush, pe_putfield, pe_istore1, pe_goto_w, pe_iload1, pe_if_eq, pe_getfield, pe_icmp_ge, pe_call2, pe_istore2, pe_iload2, pe_icmp_eq, pe_goto, pe_dup_i, pe_dup_r, pe_dup_x1_ii, pe_dup_x1_ir, pe_dup_x1_ri, pe_dup_x1_rr, pe_iadd, pe_aaload, pe_call3, pe_isub, pe_istore3, pe_iload3, pe_iaload, pe_iinc3, pm_prog_1, pm_ob_some, Nat.reduceDiv, Nat.reduceMod, Nat.reduceMul, Nat.reduceAdd, Int.reduceToNat, pm_kill_i, pm_kill_r, pm_kill_n, pm_kill_j, pm_kill_l, pm_kill_d, pm_cats_nil, pm_cats_i, pm_cats_r, pm_cats_n, pm_cats_l, pm_cats_d, sz_1, sz_2, sl_1, sl_2, lc_0, lc_lt, lc_le, li_ne, va_rf, wr_m1, we_m1, pm_kill_w, Int32.reduceOfInt, Int64.reduceOfInt, Int32.reduceOfNat, Int32.reduceLT, Int32.reduceLE, Prod.mk.injEq, Nat.reduceEqDiff, reduceCtorEq, and_true, true_and, and_false, false_and, and_self, ite_true, ite_false, ↓reduceIte, not_true_eq_false, not_false_eq_true, pe_ri, pe_rz, pe_rc, Ct_g0_0 hP hA, Ct_g0_3 hP hA, Ct_g0_4 hP hA, Ct_g0_5 hP hA, Ct_g0_7 hP hA, Ct_g0_8 hP hA, Ct_g24_4 hP hA, Ct_k24 hP hA, Ct_k25 hP hA, Ct_p0_8 hP hA, Ct_p0_9 hP hA, Ct_p24_4 hP hA, Ct_p25_4 hP hA, Ct_r14 hP hA, Ct_r9 hP hA, eq_false k1, z3, z4]
        refine z848_4 hP hA hD k6 ?_ _
        dsimp only [ex848_4]
        intro q2 q3
        have e := Option.some.inj e; subst e
        dsimp only [Sum.elim_inl, go848_1] at hc
        simp -implicitDefEqProofs (disch := first | assumption | exact Nat.le_of_ble_eq_true rfl | decide) only [b848_0, g848_2, b848_2, g848_5, b848_5, g848_6, b848_6, pe_aload0, pe_call1, pm_af_ret, pm_af_void, pm_af_thr, pe_sipush, pe_putfield, pe_istore1, pe_goto_w, pe_iload1, pe_if_eq, pe_getfield, pe_icmp_ge, pe_call2, pe_istore2, pe_iload2, pe_icmp_eq, pe_goto, pe_dup_i, pe_dup_r, pe_dup_x1_ii, pe_dup_x1_ir, pe_dup_x1_ri, pe_dup_x1_rr, pe_iadd, pe_aaload, pe_call3, pe_isub, pe_istore3, pe_iload3, pe_iaload, pe_iinc3, pm_prog_1, pm_ob_some, Nat.reduceDiv, Nat.reduceMod, Nat.reduceMul, Nat.reduceAdd, Int.reduceToNat, pm_kill_i, pm_kill_r, pm_kill_n, pm_kill_j, pm_kill_l, pm_kill_d, pm_cats_nil, pm_cats_i, pm_cats_r, pm_cats_n, pm_cats_l, pm_cats_d, sz_1, sz_2, sl_1, sl_2, lc_0, lc_lt, lc_le, li_ne, va_rf, wr_m1, we_m1, pm_kill_w, Int32.reduceOfInt, Int64.reduceOfInt, Int32.reduceOfNat, Int32.reduceLT, Int32.reduceLE, Prod.mk.injEq, Nat.reduceEqDiff, reduceCtorEq, and_true, true_and, and_false, false_and, and_self, ite_true, ite_false, ↓reduceIte, not_true_eq_false, not_false_eq_true, pe_ri, pe_rz, pe_rc, Ct_g0_0 hP hA, Ct_g0_3 hP hA, Ct_g0_4 hP hA, Ct_g0_5 hP hA, Ct_g0_7 hP hA, Ct_g0_8 hP hA, Ct_g24_4 hP hA, Ct_k24 hP hA, Ct_k25 hP hA, Ct_p0_8 hP hA, Ct_p0_9 hP hA, Ct_p24_4 hP hA, Ct_p25_4 hP hA, Ct_r14 hP hA, Ct_r9 hP hA, eq_false k1, z3, z4, hc]
      · rw [if_neg k5] at e; cases e
    · rw [if_neg k2] at e; cases e
theorem y848_b1 {sc : Int32} {pc : Int32} {sa : Int32} {pa : Int32} {A : wK → Nat} {h : pm_H} {D : Nat} {R : Outcome × pm_H} (hP : Ct_P sc pc sa pa) (hA : wok A (Ct_d sc pc sa pa) h.1) (hD : 206 ≤ D) (a : Int32 × wS) (r : (Int32 × wS) ⊕ ((wS))) (e : f848_b1 sc pc sa pa a = some r) (hc : Sum.elim (go848_1 sc pc sa pa A h D R) (ex848_1 sc pc sa pa A h D R) r) : go848_1 sc pc sa pa A h D R a := by
  obtain ⟨x1, S⟩ := a
  dsimp only [go848_1]
  intro q2 q3
  simp only [f848_b1] at e
  rw [g848_1, b848_1]
  by_cases k1 : x1 = 0
  · rw [if_pos k1] at e
    have e := Option.some.inj e; subst e
    dsimp only [Sum.elim_inr, ex848_1] at hc
    simp -implicitDefEqProofs (disch := first | assumption | exact Nat.le_of_ble_eq_true rfl | decide) only [b848_0, g848_2, b848_2, g848_5, b848_5, g848_6, b848_6, pe_aload0, pe_call1, pm_af_ret, pm_af_void, pm_af_thr, pe_sipush, pe_putfield, pe_istore1, pe_goto_w, pe_iload1, pe_if_eq, pe_getfield, pe_icmp_ge, pe_call2, pe_istore2, pe_iload2, pe_icmp_eq, pe_goto, pe_dup_i, pe_dup_r, pe_dup_x1_ii, pe_dup_x1_ir, pe_dup_x1_ri, pe_dup_x1_rr, pe_iadd, pe_aaload, pe_call3, pe_isub, pe_istore3, pe_iload3, pe_iaload, pe_iinc3, pm_prog_1, pm_ob_some, Nat.reduceDiv, Nat.reduceMod, Nat.reduceMul, Nat.reduceAdd, Int.reduceToNat, pm_kill_i, pm_kill_r, pm_kill_n, pm_kill_j, pm_kill_l, pm_kill_d, pm_cats_nil, pm_cats_i, pm_cats_r, pm_cats_n, pm_cats_l, pm_cats_d, sz_1, sz_2, sl_1, sl_2, lc_0, lc_lt, lc_le, li_ne, va_rf, wr_m1, we_m1, pm_kill_w, Int32.reduceOfInt, Int64.reduceOfInt, Int32.reduceOfNat, Int32.reduceLT, Int32.reduceLE, Prod.mk.injEq, Nat.reduceEqDiff, reduceCtorEq, and_true, true_and, and_false, false_and, and_self, ite_true, ite_false, ↓reduceIte, not_true_eq_false, not_false_eq_true, pe_ri, pe_rz, pe_rc, Ct_g0_0 hP hA, Ct_g0_3 hP hA, Ct_g0_4 hP hA, Ct_g0_5 hP hA, Ct_g0_7 hP hA, Ct_g0_8 hP hA, Ct_g24_4 hP hA, Ct_k24 hP hA, Ct_k25 hP hA, Ct_p0_8 hP hA, Ct_p0_9 hP hA, Ct_p24_4 hP hA, Ct_p25_4 hP hA, Ct_r14 hP hA, Ct_r9 hP hA, eq_true k1, hc]
  · rw [if_neg k1] at e
    by_cases k2 : (S.1 (0, 0, 0) 8) < 20
    · rw [if_pos k2] at e
      obtain ⟨S2, k3, e⟩ := Option.bind_eq_some_iff.mp e
      try dsimp only at e
      have z3 := x961 (D := D) (h := h) hP hA (by omega) k3
      obtain ⟨⟨v3, S4⟩, k4, e⟩ := Option.bind_eq_some_iff.mp e
      try dsimp only at e
      have z4 := x850 (D := D) (h := h) hP hA (by omega) k4
      dsimp only at z4
      by_cases k5 : v3 = (-1)
      · rw [if_pos k5] at e
        have k6 := y848_3_1 (h := h) hP hA hD e hc
        simp -implicitDefEqProofs (disch := first | assumption | exact Nat.le_of_ble_eq_true rfl | decide) only [b848_0, g848_2, b848_2, g848_5, b848_5, g848_6, b848_6, pe_aload0, pe_call1, pm_af_ret, pm_af_void, pm_af_thr, pe_sipush, pe_putfield, pe_istore1, pe_goto_w, pe_iload1, pe_if_eq, pe_getfield, pe_icmp_ge, pe_call2, pe_istore2, pe_iload2, pe_icmp_eq, pe_goto, pe_dup_i, pe_dup_r, pe_dup_x1_ii, pe_dup_x1_ir, pe_dup_x1_ri, pe_dup_x1_rr, pe_iadd, pe_aaload, pe_call3, pe_isub, pe_istore3, pe_iload3, pe_iaload, pe_iinc3, pm_prog_1, pm_ob_some, Nat.reduceDiv, Nat.reduceMod, Nat.reduceMul, Nat.reduceAdd, Int.reduceToNat, pm_kill_i, pm_kill_r, pm_kill_n, pm_kill_j, pm_kill_l, pm_kill_d, pm_cats_nil, pm_cats_i, pm_cats_r, pm_cats_n, pm_cats_l, pm_cats_d, sz_1, sz_2, sl_1, sl_2, lc_0, lc_lt, lc_le, li_ne, va_rf, wr_m1, we_m1, pm_kill_w, Int32.reduceOfInt, Int64.reduceOfInt, Int32.reduceOfNat, Int32.reduceLT, Int32.reduceLE, Prod.mk.injEq, Nat.reduceEqDiff, reduceCtorEq, and_true, true_and, and_false, false_and, and_self, ite_true, ite_false, ↓reduceIte, not_true_eq_false, not_false_eq_true, pe_ri, pe_rz, pe_rc, Ct_g0_0 hP hA, Ct_g0_3 hP hA, Ct_g0_4 hP hA, Ct_g0_5 hP hA, Ct_g0_7 hP hA, Ct_g0_8 hP hA, Ct_g24_4 hP hA, Ct_k24 hP hA, Ct_k25 hP hA, Ct_p0_8 hP hA, Ct_p0_9 hP hA, Ct_p24_4 hP hA, Ct_p25_4 hP hA, Ct_r14 hP hA, Ct_r9 hP hA, eq_false k1, eq_true k2, z3, z4, eq_true k5, k6]
      · rw [if_neg k5] at e
        have k7 := y848_3_1 (h := h) hP hA hD e hc
        simp -implicitDefEqProofs (disch := first | assumption | exact Nat.le_of_ble_eq_true rfl | decide) only [b848_0, g848_2, b848_2, g848_5, b848_5, g848_6, b848_6, pe_aload0, pe_call1, pm_af_ret, pm_af_void, pm_af_thr, pe_sipush, pe_putfield, pe_istore1, pe_goto_w, pe_iload1, pe_if_eq, pe_getfield, pe_icmp_ge, pe_call2, pe_istore2, pe_iload2, pe_icmp_eq, pe_goto, pe_dup_i, pe_dup_r, pe_dup_x1_ii, pe_dup_x1_ir, pe_dup_x1_ri, pe_dup_x1_rr, pe_iadd, pe_aaload, pe_call3, pe_isub, pe_istore3, pe_iload3, pe_iaload, pe_iinc3, pm_prog_1, pm_ob_some, Nat.reduceDiv, Nat.reduceMod, Nat.reduceMul, Nat.reduceAdd, Int.reduceToNat, pm_kill_i, pm_kill_r, pm_kill_n, pm_kill_j, pm_kill_l, pm_kill_d, pm_cats_nil, pm_cats_i, pm_cats_r, pm_cats_n, pm_cats_l, pm_cats_d, sz_1, sz_2, sl_1, sl_2, lc_0, lc_lt, lc_le, li_ne, va_rf, wr_m1, we_m1, pm_kill_w, Int32.reduceOfInt, Int64.reduceOfInt, Int32.reduceOfNat, Int32.reduceLT, Int32.reduceLE, Prod.mk.injEq, Nat.reduceEqDiff, reduceCtorEq, and_true, true_and, and_false, false_and, and_self, ite_true, ite_false, ↓reduceIte, not_true_eq_false, not_false_eq_true, pe_ri, pe_rz, pe_rc, Ct_g0_0 hP hA, Ct_g0_3 hP hA, Ct_g0_4 hP hA, Ct_g0_5 hP hA, Ct_g0_7 hP hA, Ct_g0_8 hP hA, Ct_g24_4 hP hA, Ct_k24 hP hA, Ct_k25 hP hA, Ct_p0_8 hP hA, Ct_p0_9 hP hA, Ct_p24_4 hP hA, Ct_p25_4 hP hA, Ct_r14 hP hA, Ct_r9 hP hA, eq_false k1, eq_true k2, z3, z4, eq_false k5, k7]
    · rw [if_neg k2] at e
      have e := Option.some.inj e; subst e
      dsimp only [Sum.elim_inr, ex848_1] at hc
      simp -implicitDefEqProofs (disch := first | assumption | exact Nat.le_of_ble_eq_true rfl | decide) only [b848_0, g848_2, b848_2, g848_5, b848_5, g848_6, b848_6, pe_aload0, pe_call1, pm_af_ret, pm_af_void, pm_af_thr, pe_sipush, pe_putfield, pe_istore1, pe_goto_w, pe_iload1, pe_if_eq, pe_getfield, pe_icmp_ge, pe_call2, pe_istore2, pe_iload2, pe_icmp_eq, pe_goto, pe_dup_i, pe_dup_r, pe_dup_x1_ii, pe_dup_x1_ir, pe_dup_x1_ri, pe_dup_x1_rr, pe_iadd, pe_aaload, pe_call3, pe_isub, pe_istore3, pe_iload3, pe_iaload, pe_iinc3, pm_prog_1, pm_ob_some, Nat.reduceDiv, Nat.reduceMod, Nat.reduceMul, Nat.reduceAdd, Int.reduceToNat, pm_kill_i, pm_kill_r, pm_kill_n, pm_kill_j, pm_kill_l, pm_kill_d, pm_cats_nil, pm_cats_i, pm_cats_r, pm_cats_n, pm_cats_l, pm_cats_d, sz_1, sz_2, sl_1, sl_2, lc_0, lc_lt, lc_le, li_ne, va_rf, wr_m1, we_m1, pm_kill_w, Int32.reduceOfInt, Int64.reduceOfInt, Int32.reduceOfNat, Int32.reduceLT, Int32.reduceLE, Prod.mk.injEq, Nat.reduceEqDiff, reduceCtorEq, and_true, true_and, and_false, false_and, and_self, ite_true, ite_false, ↓reduceIte, not_true_eq_false, not_false_eq_true, pe_ri, pe_rz, pe_rc, Ct_g0_0 hP hA, Ct_g0_3 hP hA, Ct_g0_4 hP hA, Ct_g0_5 hP hA, Ct_g0_7 hP hA, Ct_g0_8 hP hA, Ct_g24_4 hP hA, Ct_k24 hP hA, Ct_k25 hP hA, Ct_p0_8 hP hA, Ct_p0_9 hP hA, Ct_p24_4 hP hA, Ct_p25_4 hP hA, Ct_r14 hP hA, Ct_r9 hP hA, eq_false k1, eq_false k2, hc]
theorem z848_1 {sc : Int32} {pc : Int32} {sa : Int32} {pa : Int32} {A : wK → Nat} {h : pm_H} {D : Nat} {R : Outcome × pm_H} (hP : Ct_P sc pc sa pa) (hA : wok A (Ct_d sc pc sa pa) h.1) (hD : 206 ≤ D) {n : Nat} {a : Int32 × wS} {b : (wS)} (e : lp (f848_b1 sc pc sa pa) n a = some b) (hx : ex848_1 sc pc sa pa A h D R b) : go848_1 sc pc sa pa A h D R a := lp_run (fun a r => y848_b1 hP hA hD a r) n a b e hx
theorem x848 {sc : Int32} {pc : Int32} {sa : Int32} {pa : Int32} {A : wK → Nat} {h : pm_H} {D : Nat} {S : wS} {r : Int32 × wS} (hP : Ct_P sc pc sa pa) (hA : wok A (Ct_d sc pc sa pa) h.1) (hD : 207 ≤ D) (e : f848 sc pc sa pa S = some r) : pm_call pm_prog D 848 [.ref (A (0, 0, 0))] (wput A (Ct_d sc pc sa pa) S h) = some (match (generalizing := false) r with | (w0, S1) => (Outcome.returned (some (.int w0)), (wput A (Ct_d sc pc sa pa) S1 h))) := by
  obtain ⟨D, rfl⟩ : ∃ D', D = D' + 1 := ⟨D - 1, by omega⟩
  have hD : 206 ≤ D := by omega
  simp only [f848] at e
  rw [c848 (Ct_c0 hP hA), b848_0]
  obtain ⟨S1, k1, e⟩ := Option.bind_eq_some_iff.mp e
  try dsimp only at e
  have z1 := x849 (D := D) (h := h) hP hA (by omega) k1
  obtain ⟨S12, k2, e⟩ := Option.bind_eq_some_iff.mp e
  try dsimp only at e
  try simp -implicitDefEqProofs (disch := first | assumption | exact Nat.le_of_ble_eq_true rfl | decide) only [b848_0, g848_2, b848_2, g848_5, b848_5, g848_6, b848_6, pe_aload0, pe_call1, pm_af_ret, pm_af_void, pm_af_thr, pe_sipush, pe_putfield, pe_istore1, pe_goto_w, pe_iload1, pe_if_eq, pe_getfield, pe_icmp_ge, pe_call2, pe_istore2, pe_iload2, pe_icmp_eq, pe_goto, pe_dup_i, pe_dup_r, pe_dup_x1_ii, pe_dup_x1_ir, pe_dup_x1_ri, pe_dup_x1_rr, pe_iadd, pe_aaload, pe_call3, pe_isub, pe_istore3, pe_iload3, pe_iaload, pe_iinc3, pm_prog_1, pm_ob_some, Nat.reduceDiv, Nat.reduceMod, Nat.reduceMul, Nat.reduceAdd, Int.reduceToNat, pm_kill_i, pm_kill_r, pm_kill_n, pm_kill_j, pm_kill_l, pm_kill_d, pm_cats_nil, pm_cats_i, pm_cats_r, pm_cats_n, pm_cats_l, pm_cats_d, sz_1, sz_2, sl_1, sl_2, lc_0, lc_lt, lc_le, li_ne, va_rf, wr_m1, we_m1, pm_kill_w, Int32.reduceOfInt, Int64.reduceOfInt, Int32.reduceOfNat, Int32.reduceLT, Int32.reduceLE, Prod.mk.injEq, Nat.reduceEqDiff, reduceCtorEq, and_true, true_and, and_false, false_and, and_self, ite_true, ite_false, ↓reduceIte, not_true_eq_false, not_false_eq_true, pe_ri, pe_rz, pe_rc, Ct_g0_0 hP hA, Ct_g0_3 hP hA, Ct_g0_4 hP hA, Ct_g0_5 hP hA, Ct_g0_7 hP hA, Ct_g0_8 hP hA, Ct_g24_4 hP hA, Ct_k24 hP hA, Ct_k25 hP hA, Ct_p0_8 hP hA, Ct_p0_9 hP hA, Ct_p24_4 hP hA, Ct_p25_4 hP hA, Ct_r14 hP hA, Ct_r9 hP hA, z1]
  refine z848_1 hP hA hD k2 ?_ _ _
  dsimp only [ex848_1]
  intro q1 q2 q3
  have e := Option.some.inj e; subst e
  simp -implicitDefEqProofs (disch := first | assumption | exact Nat.le_of_ble_eq_true rfl | decide) only [b848_0, g848_2, b848_2, g848_5, b848_5, g848_6, b848_6, pe_aload0, pe_call1, pm_af_ret, pm_af_void, pm_af_thr, pe_sipush, pe_putfield, pe_istore1, pe_goto_w, pe_iload1, pe_if_eq, pe_getfield, pe_icmp_ge, pe_call2, pe_istore2, pe_iload2, pe_icmp_eq, pe_goto, pe_dup_i, pe_dup_r, pe_dup_x1_ii, pe_dup_x1_ir, pe_dup_x1_ri, pe_dup_x1_rr, pe_iadd, pe_aaload, pe_call3, pe_isub, pe_istore3, pe_iload3, pe_iaload, pe_iinc3, pm_prog_1, pm_ob_some, Nat.reduceDiv, Nat.reduceMod, Nat.reduceMul, Nat.reduceAdd, Int.reduceToNat, pm_kill_i, pm_kill_r, pm_kill_n, pm_kill_j, pm_kill_l, pm_kill_d, pm_cats_nil, pm_cats_i, pm_cats_r, pm_cats_n, pm_cats_l, pm_cats_d, sz_1, sz_2, sl_1, sl_2, lc_0, lc_lt, lc_le, li_ne, va_rf, wr_m1, we_m1, pm_kill_w, Int32.reduceOfInt, Int64.reduceOfInt, Int32.reduceOfNat, Int32.reduceLT, Int32.reduceLE, Prod.mk.injEq, Nat.reduceEqDiff, reduceCtorEq, and_true, true_and, and_false, false_and, and_self, ite_true, ite_false, ↓reduceIte, not_true_eq_false, not_false_eq_true, pe_ri, pe_rz, pe_rc, Ct_g0_0 hP hA, Ct_g0_3 hP hA, Ct_g0_4 hP hA, Ct_g0_5 hP hA, Ct_g0_7 hP hA, Ct_g0_8 hP hA, Ct_g24_4 hP hA, Ct_k24 hP hA, Ct_k25 hP hA, Ct_p0_8 hP hA, Ct_p0_9 hP hA, Ct_p24_4 hP hA, Ct_p25_4 hP hA, Ct_r14 hP hA, Ct_r9 hP hA, z1]
/-- TimberHouse$SheetTrees.rest(III)I -/
theorem c853 {d : Nat} {h : pm_H} {a : Nat} {x0 : Int32} {x1 : Int32} {x2 : Int32} (hc : pm_cls h a = some 13) : pm_call pm_prog (d + 1) 853 [.ref a, .int x0, .int x1, .int x2] h = pm_ev pm_prog (pm_call pm_prog d) 853 0 b853_0 [.ref a, .int x0, .int x1, .int x2, pm_junk] [] h := pm_cal (pm_rc1 hc rfl) rfl rfl rfl
theorem t853 {cl : pm_C} {j : Nat} {ls : List Value} {c : Nat} {h : pm_H} : pm_thr pm_prog cl 853 j ls c h = some (.threw c, h) := rfl
/-- TimberHouse$SheetTrees.rest(III)I -/
noncomputable def f853 (sc : Int32) (pc : Int32) (sa : Int32) (pa : Int32) (S : wS) (x1 : Int32) (x2 : Int32) (x3 : Int32) : Option (Nat ⊕ (Int32)) :=
  (f835 sc pc sa pa S x1).bind fun r => match r with
  | .inl c4 =>
    some (.inl c4)
  | .inr v1i =>
  if 0 ≤ v1i ∧ v1i < 20 then
    (f837 x2 (S.1 (10, v1i, 0) 3)).bind fun r => match r with
    | .inl c3 =>
      some (.inl c3)
    | .inr _ =>
    (f837 x3 4).bind fun r => match r with
    | .inl c2 =>
      some (.inl c2)
    | .inr _ =>
    if 0 ≤ ((4 * x2) + x3) ∧ ((4 * x2) + x3) < 1024 then
      some (.inr (S.1 (13, v1i, 0) ((4 * x2) + x3)))
    else none
  else none
theorem x853 {sc : Int32} {pc : Int32} {sa : Int32} {pa : Int32} {A : wK → Nat} {h : pm_H} {D : Nat} {S : wS} {x1 : Int32} {x2 : Int32} {x3 : Int32} {r : Nat ⊕ (Int32)} (hP : Ct_P sc pc sa pa) (hA : wok A (Ct_d sc pc sa pa) h.1) (hD : 3 ≤ D) (e : f853 sc pc sa pa S x1 x2 x3 = some r) : pm_call pm_prog D 853 [.ref (A (0, 0, 0)), .int x1, .int x2, .int x3] (wput A (Ct_d sc pc sa pa) S h) = some (match (generalizing := false) r with | .inl c => (Outcome.threw c, (wput A (Ct_d sc pc sa pa) S (pm_new h 6 (.inr (c, []))))) | .inr w0 => (Outcome.returned (some (.int w0)), (wput A (Ct_d sc pc sa pa) S h))) := by
  obtain ⟨D, rfl⟩ : ∃ D', D = D' + 1 := ⟨D - 1, by omega⟩
  have hD : 2 ≤ D := by omega
  simp only [f853] at e
  rw [c853 (Ct_c0 hP hA), b853_0]
  obtain ⟨r, k1, e⟩ := Option.bind_eq_some_iff.mp e
  have z1 := x835 (D := D) (h := h) hP hA (by omega) k1
  rcases r with c4 | v1i
  · dsimp only at e z1
    have e := Option.some.inj e; subst e
    simp -implicitDefEqProofs (disch := first | assumption | exact Nat.le_of_ble_eq_true rfl | decide) only [b853_0, pe_aload0, pe_iload1, pe_call2, pm_af_ret, pm_af_void, pm_af_thr, pe_astore4, pe_iload2, pe_aload4, pe_getfield, pe_iload3, pe_sipush, pe_imul, pe_iadd, pe_baload, pm_prog_1, pm_ob_some, Nat.reduceDiv, Nat.reduceMod, Nat.reduceMul, Nat.reduceAdd, Int.reduceToNat, pm_kill_i, pm_kill_r, pm_kill_n, pm_kill_j, pm_kill_l, pm_kill_d, pm_cats_nil, pm_cats_i, pm_cats_r, pm_cats_n, pm_cats_l, pm_cats_d, sz_1, sz_2, sl_1, sl_2, lc_0, lc_lt, lc_le, li_ne, va_rf, wr_m1, we_m1, pm_kill_w, Int32.reduceOfInt, Int64.reduceOfInt, Int32.reduceOfNat, Int32.reduceLT, Int32.reduceLE, Prod.mk.injEq, Nat.reduceEqDiff, reduceCtorEq, and_true, true_and, and_false, false_and, and_self, ite_true, ite_false, ↓reduceIte, not_true_eq_false, not_false_eq_true, pe_ri, pe_rz, pe_rc, p_throw, t853, w_junk hA, Ct_g10_10 hP hA, Ct_g10_3 hP hA, Ct_r13 hP hA, z1]
  · dsimp only at e z1
    by_cases k2 : 0 ≤ v1i ∧ v1i < 20
    · rw [if_pos k2] at e
      obtain ⟨r, k3, e⟩ := Option.bind_eq_some_iff.mp e
      have z3 := fun h => x837 (D := D) (h := h) (by omega) k3
      rcases r with c3 | _
      · dsimp only at e z3
        have e := Option.some.inj e; subst e
        simp -implicitDefEqProofs (disch := first | assumption | exact Nat.le_of_ble_eq_true rfl | decide) only [b853_0, pe_aload0, pe_iload1, pe_call2, pm_af_ret, pm_af_void, pm_af_thr, pe_astore4, pe_iload2, pe_aload4, pe_getfield, pe_iload3, pe_sipush, pe_imul, pe_iadd, pe_baload, pm_prog_1, pm_ob_some, Nat.reduceDiv, Nat.reduceMod, Nat.reduceMul, Nat.reduceAdd, Int.reduceToNat, pm_kill_i, pm_kill_r, pm_kill_n, pm_kill_j, pm_kill_l, pm_kill_d, pm_cats_nil, pm_cats_i, pm_cats_r, pm_cats_n, pm_cats_l, pm_cats_d, sz_1, sz_2, sl_1, sl_2, lc_0, lc_lt, lc_le, li_ne, va_rf, wr_m1, we_m1, pm_kill_w, Int32.reduceOfInt, Int64.reduceOfInt, Int32.reduceOfNat, Int32.reduceLT, Int32.reduceLE, Prod.mk.injEq, Nat.reduceEqDiff, reduceCtorEq, and_true, true_and, and_false, false_and, and_self, ite_true, ite_false, ↓reduceIte, not_true_eq_false, not_false_eq_true, pe_ri, pe_rz, pe_rc, p_throw, t853, w_junk hA, Ct_g10_10 hP hA, Ct_g10_3 hP hA, Ct_r13 hP hA, z1, z3]
      · dsimp only at e z3
        obtain ⟨r, k4, e⟩ := Option.bind_eq_some_iff.mp e
        have z4 := fun h => x837 (D := D) (h := h) (by omega) k4
        rcases r with c2 | _
        · dsimp only at e z4
          have e := Option.some.inj e; subst e
          simp -implicitDefEqProofs (disch := first | assumption | exact Nat.le_of_ble_eq_true rfl | decide) only [b853_0, pe_aload0, pe_iload1, pe_call2, pm_af_ret, pm_af_void, pm_af_thr, pe_astore4, pe_iload2, pe_aload4, pe_getfield, pe_iload3, pe_sipush, pe_imul, pe_iadd, pe_baload, pm_prog_1, pm_ob_some, Nat.reduceDiv, Nat.reduceMod, Nat.reduceMul, Nat.reduceAdd, Int.reduceToNat, pm_kill_i, pm_kill_r, pm_kill_n, pm_kill_j, pm_kill_l, pm_kill_d, pm_cats_nil, pm_cats_i, pm_cats_r, pm_cats_n, pm_cats_l, pm_cats_d, sz_1, sz_2, sl_1, sl_2, lc_0, lc_lt, lc_le, li_ne, va_rf, wr_m1, we_m1, pm_kill_w, Int32.reduceOfInt, Int64.reduceOfInt, Int32.reduceOfNat, Int32.reduceLT, Int32.reduceLE, Prod.mk.injEq, Nat.reduceEqDiff, reduceCtorEq, and_true, true_and, and_false, false_and, and_self, ite_true, ite_false, ↓reduceIte, not_true_eq_false, not_false_eq_true, pe_ri, pe_rz, pe_rc, p_throw, t853, w_junk hA, Ct_g10_10 hP hA, Ct_g10_3 hP hA, Ct_r13 hP hA, z1, z3, z4]
        · dsimp only at e z4
          by_cases k5 : 0 ≤ ((4 * x2) + x3) ∧ ((4 * x2) + x3) < 1024
          · rw [if_pos k5] at e
            have e := Option.some.inj e; subst e
            simp -implicitDefEqProofs (disch := first | assumption | exact Nat.le_of_ble_eq_true rfl | decide) only [b853_0, pe_aload0, pe_iload1, pe_call2, pm_af_ret, pm_af_void, pm_af_thr, pe_astore4, pe_iload2, pe_aload4, pe_getfield, pe_iload3, pe_sipush, pe_imul, pe_iadd, pe_baload, pm_prog_1, pm_ob_some, Nat.reduceDiv, Nat.reduceMod, Nat.reduceMul, Nat.reduceAdd, Int.reduceToNat, pm_kill_i, pm_kill_r, pm_kill_n, pm_kill_j, pm_kill_l, pm_kill_d, pm_cats_nil, pm_cats_i, pm_cats_r, pm_cats_n, pm_cats_l, pm_cats_d, sz_1, sz_2, sl_1, sl_2, lc_0, lc_lt, lc_le, li_ne, va_rf, wr_m1, we_m1, pm_kill_w, Int32.reduceOfInt, Int64.reduceOfInt, Int32.reduceOfNat, Int32.reduceLT, Int32.reduceLE, Prod.mk.injEq, Nat.reduceEqDiff, reduceCtorEq, and_true, true_and, and_false, false_and, and_self, ite_true, ite_false, ↓reduceIte, not_true_eq_false, not_false_eq_true, pe_ri, pe_rz, pe_rc, p_throw, t853, w_junk hA, Ct_g10_10 hP hA, Ct_g10_3 hP hA, Ct_r13 hP hA, z1, z3, z4]
          · rw [if_neg k5] at e; cases e
    · rw [if_neg k2] at e; cases e
/-- TimberHouse$SheetTrees.left(I)I -/
theorem c854 {d : Nat} {h : pm_H} {a : Nat} {x0 : Int32} (hc : pm_cls h a = some 13) : pm_call pm_prog (d + 1) 854 [.ref a, .int x0] h = pm_ev pm_prog (pm_call pm_prog d) 854 0 b854_0 [.ref a, .int x0] [] h := pm_cal (pm_rc1 hc rfl) rfl rfl rfl
theorem t854 {cl : pm_C} {j : Nat} {ls : List Value} {c : Nat} {h : pm_H} : pm_thr pm_prog cl 854 j ls c h = some (.threw c, h) := rfl
/-- TimberHouse$SheetTrees.left(I)I -/
noncomputable def f854 (sc : Int32) (pc : Int32) (sa : Int32) (pa : Int32) (S : wS) (x1 : Int32) : Option (Nat ⊕ (Int32)) :=
  (f836 (S.1 (0, 0, 0) 9)).bind fun r => match r with
  | .inl c4 =>
    some (.inl c4)
  | .inr _ =>
  (f4033tv1 sc pc sa pa S).bind fun v1 =>
  (f837 x1 v1).bind fun r => match r with
  | .inl c3 =>
    some (.inl c3)
  | .inr _ =>
  (f4034tv1 sc pc sa pa S x1).bind fun v2i =>
  if 0 ≤ v2i ∧ v2i < pc then
    some (.inr (S.1 (25, v2i, 0) 4))
  else none
theorem x854 {sc : Int32} {pc : Int32} {sa : Int32} {pa : Int32} {A : wK → Nat} {h : pm_H} {D : Nat} {S : wS} {x1 : Int32} {r : Nat ⊕ (Int32)} (hP : Ct_P sc pc sa pa) (hA : wok A (Ct_d sc pc sa pa) h.1) (hD : 4 ≤ D) (e : f854 sc pc sa pa S x1 = some r) : pm_call pm_prog D 854 [.ref (A (0, 0, 0)), .int x1] (wput A (Ct_d sc pc sa pa) S h) = some (match (generalizing := false) r with | .inl c => (Outcome.threw c, (wput A (Ct_d sc pc sa pa) S (pm_new h 6 (.inr (c, []))))) | .inr w0 => (Outcome.returned (some (.int w0)), (wput A (Ct_d sc pc sa pa) S h))) := by
  obtain ⟨D, rfl⟩ : ∃ D', D = D' + 1 := ⟨D - 1, by omega⟩
  have hD : 3 ≤ D := by omega
  simp only [f854] at e
  rw [c854 (Ct_c0 hP hA), b854_0]
  obtain ⟨r, k1, e⟩ := Option.bind_eq_some_iff.mp e
  have z1 := fun h => x836 (D := D) (h := h) (by omega) k1
  rcases r with c4 | _
  · dsimp only at e z1
    have e := Option.some.inj e; subst e
    simp -implicitDefEqProofs (disch := first | assumption | exact Nat.le_of_ble_eq_true rfl | decide) only [b854_0, pe_aload0, pe_getfield, pe_call1, pm_af_ret, pm_af_void, pm_af_thr, pe_iload1, pe_call2, pm_prog_1, pm_ob_some, Nat.reduceDiv, Nat.reduceMod, Nat.reduceMul, Nat.reduceAdd, Int.reduceToNat, pm_kill_i, pm_kill_r, pm_kill_n, pm_kill_j, pm_kill_l, pm_kill_d, pm_cats_nil, pm_cats_i, pm_cats_r, pm_cats_n, pm_cats_l, pm_cats_d, sz_1, sz_2, sl_1, sl_2, lc_0, lc_lt, lc_le, li_ne, va_rf, wr_m1, we_m1, pm_kill_w, Int32.reduceOfInt, Int64.reduceOfInt, Int32.reduceOfNat, Int32.reduceLT, Int32.reduceLE, Prod.mk.injEq, Nat.reduceEqDiff, reduceCtorEq, and_true, true_and, and_false, false_and, and_self, ite_true, ite_false, ↓reduceIte, not_true_eq_false, not_false_eq_true, pe_ri, pe_rz, pe_rc, p_throw, t854, w_junk hA, Ct_g0_4 hP hA, Ct_g0_9 hP hA, Ct_g25_4 hP hA, Ct_k25 hP hA, z1]
  · dsimp only at e z1
    obtain ⟨v1, k2, e⟩ := Option.bind_eq_some_iff.mp e
    try dsimp only at e
    have z2 := x4033tv1 (D := D) (h := h) hP hA (by omega) k2
    obtain ⟨r, k3, e⟩ := Option.bind_eq_some_iff.mp e
    have z3 := fun h => x837 (D := D) (h := h) (by omega) k3
    rcases r with c3 | _
    · dsimp only at e z3
      have e := Option.some.inj e; subst e
      simp -implicitDefEqProofs (disch := first | assumption | exact Nat.le_of_ble_eq_true rfl | decide) only [b854_0, pe_aload0, pe_getfield, pe_call1, pm_af_ret, pm_af_void, pm_af_thr, pe_iload1, pe_call2, pm_prog_1, pm_ob_some, Nat.reduceDiv, Nat.reduceMod, Nat.reduceMul, Nat.reduceAdd, Int.reduceToNat, pm_kill_i, pm_kill_r, pm_kill_n, pm_kill_j, pm_kill_l, pm_kill_d, pm_cats_nil, pm_cats_i, pm_cats_r, pm_cats_n, pm_cats_l, pm_cats_d, sz_1, sz_2, sl_1, sl_2, lc_0, lc_lt, lc_le, li_ne, va_rf, wr_m1, we_m1, pm_kill_w, Int32.reduceOfInt, Int64.reduceOfInt, Int32.reduceOfNat, Int32.reduceLT, Int32.reduceLE, Prod.mk.injEq, Nat.reduceEqDiff, reduceCtorEq, and_true, true_and, and_false, false_and, and_self, ite_true, ite_false, ↓reduceIte, not_true_eq_false, not_false_eq_true, pe_ri, pe_rz, pe_rc, p_throw, t854, w_junk hA, Ct_g0_4 hP hA, Ct_g0_9 hP hA, Ct_g25_4 hP hA, Ct_k25 hP hA, z1, z2, z3]
    · dsimp only at e z3
      obtain ⟨v2i, k4, e⟩ := Option.bind_eq_some_iff.mp e
      try dsimp only at e
      have z4 := x4034tv1 (D := D) (h := h) hP hA (by omega) k4
      by_cases k5 : 0 ≤ v2i ∧ v2i < pc
      · rw [if_pos k5] at e
        have e := Option.some.inj e; subst e
        simp -implicitDefEqProofs (disch := first | assumption | exact Nat.le_of_ble_eq_true rfl | decide) only [b854_0, pe_aload0, pe_getfield, pe_call1, pm_af_ret, pm_af_void, pm_af_thr, pe_iload1, pe_call2, pm_prog_1, pm_ob_some, Nat.reduceDiv, Nat.reduceMod, Nat.reduceMul, Nat.reduceAdd, Int.reduceToNat, pm_kill_i, pm_kill_r, pm_kill_n, pm_kill_j, pm_kill_l, pm_kill_d, pm_cats_nil, pm_cats_i, pm_cats_r, pm_cats_n, pm_cats_l, pm_cats_d, sz_1, sz_2, sl_1, sl_2, lc_0, lc_lt, lc_le, li_ne, va_rf, wr_m1, we_m1, pm_kill_w, Int32.reduceOfInt, Int64.reduceOfInt, Int32.reduceOfNat, Int32.reduceLT, Int32.reduceLE, Prod.mk.injEq, Nat.reduceEqDiff, reduceCtorEq, and_true, true_and, and_false, false_and, and_self, ite_true, ite_false, ↓reduceIte, not_true_eq_false, not_false_eq_true, pe_ri, pe_rz, pe_rc, p_throw, t854, w_junk hA, Ct_g0_4 hP hA, Ct_g0_9 hP hA, Ct_g25_4 hP hA, Ct_k25 hP hA, z1, z2, z3, z4]
      · rw [if_neg k5] at e; cases e
/-- TimberHouse$SheetTrees.bound()I -/
theorem c855 {d : Nat} {h : pm_H} {a : Nat} (hc : pm_cls h a = some 13) : pm_call pm_prog (d + 1) 855 [.ref a] h = pm_ev pm_prog (pm_call pm_prog d) 855 0 b855_0 [.ref a, pm_junk, pm_junk, pm_junk] [] h := pm_cal (pm_rc1 hc rfl) rfl rfl rfl
theorem g855_1 {cl : pm_C} {ls st : List Value} {h : pm_H} : pm_go pm_prog cl 855 1 ls st h = pm_ev pm_prog cl 855 1 b855_1 ls st h := pm_go_eq pm_prog cl 855 1 ls st h
theorem g855_2 {cl : pm_C} {ls st : List Value} {h : pm_H} : pm_go pm_prog cl 855 2 ls st h = pm_ev pm_prog cl 855 2 b855_2 ls st h := pm_go_eq pm_prog cl 855 2 ls st h
theorem g855_3 {cl : pm_C} {ls st : List Value} {h : pm_H} : pm_go pm_prog cl 855 3 ls st h = pm_ev pm_prog cl 855 3 b855_3 ls st h := pm_go_eq pm_prog cl 855 3 ls st h
theorem g855_4 {cl : pm_C} {ls st : List Value} {h : pm_H} : pm_go pm_prog cl 855 4 ls st h = pm_ev pm_prog cl 855 4 b855_4 ls st h := pm_go_eq pm_prog cl 855 4 ls st h
theorem g855_5 {cl : pm_C} {ls st : List Value} {h : pm_H} : pm_go pm_prog cl 855 5 ls st h = pm_ev pm_prog cl 855 5 b855_5 ls st h := pm_go_eq pm_prog cl 855 5 ls st h
theorem g855_6 {cl : pm_C} {ls st : List Value} {h : pm_H} : pm_go pm_prog cl 855 6 ls st h = pm_ev pm_prog cl 855 6 b855_6 ls st h := pm_go_eq pm_prog cl 855 6 ls st h
noncomputable def f855_b1 (sc : Int32) (pc : Int32) (sa : Int32) (pa : Int32) (S : wS) : Int32 × Int32 → Option ((Int32 × Int32) ⊕ ((Int32))) := fun (x1, x2) =>
  (f4033tv1 sc pc sa pa S).bind fun v1 =>
  if x2 < v1 then
    (f4034tv1 sc pc sa pa S x2).bind fun v2i =>
    if 0 ≤ v2i ∧ v2i < pc then
      (f3074 sc pc sa pa S v2i).bind fun v3 =>
      some (.inl ((x1 + ((S.1 (25, v2i, 0) 3) * v3)), (x2 + 1)))
    else none
  else
    some (.inr x1)
noncomputable def f855_b3 (sc : Int32) (pc : Int32) (sa : Int32) (pa : Int32) (S : wS) : Int32 × Int32 × Int32 → Option ((Int32 × Int32 × Int32) ⊕ ((Int32 × Int32))) := fun (x1, x2, x3) =>
  (f4033t sc pc sa pa S).bind fun v6 =>
  if x3 < v6 then
    (f4034t sc pc sa pa S x3).bind fun v7i =>
    if 0 ≤ v7i ∧ v7i < sc then
      (f3008 sc pc sa pa S v7i).bind fun v8 =>
      (f3841 x2 v8).bind fun v9 =>
      some (.inl (x1, v9, (x3 + 1)))
    else none
  else
    some (.inr (x1, x2))
/-- TimberHouse$SheetTrees.bound()I -/
noncomputable def f855 (sc : Int32) (pc : Int32) (sa : Int32) (pa : Int32) (S : wS) : Option (Int32) :=
  (lp (f855_b1 sc pc sa pa S) FU (0, 0)).bind fun v5 =>
  (lp (f855_b3 sc pc sa pa S) FU (v5, 0, 0)).bind fun (v10, v11) =>
  if v11 = 0 then
    some 0
  else
    if ¬ v11 = 0 then
      some (((v10 + v11) - 1) / v11)
    else none
def go855_1 (sc : Int32) (pc : Int32) (sa : Int32) (pa : Int32) (A : wK → Nat) (h : pm_H) (D : Nat) (R : Outcome × pm_H) (S : wS) : Int32 × Int32 → Prop := fun (x1, x2) => ∀ q3 : Value, pm_go pm_prog (pm_call pm_prog D) 855 1 [.ref (A (0, 0, 0)), .int x1, .int x2, q3] [] (wput A (Ct_d sc pc sa pa) S h) = some R
def ex855_1 (sc : Int32) (pc : Int32) (sa : Int32) (pa : Int32) (A : wK → Nat) (h : pm_H) (D : Nat) (R : Outcome × pm_H) (S : wS) : (Int32) → Prop := fun x1 => ∀ q2 q3 : Value, pm_go pm_prog (pm_call pm_prog D) 855 2 [.ref (A (0, 0, 0)), .int x1, q2, q3] [] (wput A (Ct_d sc pc sa pa) S h) = some R
theorem y855_b1 {sc : Int32} {pc : Int32} {sa : Int32} {pa : Int32} {A : wK → Nat} {h : pm_H} {D : Nat} {R : Outcome × pm_H} {S : wS} (hP : Ct_P sc pc sa pa) (hA : wok A (Ct_d sc pc sa pa) h.1) (hD : 3 ≤ D) (a : Int32 × Int32) (r : (Int32 × Int32) ⊕ ((Int32))) (e : f855_b1 sc pc sa pa S a = some r) (hc : Sum.elim (go855_1 sc pc sa pa A h D R S) (ex855_1 sc pc sa pa A h D R S) r) : go855_1 sc pc sa pa A h D R S a := by
  obtain ⟨x1, x2⟩ := a
  dsimp only [go855_1]
  intro q3
  simp only [f855_b1] at e
  rw [g855_1, b855_1]
  obtain ⟨v1, k1, e⟩ := Option.bind_eq_some_iff.mp e
  try dsimp only at e
  have z1 := x4033tv1 (D := D) (h := h) hP hA (by omega) k1
  by_cases k2 : x2 < v1
  · rw [if_pos k2] at e
    obtain ⟨v2i, k3, e⟩ := Option.bind_eq_some_iff.mp e
    try dsimp only at e
    have z3 := x4034tv1 (D := D) (h := h) hP hA (by omega) k3
    by_cases k4 : 0 ≤ v2i ∧ v2i < pc
    · rw [if_pos k4] at e
      obtain ⟨v3, k5, e⟩ := Option.bind_eq_some_iff.mp e
      try dsimp only at e
      have z5 := x3074 (D := D) (h := h) hP hA (by omega) k5
      have e := Option.some.inj e; subst e
      dsimp only [Sum.elim_inl, go855_1] at hc
      simp -implicitDefEqProofs (disch := first | assumption | exact Nat.le_of_ble_eq_true rfl | decide) only [b855_0, g855_2, b855_2, g855_4, b855_4, g855_5, b855_5, g855_6, b855_6, pe_sipush, pe_istore1, pe_istore2, pe_goto_w, pe_iload2, pe_aload0, pe_getfield, pe_call1, pm_af_ret, pm_af_void, pm_af_thr, pe_icmp_ge, pe_iload1, pe_call2, pe_imul, pe_iadd, pe_iinc2, pe_goto, pe_istore3, pe_iload3, pe_iinc3, pe_if_ne, pe_isub, pe_idiv, pm_prog_1, pm_ob_some, Nat.reduceDiv, Nat.reduceMod, Nat.reduceMul, Nat.reduceAdd, Int.reduceToNat, pm_kill_i, pm_kill_r, pm_kill_n, pm_kill_j, pm_kill_l, pm_kill_d, pm_cats_nil, pm_cats_i, pm_cats_r, pm_cats_n, pm_cats_l, pm_cats_d, sz_1, sz_2, sl_1, sl_2, lc_0, lc_lt, lc_le, li_ne, va_rf, wr_m1, we_m1, pm_kill_w, Int32.reduceOfInt, Int64.reduceOfInt, Int32.reduceOfNat, Int32.reduceLT, Int32.reduceLE, Prod.mk.injEq, Nat.reduceEqDiff, reduceCtorEq, and_true, true_and, and_false, false_and, and_self, ite_true, ite_false, ↓reduceIte, not_true_eq_false, not_false_eq_true, pe_ri, pe_rz, pe_rc, Ct_g0_3 hP hA, Ct_g0_4 hP hA, Ct_g25_3 hP hA, Ct_k24 hP hA, Ct_k25 hP hA, z1, eq_true k2, z3, z5, hc]
    · rw [if_neg k4] at e; cases e
  · rw [if_neg k2] at e
    have e := Option.some.inj e; subst e
    dsimp only [Sum.elim_inr, ex855_1] at hc
    simp -implicitDefEqProofs (disch := first | assumption | exact Nat.le_of_ble_eq_true rfl | decide) only [b855_0, g855_2, b855_2, g855_4, b855_4, g855_5, b855_5, g855_6, b855_6, pe_sipush, pe_istore1, pe_istore2, pe_goto_w, pe_iload2, pe_aload0, pe_getfield, pe_call1, pm_af_ret, pm_af_void, pm_af_thr, pe_icmp_ge, pe_iload1, pe_call2, pe_imul, pe_iadd, pe_iinc2, pe_goto, pe_istore3, pe_iload3, pe_iinc3, pe_if_ne, pe_isub, pe_idiv, pm_prog_1, pm_ob_some, Nat.reduceDiv, Nat.reduceMod, Nat.reduceMul, Nat.reduceAdd, Int.reduceToNat, pm_kill_i, pm_kill_r, pm_kill_n, pm_kill_j, pm_kill_l, pm_kill_d, pm_cats_nil, pm_cats_i, pm_cats_r, pm_cats_n, pm_cats_l, pm_cats_d, sz_1, sz_2, sl_1, sl_2, lc_0, lc_lt, lc_le, li_ne, va_rf, wr_m1, we_m1, pm_kill_w, Int32.reduceOfInt, Int64.reduceOfInt, Int32.reduceOfNat, Int32.reduceLT, Int32.reduceLE, Prod.mk.injEq, Nat.reduceEqDiff, reduceCtorEq, and_true, true_and, and_false, false_and, and_self, ite_true, ite_false, ↓reduceIte, not_true_eq_false, not_false_eq_true, pe_ri, pe_rz, pe_rc, Ct_g0_3 hP hA, Ct_g0_4 hP hA, Ct_g25_3 hP hA, Ct_k24 hP hA, Ct_k25 hP hA, z1, eq_false k2, hc]
theorem z855_1 {sc : Int32} {pc : Int32} {sa : Int32} {pa : Int32} {A : wK → Nat} {h : pm_H} {D : Nat} {R : Outcome × pm_H} {S : wS} (hP : Ct_P sc pc sa pa) (hA : wok A (Ct_d sc pc sa pa) h.1) (hD : 3 ≤ D) {n : Nat} {a : Int32 × Int32} {b : (Int32)} (e : lp (f855_b1 sc pc sa pa S) n a = some b) (hx : ex855_1 sc pc sa pa A h D R S b) : go855_1 sc pc sa pa A h D R S a := lp_run (fun a r => y855_b1 hP hA hD a r) n a b e hx
def go855_3 (sc : Int32) (pc : Int32) (sa : Int32) (pa : Int32) (A : wK → Nat) (h : pm_H) (D : Nat) (R : Outcome × pm_H) (S : wS) : Int32 × Int32 × Int32 → Prop := fun (x1, x2, x3) => pm_go pm_prog (pm_call pm_prog D) 855 3 [.ref (A (0, 0, 0)), .int x1, .int x2, .int x3] [] (wput A (Ct_d sc pc sa pa) S h) = some R
def ex855_3 (sc : Int32) (pc : Int32) (sa : Int32) (pa : Int32) (A : wK → Nat) (h : pm_H) (D : Nat) (R : Outcome × pm_H) (S : wS) : (Int32 × Int32) → Prop := fun (x1, x2) => ∀ q0 q3 : Value, pm_go pm_prog (pm_call pm_prog D) 855 4 [q0, .int x1, .int x2, q3] [] (wput A (Ct_d sc pc sa pa) S h) = some R
theorem y855_b3 {sc : Int32} {pc : Int32} {sa : Int32} {pa : Int32} {A : wK → Nat} {h : pm_H} {D : Nat} {R : Outcome × pm_H} {S : wS} (hP : Ct_P sc pc sa pa) (hA : wok A (Ct_d sc pc sa pa) h.1) (hD : 3 ≤ D) (a : Int32 × Int32 × Int32) (r : (Int32 × Int32 × Int32) ⊕ ((Int32 × Int32))) (e : f855_b3 sc pc sa pa S a = some r) (hc : Sum.elim (go855_3 sc pc sa pa A h D R S) (ex855_3 sc pc sa pa A h D R S) r) : go855_3 sc pc sa pa A h D R S a := by
  obtain ⟨x1, x2, x3⟩ := a
  dsimp only [go855_3]
  simp only [f855_b3] at e
  rw [g855_3, b855_3]
  obtain ⟨v6, k1, e⟩ := Option.bind_eq_some_iff.mp e
  try dsimp only at e
  have z1 := x4033t (D := D) (h := h) hP hA (by omega) k1
  by_cases k2 : x3 < v6
  · rw [if_pos k2] at e
    obtain ⟨v7i, k3, e⟩ := Option.bind_eq_some_iff.mp e
    try dsimp only at e
    have z3 := x4034t (D := D) (h := h) hP hA (by omega) k3
    by_cases k4 : 0 ≤ v7i ∧ v7i < sc
    · rw [if_pos k4] at e
      obtain ⟨v8, k5, e⟩ := Option.bind_eq_some_iff.mp e
      try dsimp only at e
      have z5 := x3008 (D := D) (h := h) hP hA (by omega) k5
      obtain ⟨v9, k6, e⟩ := Option.bind_eq_some_iff.mp e
      try dsimp only at e
      have z6 := fun h => x3841 (D := D) (h := h) (by omega) k6
      have e := Option.some.inj e; subst e
      dsimp only [Sum.elim_inl, go855_3] at hc
      simp -implicitDefEqProofs (disch := first | assumption | exact Nat.le_of_ble_eq_true rfl | decide) only [b855_0, g855_2, b855_2, g855_4, b855_4, g855_5, b855_5, g855_6, b855_6, pe_sipush, pe_istore1, pe_istore2, pe_goto_w, pe_iload2, pe_aload0, pe_getfield, pe_call1, pm_af_ret, pm_af_void, pm_af_thr, pe_icmp_ge, pe_iload1, pe_call2, pe_imul, pe_iadd, pe_iinc2, pe_goto, pe_istore3, pe_iload3, pe_iinc3, pe_if_ne, pe_isub, pe_idiv, pm_prog_1, pm_ob_some, Nat.reduceDiv, Nat.reduceMod, Nat.reduceMul, Nat.reduceAdd, Int.reduceToNat, pm_kill_i, pm_kill_r, pm_kill_n, pm_kill_j, pm_kill_l, pm_kill_d, pm_cats_nil, pm_cats_i, pm_cats_r, pm_cats_n, pm_cats_l, pm_cats_d, sz_1, sz_2, sl_1, sl_2, lc_0, lc_lt, lc_le, li_ne, va_rf, wr_m1, we_m1, pm_kill_w, Int32.reduceOfInt, Int64.reduceOfInt, Int32.reduceOfNat, Int32.reduceLT, Int32.reduceLE, Prod.mk.injEq, Nat.reduceEqDiff, reduceCtorEq, and_true, true_and, and_false, false_and, and_self, ite_true, ite_false, ↓reduceIte, not_true_eq_false, not_false_eq_true, pe_ri, pe_rz, pe_rc, Ct_g0_3 hP hA, Ct_g0_4 hP hA, Ct_g25_3 hP hA, Ct_k24 hP hA, Ct_k25 hP hA, z1, eq_true k2, z3, z5, z6, hc]
    · rw [if_neg k4] at e; cases e
  · rw [if_neg k2] at e
    have e := Option.some.inj e; subst e
    dsimp only [Sum.elim_inr, ex855_3] at hc
    simp -implicitDefEqProofs (disch := first | assumption | exact Nat.le_of_ble_eq_true rfl | decide) only [b855_0, g855_2, b855_2, g855_4, b855_4, g855_5, b855_5, g855_6, b855_6, pe_sipush, pe_istore1, pe_istore2, pe_goto_w, pe_iload2, pe_aload0, pe_getfield, pe_call1, pm_af_ret, pm_af_void, pm_af_thr, pe_icmp_ge, pe_iload1, pe_call2, pe_imul, pe_iadd, pe_iinc2, pe_goto, pe_istore3, pe_iload3, pe_iinc3, pe_if_ne, pe_isub, pe_idiv, pm_prog_1, pm_ob_some, Nat.reduceDiv, Nat.reduceMod, Nat.reduceMul, Nat.reduceAdd, Int.reduceToNat, pm_kill_i, pm_kill_r, pm_kill_n, pm_kill_j, pm_kill_l, pm_kill_d, pm_cats_nil, pm_cats_i, pm_cats_r, pm_cats_n, pm_cats_l, pm_cats_d, sz_1, sz_2, sl_1, sl_2, lc_0, lc_lt, lc_le, li_ne, va_rf, wr_m1, we_m1, pm_kill_w, Int32.reduceOfInt, Int64.reduceOfInt, Int32.reduceOfNat, Int32.reduceLT, Int32.reduceLE, Prod.mk.injEq, Nat.reduceEqDiff, reduceCtorEq, and_true, true_and, and_false, false_and, and_self, ite_true, ite_false, ↓reduceIte, not_true_eq_false, not_false_eq_true, pe_ri, pe_rz, pe_rc, Ct_g0_3 hP hA, Ct_g0_4 hP hA, Ct_g25_3 hP hA, Ct_k24 hP hA, Ct_k25 hP hA, z1, eq_false k2, hc]
theorem z855_3 {sc : Int32} {pc : Int32} {sa : Int32} {pa : Int32} {A : wK → Nat} {h : pm_H} {D : Nat} {R : Outcome × pm_H} {S : wS} (hP : Ct_P sc pc sa pa) (hA : wok A (Ct_d sc pc sa pa) h.1) (hD : 3 ≤ D) {n : Nat} {a : Int32 × Int32 × Int32} {b : (Int32 × Int32)} (e : lp (f855_b3 sc pc sa pa S) n a = some b) (hx : ex855_3 sc pc sa pa A h D R S b) : go855_3 sc pc sa pa A h D R S a := lp_run (fun a r => y855_b3 hP hA hD a r) n a b e hx
theorem x855 {sc : Int32} {pc : Int32} {sa : Int32} {pa : Int32} {A : wK → Nat} {h : pm_H} {D : Nat} {S : wS} {r : Int32} (hP : Ct_P sc pc sa pa) (hA : wok A (Ct_d sc pc sa pa) h.1) (hD : 4 ≤ D) (e : f855 sc pc sa pa S = some r) : pm_call pm_prog D 855 [.ref (A (0, 0, 0))] (wput A (Ct_d sc pc sa pa) S h) = some (Outcome.returned (some (.int r)), (wput A (Ct_d sc pc sa pa) S h)) := by
  obtain ⟨D, rfl⟩ : ∃ D', D = D' + 1 := ⟨D - 1, by omega⟩
  have hD : 3 ≤ D := by omega
  simp only [f855] at e
  rw [c855 (Ct_c0 hP hA), b855_0]
  obtain ⟨v5, k1, e⟩ := Option.bind_eq_some_iff.mp e
  try dsimp only at e
  try simp -implicitDefEqProofs (disch := first | assumption | exact Nat.le_of_ble_eq_true rfl | decide) only [b855_0, g855_2, b855_2, g855_4, b855_4, g855_5, b855_5, g855_6, b855_6, pe_sipush, pe_istore1, pe_istore2, pe_goto_w, pe_iload2, pe_aload0, pe_getfield, pe_call1, pm_af_ret, pm_af_void, pm_af_thr, pe_icmp_ge, pe_iload1, pe_call2, pe_imul, pe_iadd, pe_iinc2, pe_goto, pe_istore3, pe_iload3, pe_iinc3, pe_if_ne, pe_isub, pe_idiv, pm_prog_1, pm_ob_some, Nat.reduceDiv, Nat.reduceMod, Nat.reduceMul, Nat.reduceAdd, Int.reduceToNat, pm_kill_i, pm_kill_r, pm_kill_n, pm_kill_j, pm_kill_l, pm_kill_d, pm_cats_nil, pm_cats_i, pm_cats_r, pm_cats_n, pm_cats_l, pm_cats_d, sz_1, sz_2, sl_1, sl_2, lc_0, lc_lt, lc_le, li_ne, va_rf, wr_m1, we_m1, pm_kill_w, Int32.reduceOfInt, Int64.reduceOfInt, Int32.reduceOfNat, Int32.reduceLT, Int32.reduceLE, Prod.mk.injEq, Nat.reduceEqDiff, reduceCtorEq, and_true, true_and, and_false, false_and, and_self, ite_true, ite_false, ↓reduceIte, not_true_eq_false, not_false_eq_true, pe_ri, pe_rz, pe_rc, Ct_g0_3 hP hA, Ct_g0_4 hP hA, Ct_g25_3 hP hA, Ct_k24 hP hA, Ct_k25 hP hA]
  refine z855_1 hP hA hD k1 ?_ _
  dsimp only [ex855_1]
  intro q2 q3
  obtain ⟨⟨v10, v11⟩, k2, e⟩ := Option.bind_eq_some_iff.mp e
  try dsimp only at e
  try simp -implicitDefEqProofs (disch := first | assumption | exact Nat.le_of_ble_eq_true rfl | decide) only [b855_0, g855_2, b855_2, g855_4, b855_4, g855_5, b855_5, g855_6, b855_6, pe_sipush, pe_istore1, pe_istore2, pe_goto_w, pe_iload2, pe_aload0, pe_getfield, pe_call1, pm_af_ret, pm_af_void, pm_af_thr, pe_icmp_ge, pe_iload1, pe_call2, pe_imul, pe_iadd, pe_iinc2, pe_goto, pe_istore3, pe_iload3, pe_iinc3, pe_if_ne, pe_isub, pe_idiv, pm_prog_1, pm_ob_some, Nat.reduceDiv, Nat.reduceMod, Nat.reduceMul, Nat.reduceAdd, Int.reduceToNat, pm_kill_i, pm_kill_r, pm_kill_n, pm_kill_j, pm_kill_l, pm_kill_d, pm_cats_nil, pm_cats_i, pm_cats_r, pm_cats_n, pm_cats_l, pm_cats_d, sz_1, sz_2, sl_1, sl_2, lc_0, lc_lt, lc_le, li_ne, va_rf, wr_m1, we_m1, pm_kill_w, Int32.reduceOfInt, Int64.reduceOfInt, Int32.reduceOfNat, Int32.reduceLT, Int32.reduceLE, Prod.mk.injEq, Nat.reduceEqDiff, reduceCtorEq, and_true, true_and, and_false, false_and, and_self, ite_true, ite_false, ↓reduceIte, not_true_eq_false, not_false_eq_true, pe_ri, pe_rz, pe_rc, Ct_g0_3 hP hA, Ct_g0_4 hP hA, Ct_g25_3 hP hA, Ct_k24 hP hA, Ct_k25 hP hA]
  refine z855_3 hP hA hD k2 ?_
  dsimp only [ex855_3]
  intro q0 q3
  by_cases k3 : v11 = 0
  · rw [if_pos k3] at e
    have e := Option.some.inj e; subst e
    simp -implicitDefEqProofs (disch := first | assumption | exact Nat.le_of_ble_eq_true rfl | decide) only [b855_0, g855_2, b855_2, g855_4, b855_4, g855_5, b855_5, g855_6, b855_6, pe_sipush, pe_istore1, pe_istore2, pe_goto_w, pe_iload2, pe_aload0, pe_getfield, pe_call1, pm_af_ret, pm_af_void, pm_af_thr, pe_icmp_ge, pe_iload1, pe_call2, pe_imul, pe_iadd, pe_iinc2, pe_goto, pe_istore3, pe_iload3, pe_iinc3, pe_if_ne, pe_isub, pe_idiv, pm_prog_1, pm_ob_some, Nat.reduceDiv, Nat.reduceMod, Nat.reduceMul, Nat.reduceAdd, Int.reduceToNat, pm_kill_i, pm_kill_r, pm_kill_n, pm_kill_j, pm_kill_l, pm_kill_d, pm_cats_nil, pm_cats_i, pm_cats_r, pm_cats_n, pm_cats_l, pm_cats_d, sz_1, sz_2, sl_1, sl_2, lc_0, lc_lt, lc_le, li_ne, va_rf, wr_m1, we_m1, pm_kill_w, Int32.reduceOfInt, Int64.reduceOfInt, Int32.reduceOfNat, Int32.reduceLT, Int32.reduceLE, Prod.mk.injEq, Nat.reduceEqDiff, reduceCtorEq, and_true, true_and, and_false, false_and, and_self, ite_true, ite_false, ↓reduceIte, not_true_eq_false, not_false_eq_true, pe_ri, pe_rz, pe_rc, Ct_g0_3 hP hA, Ct_g0_4 hP hA, Ct_g25_3 hP hA, Ct_k24 hP hA, Ct_k25 hP hA, eq_true k3]
  · rw [if_neg k3] at e
    by_cases k4 : ¬ v11 = 0
    · rw [if_pos k4] at e
      have e := Option.some.inj e; subst e
      simp -implicitDefEqProofs (disch := first | assumption | exact Nat.le_of_ble_eq_true rfl | decide) only [b855_0, g855_2, b855_2, g855_4, b855_4, g855_5, b855_5, g855_6, b855_6, pe_sipush, pe_istore1, pe_istore2, pe_goto_w, pe_iload2, pe_aload0, pe_getfield, pe_call1, pm_af_ret, pm_af_void, pm_af_thr, pe_icmp_ge, pe_iload1, pe_call2, pe_imul, pe_iadd, pe_iinc2, pe_goto, pe_istore3, pe_iload3, pe_iinc3, pe_if_ne, pe_isub, pe_idiv, pm_prog_1, pm_ob_some, Nat.reduceDiv, Nat.reduceMod, Nat.reduceMul, Nat.reduceAdd, Int.reduceToNat, pm_kill_i, pm_kill_r, pm_kill_n, pm_kill_j, pm_kill_l, pm_kill_d, pm_cats_nil, pm_cats_i, pm_cats_r, pm_cats_n, pm_cats_l, pm_cats_d, sz_1, sz_2, sl_1, sl_2, lc_0, lc_lt, lc_le, li_ne, va_rf, wr_m1, we_m1, pm_kill_w, Int32.reduceOfInt, Int64.reduceOfInt, Int32.reduceOfNat, Int32.reduceLT, Int32.reduceLE, Prod.mk.injEq, Nat.reduceEqDiff, reduceCtorEq, and_true, true_and, and_false, false_and, and_self, ite_true, ite_false, ↓reduceIte, not_true_eq_false, not_false_eq_true, pe_ri, pe_rz, pe_rc, Ct_g0_3 hP hA, Ct_g0_4 hP hA, Ct_g25_3 hP hA, Ct_k24 hP hA, Ct_k25 hP hA, eq_false k3]
    · rw [if_neg k4] at e; cases e
