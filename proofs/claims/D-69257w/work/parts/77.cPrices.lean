set_option maxRecDepth 100000
/-! TimberHouse$PriceLines -/
def Cp_P (lc : Int32) (fq : Int32) (ll : Int32 → Int32) : Prop := 0 ≤ lc ∧ 0 ≤ fq ∧ ∀ i, 0 ≤ ll i
def Cp_d (lc : Int32) (fq : Int32) (ll : Int32 → Int32) : wK → Option wD := fun k => match k.1 with
  | 0 => if k.2.1 = 0 ∧ k.2.2 = 0 then some (.inl (22, [(2, (1, 0, 0)), (0, (0, 0, 0)), (0, (0, 0, 0)), (0, (0, 0, 0)), (0, (0, 0, 0)), (0, (0, 0, 0)), (2, (2, 0, 0)), (2, (3, 0, 0)), (0, (0, 0, 0)), (2, (4, 0, 0)), (2, (5, 0, 0)), (2, (6, 0, 0)), (0, (0, 0, 0)), (2, (21, 0, 0)), (2, (22, 0, 0)), (2, (23, 0, 0)), (2, (7, 0, 0)), (2, (8, 0, 0)), (2, (9, 0, 0)), (2, (10, 0, 0)), (0, (0, 0, 0)), (2, (12, 0, 0)), (2, (13, 0, 0)), (0, (0, 0, 0)), (2, (14, 0, 0)), (0, (0, 0, 0)), (2, (15, 0, 0)), (2, (16, 0, 0))])) else none
  | 1 => if k.2.1 = 0 ∧ k.2.2 = 0 then some (.inr (.inl (.byte, 240))) else none
  | 2 => if k.2.1 = 0 ∧ k.2.2 = 0 then some (.inr (.inr ((.object "TimberHouse$PriceLines$Line"), 16, .inl 26))) else none
  | 3 => if k.2.1 = 0 ∧ k.2.2 = 0 then some (.inr (.inr ((.object "TimberHouse$PriceLines$Line"), 16, .inl 26))) else none
  | 4 => if k.2.1 = 0 ∧ k.2.2 = 0 then some (.inr (.inl (.int, 240))) else none
  | 5 => if k.2.1 = 0 ∧ k.2.2 = 0 then some (.inr (.inr ((.object "TimberHouse$PriceLines$Fraction"), 26, .inl 25))) else none
  | 6 => if k.2.1 = 0 ∧ k.2.2 = 0 then some (.inr (.inr ((.object "TimberHouse$PriceLines$Fraction"), 6, .inr (fun x => some (20, x, 0))))) else none
  | 7 => if k.2.1 = 0 ∧ k.2.2 = 0 then some (.inr (.inr ((.object "TimberHouse$PriceLines$Fraction"), 16, .inr (fun x => some (24, x, 0))))) else none
  | 8 => if k.2.1 = 0 ∧ k.2.2 = 0 then some (.inr (.inl (.int, 16))) else none
  | 9 => if k.2.1 = 0 ∧ k.2.2 = 0 then some (.inr (.inl (.int, 16))) else none
  | 10 => if k.2.1 = 0 ∧ k.2.2 = 0 then some (.inr (.inr ((.array .int), 8, .inr (fun x => some (11, x, 0))))) else none
  | 11 => if (0 ≤ k.2.1 ∧ k.2.1 < 8) ∧ k.2.2 = 0 then some (.inr (.inl (.int, 3))) else none
  | 12 => if k.2.1 = 0 ∧ k.2.2 = 0 then some (.inr (.inl (.long, 8))) else none
  | 13 => if k.2.1 = 0 ∧ k.2.2 = 0 then some (.inr (.inl (.int, 8))) else none
  | 14 => if k.2.1 = 0 ∧ k.2.2 = 0 then some (.inr (.inl (.long, 8))) else none
  | 15 => if k.2.1 = 0 ∧ k.2.2 = 0 then some (.inr (.inl (.long, 8))) else none
  | 16 => if k.2.1 = 0 ∧ k.2.2 = 0 then some (.inr (.inl (.int, 8))) else none
  | 20 => if (0 ≤ k.2.1 ∧ k.2.1 < 6) ∧ k.2.2 = 0 then some (.inl (23, [(1, (0, 0, 0)), (1, (0, 0, 0))])) else none
  | 21 => if k.2.1 = 0 ∧ k.2.2 = 0 then some (.inl (23, [(1, (0, 0, 0)), (1, (0, 0, 0))])) else none
  | 22 => if k.2.1 = 0 ∧ k.2.2 = 0 then some (.inl (23, [(1, (0, 0, 0)), (1, (0, 0, 0))])) else none
  | 23 => if k.2.1 = 0 ∧ k.2.2 = 0 then some (.inl (23, [(1, (0, 0, 0)), (1, (0, 0, 0))])) else none
  | 24 => if (0 ≤ k.2.1 ∧ k.2.1 < 16) ∧ k.2.2 = 0 then some (.inl (23, [(1, (0, 0, 0)), (1, (0, 0, 0))])) else none
  | 25 => if (0 ≤ k.2.1 ∧ k.2.1 < fq) ∧ k.2.2 = 0 then some (.inl (23, [(1, (0, 0, 0)), (1, (0, 0, 0))])) else none
  | 26 => if (0 ≤ k.2.1 ∧ k.2.1 < lc) ∧ k.2.2 = 0 then some (.inl (56, [(2, (27, k.2.1, 0)), (0, (0, 0, 0))])) else none
  | 27 => if (0 ≤ k.2.1 ∧ k.2.1 < lc) ∧ k.2.2 = 0 then some (.inr (.inl (.int, wn (ll k.2.1)))) else none
  | _ => none
section
variable {A : wK → Nat} {S : wS} {h : pm_H} {m : Nat} {i j x v : Int32} {u : Int64} {lc : Int32} {fq : Int32} {ll : Int32 → Int32}
theorem Cp_n0 (hP : Cp_P lc fq ll) : Int32.ofNat (wn (ll i)) = (ll i) := wn_of (hP.2.2 i)
theorem Cp_d0 {lc : Int32} {fq : Int32} {ll : Int32 → Int32} : (Cp_d lc fq ll) (0, 0, 0) = some (.inl (22, [(2, (1, 0, 0)), (0, (0, 0, 0)), (0, (0, 0, 0)), (0, (0, 0, 0)), (0, (0, 0, 0)), (0, (0, 0, 0)), (2, (2, 0, 0)), (2, (3, 0, 0)), (0, (0, 0, 0)), (2, (4, 0, 0)), (2, (5, 0, 0)), (2, (6, 0, 0)), (0, (0, 0, 0)), (2, (21, 0, 0)), (2, (22, 0, 0)), (2, (23, 0, 0)), (2, (7, 0, 0)), (2, (8, 0, 0)), (2, (9, 0, 0)), (2, (10, 0, 0)), (0, (0, 0, 0)), (2, (12, 0, 0)), (2, (13, 0, 0)), (0, (0, 0, 0)), (2, (14, 0, 0)), (0, (0, 0, 0)), (2, (15, 0, 0)), (2, (16, 0, 0))])) := rfl
theorem Cp_d1 {lc : Int32} {fq : Int32} {ll : Int32 → Int32} : (Cp_d lc fq ll) (1, 0, 0) = some (.inr (.inl (.byte, 240))) := rfl
theorem Cp_d2 {lc : Int32} {fq : Int32} {ll : Int32 → Int32} : (Cp_d lc fq ll) (2, 0, 0) = some (.inr (.inr ((.object "TimberHouse$PriceLines$Line"), 16, .inl 26))) := rfl
theorem Cp_d3 {lc : Int32} {fq : Int32} {ll : Int32 → Int32} : (Cp_d lc fq ll) (3, 0, 0) = some (.inr (.inr ((.object "TimberHouse$PriceLines$Line"), 16, .inl 26))) := rfl
theorem Cp_d4 {lc : Int32} {fq : Int32} {ll : Int32 → Int32} : (Cp_d lc fq ll) (4, 0, 0) = some (.inr (.inl (.int, 240))) := rfl
theorem Cp_d5 {lc : Int32} {fq : Int32} {ll : Int32 → Int32} : (Cp_d lc fq ll) (5, 0, 0) = some (.inr (.inr ((.object "TimberHouse$PriceLines$Fraction"), 26, .inl 25))) := rfl
theorem Cp_d6 {lc : Int32} {fq : Int32} {ll : Int32 → Int32} : (Cp_d lc fq ll) (6, 0, 0) = some (.inr (.inr ((.object "TimberHouse$PriceLines$Fraction"), 6, .inr (fun x => some (20, x, 0))))) := rfl
theorem Cp_d7 {lc : Int32} {fq : Int32} {ll : Int32 → Int32} : (Cp_d lc fq ll) (7, 0, 0) = some (.inr (.inr ((.object "TimberHouse$PriceLines$Fraction"), 16, .inr (fun x => some (24, x, 0))))) := rfl
theorem Cp_d8 {lc : Int32} {fq : Int32} {ll : Int32 → Int32} : (Cp_d lc fq ll) (8, 0, 0) = some (.inr (.inl (.int, 16))) := rfl
theorem Cp_d9 {lc : Int32} {fq : Int32} {ll : Int32 → Int32} : (Cp_d lc fq ll) (9, 0, 0) = some (.inr (.inl (.int, 16))) := rfl
theorem Cp_d10 {lc : Int32} {fq : Int32} {ll : Int32 → Int32} : (Cp_d lc fq ll) (10, 0, 0) = some (.inr (.inr ((.array .int), 8, .inr (fun x => some (11, x, 0))))) := rfl
theorem Cp_d11 {lc : Int32} {fq : Int32} {ll : Int32 → Int32} (h0 : 0 ≤ i ∧ i < 8) : (Cp_d lc fq ll) (11, i, 0) = some (.inr (.inl (.int, 3))) := if_pos ⟨h0, rfl⟩
theorem Cp_d12 {lc : Int32} {fq : Int32} {ll : Int32 → Int32} : (Cp_d lc fq ll) (12, 0, 0) = some (.inr (.inl (.long, 8))) := rfl
theorem Cp_d13 {lc : Int32} {fq : Int32} {ll : Int32 → Int32} : (Cp_d lc fq ll) (13, 0, 0) = some (.inr (.inl (.int, 8))) := rfl
theorem Cp_d14 {lc : Int32} {fq : Int32} {ll : Int32 → Int32} : (Cp_d lc fq ll) (14, 0, 0) = some (.inr (.inl (.long, 8))) := rfl
theorem Cp_d15 {lc : Int32} {fq : Int32} {ll : Int32 → Int32} : (Cp_d lc fq ll) (15, 0, 0) = some (.inr (.inl (.long, 8))) := rfl
theorem Cp_d16 {lc : Int32} {fq : Int32} {ll : Int32 → Int32} : (Cp_d lc fq ll) (16, 0, 0) = some (.inr (.inl (.int, 8))) := rfl
theorem Cp_d20 {lc : Int32} {fq : Int32} {ll : Int32 → Int32} (h0 : 0 ≤ i ∧ i < 6) : (Cp_d lc fq ll) (20, i, 0) = some (.inl (23, [(1, (0, 0, 0)), (1, (0, 0, 0))])) := if_pos ⟨h0, rfl⟩
theorem Cp_d21 {lc : Int32} {fq : Int32} {ll : Int32 → Int32} : (Cp_d lc fq ll) (21, 0, 0) = some (.inl (23, [(1, (0, 0, 0)), (1, (0, 0, 0))])) := rfl
theorem Cp_d22 {lc : Int32} {fq : Int32} {ll : Int32 → Int32} : (Cp_d lc fq ll) (22, 0, 0) = some (.inl (23, [(1, (0, 0, 0)), (1, (0, 0, 0))])) := rfl
theorem Cp_d23 {lc : Int32} {fq : Int32} {ll : Int32 → Int32} : (Cp_d lc fq ll) (23, 0, 0) = some (.inl (23, [(1, (0, 0, 0)), (1, (0, 0, 0))])) := rfl
theorem Cp_d24 {lc : Int32} {fq : Int32} {ll : Int32 → Int32} (h0 : 0 ≤ i ∧ i < 16) : (Cp_d lc fq ll) (24, i, 0) = some (.inl (23, [(1, (0, 0, 0)), (1, (0, 0, 0))])) := if_pos ⟨h0, rfl⟩
theorem Cp_d25 {lc : Int32} {fq : Int32} {ll : Int32 → Int32} (h0 : 0 ≤ i ∧ i < fq) : (Cp_d lc fq ll) (25, i, 0) = some (.inl (23, [(1, (0, 0, 0)), (1, (0, 0, 0))])) := if_pos ⟨h0, rfl⟩
theorem Cp_d26 {lc : Int32} {fq : Int32} {ll : Int32 → Int32} (h0 : 0 ≤ i ∧ i < lc) : (Cp_d lc fq ll) (26, i, 0) = some (.inl (56, [(2, (27, i, 0)), (0, (0, 0, 0))])) := if_pos ⟨h0, rfl⟩
theorem Cp_d27 {lc : Int32} {fq : Int32} {ll : Int32 → Int32} (h0 : 0 ≤ i ∧ i < lc) : (Cp_d lc fq ll) (27, i, 0) = some (.inr (.inl (.int, wn (ll i)))) := if_pos ⟨h0, rfl⟩
theorem Cp_c0 (hP : Cp_P lc fq ll) (hA : wok A (Cp_d lc fq ll) m) : pm_cls (wput A (Cp_d lc fq ll) S h) (A (0, 0, 0)) = some 22 := w_cls hA (Cp_d0)
theorem Cp_k0 {cl : pm_C} {k b c : Nat} {r : List Instr} {ls s : List Value} (hP : Cp_P lc fq ll) (hA : wok A (Cp_d lc fq ll) m) (h2 : pm_sub 22 c = true) : pm_ev pm_prog cl k b (.checkcast c :: r) ls (.ref (A (0, 0, 0)) :: s) (wput A (Cp_d lc fq ll) S h) = pm_ev pm_prog cl k b r ls (.ref (A (0, 0, 0)) :: s) (wput A (Cp_d lc fq ll) S h) := pe_checkcast (w_cls hA (Cp_d0)) h2
theorem Cp_g0_0 (hP : Cp_P lc fq ll) (hA : wok A (Cp_d lc fq ll) m) : pm_gf pm_tab (wput A (Cp_d lc fq ll) S h) (A (0, 0, 0)) 22 0 = some (.ref (A (1, 0, 0))) := w_g (f := (2, (1, 0, 0))) hA (Cp_d0) rfl rfl
theorem Cp_g0_1 (hP : Cp_P lc fq ll) (hA : wok A (Cp_d lc fq ll) m) : pm_gf pm_tab (wput A (Cp_d lc fq ll) S h) (A (0, 0, 0)) 22 1 = some (.int (S.1 (0, 0, 0) 1)) := w_g (f := (0, (0, 0, 0))) hA (Cp_d0) rfl rfl
theorem Cp_p0_1 (hP : Cp_P lc fq ll) (hA : wok A (Cp_d lc fq ll) m) : pm_pf pm_tab (wput A (Cp_d lc fq ll) S h) (A (0, 0, 0)) 22 1 0 (.int v) = some (wput A (Cp_d lc fq ll) (sz S (0, 0, 0) 1 v) h) := w_p0 (q := (0, 0, 0)) (t := 0) hA (Cp_d0) rfl rfl (Nat.le_of_ble_eq_true rfl)
theorem Cp_g0_2 (hP : Cp_P lc fq ll) (hA : wok A (Cp_d lc fq ll) m) : pm_gf pm_tab (wput A (Cp_d lc fq ll) S h) (A (0, 0, 0)) 22 2 = some (.int (S.1 (0, 0, 0) 2)) := w_g (f := (0, (0, 0, 0))) hA (Cp_d0) rfl rfl
theorem Cp_p0_2 (hP : Cp_P lc fq ll) (hA : wok A (Cp_d lc fq ll) m) : pm_pf pm_tab (wput A (Cp_d lc fq ll) S h) (A (0, 0, 0)) 22 2 0 (.int v) = some (wput A (Cp_d lc fq ll) (sz S (0, 0, 0) 2 v) h) := w_p0 (q := (0, 0, 0)) (t := 0) hA (Cp_d0) rfl rfl (Nat.le_of_ble_eq_true rfl)
theorem Cp_g0_3 (hP : Cp_P lc fq ll) (hA : wok A (Cp_d lc fq ll) m) : pm_gf pm_tab (wput A (Cp_d lc fq ll) S h) (A (0, 0, 0)) 22 3 = some (.int (S.1 (0, 0, 0) 3)) := w_g (f := (0, (0, 0, 0))) hA (Cp_d0) rfl rfl
theorem Cp_p0_3 (hP : Cp_P lc fq ll) (hA : wok A (Cp_d lc fq ll) m) : pm_pf pm_tab (wput A (Cp_d lc fq ll) S h) (A (0, 0, 0)) 22 3 0 (.int v) = some (wput A (Cp_d lc fq ll) (sz S (0, 0, 0) 3 v) h) := w_p0 (q := (0, 0, 0)) (t := 0) hA (Cp_d0) rfl rfl (Nat.le_of_ble_eq_true rfl)
theorem Cp_g0_4 (hP : Cp_P lc fq ll) (hA : wok A (Cp_d lc fq ll) m) : pm_gf pm_tab (wput A (Cp_d lc fq ll) S h) (A (0, 0, 0)) 22 4 = some (.int (S.1 (0, 0, 0) 4)) := w_g (f := (0, (0, 0, 0))) hA (Cp_d0) rfl rfl
theorem Cp_p0_4 (hP : Cp_P lc fq ll) (hA : wok A (Cp_d lc fq ll) m) : pm_pf pm_tab (wput A (Cp_d lc fq ll) S h) (A (0, 0, 0)) 22 4 0 (.int v) = some (wput A (Cp_d lc fq ll) (sz S (0, 0, 0) 4 v) h) := w_p0 (q := (0, 0, 0)) (t := 0) hA (Cp_d0) rfl rfl (Nat.le_of_ble_eq_true rfl)
theorem Cp_g0_5 (hP : Cp_P lc fq ll) (hA : wok A (Cp_d lc fq ll) m) : pm_gf pm_tab (wput A (Cp_d lc fq ll) S h) (A (0, 0, 0)) 22 5 = some (.int (S.1 (0, 0, 0) 5)) := w_g (f := (0, (0, 0, 0))) hA (Cp_d0) rfl rfl
theorem Cp_p0_5 (hP : Cp_P lc fq ll) (hA : wok A (Cp_d lc fq ll) m) : pm_pf pm_tab (wput A (Cp_d lc fq ll) S h) (A (0, 0, 0)) 22 5 0 (.int v) = some (wput A (Cp_d lc fq ll) (sz S (0, 0, 0) 5 v) h) := w_p0 (q := (0, 0, 0)) (t := 0) hA (Cp_d0) rfl rfl (Nat.le_of_ble_eq_true rfl)
theorem Cp_g0_6 (hP : Cp_P lc fq ll) (hA : wok A (Cp_d lc fq ll) m) : pm_gf pm_tab (wput A (Cp_d lc fq ll) S h) (A (0, 0, 0)) 22 6 = some (.ref (A (2, 0, 0))) := w_g (f := (2, (2, 0, 0))) hA (Cp_d0) rfl rfl
theorem Cp_g0_7 (hP : Cp_P lc fq ll) (hA : wok A (Cp_d lc fq ll) m) : pm_gf pm_tab (wput A (Cp_d lc fq ll) S h) (A (0, 0, 0)) 22 7 = some (.ref (A (3, 0, 0))) := w_g (f := (2, (3, 0, 0))) hA (Cp_d0) rfl rfl
theorem Cp_g0_8 (hP : Cp_P lc fq ll) (hA : wok A (Cp_d lc fq ll) m) : pm_gf pm_tab (wput A (Cp_d lc fq ll) S h) (A (0, 0, 0)) 22 8 = some (.int (S.1 (0, 0, 0) 8)) := w_g (f := (0, (0, 0, 0))) hA (Cp_d0) rfl rfl
theorem Cp_p0_8 (hP : Cp_P lc fq ll) (hA : wok A (Cp_d lc fq ll) m) : pm_pf pm_tab (wput A (Cp_d lc fq ll) S h) (A (0, 0, 0)) 22 8 0 (.int v) = some (wput A (Cp_d lc fq ll) (sz S (0, 0, 0) 8 v) h) := w_p0 (q := (0, 0, 0)) (t := 0) hA (Cp_d0) rfl rfl (Nat.le_of_ble_eq_true rfl)
theorem Cp_g0_9 (hP : Cp_P lc fq ll) (hA : wok A (Cp_d lc fq ll) m) : pm_gf pm_tab (wput A (Cp_d lc fq ll) S h) (A (0, 0, 0)) 22 9 = some (.ref (A (4, 0, 0))) := w_g (f := (2, (4, 0, 0))) hA (Cp_d0) rfl rfl
theorem Cp_g0_10 (hP : Cp_P lc fq ll) (hA : wok A (Cp_d lc fq ll) m) : pm_gf pm_tab (wput A (Cp_d lc fq ll) S h) (A (0, 0, 0)) 22 10 = some (.ref (A (5, 0, 0))) := w_g (f := (2, (5, 0, 0))) hA (Cp_d0) rfl rfl
theorem Cp_g0_11 (hP : Cp_P lc fq ll) (hA : wok A (Cp_d lc fq ll) m) : pm_gf pm_tab (wput A (Cp_d lc fq ll) S h) (A (0, 0, 0)) 22 11 = some (.ref (A (6, 0, 0))) := w_g (f := (2, (6, 0, 0))) hA (Cp_d0) rfl rfl
theorem Cp_g0_12 (hP : Cp_P lc fq ll) (hA : wok A (Cp_d lc fq ll) m) : pm_gf pm_tab (wput A (Cp_d lc fq ll) S h) (A (0, 0, 0)) 22 12 = some (.int (S.1 (0, 0, 0) 12)) := w_g (f := (0, (0, 0, 0))) hA (Cp_d0) rfl rfl
theorem Cp_p0_12 (hP : Cp_P lc fq ll) (hA : wok A (Cp_d lc fq ll) m) : pm_pf pm_tab (wput A (Cp_d lc fq ll) S h) (A (0, 0, 0)) 22 12 0 (.int v) = some (wput A (Cp_d lc fq ll) (sz S (0, 0, 0) 12 v) h) := w_p0 (q := (0, 0, 0)) (t := 0) hA (Cp_d0) rfl rfl (Nat.le_of_ble_eq_true rfl)
theorem Cp_g0_13 (hP : Cp_P lc fq ll) (hA : wok A (Cp_d lc fq ll) m) : pm_gf pm_tab (wput A (Cp_d lc fq ll) S h) (A (0, 0, 0)) 22 13 = some (.ref (A (21, 0, 0))) := w_g (f := (2, (21, 0, 0))) hA (Cp_d0) rfl rfl
theorem Cp_g0_14 (hP : Cp_P lc fq ll) (hA : wok A (Cp_d lc fq ll) m) : pm_gf pm_tab (wput A (Cp_d lc fq ll) S h) (A (0, 0, 0)) 22 14 = some (.ref (A (22, 0, 0))) := w_g (f := (2, (22, 0, 0))) hA (Cp_d0) rfl rfl
theorem Cp_g0_15 (hP : Cp_P lc fq ll) (hA : wok A (Cp_d lc fq ll) m) : pm_gf pm_tab (wput A (Cp_d lc fq ll) S h) (A (0, 0, 0)) 22 15 = some (.ref (A (23, 0, 0))) := w_g (f := (2, (23, 0, 0))) hA (Cp_d0) rfl rfl
theorem Cp_g0_16 (hP : Cp_P lc fq ll) (hA : wok A (Cp_d lc fq ll) m) : pm_gf pm_tab (wput A (Cp_d lc fq ll) S h) (A (0, 0, 0)) 22 16 = some (.ref (A (7, 0, 0))) := w_g (f := (2, (7, 0, 0))) hA (Cp_d0) rfl rfl
theorem Cp_g0_17 (hP : Cp_P lc fq ll) (hA : wok A (Cp_d lc fq ll) m) : pm_gf pm_tab (wput A (Cp_d lc fq ll) S h) (A (0, 0, 0)) 22 17 = some (.ref (A (8, 0, 0))) := w_g (f := (2, (8, 0, 0))) hA (Cp_d0) rfl rfl
theorem Cp_g0_18 (hP : Cp_P lc fq ll) (hA : wok A (Cp_d lc fq ll) m) : pm_gf pm_tab (wput A (Cp_d lc fq ll) S h) (A (0, 0, 0)) 22 18 = some (.ref (A (9, 0, 0))) := w_g (f := (2, (9, 0, 0))) hA (Cp_d0) rfl rfl
theorem Cp_g0_19 (hP : Cp_P lc fq ll) (hA : wok A (Cp_d lc fq ll) m) : pm_gf pm_tab (wput A (Cp_d lc fq ll) S h) (A (0, 0, 0)) 22 19 = some (.ref (A (10, 0, 0))) := w_g (f := (2, (10, 0, 0))) hA (Cp_d0) rfl rfl
theorem Cp_g0_20 (hP : Cp_P lc fq ll) (hA : wok A (Cp_d lc fq ll) m) : pm_gf pm_tab (wput A (Cp_d lc fq ll) S h) (A (0, 0, 0)) 22 20 = some (.int (S.1 (0, 0, 0) 20)) := w_g (f := (0, (0, 0, 0))) hA (Cp_d0) rfl rfl
theorem Cp_p0_20 (hP : Cp_P lc fq ll) (hA : wok A (Cp_d lc fq ll) m) : pm_pf pm_tab (wput A (Cp_d lc fq ll) S h) (A (0, 0, 0)) 22 20 0 (.int v) = some (wput A (Cp_d lc fq ll) (sz S (0, 0, 0) 20 v) h) := w_p0 (q := (0, 0, 0)) (t := 0) hA (Cp_d0) rfl rfl (Nat.le_of_ble_eq_true rfl)
theorem Cp_g0_21 (hP : Cp_P lc fq ll) (hA : wok A (Cp_d lc fq ll) m) : pm_gf pm_tab (wput A (Cp_d lc fq ll) S h) (A (0, 0, 0)) 22 21 = some (.ref (A (12, 0, 0))) := w_g (f := (2, (12, 0, 0))) hA (Cp_d0) rfl rfl
theorem Cp_g0_22 (hP : Cp_P lc fq ll) (hA : wok A (Cp_d lc fq ll) m) : pm_gf pm_tab (wput A (Cp_d lc fq ll) S h) (A (0, 0, 0)) 22 22 = some (.ref (A (13, 0, 0))) := w_g (f := (2, (13, 0, 0))) hA (Cp_d0) rfl rfl
theorem Cp_g0_23 (hP : Cp_P lc fq ll) (hA : wok A (Cp_d lc fq ll) m) : pm_gf pm_tab (wput A (Cp_d lc fq ll) S h) (A (0, 0, 0)) 22 23 = some (.int (S.1 (0, 0, 0) 23)) := w_g (f := (0, (0, 0, 0))) hA (Cp_d0) rfl rfl
theorem Cp_p0_23 (hP : Cp_P lc fq ll) (hA : wok A (Cp_d lc fq ll) m) : pm_pf pm_tab (wput A (Cp_d lc fq ll) S h) (A (0, 0, 0)) 22 23 0 (.int v) = some (wput A (Cp_d lc fq ll) (sz S (0, 0, 0) 23 v) h) := w_p0 (q := (0, 0, 0)) (t := 0) hA (Cp_d0) rfl rfl (Nat.le_of_ble_eq_true rfl)
theorem Cp_g0_24 (hP : Cp_P lc fq ll) (hA : wok A (Cp_d lc fq ll) m) : pm_gf pm_tab (wput A (Cp_d lc fq ll) S h) (A (0, 0, 0)) 22 24 = some (.ref (A (14, 0, 0))) := w_g (f := (2, (14, 0, 0))) hA (Cp_d0) rfl rfl
theorem Cp_g0_25 (hP : Cp_P lc fq ll) (hA : wok A (Cp_d lc fq ll) m) : pm_gf pm_tab (wput A (Cp_d lc fq ll) S h) (A (0, 0, 0)) 22 25 = some (.int (S.1 (0, 0, 0) 25)) := w_g (f := (0, (0, 0, 0))) hA (Cp_d0) rfl rfl
theorem Cp_p0_25 (hP : Cp_P lc fq ll) (hA : wok A (Cp_d lc fq ll) m) : pm_pf pm_tab (wput A (Cp_d lc fq ll) S h) (A (0, 0, 0)) 22 25 0 (.int v) = some (wput A (Cp_d lc fq ll) (sz S (0, 0, 0) 25 v) h) := w_p0 (q := (0, 0, 0)) (t := 0) hA (Cp_d0) rfl rfl (Nat.le_of_ble_eq_true rfl)
theorem Cp_g0_26 (hP : Cp_P lc fq ll) (hA : wok A (Cp_d lc fq ll) m) : pm_gf pm_tab (wput A (Cp_d lc fq ll) S h) (A (0, 0, 0)) 22 26 = some (.ref (A (15, 0, 0))) := w_g (f := (2, (15, 0, 0))) hA (Cp_d0) rfl rfl
theorem Cp_g0_27 (hP : Cp_P lc fq ll) (hA : wok A (Cp_d lc fq ll) m) : pm_gf pm_tab (wput A (Cp_d lc fq ll) S h) (A (0, 0, 0)) 22 27 = some (.ref (A (16, 0, 0))) := w_g (f := (2, (16, 0, 0))) hA (Cp_d0) rfl rfl
theorem Cp_l1 (hP : Cp_P lc fq ll) (hA : wok A (Cp_d lc fq ll) m) : pm_len (wput A (Cp_d lc fq ll) S h) (A (1, 0, 0)) = some 240 := w_len hA (Cp_d1) (by decide)
theorem Cp_r1 (hP : Cp_P lc fq ll) (hA : wok A (Cp_d lc fq ll) m) (hx : 0 ≤ x ∧ x < 240) : pm_rd pm_isB (wput A (Cp_d lc fq ll) S h) (A (1, 0, 0)) x = some (S.1 (1, 0, 0) x) := (w_rd (t := .byte) hA (Cp_d1) rfl (by decide) (by decide)).trans (if_pos hx)
theorem Cp_w1 (hP : Cp_P lc fq ll) (hA : wok A (Cp_d lc fq ll) m) (hx : 0 ≤ x ∧ x < 240) : pm_wr pm_wB (wput A (Cp_d lc fq ll) S h) (A (1, 0, 0)) x v = some (wput A (Cp_d lc fq ll) (sz S (1, 0, 0) x (vp_nar .byte v)) h) := (w_wr (t := .byte) hA (Cp_d1) rfl (by decide) (by decide)).trans (if_pos hx)
theorem Cp_l2 (hP : Cp_P lc fq ll) (hA : wok A (Cp_d lc fq ll) m) : pm_len (wput A (Cp_d lc fq ll) S h) (A (2, 0, 0)) = some 16 := w_lenE hA (Cp_d2) (by decide)
theorem Cp_r2 (hP : Cp_P lc fq ll) (hA : wok A (Cp_d lc fq ll) m) (hx : 0 ≤ x ∧ x < 16) : pm_rdR (wput A (Cp_d lc fq ll) S h) (A (2, 0, 0)) x = some (we A 26 (S.1 (2, 0, 0) x)) := (w_rdE hA (Cp_d2) rfl (by decide)).trans (if_pos hx)
theorem Cp_w2 (hP : Cp_P lc fq ll) (hA : wok A (Cp_d lc fq ll) m) (hx : 0 ≤ x ∧ x < 16) (hv : 0 ≤ v ∧ v < lc) : pm_wrR pm_tab (wput A (Cp_d lc fq ll) S h) (A (2, 0, 0)) x (some (A (26, v, 0))) = some (wput A (Cp_d lc fq ll) (sz S (2, 0, 0) x v) h) := w_wrE hA (Cp_d2) rfl (by decide) (we_p (wz_lt hv)).symm (fun b hb => by
    cases hb; rw [show (wput A (Cp_d lc fq ll) S h).2.2 (A (26, v, 0)) = _ from wp_at hA (w_some (Cp_d26 hv)), wM_at (Cp_d26 hv)]; rfl) hx
theorem Cp_wN2 (hP : Cp_P lc fq ll) (hA : wok A (Cp_d lc fq ll) m) (hx : 0 ≤ x ∧ x < 16) : pm_wrR pm_tab (wput A (Cp_d lc fq ll) S h) (A (2, 0, 0)) x none = some (wput A (Cp_d lc fq ll) (sz S (2, 0, 0) x (-1)) h) := w_wrE hA (Cp_d2) rfl (by decide) we_m1.symm (fun b hb => by cases hb) hx
theorem Cp_l3 (hP : Cp_P lc fq ll) (hA : wok A (Cp_d lc fq ll) m) : pm_len (wput A (Cp_d lc fq ll) S h) (A (3, 0, 0)) = some 16 := w_lenE hA (Cp_d3) (by decide)
theorem Cp_r3 (hP : Cp_P lc fq ll) (hA : wok A (Cp_d lc fq ll) m) (hx : 0 ≤ x ∧ x < 16) : pm_rdR (wput A (Cp_d lc fq ll) S h) (A (3, 0, 0)) x = some (we A 26 (S.1 (3, 0, 0) x)) := (w_rdE hA (Cp_d3) rfl (by decide)).trans (if_pos hx)
theorem Cp_w3 (hP : Cp_P lc fq ll) (hA : wok A (Cp_d lc fq ll) m) (hx : 0 ≤ x ∧ x < 16) (hv : 0 ≤ v ∧ v < lc) : pm_wrR pm_tab (wput A (Cp_d lc fq ll) S h) (A (3, 0, 0)) x (some (A (26, v, 0))) = some (wput A (Cp_d lc fq ll) (sz S (3, 0, 0) x v) h) := w_wrE hA (Cp_d3) rfl (by decide) (we_p (wz_lt hv)).symm (fun b hb => by
    cases hb; rw [show (wput A (Cp_d lc fq ll) S h).2.2 (A (26, v, 0)) = _ from wp_at hA (w_some (Cp_d26 hv)), wM_at (Cp_d26 hv)]; rfl) hx
theorem Cp_wN3 (hP : Cp_P lc fq ll) (hA : wok A (Cp_d lc fq ll) m) (hx : 0 ≤ x ∧ x < 16) : pm_wrR pm_tab (wput A (Cp_d lc fq ll) S h) (A (3, 0, 0)) x none = some (wput A (Cp_d lc fq ll) (sz S (3, 0, 0) x (-1)) h) := w_wrE hA (Cp_d3) rfl (by decide) we_m1.symm (fun b hb => by cases hb) hx
theorem Cp_l4 (hP : Cp_P lc fq ll) (hA : wok A (Cp_d lc fq ll) m) : pm_len (wput A (Cp_d lc fq ll) S h) (A (4, 0, 0)) = some 240 := w_len hA (Cp_d4) (by decide)
theorem Cp_r4 (hP : Cp_P lc fq ll) (hA : wok A (Cp_d lc fq ll) m) (hx : 0 ≤ x ∧ x < 240) : pm_rd pm_isI (wput A (Cp_d lc fq ll) S h) (A (4, 0, 0)) x = some (S.1 (4, 0, 0) x) := (w_rd (t := .int) hA (Cp_d4) rfl (by decide) (by decide)).trans (if_pos hx)
theorem Cp_w4 (hP : Cp_P lc fq ll) (hA : wok A (Cp_d lc fq ll) m) (hx : 0 ≤ x ∧ x < 240) : pm_wr pm_wI (wput A (Cp_d lc fq ll) S h) (A (4, 0, 0)) x v = some (wput A (Cp_d lc fq ll) (sz S (4, 0, 0) x v) h) := (w_wr (t := .int) hA (Cp_d4) rfl (by decide) (by decide)).trans (if_pos hx)
theorem Cp_l5 (hP : Cp_P lc fq ll) (hA : wok A (Cp_d lc fq ll) m) : pm_len (wput A (Cp_d lc fq ll) S h) (A (5, 0, 0)) = some 26 := w_lenE hA (Cp_d5) (by decide)
theorem Cp_r5 (hP : Cp_P lc fq ll) (hA : wok A (Cp_d lc fq ll) m) (hx : 0 ≤ x ∧ x < 26) : pm_rdR (wput A (Cp_d lc fq ll) S h) (A (5, 0, 0)) x = some (we A 25 (S.1 (5, 0, 0) x)) := (w_rdE hA (Cp_d5) rfl (by decide)).trans (if_pos hx)
theorem Cp_w5 (hP : Cp_P lc fq ll) (hA : wok A (Cp_d lc fq ll) m) (hx : 0 ≤ x ∧ x < 26) (hv : 0 ≤ v ∧ v < fq) : pm_wrR pm_tab (wput A (Cp_d lc fq ll) S h) (A (5, 0, 0)) x (some (A (25, v, 0))) = some (wput A (Cp_d lc fq ll) (sz S (5, 0, 0) x v) h) := w_wrE hA (Cp_d5) rfl (by decide) (we_p (wz_lt hv)).symm (fun b hb => by
    cases hb; rw [show (wput A (Cp_d lc fq ll) S h).2.2 (A (25, v, 0)) = _ from wp_at hA (w_some (Cp_d25 hv)), wM_at (Cp_d25 hv)]; rfl) hx
theorem Cp_wN5 (hP : Cp_P lc fq ll) (hA : wok A (Cp_d lc fq ll) m) (hx : 0 ≤ x ∧ x < 26) : pm_wrR pm_tab (wput A (Cp_d lc fq ll) S h) (A (5, 0, 0)) x none = some (wput A (Cp_d lc fq ll) (sz S (5, 0, 0) x (-1)) h) := w_wrE hA (Cp_d5) rfl (by decide) we_m1.symm (fun b hb => by cases hb) hx
theorem Cp_l6 (hP : Cp_P lc fq ll) (hA : wok A (Cp_d lc fq ll) m) : pm_len (wput A (Cp_d lc fq ll) S h) (A (6, 0, 0)) = some 6 := w_lenR hA (Cp_d6) (by decide)
theorem Cp_r6 (hP : Cp_P lc fq ll) (hA : wok A (Cp_d lc fq ll) m) (hx : 0 ≤ x ∧ x < 6) : pm_rdR (wput A (Cp_d lc fq ll) S h) (A (6, 0, 0)) x = some (some (A (20, x, 0))) := ((w_rdR hA (Cp_d6) rfl (by decide)).trans (if_pos hx)).trans rfl
theorem Cp_l7 (hP : Cp_P lc fq ll) (hA : wok A (Cp_d lc fq ll) m) : pm_len (wput A (Cp_d lc fq ll) S h) (A (7, 0, 0)) = some 16 := w_lenR hA (Cp_d7) (by decide)
theorem Cp_r7 (hP : Cp_P lc fq ll) (hA : wok A (Cp_d lc fq ll) m) (hx : 0 ≤ x ∧ x < 16) : pm_rdR (wput A (Cp_d lc fq ll) S h) (A (7, 0, 0)) x = some (some (A (24, x, 0))) := ((w_rdR hA (Cp_d7) rfl (by decide)).trans (if_pos hx)).trans rfl
theorem Cp_l8 (hP : Cp_P lc fq ll) (hA : wok A (Cp_d lc fq ll) m) : pm_len (wput A (Cp_d lc fq ll) S h) (A (8, 0, 0)) = some 16 := w_len hA (Cp_d8) (by decide)
theorem Cp_r8 (hP : Cp_P lc fq ll) (hA : wok A (Cp_d lc fq ll) m) (hx : 0 ≤ x ∧ x < 16) : pm_rd pm_isI (wput A (Cp_d lc fq ll) S h) (A (8, 0, 0)) x = some (S.1 (8, 0, 0) x) := (w_rd (t := .int) hA (Cp_d8) rfl (by decide) (by decide)).trans (if_pos hx)
theorem Cp_w8 (hP : Cp_P lc fq ll) (hA : wok A (Cp_d lc fq ll) m) (hx : 0 ≤ x ∧ x < 16) : pm_wr pm_wI (wput A (Cp_d lc fq ll) S h) (A (8, 0, 0)) x v = some (wput A (Cp_d lc fq ll) (sz S (8, 0, 0) x v) h) := (w_wr (t := .int) hA (Cp_d8) rfl (by decide) (by decide)).trans (if_pos hx)
theorem Cp_l9 (hP : Cp_P lc fq ll) (hA : wok A (Cp_d lc fq ll) m) : pm_len (wput A (Cp_d lc fq ll) S h) (A (9, 0, 0)) = some 16 := w_len hA (Cp_d9) (by decide)
theorem Cp_r9 (hP : Cp_P lc fq ll) (hA : wok A (Cp_d lc fq ll) m) (hx : 0 ≤ x ∧ x < 16) : pm_rd pm_isI (wput A (Cp_d lc fq ll) S h) (A (9, 0, 0)) x = some (S.1 (9, 0, 0) x) := (w_rd (t := .int) hA (Cp_d9) rfl (by decide) (by decide)).trans (if_pos hx)
theorem Cp_w9 (hP : Cp_P lc fq ll) (hA : wok A (Cp_d lc fq ll) m) (hx : 0 ≤ x ∧ x < 16) : pm_wr pm_wI (wput A (Cp_d lc fq ll) S h) (A (9, 0, 0)) x v = some (wput A (Cp_d lc fq ll) (sz S (9, 0, 0) x v) h) := (w_wr (t := .int) hA (Cp_d9) rfl (by decide) (by decide)).trans (if_pos hx)
theorem Cp_l10 (hP : Cp_P lc fq ll) (hA : wok A (Cp_d lc fq ll) m) : pm_len (wput A (Cp_d lc fq ll) S h) (A (10, 0, 0)) = some 8 := w_lenR hA (Cp_d10) (by decide)
theorem Cp_r10 (hP : Cp_P lc fq ll) (hA : wok A (Cp_d lc fq ll) m) (hx : 0 ≤ x ∧ x < 8) : pm_rdR (wput A (Cp_d lc fq ll) S h) (A (10, 0, 0)) x = some (some (A (11, x, 0))) := ((w_rdR hA (Cp_d10) rfl (by decide)).trans (if_pos hx)).trans rfl
theorem Cp_l11 (hP : Cp_P lc fq ll) (hA : wok A (Cp_d lc fq ll) m) (h0 : 0 ≤ i ∧ i < 8) : pm_len (wput A (Cp_d lc fq ll) S h) (A (11, i, 0)) = some 3 := w_len hA (Cp_d11 h0) (by decide)
theorem Cp_r11 (hP : Cp_P lc fq ll) (hA : wok A (Cp_d lc fq ll) m) (h0 : 0 ≤ i ∧ i < 8) (hx : 0 ≤ x ∧ x < 3) : pm_rd pm_isI (wput A (Cp_d lc fq ll) S h) (A (11, i, 0)) x = some (S.1 (11, i, 0) x) := (w_rd (t := .int) hA (Cp_d11 h0) rfl (by decide) (by decide)).trans (if_pos hx)
theorem Cp_w11 (hP : Cp_P lc fq ll) (hA : wok A (Cp_d lc fq ll) m) (h0 : 0 ≤ i ∧ i < 8) (hx : 0 ≤ x ∧ x < 3) : pm_wr pm_wI (wput A (Cp_d lc fq ll) S h) (A (11, i, 0)) x v = some (wput A (Cp_d lc fq ll) (sz S (11, i, 0) x v) h) := (w_wr (t := .int) hA (Cp_d11 h0) rfl (by decide) (by decide)).trans (if_pos hx)
theorem Cp_l12 (hP : Cp_P lc fq ll) (hA : wok A (Cp_d lc fq ll) m) : pm_len (wput A (Cp_d lc fq ll) S h) (A (12, 0, 0)) = some 8 := w_len hA (Cp_d12) (by decide)
theorem Cp_r12 (hP : Cp_P lc fq ll) (hA : wok A (Cp_d lc fq ll) m) (hx : 0 ≤ x ∧ x < 8) : pm_rdL (wput A (Cp_d lc fq ll) S h) (A (12, 0, 0)) x = some (S.2 (12, 0, 0) x) := (w_rdL hA (Cp_d12) (by decide)).trans (if_pos hx)
theorem Cp_w12 (hP : Cp_P lc fq ll) (hA : wok A (Cp_d lc fq ll) m) (hx : 0 ≤ x ∧ x < 8) : pm_wrL (wput A (Cp_d lc fq ll) S h) (A (12, 0, 0)) x u = some (wput A (Cp_d lc fq ll) (sl S (12, 0, 0) x u) h) := (w_wrL hA (Cp_d12) (by decide)).trans (if_pos hx)
theorem Cp_l13 (hP : Cp_P lc fq ll) (hA : wok A (Cp_d lc fq ll) m) : pm_len (wput A (Cp_d lc fq ll) S h) (A (13, 0, 0)) = some 8 := w_len hA (Cp_d13) (by decide)
theorem Cp_r13 (hP : Cp_P lc fq ll) (hA : wok A (Cp_d lc fq ll) m) (hx : 0 ≤ x ∧ x < 8) : pm_rd pm_isI (wput A (Cp_d lc fq ll) S h) (A (13, 0, 0)) x = some (S.1 (13, 0, 0) x) := (w_rd (t := .int) hA (Cp_d13) rfl (by decide) (by decide)).trans (if_pos hx)
theorem Cp_w13 (hP : Cp_P lc fq ll) (hA : wok A (Cp_d lc fq ll) m) (hx : 0 ≤ x ∧ x < 8) : pm_wr pm_wI (wput A (Cp_d lc fq ll) S h) (A (13, 0, 0)) x v = some (wput A (Cp_d lc fq ll) (sz S (13, 0, 0) x v) h) := (w_wr (t := .int) hA (Cp_d13) rfl (by decide) (by decide)).trans (if_pos hx)
theorem Cp_l14 (hP : Cp_P lc fq ll) (hA : wok A (Cp_d lc fq ll) m) : pm_len (wput A (Cp_d lc fq ll) S h) (A (14, 0, 0)) = some 8 := w_len hA (Cp_d14) (by decide)
theorem Cp_r14 (hP : Cp_P lc fq ll) (hA : wok A (Cp_d lc fq ll) m) (hx : 0 ≤ x ∧ x < 8) : pm_rdL (wput A (Cp_d lc fq ll) S h) (A (14, 0, 0)) x = some (S.2 (14, 0, 0) x) := (w_rdL hA (Cp_d14) (by decide)).trans (if_pos hx)
theorem Cp_w14 (hP : Cp_P lc fq ll) (hA : wok A (Cp_d lc fq ll) m) (hx : 0 ≤ x ∧ x < 8) : pm_wrL (wput A (Cp_d lc fq ll) S h) (A (14, 0, 0)) x u = some (wput A (Cp_d lc fq ll) (sl S (14, 0, 0) x u) h) := (w_wrL hA (Cp_d14) (by decide)).trans (if_pos hx)
theorem Cp_l15 (hP : Cp_P lc fq ll) (hA : wok A (Cp_d lc fq ll) m) : pm_len (wput A (Cp_d lc fq ll) S h) (A (15, 0, 0)) = some 8 := w_len hA (Cp_d15) (by decide)
theorem Cp_r15 (hP : Cp_P lc fq ll) (hA : wok A (Cp_d lc fq ll) m) (hx : 0 ≤ x ∧ x < 8) : pm_rdL (wput A (Cp_d lc fq ll) S h) (A (15, 0, 0)) x = some (S.2 (15, 0, 0) x) := (w_rdL hA (Cp_d15) (by decide)).trans (if_pos hx)
theorem Cp_w15 (hP : Cp_P lc fq ll) (hA : wok A (Cp_d lc fq ll) m) (hx : 0 ≤ x ∧ x < 8) : pm_wrL (wput A (Cp_d lc fq ll) S h) (A (15, 0, 0)) x u = some (wput A (Cp_d lc fq ll) (sl S (15, 0, 0) x u) h) := (w_wrL hA (Cp_d15) (by decide)).trans (if_pos hx)
theorem Cp_l16 (hP : Cp_P lc fq ll) (hA : wok A (Cp_d lc fq ll) m) : pm_len (wput A (Cp_d lc fq ll) S h) (A (16, 0, 0)) = some 8 := w_len hA (Cp_d16) (by decide)
theorem Cp_r16 (hP : Cp_P lc fq ll) (hA : wok A (Cp_d lc fq ll) m) (hx : 0 ≤ x ∧ x < 8) : pm_rd pm_isI (wput A (Cp_d lc fq ll) S h) (A (16, 0, 0)) x = some (S.1 (16, 0, 0) x) := (w_rd (t := .int) hA (Cp_d16) rfl (by decide) (by decide)).trans (if_pos hx)
theorem Cp_w16 (hP : Cp_P lc fq ll) (hA : wok A (Cp_d lc fq ll) m) (hx : 0 ≤ x ∧ x < 8) : pm_wr pm_wI (wput A (Cp_d lc fq ll) S h) (A (16, 0, 0)) x v = some (wput A (Cp_d lc fq ll) (sz S (16, 0, 0) x v) h) := (w_wr (t := .int) hA (Cp_d16) rfl (by decide) (by decide)).trans (if_pos hx)
theorem Cp_c20 (hP : Cp_P lc fq ll) (hA : wok A (Cp_d lc fq ll) m) (h0 : 0 ≤ i ∧ i < 6) : pm_cls (wput A (Cp_d lc fq ll) S h) (A (20, i, 0)) = some 23 := w_cls hA (Cp_d20 h0)
theorem Cp_k20 {cl : pm_C} {k b c : Nat} {r : List Instr} {ls s : List Value} (hP : Cp_P lc fq ll) (hA : wok A (Cp_d lc fq ll) m) (h0 : 0 ≤ i ∧ i < 6) (h2 : pm_sub 23 c = true) : pm_ev pm_prog cl k b (.checkcast c :: r) ls (.ref (A (20, i, 0)) :: s) (wput A (Cp_d lc fq ll) S h) = pm_ev pm_prog cl k b r ls (.ref (A (20, i, 0)) :: s) (wput A (Cp_d lc fq ll) S h) := pe_checkcast (w_cls hA (Cp_d20 h0)) h2
theorem Cp_g20_0 (hP : Cp_P lc fq ll) (hA : wok A (Cp_d lc fq ll) m) (h0 : 0 ≤ i ∧ i < 6) : pm_gf pm_tab (wput A (Cp_d lc fq ll) S h) (A (20, i, 0)) 23 0 = some (.long (S.2 (20, i, 0) 0)) := w_g (f := (1, (0, 0, 0))) hA (Cp_d20 h0) rfl rfl
theorem Cp_p20_0 (hP : Cp_P lc fq ll) (hA : wok A (Cp_d lc fq ll) m) (h0 : 0 ≤ i ∧ i < 6) : pm_pf pm_tab (wput A (Cp_d lc fq ll) S h) (A (20, i, 0)) 23 0 1 (.long u) = some (wput A (Cp_d lc fq ll) (sl S (20, i, 0) 0 u) h) := w_p1 (q := (0, 0, 0)) hA (Cp_d20 h0) rfl rfl (Nat.le_of_ble_eq_true rfl)
theorem Cp_g20_1 (hP : Cp_P lc fq ll) (hA : wok A (Cp_d lc fq ll) m) (h0 : 0 ≤ i ∧ i < 6) : pm_gf pm_tab (wput A (Cp_d lc fq ll) S h) (A (20, i, 0)) 23 1 = some (.long (S.2 (20, i, 0) 1)) := w_g (f := (1, (0, 0, 0))) hA (Cp_d20 h0) rfl rfl
theorem Cp_p20_1 (hP : Cp_P lc fq ll) (hA : wok A (Cp_d lc fq ll) m) (h0 : 0 ≤ i ∧ i < 6) : pm_pf pm_tab (wput A (Cp_d lc fq ll) S h) (A (20, i, 0)) 23 1 1 (.long u) = some (wput A (Cp_d lc fq ll) (sl S (20, i, 0) 1 u) h) := w_p1 (q := (0, 0, 0)) hA (Cp_d20 h0) rfl rfl (Nat.le_of_ble_eq_true rfl)
theorem Cp_c21 (hP : Cp_P lc fq ll) (hA : wok A (Cp_d lc fq ll) m) : pm_cls (wput A (Cp_d lc fq ll) S h) (A (21, 0, 0)) = some 23 := w_cls hA (Cp_d21)
theorem Cp_k21 {cl : pm_C} {k b c : Nat} {r : List Instr} {ls s : List Value} (hP : Cp_P lc fq ll) (hA : wok A (Cp_d lc fq ll) m) (h2 : pm_sub 23 c = true) : pm_ev pm_prog cl k b (.checkcast c :: r) ls (.ref (A (21, 0, 0)) :: s) (wput A (Cp_d lc fq ll) S h) = pm_ev pm_prog cl k b r ls (.ref (A (21, 0, 0)) :: s) (wput A (Cp_d lc fq ll) S h) := pe_checkcast (w_cls hA (Cp_d21)) h2
theorem Cp_g21_0 (hP : Cp_P lc fq ll) (hA : wok A (Cp_d lc fq ll) m) : pm_gf pm_tab (wput A (Cp_d lc fq ll) S h) (A (21, 0, 0)) 23 0 = some (.long (S.2 (21, 0, 0) 0)) := w_g (f := (1, (0, 0, 0))) hA (Cp_d21) rfl rfl
theorem Cp_p21_0 (hP : Cp_P lc fq ll) (hA : wok A (Cp_d lc fq ll) m) : pm_pf pm_tab (wput A (Cp_d lc fq ll) S h) (A (21, 0, 0)) 23 0 1 (.long u) = some (wput A (Cp_d lc fq ll) (sl S (21, 0, 0) 0 u) h) := w_p1 (q := (0, 0, 0)) hA (Cp_d21) rfl rfl (Nat.le_of_ble_eq_true rfl)
theorem Cp_g21_1 (hP : Cp_P lc fq ll) (hA : wok A (Cp_d lc fq ll) m) : pm_gf pm_tab (wput A (Cp_d lc fq ll) S h) (A (21, 0, 0)) 23 1 = some (.long (S.2 (21, 0, 0) 1)) := w_g (f := (1, (0, 0, 0))) hA (Cp_d21) rfl rfl
theorem Cp_p21_1 (hP : Cp_P lc fq ll) (hA : wok A (Cp_d lc fq ll) m) : pm_pf pm_tab (wput A (Cp_d lc fq ll) S h) (A (21, 0, 0)) 23 1 1 (.long u) = some (wput A (Cp_d lc fq ll) (sl S (21, 0, 0) 1 u) h) := w_p1 (q := (0, 0, 0)) hA (Cp_d21) rfl rfl (Nat.le_of_ble_eq_true rfl)
theorem Cp_c22 (hP : Cp_P lc fq ll) (hA : wok A (Cp_d lc fq ll) m) : pm_cls (wput A (Cp_d lc fq ll) S h) (A (22, 0, 0)) = some 23 := w_cls hA (Cp_d22)
theorem Cp_k22 {cl : pm_C} {k b c : Nat} {r : List Instr} {ls s : List Value} (hP : Cp_P lc fq ll) (hA : wok A (Cp_d lc fq ll) m) (h2 : pm_sub 23 c = true) : pm_ev pm_prog cl k b (.checkcast c :: r) ls (.ref (A (22, 0, 0)) :: s) (wput A (Cp_d lc fq ll) S h) = pm_ev pm_prog cl k b r ls (.ref (A (22, 0, 0)) :: s) (wput A (Cp_d lc fq ll) S h) := pe_checkcast (w_cls hA (Cp_d22)) h2
theorem Cp_g22_0 (hP : Cp_P lc fq ll) (hA : wok A (Cp_d lc fq ll) m) : pm_gf pm_tab (wput A (Cp_d lc fq ll) S h) (A (22, 0, 0)) 23 0 = some (.long (S.2 (22, 0, 0) 0)) := w_g (f := (1, (0, 0, 0))) hA (Cp_d22) rfl rfl
theorem Cp_p22_0 (hP : Cp_P lc fq ll) (hA : wok A (Cp_d lc fq ll) m) : pm_pf pm_tab (wput A (Cp_d lc fq ll) S h) (A (22, 0, 0)) 23 0 1 (.long u) = some (wput A (Cp_d lc fq ll) (sl S (22, 0, 0) 0 u) h) := w_p1 (q := (0, 0, 0)) hA (Cp_d22) rfl rfl (Nat.le_of_ble_eq_true rfl)
theorem Cp_g22_1 (hP : Cp_P lc fq ll) (hA : wok A (Cp_d lc fq ll) m) : pm_gf pm_tab (wput A (Cp_d lc fq ll) S h) (A (22, 0, 0)) 23 1 = some (.long (S.2 (22, 0, 0) 1)) := w_g (f := (1, (0, 0, 0))) hA (Cp_d22) rfl rfl
theorem Cp_p22_1 (hP : Cp_P lc fq ll) (hA : wok A (Cp_d lc fq ll) m) : pm_pf pm_tab (wput A (Cp_d lc fq ll) S h) (A (22, 0, 0)) 23 1 1 (.long u) = some (wput A (Cp_d lc fq ll) (sl S (22, 0, 0) 1 u) h) := w_p1 (q := (0, 0, 0)) hA (Cp_d22) rfl rfl (Nat.le_of_ble_eq_true rfl)
theorem Cp_c23 (hP : Cp_P lc fq ll) (hA : wok A (Cp_d lc fq ll) m) : pm_cls (wput A (Cp_d lc fq ll) S h) (A (23, 0, 0)) = some 23 := w_cls hA (Cp_d23)
theorem Cp_k23 {cl : pm_C} {k b c : Nat} {r : List Instr} {ls s : List Value} (hP : Cp_P lc fq ll) (hA : wok A (Cp_d lc fq ll) m) (h2 : pm_sub 23 c = true) : pm_ev pm_prog cl k b (.checkcast c :: r) ls (.ref (A (23, 0, 0)) :: s) (wput A (Cp_d lc fq ll) S h) = pm_ev pm_prog cl k b r ls (.ref (A (23, 0, 0)) :: s) (wput A (Cp_d lc fq ll) S h) := pe_checkcast (w_cls hA (Cp_d23)) h2
theorem Cp_g23_0 (hP : Cp_P lc fq ll) (hA : wok A (Cp_d lc fq ll) m) : pm_gf pm_tab (wput A (Cp_d lc fq ll) S h) (A (23, 0, 0)) 23 0 = some (.long (S.2 (23, 0, 0) 0)) := w_g (f := (1, (0, 0, 0))) hA (Cp_d23) rfl rfl
theorem Cp_p23_0 (hP : Cp_P lc fq ll) (hA : wok A (Cp_d lc fq ll) m) : pm_pf pm_tab (wput A (Cp_d lc fq ll) S h) (A (23, 0, 0)) 23 0 1 (.long u) = some (wput A (Cp_d lc fq ll) (sl S (23, 0, 0) 0 u) h) := w_p1 (q := (0, 0, 0)) hA (Cp_d23) rfl rfl (Nat.le_of_ble_eq_true rfl)
theorem Cp_g23_1 (hP : Cp_P lc fq ll) (hA : wok A (Cp_d lc fq ll) m) : pm_gf pm_tab (wput A (Cp_d lc fq ll) S h) (A (23, 0, 0)) 23 1 = some (.long (S.2 (23, 0, 0) 1)) := w_g (f := (1, (0, 0, 0))) hA (Cp_d23) rfl rfl
theorem Cp_p23_1 (hP : Cp_P lc fq ll) (hA : wok A (Cp_d lc fq ll) m) : pm_pf pm_tab (wput A (Cp_d lc fq ll) S h) (A (23, 0, 0)) 23 1 1 (.long u) = some (wput A (Cp_d lc fq ll) (sl S (23, 0, 0) 1 u) h) := w_p1 (q := (0, 0, 0)) hA (Cp_d23) rfl rfl (Nat.le_of_ble_eq_true rfl)
theorem Cp_c24 (hP : Cp_P lc fq ll) (hA : wok A (Cp_d lc fq ll) m) (h0 : 0 ≤ i ∧ i < 16) : pm_cls (wput A (Cp_d lc fq ll) S h) (A (24, i, 0)) = some 23 := w_cls hA (Cp_d24 h0)
theorem Cp_k24 {cl : pm_C} {k b c : Nat} {r : List Instr} {ls s : List Value} (hP : Cp_P lc fq ll) (hA : wok A (Cp_d lc fq ll) m) (h0 : 0 ≤ i ∧ i < 16) (h2 : pm_sub 23 c = true) : pm_ev pm_prog cl k b (.checkcast c :: r) ls (.ref (A (24, i, 0)) :: s) (wput A (Cp_d lc fq ll) S h) = pm_ev pm_prog cl k b r ls (.ref (A (24, i, 0)) :: s) (wput A (Cp_d lc fq ll) S h) := pe_checkcast (w_cls hA (Cp_d24 h0)) h2
theorem Cp_g24_0 (hP : Cp_P lc fq ll) (hA : wok A (Cp_d lc fq ll) m) (h0 : 0 ≤ i ∧ i < 16) : pm_gf pm_tab (wput A (Cp_d lc fq ll) S h) (A (24, i, 0)) 23 0 = some (.long (S.2 (24, i, 0) 0)) := w_g (f := (1, (0, 0, 0))) hA (Cp_d24 h0) rfl rfl
theorem Cp_p24_0 (hP : Cp_P lc fq ll) (hA : wok A (Cp_d lc fq ll) m) (h0 : 0 ≤ i ∧ i < 16) : pm_pf pm_tab (wput A (Cp_d lc fq ll) S h) (A (24, i, 0)) 23 0 1 (.long u) = some (wput A (Cp_d lc fq ll) (sl S (24, i, 0) 0 u) h) := w_p1 (q := (0, 0, 0)) hA (Cp_d24 h0) rfl rfl (Nat.le_of_ble_eq_true rfl)
theorem Cp_g24_1 (hP : Cp_P lc fq ll) (hA : wok A (Cp_d lc fq ll) m) (h0 : 0 ≤ i ∧ i < 16) : pm_gf pm_tab (wput A (Cp_d lc fq ll) S h) (A (24, i, 0)) 23 1 = some (.long (S.2 (24, i, 0) 1)) := w_g (f := (1, (0, 0, 0))) hA (Cp_d24 h0) rfl rfl
theorem Cp_p24_1 (hP : Cp_P lc fq ll) (hA : wok A (Cp_d lc fq ll) m) (h0 : 0 ≤ i ∧ i < 16) : pm_pf pm_tab (wput A (Cp_d lc fq ll) S h) (A (24, i, 0)) 23 1 1 (.long u) = some (wput A (Cp_d lc fq ll) (sl S (24, i, 0) 1 u) h) := w_p1 (q := (0, 0, 0)) hA (Cp_d24 h0) rfl rfl (Nat.le_of_ble_eq_true rfl)
theorem Cp_c25 (hP : Cp_P lc fq ll) (hA : wok A (Cp_d lc fq ll) m) (h0 : 0 ≤ i ∧ i < fq) : pm_cls (wput A (Cp_d lc fq ll) S h) (A (25, i, 0)) = some 23 := w_cls hA (Cp_d25 h0)
theorem Cp_k25 {cl : pm_C} {k b c : Nat} {r : List Instr} {ls s : List Value} (hP : Cp_P lc fq ll) (hA : wok A (Cp_d lc fq ll) m) (h0 : 0 ≤ i ∧ i < fq) (h2 : pm_sub 23 c = true) : pm_ev pm_prog cl k b (.checkcast c :: r) ls (.ref (A (25, i, 0)) :: s) (wput A (Cp_d lc fq ll) S h) = pm_ev pm_prog cl k b r ls (.ref (A (25, i, 0)) :: s) (wput A (Cp_d lc fq ll) S h) := pe_checkcast (w_cls hA (Cp_d25 h0)) h2
theorem Cp_g25_0 (hP : Cp_P lc fq ll) (hA : wok A (Cp_d lc fq ll) m) (h0 : 0 ≤ i ∧ i < fq) : pm_gf pm_tab (wput A (Cp_d lc fq ll) S h) (A (25, i, 0)) 23 0 = some (.long (S.2 (25, i, 0) 0)) := w_g (f := (1, (0, 0, 0))) hA (Cp_d25 h0) rfl rfl
theorem Cp_p25_0 (hP : Cp_P lc fq ll) (hA : wok A (Cp_d lc fq ll) m) (h0 : 0 ≤ i ∧ i < fq) : pm_pf pm_tab (wput A (Cp_d lc fq ll) S h) (A (25, i, 0)) 23 0 1 (.long u) = some (wput A (Cp_d lc fq ll) (sl S (25, i, 0) 0 u) h) := w_p1 (q := (0, 0, 0)) hA (Cp_d25 h0) rfl rfl (Nat.le_of_ble_eq_true rfl)
theorem Cp_g25_1 (hP : Cp_P lc fq ll) (hA : wok A (Cp_d lc fq ll) m) (h0 : 0 ≤ i ∧ i < fq) : pm_gf pm_tab (wput A (Cp_d lc fq ll) S h) (A (25, i, 0)) 23 1 = some (.long (S.2 (25, i, 0) 1)) := w_g (f := (1, (0, 0, 0))) hA (Cp_d25 h0) rfl rfl
theorem Cp_p25_1 (hP : Cp_P lc fq ll) (hA : wok A (Cp_d lc fq ll) m) (h0 : 0 ≤ i ∧ i < fq) : pm_pf pm_tab (wput A (Cp_d lc fq ll) S h) (A (25, i, 0)) 23 1 1 (.long u) = some (wput A (Cp_d lc fq ll) (sl S (25, i, 0) 1 u) h) := w_p1 (q := (0, 0, 0)) hA (Cp_d25 h0) rfl rfl (Nat.le_of_ble_eq_true rfl)
theorem Cp_c26 (hP : Cp_P lc fq ll) (hA : wok A (Cp_d lc fq ll) m) (h0 : 0 ≤ i ∧ i < lc) : pm_cls (wput A (Cp_d lc fq ll) S h) (A (26, i, 0)) = some 56 := w_cls hA (Cp_d26 h0)
theorem Cp_k26 {cl : pm_C} {k b c : Nat} {r : List Instr} {ls s : List Value} (hP : Cp_P lc fq ll) (hA : wok A (Cp_d lc fq ll) m) (h0 : 0 ≤ i ∧ i < lc) (h2 : pm_sub 56 c = true) : pm_ev pm_prog cl k b (.checkcast c :: r) ls (.ref (A (26, i, 0)) :: s) (wput A (Cp_d lc fq ll) S h) = pm_ev pm_prog cl k b r ls (.ref (A (26, i, 0)) :: s) (wput A (Cp_d lc fq ll) S h) := pe_checkcast (w_cls hA (Cp_d26 h0)) h2
theorem Cp_g26_0 (hP : Cp_P lc fq ll) (hA : wok A (Cp_d lc fq ll) m) (h0 : 0 ≤ i ∧ i < lc) : pm_gf pm_tab (wput A (Cp_d lc fq ll) S h) (A (26, i, 0)) 56 0 = some (.ref (A (27, i, 0))) := w_g (f := (2, (27, i, 0))) hA (Cp_d26 h0) rfl rfl
theorem Cp_g26_1 (hP : Cp_P lc fq ll) (hA : wok A (Cp_d lc fq ll) m) (h0 : 0 ≤ i ∧ i < lc) : pm_gf pm_tab (wput A (Cp_d lc fq ll) S h) (A (26, i, 0)) 56 1 = some (.int (S.1 (26, i, 0) 1)) := w_g (f := (0, (0, 0, 0))) hA (Cp_d26 h0) rfl rfl
theorem Cp_l27 (hP : Cp_P lc fq ll) (hA : wok A (Cp_d lc fq ll) m) (h0 : 0 ≤ i ∧ i < lc) : pm_len (wput A (Cp_d lc fq ll) S h) (A (27, i, 0)) = some (wn (ll i)) := w_len hA (Cp_d27 h0) (by decide)
theorem Cp_r27 (hP : Cp_P lc fq ll) (hA : wok A (Cp_d lc fq ll) m) (h0 : 0 ≤ i ∧ i < lc) (hx : 0 ≤ x ∧ x < (ll i)) : pm_rd pm_isI (wput A (Cp_d lc fq ll) S h) (A (27, i, 0)) x = some (S.1 (27, i, 0) x) := (w_rd (t := .int) hA (Cp_d27 h0) rfl (by decide) (wn_le _)).trans (if_pos (wn_in (hP.2.2 i) hx))
theorem Cp_w27 (hP : Cp_P lc fq ll) (hA : wok A (Cp_d lc fq ll) m) (h0 : 0 ≤ i ∧ i < lc) (hx : 0 ≤ x ∧ x < (ll i)) : pm_wr pm_wI (wput A (Cp_d lc fq ll) S h) (A (27, i, 0)) x v = some (wput A (Cp_d lc fq ll) (sz S (27, i, 0) x v) h) := (w_wr (t := .int) hA (Cp_d27 h0) rfl (by decide) (wn_le _)).trans (if_pos (wn_in (hP.2.2 i) hx))
end
/-- TimberHouse$PriceLines.isIn(JJJ)Z -/
theorem c1411 {d : Nat} {h : pm_H} {x0 : Int64} {x1 : Int64} {x2 : Int64} : pm_call pm_prog (d + 1) 1411 [.long x0, .long x1, .long x2] h = pm_ev pm_prog (pm_call pm_prog d) 1411 0 b1411_0 [.long x0, pm_junk, .long x1, pm_junk, .long x2, pm_junk] [] h := pm_cal (pm_rc0 rfl) rfl rfl rfl
theorem g1411_1 {cl : pm_C} {ls st : List Value} {h : pm_H} : pm_go pm_prog cl 1411 1 ls st h = pm_ev pm_prog cl 1411 1 b1411_1 ls st h := pm_go_eq pm_prog cl 1411 1 ls st h
theorem g1411_2 {cl : pm_C} {ls st : List Value} {h : pm_H} : pm_go pm_prog cl 1411 2 ls st h = pm_ev pm_prog cl 1411 2 b1411_2 ls st h := pm_go_eq pm_prog cl 1411 2 ls st h
/-- TimberHouse$PriceLines.isIn(JJJ)Z -/
noncomputable def f1411 (x0 : Int64) (x2 : Int64) (x4 : Int64) : Option (Int32) :=
  if x0 < x2 then
    some 0
  else
    if x0 ≤ x4 then
      some 1
    else
      some 0
theorem x1411 {h : pm_H} {D : Nat} {x0 : Int64} {x2 : Int64} {x4 : Int64} {r : Int32} (hD : 1 ≤ D) (e : f1411 x0 x2 x4 = some r) : pm_call pm_prog D 1411 [.long x0, .long x2, .long x4] h = some (Outcome.returned (some (.int r)), h) := by
  obtain ⟨D, rfl⟩ : ∃ D', D = D' + 1 := ⟨D - 1, by omega⟩
  have hD : 0 ≤ D := by omega
  simp only [f1411] at e
  rw [c1411, b1411_0]
  by_cases k1 : x0 < x2
  · rw [if_pos k1] at e
    have e := Option.some.inj e; subst e
    simp -implicitDefEqProofs (disch := first | assumption | exact Nat.le_of_ble_eq_true rfl | decide) only [b1411_0, g1411_1, b1411_1, g1411_2, b1411_2, pe_lload0, pe_lload2, pe_lcmp, pe_if_lt, pe_lload4, pe_if_gt, pe_sipush, pe_goto, pe_goto_w, pe_aastoreN, pe_areturnN, pe_null, pm_prog_1, pm_ob_some, Nat.reduceDiv, Nat.reduceMod, Nat.reduceMul, Nat.reduceAdd, Int.reduceToNat, pm_kill_i, pm_kill_r, pm_kill_n, pm_kill_j, pm_kill_l, pm_kill_d, pm_cats_nil, pm_cats_i, pm_cats_r, pm_cats_n, pm_cats_l, pm_cats_d, sz_1, sz_2, sl_1, sl_2, lc_0, lc_lt, lc_le, li_ne, va_rf, wr_m1, we_m1, pm_kill_w, Int32.reduceOfInt, Int64.reduceOfInt, Int32.reduceOfNat, Int32.reduceLT, Int32.reduceLE, Prod.mk.injEq, Nat.reduceEqDiff, reduceCtorEq, and_true, true_and, and_false, false_and, and_self, ite_true, ite_false, ↓reduceIte, not_true_eq_false, not_false_eq_true, pe_ri, pe_rz, pe_rc, eq_true k1]
  · rw [if_neg k1] at e
    by_cases k2 : x0 ≤ x4
    · rw [if_pos k2] at e
      have e := Option.some.inj e; subst e
      simp -implicitDefEqProofs (disch := first | assumption | exact Nat.le_of_ble_eq_true rfl | decide) only [b1411_0, g1411_1, b1411_1, g1411_2, b1411_2, pe_lload0, pe_lload2, pe_lcmp, pe_if_lt, pe_lload4, pe_if_gt, pe_sipush, pe_goto, pe_goto_w, pe_aastoreN, pe_areturnN, pe_null, pm_prog_1, pm_ob_some, Nat.reduceDiv, Nat.reduceMod, Nat.reduceMul, Nat.reduceAdd, Int.reduceToNat, pm_kill_i, pm_kill_r, pm_kill_n, pm_kill_j, pm_kill_l, pm_kill_d, pm_cats_nil, pm_cats_i, pm_cats_r, pm_cats_n, pm_cats_l, pm_cats_d, sz_1, sz_2, sl_1, sl_2, lc_0, lc_lt, lc_le, li_ne, va_rf, wr_m1, we_m1, pm_kill_w, Int32.reduceOfInt, Int64.reduceOfInt, Int32.reduceOfNat, Int32.reduceLT, Int32.reduceLE, Prod.mk.injEq, Nat.reduceEqDiff, reduceCtorEq, and_true, true_and, and_false, false_and, and_self, ite_true, ite_false, ↓reduceIte, not_true_eq_false, not_false_eq_true, pe_ri, pe_rz, pe_rc, eq_false k1, eq_true k2]
    · rw [if_neg k2] at e
      have e := Option.some.inj e; subst e
      simp -implicitDefEqProofs (disch := first | assumption | exact Nat.le_of_ble_eq_true rfl | decide) only [b1411_0, g1411_1, b1411_1, g1411_2, b1411_2, pe_lload0, pe_lload2, pe_lcmp, pe_if_lt, pe_lload4, pe_if_gt, pe_sipush, pe_goto, pe_goto_w, pe_aastoreN, pe_areturnN, pe_null, pm_prog_1, pm_ob_some, Nat.reduceDiv, Nat.reduceMod, Nat.reduceMul, Nat.reduceAdd, Int.reduceToNat, pm_kill_i, pm_kill_r, pm_kill_n, pm_kill_j, pm_kill_l, pm_kill_d, pm_cats_nil, pm_cats_i, pm_cats_r, pm_cats_n, pm_cats_l, pm_cats_d, sz_1, sz_2, sl_1, sl_2, lc_0, lc_lt, lc_le, li_ne, va_rf, wr_m1, we_m1, pm_kill_w, Int32.reduceOfInt, Int64.reduceOfInt, Int32.reduceOfNat, Int32.reduceLT, Int32.reduceLE, Prod.mk.injEq, Nat.reduceEqDiff, reduceCtorEq, and_true, true_and, and_false, false_and, and_self, ite_true, ite_false, ↓reduceIte, not_true_eq_false, not_false_eq_true, pe_ri, pe_rz, pe_rc, eq_false k1, eq_false k2]
/-- TimberHouse$PriceLines.there(Z)V -/
theorem c1412 {d : Nat} {h : pm_H} {x0 : Int32} : pm_call pm_prog (d + 1) 1412 [.int x0] h = pm_ev pm_prog (pm_call pm_prog d) 1412 0 b1412_0 [.int x0] [] h := pm_cal (pm_rc0 rfl) rfl rfl rfl
theorem g1412_1 {cl : pm_C} {ls st : List Value} {h : pm_H} : pm_go pm_prog cl 1412 1 ls st h = pm_ev pm_prog cl 1412 1 b1412_1 ls st h := pm_go_eq pm_prog cl 1412 1 ls st h
theorem t1412 {cl : pm_C} {j : Nat} {ls : List Value} {c : Nat} {h : pm_H} : pm_thr pm_prog cl 1412 j ls c h = some (.threw c, h) := rfl
/-- TimberHouse$PriceLines.there(Z)V -/
noncomputable def f1412 (x0 : Int32) : Option (Nat ⊕ (Unit)) :=
  if x0 = 0 then
    some (.inl 67)
  else
    some (.inr ())
theorem x1412 {h : pm_H} {D : Nat} {x0 : Int32} {r : Nat ⊕ (Unit)} (hD : 1 ≤ D) (e : f1412 x0 = some r) : pm_call pm_prog D 1412 [.int x0] h = some (match (generalizing := false) r with | .inl c => (Outcome.threw c, (pm_new h 6 (.inr (c, [])))) | .inr _ => (Outcome.returned none, h)) := by
  obtain ⟨D, rfl⟩ : ∃ D', D = D' + 1 := ⟨D - 1, by omega⟩
  have hD : 0 ≤ D := by omega
  simp only [f1412] at e
  rw [c1412, b1412_0]
  by_cases k1 : x0 = 0
  · rw [if_pos k1] at e
    have e := Option.some.inj e; subst e
    simp -implicitDefEqProofs (disch := first | assumption | exact Nat.le_of_ble_eq_true rfl | decide) only [b1412_0, g1412_1, b1412_1, pe_iload0, pe_if_ne, pe_return, pe_aastoreN, pe_areturnN, pe_null, pm_prog_1, pm_ob_some, Nat.reduceDiv, Nat.reduceMod, Nat.reduceMul, Nat.reduceAdd, Int.reduceToNat, pm_kill_i, pm_kill_r, pm_kill_n, pm_kill_j, pm_kill_l, pm_kill_d, pm_cats_nil, pm_cats_i, pm_cats_r, pm_cats_n, pm_cats_l, pm_cats_d, sz_1, sz_2, sl_1, sl_2, lc_0, lc_lt, lc_le, li_ne, va_rf, wr_m1, we_m1, pm_kill_w, Int32.reduceOfInt, Int64.reduceOfInt, Int32.reduceOfNat, Int32.reduceLT, Int32.reduceLE, Prod.mk.injEq, Nat.reduceEqDiff, reduceCtorEq, and_true, true_and, and_false, false_and, and_self, ite_true, ite_false, ↓reduceIte, not_true_eq_false, not_false_eq_true, pe_ri, pe_rz, pe_rc, p_throw, t1412, eq_true k1]
  · rw [if_neg k1] at e
    have e := Option.some.inj e; subst e
    simp -implicitDefEqProofs (disch := first | assumption | exact Nat.le_of_ble_eq_true rfl | decide) only [b1412_0, g1412_1, b1412_1, pe_iload0, pe_if_ne, pe_return, pe_aastoreN, pe_areturnN, pe_null, pm_prog_1, pm_ob_some, Nat.reduceDiv, Nat.reduceMod, Nat.reduceMul, Nat.reduceAdd, Int.reduceToNat, pm_kill_i, pm_kill_r, pm_kill_n, pm_kill_j, pm_kill_l, pm_kill_d, pm_cats_nil, pm_cats_i, pm_cats_r, pm_cats_n, pm_cats_l, pm_cats_d, sz_1, sz_2, sl_1, sl_2, lc_0, lc_lt, lc_le, li_ne, va_rf, wr_m1, we_m1, pm_kill_w, Int32.reduceOfInt, Int64.reduceOfInt, Int32.reduceOfNat, Int32.reduceLT, Int32.reduceLE, Prod.mk.injEq, Nat.reduceEqDiff, reduceCtorEq, and_true, true_and, and_false, false_and, and_self, ite_true, ite_false, ↓reduceIte, not_true_eq_false, not_false_eq_true, pe_ri, pe_rz, pe_rc, p_throw, t1412, eq_false k1]
/-- TimberHouse$PriceLines.letter(I)I -/
theorem c1410 {d : Nat} {h : pm_H} {x0 : Int32} : pm_call pm_prog (d + 1) 1410 [.int x0] h = pm_ev pm_prog (pm_call pm_prog d) 1410 0 b1410_0 [.int x0] [] h := pm_cal (pm_rc0 rfl) rfl rfl rfl
theorem g1410_1 {cl : pm_C} {ls st : List Value} {h : pm_H} : pm_go pm_prog cl 1410 1 ls st h = pm_ev pm_prog cl 1410 1 b1410_1 ls st h := pm_go_eq pm_prog cl 1410 1 ls st h
theorem g1410_2 {cl : pm_C} {ls st : List Value} {h : pm_H} : pm_go pm_prog cl 1410 2 ls st h = pm_ev pm_prog cl 1410 2 b1410_2 ls st h := pm_go_eq pm_prog cl 1410 2 ls st h
theorem t1410 {cl : pm_C} {j : Nat} {ls : List Value} {c : Nat} {h : pm_H} : pm_thr pm_prog cl 1410 j ls c h = some (.threw c, h) := rfl
noncomputable def f1410_2 (x0 : Int32) (y0 : Int32) : Option (Nat ⊕ (Int32)) :=
  (f1412 y0).bind fun r => match r with
  | .inl c2 =>
    some (.inl c2)
  | .inr _ =>
  some (.inr (x0 - 97))
/-- TimberHouse$PriceLines.letter(I)I -/
noncomputable def f1410 (x0 : Int32) : Option (Nat ⊕ (Int32)) :=
  (f1411 (Int32.toInt64 x0) 97 122).bind fun v1 =>
  if v1 = 0 then
    f1410_2 x0 0
  else
    if x0 = 114 then
      f1410_2 x0 0
    else
      f1410_2 x0 1
theorem y1410_2 {h : pm_H} {D : Nat} {x0 : Int32} {y0 : Int32} {r : Nat ⊕ (Int32)} (hD : 1 ≤ D) (e : f1410_2 x0 y0 = some r) : pm_go pm_prog (pm_call pm_prog D) 1410 2 [.int x0] [.int y0] h = some (match (generalizing := false) r with | .inl c => (Outcome.threw c, (pm_new h 6 (.inr (c, [])))) | .inr w0 => (Outcome.returned (some (.int w0)), h)) := by
  simp only [f1410_2] at e
  rw [g1410_2, b1410_2]
  obtain ⟨r, k1, e⟩ := Option.bind_eq_some_iff.mp e
  have z1 := fun h => x1412 (D := D) (h := h) (by omega) k1
  rcases r with c2 | _
  · dsimp only at e z1
    have e := Option.some.inj e; subst e
    simp -implicitDefEqProofs (disch := first | assumption | exact Nat.le_of_ble_eq_true rfl | decide) only [b1410_0, g1410_1, b1410_1, pe_iload0, pe_i2l, pe_bipush, pe_call3, pm_af_ret, pm_af_void, pm_af_thr, pe_if_eq, pe_sipush, pe_icmp_eq, pe_goto, pe_goto_w, pe_call1, pe_isub, pe_aastoreN, pe_areturnN, pe_null, pm_prog_1, pm_ob_some, Nat.reduceDiv, Nat.reduceMod, Nat.reduceMul, Nat.reduceAdd, Int.reduceToNat, pm_kill_i, pm_kill_r, pm_kill_n, pm_kill_j, pm_kill_l, pm_kill_d, pm_cats_nil, pm_cats_i, pm_cats_r, pm_cats_n, pm_cats_l, pm_cats_d, sz_1, sz_2, sl_1, sl_2, lc_0, lc_lt, lc_le, li_ne, va_rf, wr_m1, we_m1, pm_kill_w, Int32.reduceOfInt, Int64.reduceOfInt, Int32.reduceOfNat, Int32.reduceLT, Int32.reduceLE, Prod.mk.injEq, Nat.reduceEqDiff, reduceCtorEq, and_true, true_and, and_false, false_and, and_self, ite_true, ite_false, ↓reduceIte, not_true_eq_false, not_false_eq_true, pe_ri, pe_rz, pe_rc, p_throw, t1410, z1]
  · dsimp only at e z1
    have e := Option.some.inj e; subst e
    simp -implicitDefEqProofs (disch := first | assumption | exact Nat.le_of_ble_eq_true rfl | decide) only [b1410_0, g1410_1, b1410_1, pe_iload0, pe_i2l, pe_bipush, pe_call3, pm_af_ret, pm_af_void, pm_af_thr, pe_if_eq, pe_sipush, pe_icmp_eq, pe_goto, pe_goto_w, pe_call1, pe_isub, pe_aastoreN, pe_areturnN, pe_null, pm_prog_1, pm_ob_some, Nat.reduceDiv, Nat.reduceMod, Nat.reduceMul, Nat.reduceAdd, Int.reduceToNat, pm_kill_i, pm_kill_r, pm_kill_n, pm_kill_j, pm_kill_l, pm_kill_d, pm_cats_nil, pm_cats_i, pm_cats_r, pm_cats_n, pm_cats_l, pm_cats_d, sz_1, sz_2, sl_1, sl_2, lc_0, lc_lt, lc_le, li_ne, va_rf, wr_m1, we_m1, pm_kill_w, Int32.reduceOfInt, Int64.reduceOfInt, Int32.reduceOfNat, Int32.reduceLT, Int32.reduceLE, Prod.mk.injEq, Nat.reduceEqDiff, reduceCtorEq, and_true, true_and, and_false, false_and, and_self, ite_true, ite_false, ↓reduceIte, not_true_eq_false, not_false_eq_true, pe_ri, pe_rz, pe_rc, p_throw, t1410, z1]
theorem x1410 {h : pm_H} {D : Nat} {x0 : Int32} {r : Nat ⊕ (Int32)} (hD : 2 ≤ D) (e : f1410 x0 = some r) : pm_call pm_prog D 1410 [.int x0] h = some (match (generalizing := false) r with | .inl c => (Outcome.threw c, (pm_new h 6 (.inr (c, [])))) | .inr w0 => (Outcome.returned (some (.int w0)), h)) := by
  obtain ⟨D, rfl⟩ : ∃ D', D = D' + 1 := ⟨D - 1, by omega⟩
  have hD : 1 ≤ D := by omega
  simp only [f1410] at e
  rw [c1410, b1410_0]
  obtain ⟨v1, k1, e⟩ := Option.bind_eq_some_iff.mp e
  try dsimp only at e
  have z1 := fun h => x1411 (D := D) (h := h) (by omega) k1
  by_cases k2 : v1 = 0
  · rw [if_pos k2] at e
    have k3 := y1410_2 (h := h) hD e
    simp -implicitDefEqProofs (disch := first | assumption | exact Nat.le_of_ble_eq_true rfl | decide) only [b1410_0, g1410_1, b1410_1, pe_iload0, pe_i2l, pe_bipush, pe_call3, pm_af_ret, pm_af_void, pm_af_thr, pe_if_eq, pe_sipush, pe_icmp_eq, pe_goto, pe_goto_w, pe_call1, pe_isub, pe_aastoreN, pe_areturnN, pe_null, pm_prog_1, pm_ob_some, Nat.reduceDiv, Nat.reduceMod, Nat.reduceMul, Nat.reduceAdd, Int.reduceToNat, pm_kill_i, pm_kill_r, pm_kill_n, pm_kill_j, pm_kill_l, pm_kill_d, pm_cats_nil, pm_cats_i, pm_cats_r, pm_cats_n, pm_cats_l, pm_cats_d, sz_1, sz_2, sl_1, sl_2, lc_0, lc_lt, lc_le, li_ne, va_rf, wr_m1, we_m1, pm_kill_w, Int32.reduceOfInt, Int64.reduceOfInt, Int32.reduceOfNat, Int32.reduceLT, Int32.reduceLE, Prod.mk.injEq, Nat.reduceEqDiff, reduceCtorEq, and_true, true_and, and_false, false_and, and_self, ite_true, ite_false, ↓reduceIte, not_true_eq_false, not_false_eq_true, pe_ri, pe_rz, pe_rc, p_throw, t1410, z1, eq_true k2, k3]
  · rw [if_neg k2] at e
    by_cases k4 : x0 = 114
    · rw [if_pos k4] at e
      have k5 := y1410_2 (h := h) hD e
      simp -implicitDefEqProofs (disch := first | assumption | exact Nat.le_of_ble_eq_true rfl | decide) only [b1410_0, g1410_1, b1410_1, pe_iload0, pe_i2l, pe_bipush, pe_call3, pm_af_ret, pm_af_void, pm_af_thr, pe_if_eq, pe_sipush, pe_icmp_eq, pe_goto, pe_goto_w, pe_call1, pe_isub, pe_aastoreN, pe_areturnN, pe_null, pm_prog_1, pm_ob_some, Nat.reduceDiv, Nat.reduceMod, Nat.reduceMul, Nat.reduceAdd, Int.reduceToNat, pm_kill_i, pm_kill_r, pm_kill_n, pm_kill_j, pm_kill_l, pm_kill_d, pm_cats_nil, pm_cats_i, pm_cats_r, pm_cats_n, pm_cats_l, pm_cats_d, sz_1, sz_2, sl_1, sl_2, lc_0, lc_lt, lc_le, li_ne, va_rf, wr_m1, we_m1, pm_kill_w, Int32.reduceOfInt, Int64.reduceOfInt, Int32.reduceOfNat, Int32.reduceLT, Int32.reduceLE, Prod.mk.injEq, Nat.reduceEqDiff, reduceCtorEq, and_true, true_and, and_false, false_and, and_self, ite_true, ite_false, ↓reduceIte, not_true_eq_false, not_false_eq_true, pe_ri, pe_rz, pe_rc, p_throw, t1410, z1, eq_false k2, eq_true k4, k5]
    · rw [if_neg k4] at e
      have k6 := y1410_2 (h := h) hD e
      simp -implicitDefEqProofs (disch := first | assumption | exact Nat.le_of_ble_eq_true rfl | decide) only [b1410_0, g1410_1, b1410_1, pe_iload0, pe_i2l, pe_bipush, pe_call3, pm_af_ret, pm_af_void, pm_af_thr, pe_if_eq, pe_sipush, pe_icmp_eq, pe_goto, pe_goto_w, pe_call1, pe_isub, pe_aastoreN, pe_areturnN, pe_null, pm_prog_1, pm_ob_some, Nat.reduceDiv, Nat.reduceMod, Nat.reduceMul, Nat.reduceAdd, Int.reduceToNat, pm_kill_i, pm_kill_r, pm_kill_n, pm_kill_j, pm_kill_l, pm_kill_d, pm_cats_nil, pm_cats_i, pm_cats_r, pm_cats_n, pm_cats_l, pm_cats_d, sz_1, sz_2, sl_1, sl_2, lc_0, lc_lt, lc_le, li_ne, va_rf, wr_m1, we_m1, pm_kill_w, Int32.reduceOfInt, Int64.reduceOfInt, Int32.reduceOfNat, Int32.reduceLT, Int32.reduceLE, Prod.mk.injEq, Nat.reduceEqDiff, reduceCtorEq, and_true, true_and, and_false, false_and, and_self, ite_true, ite_false, ↓reduceIte, not_true_eq_false, not_false_eq_true, pe_ri, pe_rz, pe_rc, p_throw, t1410, z1, eq_false k2, eq_false k4, k6]
/-- TimberHouse$PriceLines.proper(Z)V -/
theorem c1414 {d : Nat} {h : pm_H} {x0 : Int32} : pm_call pm_prog (d + 1) 1414 [.int x0] h = pm_ev pm_prog (pm_call pm_prog d) 1414 0 b1414_0 [.int x0] [] h := pm_cal (pm_rc0 rfl) rfl rfl rfl
theorem g1414_1 {cl : pm_C} {ls st : List Value} {h : pm_H} : pm_go pm_prog cl 1414 1 ls st h = pm_ev pm_prog cl 1414 1 b1414_1 ls st h := pm_go_eq pm_prog cl 1414 1 ls st h
theorem t1414 {cl : pm_C} {j : Nat} {ls : List Value} {c : Nat} {h : pm_H} : pm_thr pm_prog cl 1414 j ls c h = some (.threw c, h) := rfl
/-- TimberHouse$PriceLines.proper(Z)V -/
noncomputable def f1414 (x0 : Int32) : Option (Nat ⊕ (Unit)) :=
  if x0 = 0 then
    some (.inl 70)
  else
    some (.inr ())
theorem x1414 {h : pm_H} {D : Nat} {x0 : Int32} {r : Nat ⊕ (Unit)} (hD : 1 ≤ D) (e : f1414 x0 = some r) : pm_call pm_prog D 1414 [.int x0] h = some (match (generalizing := false) r with | .inl c => (Outcome.threw c, (pm_new h 6 (.inr (c, [])))) | .inr _ => (Outcome.returned none, h)) := by
  obtain ⟨D, rfl⟩ : ∃ D', D = D' + 1 := ⟨D - 1, by omega⟩
  have hD : 0 ≤ D := by omega
  simp only [f1414] at e
  rw [c1414, b1414_0]
  by_cases k1 : x0 = 0
  · rw [if_pos k1] at e
    have e := Option.some.inj e; subst e
    simp -implicitDefEqProofs (disch := first | assumption | exact Nat.le_of_ble_eq_true rfl | decide) only [b1414_0, g1414_1, b1414_1, pe_iload0, pe_if_ne, pe_return, pe_aastoreN, pe_areturnN, pe_null, pm_prog_1, pm_ob_some, Nat.reduceDiv, Nat.reduceMod, Nat.reduceMul, Nat.reduceAdd, Int.reduceToNat, pm_kill_i, pm_kill_r, pm_kill_n, pm_kill_j, pm_kill_l, pm_kill_d, pm_cats_nil, pm_cats_i, pm_cats_r, pm_cats_n, pm_cats_l, pm_cats_d, sz_1, sz_2, sl_1, sl_2, lc_0, lc_lt, lc_le, li_ne, va_rf, wr_m1, we_m1, pm_kill_w, Int32.reduceOfInt, Int64.reduceOfInt, Int32.reduceOfNat, Int32.reduceLT, Int32.reduceLE, Prod.mk.injEq, Nat.reduceEqDiff, reduceCtorEq, and_true, true_and, and_false, false_and, and_self, ite_true, ite_false, ↓reduceIte, not_true_eq_false, not_false_eq_true, pe_ri, pe_rz, pe_rc, p_throw, t1414, eq_true k1]
  · rw [if_neg k1] at e
    have e := Option.some.inj e; subst e
    simp -implicitDefEqProofs (disch := first | assumption | exact Nat.le_of_ble_eq_true rfl | decide) only [b1414_0, g1414_1, b1414_1, pe_iload0, pe_if_ne, pe_return, pe_aastoreN, pe_areturnN, pe_null, pm_prog_1, pm_ob_some, Nat.reduceDiv, Nat.reduceMod, Nat.reduceMul, Nat.reduceAdd, Int.reduceToNat, pm_kill_i, pm_kill_r, pm_kill_n, pm_kill_j, pm_kill_l, pm_kill_d, pm_cats_nil, pm_cats_i, pm_cats_r, pm_cats_n, pm_cats_l, pm_cats_d, sz_1, sz_2, sl_1, sl_2, lc_0, lc_lt, lc_le, li_ne, va_rf, wr_m1, we_m1, pm_kill_w, Int32.reduceOfInt, Int64.reduceOfInt, Int32.reduceOfNat, Int32.reduceLT, Int32.reduceLE, Prod.mk.injEq, Nat.reduceEqDiff, reduceCtorEq, and_true, true_and, and_false, false_and, and_self, ite_true, ite_false, ↓reduceIte, not_true_eq_false, not_false_eq_true, pe_ri, pe_rz, pe_rc, p_throw, t1414, eq_false k1]
/-- TimberHouse$PriceLines.properFact(II)V -/
theorem c1413 {d : Nat} {h : pm_H} {x0 : Int32} {x1 : Int32} : pm_call pm_prog (d + 1) 1413 [.int x0, .int x1] h = pm_ev pm_prog (pm_call pm_prog d) 1413 0 b1413_0 [.int x0, .int x1] [] h := pm_cal (pm_rc0 rfl) rfl rfl rfl
theorem g1413_1 {cl : pm_C} {ls st : List Value} {h : pm_H} : pm_go pm_prog cl 1413 1 ls st h = pm_ev pm_prog cl 1413 1 b1413_1 ls st h := pm_go_eq pm_prog cl 1413 1 ls st h
theorem g1413_2 {cl : pm_C} {ls st : List Value} {h : pm_H} : pm_go pm_prog cl 1413 2 ls st h = pm_ev pm_prog cl 1413 2 b1413_2 ls st h := pm_go_eq pm_prog cl 1413 2 ls st h
theorem t1413 {cl : pm_C} {j : Nat} {ls : List Value} {c : Nat} {h : pm_H} : pm_thr pm_prog cl 1413 j ls c h = some (.threw c, h) := rfl
noncomputable def f1413_2 (y0 : Int32) : Option (Nat ⊕ (Unit)) :=
  (f1414 y0).bind fun r => match r with
  | .inl c2 =>
    some (.inl c2)
  | .inr _ =>
  some (.inr ())
/-- TimberHouse$PriceLines.properFact(II)V -/
noncomputable def f1413 (x0 : Int32) (x1 : Int32) : Option (Nat ⊕ (Unit)) :=
  (f1411 (Int32.toInt64 x1) 1 10000).bind fun v1 =>
  if v1 = 0 then
    f1413_2 0
  else
    (f1411 (Int32.toInt64 x0) (-1000000) 1000000).bind fun v3 =>
    if v3 = 0 then
      f1413_2 0
    else
      f1413_2 1
theorem y1413_2 {h : pm_H} {D : Nat} {y0 : Int32} {r : Nat ⊕ (Unit)} (hD : 1 ≤ D) (e : f1413_2 y0 = some r) : ∀ q0 q1 : Value, pm_go pm_prog (pm_call pm_prog D) 1413 2 [q0, q1] [.int y0] h = some (match (generalizing := false) r with | .inl c => (Outcome.threw c, (pm_new h 6 (.inr (c, [])))) | .inr _ => (Outcome.returned none, h)) := by
  intro q0 q1
  simp only [f1413_2] at e
  rw [g1413_2, b1413_2]
  obtain ⟨r, k1, e⟩ := Option.bind_eq_some_iff.mp e
  have z1 := fun h => x1414 (D := D) (h := h) (by omega) k1
  rcases r with c2 | _
  · dsimp only at e z1
    have e := Option.some.inj e; subst e
    simp -implicitDefEqProofs (disch := first | assumption | exact Nat.le_of_ble_eq_true rfl | decide) only [b1413_0, g1413_1, b1413_1, pe_iload1, pe_i2l, pe_bipush, pe_call3, pm_af_ret, pm_af_void, pm_af_thr, pe_if_eq, pe_iload0, pe_sipush, pe_goto, pe_goto_w, pe_call1, pe_return, pe_aastoreN, pe_areturnN, pe_null, pm_prog_1, pm_ob_some, Nat.reduceDiv, Nat.reduceMod, Nat.reduceMul, Nat.reduceAdd, Int.reduceToNat, pm_kill_i, pm_kill_r, pm_kill_n, pm_kill_j, pm_kill_l, pm_kill_d, pm_cats_nil, pm_cats_i, pm_cats_r, pm_cats_n, pm_cats_l, pm_cats_d, sz_1, sz_2, sl_1, sl_2, lc_0, lc_lt, lc_le, li_ne, va_rf, wr_m1, we_m1, pm_kill_w, Int32.reduceOfInt, Int64.reduceOfInt, Int32.reduceOfNat, Int32.reduceLT, Int32.reduceLE, Prod.mk.injEq, Nat.reduceEqDiff, reduceCtorEq, and_true, true_and, and_false, false_and, and_self, ite_true, ite_false, ↓reduceIte, not_true_eq_false, not_false_eq_true, pe_ri, pe_rz, pe_rc, p_throw, t1413, z1]
  · dsimp only at e z1
    have e := Option.some.inj e; subst e
    simp -implicitDefEqProofs (disch := first | assumption | exact Nat.le_of_ble_eq_true rfl | decide) only [b1413_0, g1413_1, b1413_1, pe_iload1, pe_i2l, pe_bipush, pe_call3, pm_af_ret, pm_af_void, pm_af_thr, pe_if_eq, pe_iload0, pe_sipush, pe_goto, pe_goto_w, pe_call1, pe_return, pe_aastoreN, pe_areturnN, pe_null, pm_prog_1, pm_ob_some, Nat.reduceDiv, Nat.reduceMod, Nat.reduceMul, Nat.reduceAdd, Int.reduceToNat, pm_kill_i, pm_kill_r, pm_kill_n, pm_kill_j, pm_kill_l, pm_kill_d, pm_cats_nil, pm_cats_i, pm_cats_r, pm_cats_n, pm_cats_l, pm_cats_d, sz_1, sz_2, sl_1, sl_2, lc_0, lc_lt, lc_le, li_ne, va_rf, wr_m1, we_m1, pm_kill_w, Int32.reduceOfInt, Int64.reduceOfInt, Int32.reduceOfNat, Int32.reduceLT, Int32.reduceLE, Prod.mk.injEq, Nat.reduceEqDiff, reduceCtorEq, and_true, true_and, and_false, false_and, and_self, ite_true, ite_false, ↓reduceIte, not_true_eq_false, not_false_eq_true, pe_ri, pe_rz, pe_rc, p_throw, t1413, z1]
theorem x1413 {h : pm_H} {D : Nat} {x0 : Int32} {x1 : Int32} {r : Nat ⊕ (Unit)} (hD : 2 ≤ D) (e : f1413 x0 x1 = some r) : pm_call pm_prog D 1413 [.int x0, .int x1] h = some (match (generalizing := false) r with | .inl c => (Outcome.threw c, (pm_new h 6 (.inr (c, [])))) | .inr _ => (Outcome.returned none, h)) := by
  obtain ⟨D, rfl⟩ : ∃ D', D = D' + 1 := ⟨D - 1, by omega⟩
  have hD : 1 ≤ D := by omega
  simp only [f1413] at e
  rw [c1413, b1413_0]
  obtain ⟨v1, k1, e⟩ := Option.bind_eq_some_iff.mp e
  try dsimp only at e
  have z1 := fun h => x1411 (D := D) (h := h) (by omega) k1
  by_cases k2 : v1 = 0
  · rw [if_pos k2] at e
    have k3 := y1413_2 (h := h) hD e
    simp -implicitDefEqProofs (disch := first | assumption | exact Nat.le_of_ble_eq_true rfl | decide) only [b1413_0, g1413_1, b1413_1, pe_iload1, pe_i2l, pe_bipush, pe_call3, pm_af_ret, pm_af_void, pm_af_thr, pe_if_eq, pe_iload0, pe_sipush, pe_goto, pe_goto_w, pe_call1, pe_return, pe_aastoreN, pe_areturnN, pe_null, pm_prog_1, pm_ob_some, Nat.reduceDiv, Nat.reduceMod, Nat.reduceMul, Nat.reduceAdd, Int.reduceToNat, pm_kill_i, pm_kill_r, pm_kill_n, pm_kill_j, pm_kill_l, pm_kill_d, pm_cats_nil, pm_cats_i, pm_cats_r, pm_cats_n, pm_cats_l, pm_cats_d, sz_1, sz_2, sl_1, sl_2, lc_0, lc_lt, lc_le, li_ne, va_rf, wr_m1, we_m1, pm_kill_w, Int32.reduceOfInt, Int64.reduceOfInt, Int32.reduceOfNat, Int32.reduceLT, Int32.reduceLE, Prod.mk.injEq, Nat.reduceEqDiff, reduceCtorEq, and_true, true_and, and_false, false_and, and_self, ite_true, ite_false, ↓reduceIte, not_true_eq_false, not_false_eq_true, pe_ri, pe_rz, pe_rc, p_throw, t1413, z1, eq_true k2, k3]
  · rw [if_neg k2] at e
    obtain ⟨v3, k4, e⟩ := Option.bind_eq_some_iff.mp e
    try dsimp only at e
    have z4 := fun h => x1411 (D := D) (h := h) (by omega) k4
    by_cases k5 : v3 = 0
    · rw [if_pos k5] at e
      have k6 := y1413_2 (h := h) hD e
      simp -implicitDefEqProofs (disch := first | assumption | exact Nat.le_of_ble_eq_true rfl | decide) only [b1413_0, g1413_1, b1413_1, pe_iload1, pe_i2l, pe_bipush, pe_call3, pm_af_ret, pm_af_void, pm_af_thr, pe_if_eq, pe_iload0, pe_sipush, pe_goto, pe_goto_w, pe_call1, pe_return, pe_aastoreN, pe_areturnN, pe_null, pm_prog_1, pm_ob_some, Nat.reduceDiv, Nat.reduceMod, Nat.reduceMul, Nat.reduceAdd, Int.reduceToNat, pm_kill_i, pm_kill_r, pm_kill_n, pm_kill_j, pm_kill_l, pm_kill_d, pm_cats_nil, pm_cats_i, pm_cats_r, pm_cats_n, pm_cats_l, pm_cats_d, sz_1, sz_2, sl_1, sl_2, lc_0, lc_lt, lc_le, li_ne, va_rf, wr_m1, we_m1, pm_kill_w, Int32.reduceOfInt, Int64.reduceOfInt, Int32.reduceOfNat, Int32.reduceLT, Int32.reduceLE, Prod.mk.injEq, Nat.reduceEqDiff, reduceCtorEq, and_true, true_and, and_false, false_and, and_self, ite_true, ite_false, ↓reduceIte, not_true_eq_false, not_false_eq_true, pe_ri, pe_rz, pe_rc, p_throw, t1413, z1, eq_false k2, z4, eq_true k5, k6]
    · rw [if_neg k5] at e
      have k7 := y1413_2 (h := h) hD e
      simp -implicitDefEqProofs (disch := first | assumption | exact Nat.le_of_ble_eq_true rfl | decide) only [b1413_0, g1413_1, b1413_1, pe_iload1, pe_i2l, pe_bipush, pe_call3, pm_af_ret, pm_af_void, pm_af_thr, pe_if_eq, pe_iload0, pe_sipush, pe_goto, pe_goto_w, pe_call1, pe_return, pe_aastoreN, pe_areturnN, pe_null, pm_prog_1, pm_ob_some, Nat.reduceDiv, Nat.reduceMod, Nat.reduceMul, Nat.reduceAdd, Int.reduceToNat, pm_kill_i, pm_kill_r, pm_kill_n, pm_kill_j, pm_kill_l, pm_kill_d, pm_cats_nil, pm_cats_i, pm_cats_r, pm_cats_n, pm_cats_l, pm_cats_d, sz_1, sz_2, sl_1, sl_2, lc_0, lc_lt, lc_le, li_ne, va_rf, wr_m1, we_m1, pm_kill_w, Int32.reduceOfInt, Int64.reduceOfInt, Int32.reduceOfNat, Int32.reduceLT, Int32.reduceLE, Prod.mk.injEq, Nat.reduceEqDiff, reduceCtorEq, and_true, true_and, and_false, false_and, and_self, ite_true, ite_false, ↓reduceIte, not_true_eq_false, not_false_eq_true, pe_ri, pe_rz, pe_rc, p_throw, t1413, z1, eq_false k2, z4, eq_false k5, k7]
/-- TimberHouse$PriceLines.divisor(JJ)J -/
theorem c1415 {d : Nat} {h : pm_H} {x0 : Int64} {x1 : Int64} : pm_call pm_prog (d + 1) 1415 [.long x0, .long x1] h = pm_ev pm_prog (pm_call pm_prog d) 1415 0 b1415_0 [.long x0, pm_junk, .long x1, pm_junk, pm_junk, pm_junk, pm_junk, pm_junk, pm_junk, pm_junk] [] h := pm_cal (pm_rc0 rfl) rfl rfl rfl
theorem g1415_1 {cl : pm_C} {ls st : List Value} {h : pm_H} : pm_go pm_prog cl 1415 1 ls st h = pm_ev pm_prog cl 1415 1 b1415_1 ls st h := pm_go_eq pm_prog cl 1415 1 ls st h
theorem g1415_2 {cl : pm_C} {ls st : List Value} {h : pm_H} : pm_go pm_prog cl 1415 2 ls st h = pm_ev pm_prog cl 1415 2 b1415_2 ls st h := pm_go_eq pm_prog cl 1415 2 ls st h
theorem g1415_3 {cl : pm_C} {ls st : List Value} {h : pm_H} : pm_go pm_prog cl 1415 3 ls st h = pm_ev pm_prog cl 1415 3 b1415_3 ls st h := pm_go_eq pm_prog cl 1415 3 ls st h
theorem g1415_4 {cl : pm_C} {ls st : List Value} {h : pm_H} : pm_go pm_prog cl 1415 4 ls st h = pm_ev pm_prog cl 1415 4 b1415_4 ls st h := pm_go_eq pm_prog cl 1415 4 ls st h
noncomputable def f1415_b3 : Int64 × Int64 → Option ((Int64 × Int64) ⊕ ((Int64))) := fun (x4, x6) =>
  if x6 = 0 then
    some (.inr x4)
  else
    if ¬ x6 = 0 then
      some (.inl (x6, (x4 - x4 / x6 * x6)))
    else none
noncomputable def f1415_2 (x2 : Int64) (y0 : Int64) : Option (Int64) :=
  (lp (f1415_b3) FU (y0, x2)).bind fun v1 =>
  some v1
/-- TimberHouse$PriceLines.divisor(JJ)J -/
noncomputable def f1415 (x0 : Int64) (x2 : Int64) : Option (Int64) :=
  if x0 < 0 then
    f1415_2 x2 (-x0)
  else
    f1415_2 x2 x0
def go1415_3 (h : pm_H) (D : Nat) (R : Outcome × pm_H) : Int64 × Int64 → Prop := fun (x4, x6) => ∀ q0 q1 q2 q3 q8 q9 : Value, pm_go pm_prog (pm_call pm_prog D) 1415 3 [q0, q1, q2, q3, .long x4, pm_junk, .long x6, pm_junk, q8, q9] [] h = some R
def ex1415_3 (h : pm_H) (D : Nat) (R : Outcome × pm_H) : (Int64) → Prop := fun x4 => ∀ q0 q1 q2 q3 q6 q7 q8 q9 : Value, pm_go pm_prog (pm_call pm_prog D) 1415 4 [q0, q1, q2, q3, .long x4, pm_junk, q6, q7, q8, q9] [] h = some R
theorem y1415_b3 {h : pm_H} {D : Nat} {R : Outcome × pm_H} (hD : 0 ≤ D) (a : Int64 × Int64) (r : (Int64 × Int64) ⊕ ((Int64))) (e : f1415_b3 a = some r) (hc : Sum.elim (go1415_3 h D R) (ex1415_3 h D R) r) : go1415_3 h D R a := by
  obtain ⟨x4, x6⟩ := a
  dsimp only [go1415_3]
  intro q0 q1 q2 q3 q8 q9
  simp only [f1415_b3] at e
  rw [g1415_3, b1415_3]
  by_cases k1 : x6 = 0
  · rw [if_pos k1] at e
    have e := Option.some.inj e; subst e
    dsimp only [Sum.elim_inr, ex1415_3] at hc
    simp -implicitDefEqProofs (disch := first | assumption | exact Nat.le_of_ble_eq_true rfl | decide) only [b1415_0, g1415_1, b1415_1, g1415_4, b1415_4, pe_lload0, pe_bipush, pe_lcmp, pe_if_ge, pe_lneg, pe_goto, pe_goto_w, pe_lstore4, pe_lload2, pe_lstore6, pe_lload6, pe_if_eq, pe_lload4, pe_lrem, pe_lstore8, pe_lload8, pe_lreturn, pe_aastoreN, pe_areturnN, pe_null, pm_prog_1, pm_ob_some, Nat.reduceDiv, Nat.reduceMod, Nat.reduceMul, Nat.reduceAdd, Int.reduceToNat, pm_kill_i, pm_kill_r, pm_kill_n, pm_kill_j, pm_kill_l, pm_kill_d, pm_cats_nil, pm_cats_i, pm_cats_r, pm_cats_n, pm_cats_l, pm_cats_d, sz_1, sz_2, sl_1, sl_2, lc_0, lc_lt, lc_le, li_ne, va_rf, wr_m1, we_m1, pm_kill_w, Int32.reduceOfInt, Int64.reduceOfInt, Int32.reduceOfNat, Int32.reduceLT, Int32.reduceLE, Prod.mk.injEq, Nat.reduceEqDiff, reduceCtorEq, and_true, true_and, and_false, false_and, and_self, ite_true, ite_false, ↓reduceIte, not_true_eq_false, not_false_eq_true, pe_ri, pe_rz, pe_rc, eq_true k1, hc]
  · rw [if_neg k1] at e
    by_cases k2 : ¬ x6 = 0
    · rw [if_pos k2] at e
      have e := Option.some.inj e; subst e
      dsimp only [Sum.elim_inl, go1415_3] at hc
      simp -implicitDefEqProofs (disch := first | assumption | exact Nat.le_of_ble_eq_true rfl | decide) only [b1415_0, g1415_1, b1415_1, g1415_4, b1415_4, pe_lload0, pe_bipush, pe_lcmp, pe_if_ge, pe_lneg, pe_goto, pe_goto_w, pe_lstore4, pe_lload2, pe_lstore6, pe_lload6, pe_if_eq, pe_lload4, pe_lrem, pe_lstore8, pe_lload8, pe_lreturn, pe_aastoreN, pe_areturnN, pe_null, pm_prog_1, pm_ob_some, Nat.reduceDiv, Nat.reduceMod, Nat.reduceMul, Nat.reduceAdd, Int.reduceToNat, pm_kill_i, pm_kill_r, pm_kill_n, pm_kill_j, pm_kill_l, pm_kill_d, pm_cats_nil, pm_cats_i, pm_cats_r, pm_cats_n, pm_cats_l, pm_cats_d, sz_1, sz_2, sl_1, sl_2, lc_0, lc_lt, lc_le, li_ne, va_rf, wr_m1, we_m1, pm_kill_w, Int32.reduceOfInt, Int64.reduceOfInt, Int32.reduceOfNat, Int32.reduceLT, Int32.reduceLE, Prod.mk.injEq, Nat.reduceEqDiff, reduceCtorEq, and_true, true_and, and_false, false_and, and_self, ite_true, ite_false, ↓reduceIte, not_true_eq_false, not_false_eq_true, pe_ri, pe_rz, pe_rc, eq_false k1, hc]
    · rw [if_neg k2] at e; cases e
theorem z1415_3 {h : pm_H} {D : Nat} {R : Outcome × pm_H} (hD : 0 ≤ D) {n : Nat} {a : Int64 × Int64} {b : (Int64)} (e : lp (f1415_b3) n a = some b) (hx : ex1415_3 h D R b) : go1415_3 h D R a := lp_run (fun a r => y1415_b3 hD a r) n a b e hx
theorem y1415_2 {h : pm_H} {D : Nat} {x2 : Int64} {y0 : Int64} {r : Int64} (hD : 0 ≤ D) (e : f1415_2 x2 y0 = some r) : ∀ q0 q1 q4 q5 q6 q7 q8 q9 : Value, pm_go pm_prog (pm_call pm_prog D) 1415 2 [q0, q1, .long x2, pm_junk, q4, q5, q6, q7, q8, q9] [.long y0] h = some (Outcome.returned (some (.long r)), h) := by
  intro q0 q1 q4 q5 q6 q7 q8 q9
  simp only [f1415_2] at e
  rw [g1415_2, b1415_2]
  obtain ⟨v1, k1, e⟩ := Option.bind_eq_some_iff.mp e
  try dsimp only at e
  try simp -implicitDefEqProofs (disch := first | assumption | exact Nat.le_of_ble_eq_true rfl | decide) only [b1415_0, g1415_1, b1415_1, g1415_4, b1415_4, pe_lload0, pe_bipush, pe_lcmp, pe_if_ge, pe_lneg, pe_goto, pe_goto_w, pe_lstore4, pe_lload2, pe_lstore6, pe_lload6, pe_if_eq, pe_lload4, pe_lrem, pe_lstore8, pe_lload8, pe_lreturn, pe_aastoreN, pe_areturnN, pe_null, pm_prog_1, pm_ob_some, Nat.reduceDiv, Nat.reduceMod, Nat.reduceMul, Nat.reduceAdd, Int.reduceToNat, pm_kill_i, pm_kill_r, pm_kill_n, pm_kill_j, pm_kill_l, pm_kill_d, pm_cats_nil, pm_cats_i, pm_cats_r, pm_cats_n, pm_cats_l, pm_cats_d, sz_1, sz_2, sl_1, sl_2, lc_0, lc_lt, lc_le, li_ne, va_rf, wr_m1, we_m1, pm_kill_w, Int32.reduceOfInt, Int64.reduceOfInt, Int32.reduceOfNat, Int32.reduceLT, Int32.reduceLE, Prod.mk.injEq, Nat.reduceEqDiff, reduceCtorEq, and_true, true_and, and_false, false_and, and_self, ite_true, ite_false, ↓reduceIte, not_true_eq_false, not_false_eq_true, pe_ri, pe_rz, pe_rc]
  refine z1415_3 hD k1 ?_ _ _ _ _ _ _
  dsimp only [ex1415_3]
  intro q0 q1 q2 q3 q6 q7 q8 q9
  have e := Option.some.inj e; subst e
  simp -implicitDefEqProofs (disch := first | assumption | exact Nat.le_of_ble_eq_true rfl | decide) only [b1415_0, g1415_1, b1415_1, g1415_4, b1415_4, pe_lload0, pe_bipush, pe_lcmp, pe_if_ge, pe_lneg, pe_goto, pe_goto_w, pe_lstore4, pe_lload2, pe_lstore6, pe_lload6, pe_if_eq, pe_lload4, pe_lrem, pe_lstore8, pe_lload8, pe_lreturn, pe_aastoreN, pe_areturnN, pe_null, pm_prog_1, pm_ob_some, Nat.reduceDiv, Nat.reduceMod, Nat.reduceMul, Nat.reduceAdd, Int.reduceToNat, pm_kill_i, pm_kill_r, pm_kill_n, pm_kill_j, pm_kill_l, pm_kill_d, pm_cats_nil, pm_cats_i, pm_cats_r, pm_cats_n, pm_cats_l, pm_cats_d, sz_1, sz_2, sl_1, sl_2, lc_0, lc_lt, lc_le, li_ne, va_rf, wr_m1, we_m1, pm_kill_w, Int32.reduceOfInt, Int64.reduceOfInt, Int32.reduceOfNat, Int32.reduceLT, Int32.reduceLE, Prod.mk.injEq, Nat.reduceEqDiff, reduceCtorEq, and_true, true_and, and_false, false_and, and_self, ite_true, ite_false, ↓reduceIte, not_true_eq_false, not_false_eq_true, pe_ri, pe_rz, pe_rc]
theorem x1415 {h : pm_H} {D : Nat} {x0 : Int64} {x2 : Int64} {r : Int64} (hD : 1 ≤ D) (e : f1415 x0 x2 = some r) : pm_call pm_prog D 1415 [.long x0, .long x2] h = some (Outcome.returned (some (.long r)), h) := by
  obtain ⟨D, rfl⟩ : ∃ D', D = D' + 1 := ⟨D - 1, by omega⟩
  have hD : 0 ≤ D := by omega
  simp only [f1415] at e
  rw [c1415, b1415_0]
  by_cases k1 : x0 < 0
  · rw [if_pos k1] at e
    have k2 := y1415_2 (h := h) hD e
    simp -implicitDefEqProofs (disch := first | assumption | exact Nat.le_of_ble_eq_true rfl | decide) only [b1415_0, g1415_1, b1415_1, g1415_4, b1415_4, pe_lload0, pe_bipush, pe_lcmp, pe_if_ge, pe_lneg, pe_goto, pe_goto_w, pe_lstore4, pe_lload2, pe_lstore6, pe_lload6, pe_if_eq, pe_lload4, pe_lrem, pe_lstore8, pe_lload8, pe_lreturn, pe_aastoreN, pe_areturnN, pe_null, pm_prog_1, pm_ob_some, Nat.reduceDiv, Nat.reduceMod, Nat.reduceMul, Nat.reduceAdd, Int.reduceToNat, pm_kill_i, pm_kill_r, pm_kill_n, pm_kill_j, pm_kill_l, pm_kill_d, pm_cats_nil, pm_cats_i, pm_cats_r, pm_cats_n, pm_cats_l, pm_cats_d, sz_1, sz_2, sl_1, sl_2, lc_0, lc_lt, lc_le, li_ne, va_rf, wr_m1, we_m1, pm_kill_w, Int32.reduceOfInt, Int64.reduceOfInt, Int32.reduceOfNat, Int32.reduceLT, Int32.reduceLE, Prod.mk.injEq, Nat.reduceEqDiff, reduceCtorEq, and_true, true_and, and_false, false_and, and_self, ite_true, ite_false, ↓reduceIte, not_true_eq_false, not_false_eq_true, pe_ri, pe_rz, pe_rc, eq_true k1, k2]
  · rw [if_neg k1] at e
    have k3 := y1415_2 (h := h) hD e
    simp -implicitDefEqProofs (disch := first | assumption | exact Nat.le_of_ble_eq_true rfl | decide) only [b1415_0, g1415_1, b1415_1, g1415_4, b1415_4, pe_lload0, pe_bipush, pe_lcmp, pe_if_ge, pe_lneg, pe_goto, pe_goto_w, pe_lstore4, pe_lload2, pe_lstore6, pe_lload6, pe_if_eq, pe_lload4, pe_lrem, pe_lstore8, pe_lload8, pe_lreturn, pe_aastoreN, pe_areturnN, pe_null, pm_prog_1, pm_ob_some, Nat.reduceDiv, Nat.reduceMod, Nat.reduceMul, Nat.reduceAdd, Int.reduceToNat, pm_kill_i, pm_kill_r, pm_kill_n, pm_kill_j, pm_kill_l, pm_kill_d, pm_cats_nil, pm_cats_i, pm_cats_r, pm_cats_n, pm_cats_l, pm_cats_d, sz_1, sz_2, sl_1, sl_2, lc_0, lc_lt, lc_le, li_ne, va_rf, wr_m1, we_m1, pm_kill_w, Int32.reduceOfInt, Int64.reduceOfInt, Int32.reduceOfNat, Int32.reduceLT, Int32.reduceLE, Prod.mk.injEq, Nat.reduceEqDiff, reduceCtorEq, and_true, true_and, and_false, false_and, and_self, ite_true, ite_false, ↓reduceIte, not_true_eq_false, not_false_eq_true, pe_ri, pe_rz, pe_rc, eq_false k1, k3]
/-- TimberHouse$PriceLines.forget(I)Z -/
theorem c1416 {d : Nat} {h : pm_H} {a : Nat} {x0 : Int32} (hc : pm_cls h a = some 22) : pm_call pm_prog (d + 1) 1416 [.ref a, .int x0] h = pm_ev pm_prog (pm_call pm_prog d) 1416 0 b1416_0 [.ref a, .int x0, pm_junk, pm_junk] [] h := pm_cal (pm_rc1 hc rfl) rfl rfl rfl
theorem g1416_1 {cl : pm_C} {ls st : List Value} {h : pm_H} : pm_go pm_prog cl 1416 1 ls st h = pm_ev pm_prog cl 1416 1 b1416_1 ls st h := pm_go_eq pm_prog cl 1416 1 ls st h
theorem g1416_2 {cl : pm_C} {ls st : List Value} {h : pm_H} : pm_go pm_prog cl 1416 2 ls st h = pm_ev pm_prog cl 1416 2 b1416_2 ls st h := pm_go_eq pm_prog cl 1416 2 ls st h
theorem t1416 {cl : pm_C} {j : Nat} {ls : List Value} {c : Nat} {h : pm_H} : pm_thr pm_prog cl 1416 j ls c h = some (.threw c, h) := rfl
/-- TimberHouse$PriceLines.forget(I)Z -/
noncomputable def f1416 (lc : Int32) (fq : Int32) (ll : Int32 → Int32) (S : wS) (x1 : Int32) : Option ((Nat × wS) ⊕ (Int32 × wS)) :=
  (f1410 x1).bind fun r => match r with
  | .inl c2 =>
    some (.inl (c2, S))
  | .inr v1 =>
  if 0 ≤ v1 ∧ v1 < 26 then
    if (S.1 (5, 0, 0) v1) < 0 then
      some (.inr (0, (sz S (5, 0, 0) v1 (-1))))
    else
      some (.inr (1, (sz S (5, 0, 0) v1 (-1))))
  else none
theorem x1416 {lc : Int32} {fq : Int32} {ll : Int32 → Int32} {A : wK → Nat} {h : pm_H} {D : Nat} {S : wS} {x1 : Int32} {r : (Nat × wS) ⊕ (Int32 × wS)} (hP : Cp_P lc fq ll) (hA : wok A (Cp_d lc fq ll) h.1) (hD : 3 ≤ D) (e : f1416 lc fq ll S x1 = some r) : pm_call pm_prog D 1416 [.ref (A (0, 0, 0)), .int x1] (wput A (Cp_d lc fq ll) S h) = some (match (generalizing := false) r with | .inl (c, S1) => (Outcome.threw c, (wput A (Cp_d lc fq ll) S1 (pm_new h 6 (.inr (c, []))))) | .inr (w0, S1) => (Outcome.returned (some (.int w0)), (wput A (Cp_d lc fq ll) S1 h))) := by
  obtain ⟨D, rfl⟩ : ∃ D', D = D' + 1 := ⟨D - 1, by omega⟩
  have hD : 2 ≤ D := by omega
  simp only [f1416] at e
  rw [c1416 (Cp_c0 hP hA), b1416_0]
  obtain ⟨r, k1, e⟩ := Option.bind_eq_some_iff.mp e
  have z1 := fun h => x1410 (D := D) (h := h) (by omega) k1
  rcases r with c2 | v1
  · dsimp only at e z1
    have e := Option.some.inj e; subst e
    simp -implicitDefEqProofs (disch := first | assumption | exact Nat.le_of_ble_eq_true rfl | decide) only [b1416_0, g1416_1, b1416_1, g1416_2, b1416_2, pe_iload1, pe_call1, pm_af_ret, pm_af_void, pm_af_thr, pe_istore2, pe_aload0, pe_getfield, pe_iload2, pe_aaload, pe_ifnull_n, pe_ifnull_r, pe_sipush, pe_goto, pe_goto_w, pe_istore3, pe_null, pe_aastore, pe_iload3, pe_aloadN0, pe_aastoreN, pe_areturnN, pm_prog_1, pm_ob_some, Nat.reduceDiv, Nat.reduceMod, Nat.reduceMul, Nat.reduceAdd, Int.reduceToNat, pm_kill_i, pm_kill_r, pm_kill_n, pm_kill_j, pm_kill_l, pm_kill_d, pm_cats_nil, pm_cats_i, pm_cats_r, pm_cats_n, pm_cats_l, pm_cats_d, sz_1, sz_2, sl_1, sl_2, lc_0, lc_lt, lc_le, li_ne, va_rf, wr_m1, we_m1, pm_kill_w, Int32.reduceOfInt, Int64.reduceOfInt, Int32.reduceOfNat, Int32.reduceLT, Int32.reduceLE, Prod.mk.injEq, Nat.reduceEqDiff, reduceCtorEq, and_true, true_and, and_false, false_and, and_self, ite_true, ite_false, ↓reduceIte, not_true_eq_false, not_false_eq_true, pe_ri, pe_rz, pe_rc, p_throw, t1416, w_junk hA, Cp_g0_10 hP hA, Cp_r5 hP hA, Cp_wN5 hP hA, z1]
  · dsimp only at e z1
    by_cases k2 : 0 ≤ v1 ∧ v1 < 26
    · rw [if_pos k2] at e
      by_cases k3 : (S.1 (5, 0, 0) v1) < 0
      · rw [if_pos k3] at e
        have e := Option.some.inj e; subst e
        simp -implicitDefEqProofs (disch := first | assumption | exact Nat.le_of_ble_eq_true rfl | decide) only [b1416_0, g1416_1, b1416_1, g1416_2, b1416_2, pe_iload1, pe_call1, pm_af_ret, pm_af_void, pm_af_thr, pe_istore2, pe_aload0, pe_getfield, pe_iload2, pe_aaload, pe_ifnull_n, pe_ifnull_r, pe_sipush, pe_goto, pe_goto_w, pe_istore3, pe_null, pe_aastore, pe_iload3, pe_aloadN0, pe_aastoreN, pe_areturnN, pm_prog_1, pm_ob_some, Nat.reduceDiv, Nat.reduceMod, Nat.reduceMul, Nat.reduceAdd, Int.reduceToNat, pm_kill_i, pm_kill_r, pm_kill_n, pm_kill_j, pm_kill_l, pm_kill_d, pm_cats_nil, pm_cats_i, pm_cats_r, pm_cats_n, pm_cats_l, pm_cats_d, sz_1, sz_2, sl_1, sl_2, lc_0, lc_lt, lc_le, li_ne, va_rf, wr_m1, we_m1, pm_kill_w, Int32.reduceOfInt, Int64.reduceOfInt, Int32.reduceOfNat, Int32.reduceLT, Int32.reduceLE, Prod.mk.injEq, Nat.reduceEqDiff, reduceCtorEq, and_true, true_and, and_false, false_and, and_self, ite_true, ite_false, ↓reduceIte, not_true_eq_false, not_false_eq_true, pe_ri, pe_rz, pe_rc, p_throw, t1416, w_junk hA, Cp_g0_10 hP hA, Cp_r5 hP hA, Cp_wN5 hP hA, z1, wr_n (A := A) (f := 25) k3, we_n (A := A) (f := 25) k3]
      · rw [if_neg k3] at e
        have e := Option.some.inj e; subst e
        simp -implicitDefEqProofs (disch := first | assumption | exact Nat.le_of_ble_eq_true rfl | decide) only [b1416_0, g1416_1, b1416_1, g1416_2, b1416_2, pe_iload1, pe_call1, pm_af_ret, pm_af_void, pm_af_thr, pe_istore2, pe_aload0, pe_getfield, pe_iload2, pe_aaload, pe_ifnull_n, pe_ifnull_r, pe_sipush, pe_goto, pe_goto_w, pe_istore3, pe_null, pe_aastore, pe_iload3, pe_aloadN0, pe_aastoreN, pe_areturnN, pm_prog_1, pm_ob_some, Nat.reduceDiv, Nat.reduceMod, Nat.reduceMul, Nat.reduceAdd, Int.reduceToNat, pm_kill_i, pm_kill_r, pm_kill_n, pm_kill_j, pm_kill_l, pm_kill_d, pm_cats_nil, pm_cats_i, pm_cats_r, pm_cats_n, pm_cats_l, pm_cats_d, sz_1, sz_2, sl_1, sl_2, lc_0, lc_lt, lc_le, li_ne, va_rf, wr_m1, we_m1, pm_kill_w, Int32.reduceOfInt, Int64.reduceOfInt, Int32.reduceOfNat, Int32.reduceLT, Int32.reduceLE, Prod.mk.injEq, Nat.reduceEqDiff, reduceCtorEq, and_true, true_and, and_false, false_and, and_self, ite_true, ite_false, ↓reduceIte, not_true_eq_false, not_false_eq_true, pe_ri, pe_rz, pe_rc, p_throw, t1416, w_junk hA, Cp_g0_10 hP hA, Cp_r5 hP hA, Cp_wN5 hP hA, z1, wr_p (A := A) (f := 25) k3, we_p (A := A) (f := 25) k3]
    · rw [if_neg k2] at e; cases e
/-- TimberHouse$PriceLines.can(Z)V -/
theorem c1418 {d : Nat} {h : pm_H} {x0 : Int32} : pm_call pm_prog (d + 1) 1418 [.int x0] h = pm_ev pm_prog (pm_call pm_prog d) 1418 0 b1418_0 [.int x0] [] h := pm_cal (pm_rc0 rfl) rfl rfl rfl
theorem g1418_1 {cl : pm_C} {ls st : List Value} {h : pm_H} : pm_go pm_prog cl 1418 1 ls st h = pm_ev pm_prog cl 1418 1 b1418_1 ls st h := pm_go_eq pm_prog cl 1418 1 ls st h
theorem t1418 {cl : pm_C} {j : Nat} {ls : List Value} {c : Nat} {h : pm_H} : pm_thr pm_prog cl 1418 j ls c h = some (.threw c, h) := rfl
/-- TimberHouse$PriceLines.can(Z)V -/
noncomputable def f1418 (x0 : Int32) : Option (Nat ⊕ (Unit)) :=
  if x0 = 0 then
    some (.inl 71)
  else
    some (.inr ())
theorem x1418 {h : pm_H} {D : Nat} {x0 : Int32} {r : Nat ⊕ (Unit)} (hD : 1 ≤ D) (e : f1418 x0 = some r) : pm_call pm_prog D 1418 [.int x0] h = some (match (generalizing := false) r with | .inl c => (Outcome.threw c, (pm_new h 6 (.inr (c, [])))) | .inr _ => (Outcome.returned none, h)) := by
  obtain ⟨D, rfl⟩ : ∃ D', D = D' + 1 := ⟨D - 1, by omega⟩
  have hD : 0 ≤ D := by omega
  simp only [f1418] at e
  rw [c1418, b1418_0]
  by_cases k1 : x0 = 0
  · rw [if_pos k1] at e
    have e := Option.some.inj e; subst e
    simp -implicitDefEqProofs (disch := first | assumption | exact Nat.le_of_ble_eq_true rfl | decide) only [b1418_0, g1418_1, b1418_1, pe_iload0, pe_if_ne, pe_return, pe_aastoreN, pe_areturnN, pe_null, pm_prog_1, pm_ob_some, Nat.reduceDiv, Nat.reduceMod, Nat.reduceMul, Nat.reduceAdd, Int.reduceToNat, pm_kill_i, pm_kill_r, pm_kill_n, pm_kill_j, pm_kill_l, pm_kill_d, pm_cats_nil, pm_cats_i, pm_cats_r, pm_cats_n, pm_cats_l, pm_cats_d, sz_1, sz_2, sl_1, sl_2, lc_0, lc_lt, lc_le, li_ne, va_rf, wr_m1, we_m1, pm_kill_w, Int32.reduceOfInt, Int64.reduceOfInt, Int32.reduceOfNat, Int32.reduceLT, Int32.reduceLE, Prod.mk.injEq, Nat.reduceEqDiff, reduceCtorEq, and_true, true_and, and_false, false_and, and_self, ite_true, ite_false, ↓reduceIte, not_true_eq_false, not_false_eq_true, pe_ri, pe_rz, pe_rc, p_throw, t1418, eq_true k1]
  · rw [if_neg k1] at e
    have e := Option.some.inj e; subst e
    simp -implicitDefEqProofs (disch := first | assumption | exact Nat.le_of_ble_eq_true rfl | decide) only [b1418_0, g1418_1, b1418_1, pe_iload0, pe_if_ne, pe_return, pe_aastoreN, pe_areturnN, pe_null, pm_prog_1, pm_ob_some, Nat.reduceDiv, Nat.reduceMod, Nat.reduceMul, Nat.reduceAdd, Int.reduceToNat, pm_kill_i, pm_kill_r, pm_kill_n, pm_kill_j, pm_kill_l, pm_kill_d, pm_cats_nil, pm_cats_i, pm_cats_r, pm_cats_n, pm_cats_l, pm_cats_d, sz_1, sz_2, sl_1, sl_2, lc_0, lc_lt, lc_le, li_ne, va_rf, wr_m1, we_m1, pm_kill_w, Int32.reduceOfInt, Int64.reduceOfInt, Int32.reduceOfNat, Int32.reduceLT, Int32.reduceLE, Prod.mk.injEq, Nat.reduceEqDiff, reduceCtorEq, and_true, true_and, and_false, false_and, and_self, ite_true, ite_false, ↓reduceIte, not_true_eq_false, not_false_eq_true, pe_ri, pe_rz, pe_rc, p_throw, t1418, eq_false k1]
/-- TimberHouse$PriceLines.offered(II)J -/
theorem c1417 {d : Nat} {h : pm_H} {a : Nat} {x0 : Int32} {x1 : Int32} (hc : pm_cls h a = some 22) : pm_call pm_prog (d + 1) 1417 [.ref a, .int x0, .int x1] h = pm_ev pm_prog (pm_call pm_prog d) 1417 0 b1417_0 [.ref a, .int x0, .int x1] [] h := pm_cal (pm_rc1 hc rfl) rfl rfl rfl
theorem g1417_1 {cl : pm_C} {ls st : List Value} {h : pm_H} : pm_go pm_prog cl 1417 1 ls st h = pm_ev pm_prog cl 1417 1 b1417_1 ls st h := pm_go_eq pm_prog cl 1417 1 ls st h
theorem g1417_2 {cl : pm_C} {ls st : List Value} {h : pm_H} : pm_go pm_prog cl 1417 2 ls st h = pm_ev pm_prog cl 1417 2 b1417_2 ls st h := pm_go_eq pm_prog cl 1417 2 ls st h
theorem t1417 {cl : pm_C} {j : Nat} {ls : List Value} {c : Nat} {h : pm_H} : pm_thr pm_prog cl 1417 j ls c h = some (.threw c, h) := rfl
noncomputable def f1417_2 (lc : Int32) (fq : Int32) (ll : Int32 → Int32) (S : wS) (x1 : Int32) (y0 : Int32) : Option (Nat ⊕ (Int64)) :=
  (f1418 y0).bind fun r => match r with
  | .inl c3 =>
    some (.inl c3)
  | .inr _ =>
  if 0 ≤ x1 ∧ x1 < 8 then
    some (.inr (S.2 (12, 0, 0) x1))
  else none
/-- TimberHouse$PriceLines.offered(II)J -/
noncomputable def f1417 (lc : Int32) (fq : Int32) (ll : Int32 → Int32) (S : wS) (x1 : Int32) (x2 : Int32) : Option (Nat ⊕ (Int64)) :=
  (f1411 (Int32.toInt64 x1) 0 (Int32.toInt64 ((S.1 (0, 0, 0) 23) - 1))).bind fun v1 =>
  (f1412 v1).bind fun r => match r with
  | .inl c5 =>
    some (.inl c5)
  | .inr _ =>
  (f1411 (Int32.toInt64 x2) 0 10000).bind fun v2 =>
  (f1414 v2).bind fun r => match r with
  | .inl c4 =>
    some (.inl c4)
  | .inr _ =>
  if 0 ≤ x1 ∧ x1 < 8 then
    if x2 ≤ (S.1 (13, 0, 0) x1) then
      f1417_2 lc fq ll S x1 1
    else
      f1417_2 lc fq ll S x1 0
  else none
theorem y1417_2 {lc : Int32} {fq : Int32} {ll : Int32 → Int32} {A : wK → Nat} {h : pm_H} {D : Nat} {S : wS} {x1 : Int32} {y0 : Int32} {r : Nat ⊕ (Int64)} (hP : Cp_P lc fq ll) (hA : wok A (Cp_d lc fq ll) h.1) (hD : 1 ≤ D) (e : f1417_2 lc fq ll S x1 y0 = some r) : ∀ q2 : Value, pm_go pm_prog (pm_call pm_prog D) 1417 2 [.ref (A (0, 0, 0)), .int x1, q2] [.int y0] (wput A (Cp_d lc fq ll) S h) = some (match (generalizing := false) r with | .inl c => (Outcome.threw c, (wput A (Cp_d lc fq ll) S (pm_new h 6 (.inr (c, []))))) | .inr w0 => (Outcome.returned (some (.long w0)), (wput A (Cp_d lc fq ll) S h))) := by
  intro q2
  simp only [f1417_2] at e
  rw [g1417_2, b1417_2]
  obtain ⟨r, k1, e⟩ := Option.bind_eq_some_iff.mp e
  have z1 := fun h => x1418 (D := D) (h := h) (by omega) k1
  rcases r with c3 | _
  · dsimp only at e z1
    have e := Option.some.inj e; subst e
    simp -implicitDefEqProofs (disch := first | assumption | exact Nat.le_of_ble_eq_true rfl | decide) only [b1417_0, g1417_1, b1417_1, pe_iload1, pe_i2l, pe_bipush, pe_aload0, pe_getfield, pe_sipush, pe_isub, pe_call3, pm_af_ret, pm_af_void, pm_af_thr, pe_call1, pe_iload2, pe_iaload, pe_icmp_gt, pe_goto, pe_goto_w, pe_laload, pe_lreturn, pe_aloadN0, pe_aastoreN, pe_areturnN, pe_null, pm_prog_1, pm_ob_some, Nat.reduceDiv, Nat.reduceMod, Nat.reduceMul, Nat.reduceAdd, Int.reduceToNat, pm_kill_i, pm_kill_r, pm_kill_n, pm_kill_j, pm_kill_l, pm_kill_d, pm_cats_nil, pm_cats_i, pm_cats_r, pm_cats_n, pm_cats_l, pm_cats_d, sz_1, sz_2, sl_1, sl_2, lc_0, lc_lt, lc_le, li_ne, va_rf, wr_m1, we_m1, pm_kill_w, Int32.reduceOfInt, Int64.reduceOfInt, Int32.reduceOfNat, Int32.reduceLT, Int32.reduceLE, Prod.mk.injEq, Nat.reduceEqDiff, reduceCtorEq, and_true, true_and, and_false, false_and, and_self, ite_true, ite_false, ↓reduceIte, not_true_eq_false, not_false_eq_true, pe_ri, pe_rz, pe_rc, p_throw, t1417, w_junk hA, Cp_g0_21 hP hA, Cp_g0_22 hP hA, Cp_g0_23 hP hA, Cp_r12 hP hA, Cp_r13 hP hA, z1]
  · dsimp only at e z1
    by_cases k2 : 0 ≤ x1 ∧ x1 < 8
    · rw [if_pos k2] at e
      have e := Option.some.inj e; subst e
      simp -implicitDefEqProofs (disch := first | assumption | exact Nat.le_of_ble_eq_true rfl | decide) only [b1417_0, g1417_1, b1417_1, pe_iload1, pe_i2l, pe_bipush, pe_aload0, pe_getfield, pe_sipush, pe_isub, pe_call3, pm_af_ret, pm_af_void, pm_af_thr, pe_call1, pe_iload2, pe_iaload, pe_icmp_gt, pe_goto, pe_goto_w, pe_laload, pe_lreturn, pe_aloadN0, pe_aastoreN, pe_areturnN, pe_null, pm_prog_1, pm_ob_some, Nat.reduceDiv, Nat.reduceMod, Nat.reduceMul, Nat.reduceAdd, Int.reduceToNat, pm_kill_i, pm_kill_r, pm_kill_n, pm_kill_j, pm_kill_l, pm_kill_d, pm_cats_nil, pm_cats_i, pm_cats_r, pm_cats_n, pm_cats_l, pm_cats_d, sz_1, sz_2, sl_1, sl_2, lc_0, lc_lt, lc_le, li_ne, va_rf, wr_m1, we_m1, pm_kill_w, Int32.reduceOfInt, Int64.reduceOfInt, Int32.reduceOfNat, Int32.reduceLT, Int32.reduceLE, Prod.mk.injEq, Nat.reduceEqDiff, reduceCtorEq, and_true, true_and, and_false, false_and, and_self, ite_true, ite_false, ↓reduceIte, not_true_eq_false, not_false_eq_true, pe_ri, pe_rz, pe_rc, p_throw, t1417, w_junk hA, Cp_g0_21 hP hA, Cp_g0_22 hP hA, Cp_g0_23 hP hA, Cp_r12 hP hA, Cp_r13 hP hA, z1]
    · rw [if_neg k2] at e; cases e
theorem x1417 {lc : Int32} {fq : Int32} {ll : Int32 → Int32} {A : wK → Nat} {h : pm_H} {D : Nat} {S : wS} {x1 : Int32} {x2 : Int32} {r : Nat ⊕ (Int64)} (hP : Cp_P lc fq ll) (hA : wok A (Cp_d lc fq ll) h.1) (hD : 2 ≤ D) (e : f1417 lc fq ll S x1 x2 = some r) : pm_call pm_prog D 1417 [.ref (A (0, 0, 0)), .int x1, .int x2] (wput A (Cp_d lc fq ll) S h) = some (match (generalizing := false) r with | .inl c => (Outcome.threw c, (wput A (Cp_d lc fq ll) S (pm_new h 6 (.inr (c, []))))) | .inr w0 => (Outcome.returned (some (.long w0)), (wput A (Cp_d lc fq ll) S h))) := by
  obtain ⟨D, rfl⟩ : ∃ D', D = D' + 1 := ⟨D - 1, by omega⟩
  have hD : 1 ≤ D := by omega
  simp only [f1417] at e
  rw [c1417 (Cp_c0 hP hA), b1417_0]
  obtain ⟨v1, k1, e⟩ := Option.bind_eq_some_iff.mp e
  try dsimp only at e
  have z1 := fun h => x1411 (D := D) (h := h) (by omega) k1
  obtain ⟨r, k2, e⟩ := Option.bind_eq_some_iff.mp e
  have z2 := fun h => x1412 (D := D) (h := h) (by omega) k2
  rcases r with c5 | _
  · dsimp only at e z2
    have e := Option.some.inj e; subst e
    simp -implicitDefEqProofs (disch := first | assumption | exact Nat.le_of_ble_eq_true rfl | decide) only [b1417_0, g1417_1, b1417_1, pe_iload1, pe_i2l, pe_bipush, pe_aload0, pe_getfield, pe_sipush, pe_isub, pe_call3, pm_af_ret, pm_af_void, pm_af_thr, pe_call1, pe_iload2, pe_iaload, pe_icmp_gt, pe_goto, pe_goto_w, pe_laload, pe_lreturn, pe_aloadN0, pe_aastoreN, pe_areturnN, pe_null, pm_prog_1, pm_ob_some, Nat.reduceDiv, Nat.reduceMod, Nat.reduceMul, Nat.reduceAdd, Int.reduceToNat, pm_kill_i, pm_kill_r, pm_kill_n, pm_kill_j, pm_kill_l, pm_kill_d, pm_cats_nil, pm_cats_i, pm_cats_r, pm_cats_n, pm_cats_l, pm_cats_d, sz_1, sz_2, sl_1, sl_2, lc_0, lc_lt, lc_le, li_ne, va_rf, wr_m1, we_m1, pm_kill_w, Int32.reduceOfInt, Int64.reduceOfInt, Int32.reduceOfNat, Int32.reduceLT, Int32.reduceLE, Prod.mk.injEq, Nat.reduceEqDiff, reduceCtorEq, and_true, true_and, and_false, false_and, and_self, ite_true, ite_false, ↓reduceIte, not_true_eq_false, not_false_eq_true, pe_ri, pe_rz, pe_rc, p_throw, t1417, w_junk hA, Cp_g0_21 hP hA, Cp_g0_22 hP hA, Cp_g0_23 hP hA, Cp_r12 hP hA, Cp_r13 hP hA, z1, z2]
  · dsimp only at e z2
    obtain ⟨v2, k3, e⟩ := Option.bind_eq_some_iff.mp e
    try dsimp only at e
    have z3 := fun h => x1411 (D := D) (h := h) (by omega) k3
    obtain ⟨r, k4, e⟩ := Option.bind_eq_some_iff.mp e
    have z4 := fun h => x1414 (D := D) (h := h) (by omega) k4
    rcases r with c4 | _
    · dsimp only at e z4
      have e := Option.some.inj e; subst e
      simp -implicitDefEqProofs (disch := first | assumption | exact Nat.le_of_ble_eq_true rfl | decide) only [b1417_0, g1417_1, b1417_1, pe_iload1, pe_i2l, pe_bipush, pe_aload0, pe_getfield, pe_sipush, pe_isub, pe_call3, pm_af_ret, pm_af_void, pm_af_thr, pe_call1, pe_iload2, pe_iaload, pe_icmp_gt, pe_goto, pe_goto_w, pe_laload, pe_lreturn, pe_aloadN0, pe_aastoreN, pe_areturnN, pe_null, pm_prog_1, pm_ob_some, Nat.reduceDiv, Nat.reduceMod, Nat.reduceMul, Nat.reduceAdd, Int.reduceToNat, pm_kill_i, pm_kill_r, pm_kill_n, pm_kill_j, pm_kill_l, pm_kill_d, pm_cats_nil, pm_cats_i, pm_cats_r, pm_cats_n, pm_cats_l, pm_cats_d, sz_1, sz_2, sl_1, sl_2, lc_0, lc_lt, lc_le, li_ne, va_rf, wr_m1, we_m1, pm_kill_w, Int32.reduceOfInt, Int64.reduceOfInt, Int32.reduceOfNat, Int32.reduceLT, Int32.reduceLE, Prod.mk.injEq, Nat.reduceEqDiff, reduceCtorEq, and_true, true_and, and_false, false_and, and_self, ite_true, ite_false, ↓reduceIte, not_true_eq_false, not_false_eq_true, pe_ri, pe_rz, pe_rc, p_throw, t1417, w_junk hA, Cp_g0_21 hP hA, Cp_g0_22 hP hA, Cp_g0_23 hP hA, Cp_r12 hP hA, Cp_r13 hP hA, z1, z2, z3, z4]
    · dsimp only at e z4
      by_cases k5 : 0 ≤ x1 ∧ x1 < 8
      · rw [if_pos k5] at e
        by_cases k6 : x2 ≤ (S.1 (13, 0, 0) x1)
        · rw [if_pos k6] at e
          have k7 := y1417_2 (h := h) hP hA hD e
          simp -implicitDefEqProofs (disch := first | assumption | exact Nat.le_of_ble_eq_true rfl | decide) only [b1417_0, g1417_1, b1417_1, pe_iload1, pe_i2l, pe_bipush, pe_aload0, pe_getfield, pe_sipush, pe_isub, pe_call3, pm_af_ret, pm_af_void, pm_af_thr, pe_call1, pe_iload2, pe_iaload, pe_icmp_gt, pe_goto, pe_goto_w, pe_laload, pe_lreturn, pe_aloadN0, pe_aastoreN, pe_areturnN, pe_null, pm_prog_1, pm_ob_some, Nat.reduceDiv, Nat.reduceMod, Nat.reduceMul, Nat.reduceAdd, Int.reduceToNat, pm_kill_i, pm_kill_r, pm_kill_n, pm_kill_j, pm_kill_l, pm_kill_d, pm_cats_nil, pm_cats_i, pm_cats_r, pm_cats_n, pm_cats_l, pm_cats_d, sz_1, sz_2, sl_1, sl_2, lc_0, lc_lt, lc_le, li_ne, va_rf, wr_m1, we_m1, pm_kill_w, Int32.reduceOfInt, Int64.reduceOfInt, Int32.reduceOfNat, Int32.reduceLT, Int32.reduceLE, Prod.mk.injEq, Nat.reduceEqDiff, reduceCtorEq, and_true, true_and, and_false, false_and, and_self, ite_true, ite_false, ↓reduceIte, not_true_eq_false, not_false_eq_true, pe_ri, pe_rz, pe_rc, p_throw, t1417, w_junk hA, Cp_g0_21 hP hA, Cp_g0_22 hP hA, Cp_g0_23 hP hA, Cp_r12 hP hA, Cp_r13 hP hA, z1, z2, z3, z4, eq_true k6, k7]
        · rw [if_neg k6] at e
          have k8 := y1417_2 (h := h) hP hA hD e
          simp -implicitDefEqProofs (disch := first | assumption | exact Nat.le_of_ble_eq_true rfl | decide) only [b1417_0, g1417_1, b1417_1, pe_iload1, pe_i2l, pe_bipush, pe_aload0, pe_getfield, pe_sipush, pe_isub, pe_call3, pm_af_ret, pm_af_void, pm_af_thr, pe_call1, pe_iload2, pe_iaload, pe_icmp_gt, pe_goto, pe_goto_w, pe_laload, pe_lreturn, pe_aloadN0, pe_aastoreN, pe_areturnN, pe_null, pm_prog_1, pm_ob_some, Nat.reduceDiv, Nat.reduceMod, Nat.reduceMul, Nat.reduceAdd, Int.reduceToNat, pm_kill_i, pm_kill_r, pm_kill_n, pm_kill_j, pm_kill_l, pm_kill_d, pm_cats_nil, pm_cats_i, pm_cats_r, pm_cats_n, pm_cats_l, pm_cats_d, sz_1, sz_2, sl_1, sl_2, lc_0, lc_lt, lc_le, li_ne, va_rf, wr_m1, we_m1, pm_kill_w, Int32.reduceOfInt, Int64.reduceOfInt, Int32.reduceOfNat, Int32.reduceLT, Int32.reduceLE, Prod.mk.injEq, Nat.reduceEqDiff, reduceCtorEq, and_true, true_and, and_false, false_and, and_self, ite_true, ite_false, ↓reduceIte, not_true_eq_false, not_false_eq_true, pe_ri, pe_rz, pe_rc, p_throw, t1417, w_junk hA, Cp_g0_21 hP hA, Cp_g0_22 hP hA, Cp_g0_23 hP hA, Cp_r12 hP hA, Cp_r13 hP hA, z1, z2, z3, z4, eq_false k6, k8]
      · rw [if_neg k5] at e; cases e
/-- TimberHouse$PriceLines.unit(I)Z -/
theorem c1419 {d : Nat} {h : pm_H} {a : Nat} {x0 : Int32} (hc : pm_cls h a = some 22) : pm_call pm_prog (d + 1) 1419 [.ref a, .int x0] h = pm_ev pm_prog (pm_call pm_prog d) 1419 0 b1419_0 [.ref a, .int x0] [] h := pm_cal (pm_rc1 hc rfl) rfl rfl rfl
theorem g1419_1 {cl : pm_C} {ls st : List Value} {h : pm_H} : pm_go pm_prog cl 1419 1 ls st h = pm_ev pm_prog cl 1419 1 b1419_1 ls st h := pm_go_eq pm_prog cl 1419 1 ls st h
theorem g1419_2 {cl : pm_C} {ls st : List Value} {h : pm_H} : pm_go pm_prog cl 1419 2 ls st h = pm_ev pm_prog cl 1419 2 b1419_2 ls st h := pm_go_eq pm_prog cl 1419 2 ls st h
/-- TimberHouse$PriceLines.unit(I)Z -/
noncomputable def f1419 (lc : Int32) (fq : Int32) (ll : Int32 → Int32) (S : wS) (x1 : Int32) : Option (Int32 × wS) :=
  (f1411 (Int32.toInt64 x1) 32 126).bind fun v1 =>
  if v1 = 0 then
    some (0, S)
  else
    if (S.1 (0, 0, 0) 1) = 240 then
      some (0, S)
    else
      if 0 ≤ (S.1 (0, 0, 0) 1) ∧ (S.1 (0, 0, 0) 1) < 240 then
        some (1, (sz (sz S (0, 0, 0) 1 ((S.1 (0, 0, 0) 1) + 1)) (1, 0, 0) (S.1 (0, 0, 0) 1) (vp_nar .byte (Int8.toInt32 (Int32.toInt8 x1)))))
      else none
theorem x1419 {lc : Int32} {fq : Int32} {ll : Int32 → Int32} {A : wK → Nat} {h : pm_H} {D : Nat} {S : wS} {x1 : Int32} {r : Int32 × wS} (hP : Cp_P lc fq ll) (hA : wok A (Cp_d lc fq ll) h.1) (hD : 2 ≤ D) (e : f1419 lc fq ll S x1 = some r) : pm_call pm_prog D 1419 [.ref (A (0, 0, 0)), .int x1] (wput A (Cp_d lc fq ll) S h) = some (match (generalizing := false) r with | (w0, S1) => (Outcome.returned (some (.int w0)), (wput A (Cp_d lc fq ll) S1 h))) := by
  obtain ⟨D, rfl⟩ : ∃ D', D = D' + 1 := ⟨D - 1, by omega⟩
  have hD : 1 ≤ D := by omega
  simp only [f1419] at e
  rw [c1419 (Cp_c0 hP hA), b1419_0]
  obtain ⟨v1, k1, e⟩ := Option.bind_eq_some_iff.mp e
  try dsimp only at e
  have z1 := fun h => x1411 (D := D) (h := h) (by omega) k1
  by_cases k2 : v1 = 0
  · rw [if_pos k2] at e
    have e := Option.some.inj e; subst e
    simp -implicitDefEqProofs (disch := first | assumption | exact Nat.le_of_ble_eq_true rfl | decide) only [b1419_0, g1419_1, b1419_1, g1419_2, b1419_2, pe_iload1, pe_i2l, pe_bipush, pe_call3, pm_af_ret, pm_af_void, pm_af_thr, pe_if_eq, pe_aload0, pe_getfield, pe_sipush, pe_icmp_ne, pe_goto_w, pe_dup_i, pe_dup_r, pe_dup_x1_ii, pe_dup_x1_ir, pe_dup_x1_ri, pe_dup_x1_rr, pe_iadd, pe_putfield, pe_i2b, pe_bastore, pe_aloadN0, pe_aastoreN, pe_areturnN, pe_null, pm_prog_1, pm_ob_some, Nat.reduceDiv, Nat.reduceMod, Nat.reduceMul, Nat.reduceAdd, Int.reduceToNat, pm_kill_i, pm_kill_r, pm_kill_n, pm_kill_j, pm_kill_l, pm_kill_d, pm_cats_nil, pm_cats_i, pm_cats_r, pm_cats_n, pm_cats_l, pm_cats_d, sz_1, sz_2, sl_1, sl_2, lc_0, lc_lt, lc_le, li_ne, va_rf, wr_m1, we_m1, pm_kill_w, Int32.reduceOfInt, Int64.reduceOfInt, Int32.reduceOfNat, Int32.reduceLT, Int32.reduceLE, Prod.mk.injEq, Nat.reduceEqDiff, reduceCtorEq, and_true, true_and, and_false, false_and, and_self, ite_true, ite_false, ↓reduceIte, not_true_eq_false, not_false_eq_true, pe_ri, pe_rz, pe_rc, Cp_g0_0 hP hA, Cp_g0_1 hP hA, Cp_p0_1 hP hA, Cp_w1 hP hA, z1, eq_true k2]
  · rw [if_neg k2] at e
    by_cases k3 : (S.1 (0, 0, 0) 1) = 240
    · rw [if_pos k3] at e
      have e := Option.some.inj e; subst e
      simp -implicitDefEqProofs (disch := first | assumption | exact Nat.le_of_ble_eq_true rfl | decide) only [b1419_0, g1419_1, b1419_1, g1419_2, b1419_2, pe_iload1, pe_i2l, pe_bipush, pe_call3, pm_af_ret, pm_af_void, pm_af_thr, pe_if_eq, pe_aload0, pe_getfield, pe_sipush, pe_icmp_ne, pe_goto_w, pe_dup_i, pe_dup_r, pe_dup_x1_ii, pe_dup_x1_ir, pe_dup_x1_ri, pe_dup_x1_rr, pe_iadd, pe_putfield, pe_i2b, pe_bastore, pe_aloadN0, pe_aastoreN, pe_areturnN, pe_null, pm_prog_1, pm_ob_some, Nat.reduceDiv, Nat.reduceMod, Nat.reduceMul, Nat.reduceAdd, Int.reduceToNat, pm_kill_i, pm_kill_r, pm_kill_n, pm_kill_j, pm_kill_l, pm_kill_d, pm_cats_nil, pm_cats_i, pm_cats_r, pm_cats_n, pm_cats_l, pm_cats_d, sz_1, sz_2, sl_1, sl_2, lc_0, lc_lt, lc_le, li_ne, va_rf, wr_m1, we_m1, pm_kill_w, Int32.reduceOfInt, Int64.reduceOfInt, Int32.reduceOfNat, Int32.reduceLT, Int32.reduceLE, Prod.mk.injEq, Nat.reduceEqDiff, reduceCtorEq, and_true, true_and, and_false, false_and, and_self, ite_true, ite_false, ↓reduceIte, not_true_eq_false, not_false_eq_true, pe_ri, pe_rz, pe_rc, Cp_g0_0 hP hA, Cp_g0_1 hP hA, Cp_p0_1 hP hA, Cp_w1 hP hA, z1, eq_false k2, eq_true k3]
    · rw [if_neg k3] at e
      by_cases k4 : 0 ≤ (S.1 (0, 0, 0) 1) ∧ (S.1 (0, 0, 0) 1) < 240
      · rw [if_pos k4] at e
        have e := Option.some.inj e; subst e
        simp -implicitDefEqProofs (disch := first | assumption | exact Nat.le_of_ble_eq_true rfl | decide) only [b1419_0, g1419_1, b1419_1, g1419_2, b1419_2, pe_iload1, pe_i2l, pe_bipush, pe_call3, pm_af_ret, pm_af_void, pm_af_thr, pe_if_eq, pe_aload0, pe_getfield, pe_sipush, pe_icmp_ne, pe_goto_w, pe_dup_i, pe_dup_r, pe_dup_x1_ii, pe_dup_x1_ir, pe_dup_x1_ri, pe_dup_x1_rr, pe_iadd, pe_putfield, pe_i2b, pe_bastore, pe_aloadN0, pe_aastoreN, pe_areturnN, pe_null, pm_prog_1, pm_ob_some, Nat.reduceDiv, Nat.reduceMod, Nat.reduceMul, Nat.reduceAdd, Int.reduceToNat, pm_kill_i, pm_kill_r, pm_kill_n, pm_kill_j, pm_kill_l, pm_kill_d, pm_cats_nil, pm_cats_i, pm_cats_r, pm_cats_n, pm_cats_l, pm_cats_d, sz_1, sz_2, sl_1, sl_2, lc_0, lc_lt, lc_le, li_ne, va_rf, wr_m1, we_m1, pm_kill_w, Int32.reduceOfInt, Int64.reduceOfInt, Int32.reduceOfNat, Int32.reduceLT, Int32.reduceLE, Prod.mk.injEq, Nat.reduceEqDiff, reduceCtorEq, and_true, true_and, and_false, false_and, and_self, ite_true, ite_false, ↓reduceIte, not_true_eq_false, not_false_eq_true, pe_ri, pe_rz, pe_rc, Cp_g0_0 hP hA, Cp_g0_1 hP hA, Cp_p0_1 hP hA, Cp_w1 hP hA, z1, eq_false k2, eq_false k3]
      · rw [if_neg k4] at e; cases e
/-- TimberHouse$PriceLines.need(Z)V -/
theorem c1421 {d : Nat} {h : pm_H} {a : Nat} {x0 : Int32} (hc : pm_cls h a = some 22) : pm_call pm_prog (d + 1) 1421 [.ref a, .int x0] h = pm_ev pm_prog (pm_call pm_prog d) 1421 0 b1421_0 [.ref a, .int x0] [] h := pm_cal (pm_rc1 hc rfl) rfl rfl rfl
theorem g1421_1 {cl : pm_C} {ls st : List Value} {h : pm_H} : pm_go pm_prog cl 1421 1 ls st h = pm_ev pm_prog cl 1421 1 b1421_1 ls st h := pm_go_eq pm_prog cl 1421 1 ls st h
theorem t1421 {cl : pm_C} {j : Nat} {ls : List Value} {c : Nat} {h : pm_H} : pm_thr pm_prog cl 1421 j ls c h = some (.threw c, h) := rfl
/-- TimberHouse$PriceLines.need(Z)V -/
noncomputable def f1421 (lc : Int32) (fq : Int32) (ll : Int32 → Int32) (S : wS) (x1 : Int32) : Option ((Nat × wS) ⊕ (wS)) :=
  if x1 = 0 then
    some (.inl (71, (sz S (0, 0, 0) 3 (S.1 (0, 0, 0) 2))))
  else
    some (.inr S)
theorem x1421 {lc : Int32} {fq : Int32} {ll : Int32 → Int32} {A : wK → Nat} {h : pm_H} {D : Nat} {S : wS} {x1 : Int32} {r : (Nat × wS) ⊕ (wS)} (hP : Cp_P lc fq ll) (hA : wok A (Cp_d lc fq ll) h.1) (hD : 1 ≤ D) (e : f1421 lc fq ll S x1 = some r) : pm_call pm_prog D 1421 [.ref (A (0, 0, 0)), .int x1] (wput A (Cp_d lc fq ll) S h) = some (match (generalizing := false) r with | .inl (c, S1) => (Outcome.threw c, (wput A (Cp_d lc fq ll) S1 (pm_new h 6 (.inr (c, []))))) | .inr S1 => (Outcome.returned none, (wput A (Cp_d lc fq ll) S1 h))) := by
  obtain ⟨D, rfl⟩ : ∃ D', D = D' + 1 := ⟨D - 1, by omega⟩
  have hD : 0 ≤ D := by omega
  simp only [f1421] at e
  rw [c1421 (Cp_c0 hP hA), b1421_0]
  by_cases k1 : x1 = 0
  · rw [if_pos k1] at e
    have e := Option.some.inj e; subst e
    simp -implicitDefEqProofs (disch := first | assumption | exact Nat.le_of_ble_eq_true rfl | decide) only [b1421_0, g1421_1, b1421_1, pe_iload1, pe_if_ne, pe_aload0, pe_getfield, pe_putfield, pe_return, pe_aloadN0, pe_aastoreN, pe_areturnN, pe_null, pm_prog_1, pm_ob_some, Nat.reduceDiv, Nat.reduceMod, Nat.reduceMul, Nat.reduceAdd, Int.reduceToNat, pm_kill_i, pm_kill_r, pm_kill_n, pm_kill_j, pm_kill_l, pm_kill_d, pm_cats_nil, pm_cats_i, pm_cats_r, pm_cats_n, pm_cats_l, pm_cats_d, sz_1, sz_2, sl_1, sl_2, lc_0, lc_lt, lc_le, li_ne, va_rf, wr_m1, we_m1, pm_kill_w, Int32.reduceOfInt, Int64.reduceOfInt, Int32.reduceOfNat, Int32.reduceLT, Int32.reduceLE, Prod.mk.injEq, Nat.reduceEqDiff, reduceCtorEq, and_true, true_and, and_false, false_and, and_self, ite_true, ite_false, ↓reduceIte, not_true_eq_false, not_false_eq_true, pe_ri, pe_rz, pe_rc, p_throw, t1421, w_junk hA, Cp_g0_2 hP hA, Cp_p0_3 hP hA, eq_true k1]
  · rw [if_neg k1] at e
    have e := Option.some.inj e; subst e
    simp -implicitDefEqProofs (disch := first | assumption | exact Nat.le_of_ble_eq_true rfl | decide) only [b1421_0, g1421_1, b1421_1, pe_iload1, pe_if_ne, pe_aload0, pe_getfield, pe_putfield, pe_return, pe_aloadN0, pe_aastoreN, pe_areturnN, pe_null, pm_prog_1, pm_ob_some, Nat.reduceDiv, Nat.reduceMod, Nat.reduceMul, Nat.reduceAdd, Int.reduceToNat, pm_kill_i, pm_kill_r, pm_kill_n, pm_kill_j, pm_kill_l, pm_kill_d, pm_cats_nil, pm_cats_i, pm_cats_r, pm_cats_n, pm_cats_l, pm_cats_d, sz_1, sz_2, sl_1, sl_2, lc_0, lc_lt, lc_le, li_ne, va_rf, wr_m1, we_m1, pm_kill_w, Int32.reduceOfInt, Int64.reduceOfInt, Int32.reduceOfNat, Int32.reduceLT, Int32.reduceLE, Prod.mk.injEq, Nat.reduceEqDiff, reduceCtorEq, and_true, true_and, and_false, false_and, and_self, ite_true, ite_false, ↓reduceIte, not_true_eq_false, not_false_eq_true, pe_ri, pe_rz, pe_rc, p_throw, t1421, w_junk hA, Cp_g0_2 hP hA, Cp_p0_3 hP hA, eq_false k1]
/-- TimberHouse$PriceLines.look()C -/
theorem c1423 {d : Nat} {h : pm_H} {a : Nat} (hc : pm_cls h a = some 22) : pm_call pm_prog (d + 1) 1423 [.ref a] h = pm_ev pm_prog (pm_call pm_prog d) 1423 0 b1423_0 [.ref a] [] h := pm_cal (pm_rc1 hc rfl) rfl rfl rfl
theorem g1423_1 {cl : pm_C} {ls st : List Value} {h : pm_H} : pm_go pm_prog cl 1423 1 ls st h = pm_ev pm_prog cl 1423 1 b1423_1 ls st h := pm_go_eq pm_prog cl 1423 1 ls st h
theorem g1423_2 {cl : pm_C} {ls st : List Value} {h : pm_H} : pm_go pm_prog cl 1423 2 ls st h = pm_ev pm_prog cl 1423 2 b1423_2 ls st h := pm_go_eq pm_prog cl 1423 2 ls st h
/-- TimberHouse$PriceLines.look()C -/
noncomputable def f1423 (lc : Int32) (fq : Int32) (ll : Int32 → Int32) (S : wS) : Option (Int32) :=
  if (S.1 (0, 0, 0) 2) < (S.1 (0, 0, 0) 1) then
    if 0 ≤ (S.1 (0, 0, 0) 2) ∧ (S.1 (0, 0, 0) 2) < 240 then
      if 0 ≤ (UInt32.toInt32 (Int32.toUInt32 (S.1 (1, 0, 0) (S.1 (0, 0, 0) 2)) % 65536)) ∧ (UInt32.toInt32 (Int32.toUInt32 (S.1 (1, 0, 0) (S.1 (0, 0, 0) 2)) % 65536)) ≤ 65535 then
        some (UInt32.toInt32 (Int32.toUInt32 (S.1 (1, 0, 0) (S.1 (0, 0, 0) 2)) % 65536))
      else none
    else none
  else
    some 0
theorem x1423 {lc : Int32} {fq : Int32} {ll : Int32 → Int32} {A : wK → Nat} {h : pm_H} {D : Nat} {S : wS} {r : Int32} (hP : Cp_P lc fq ll) (hA : wok A (Cp_d lc fq ll) h.1) (hD : 1 ≤ D) (e : f1423 lc fq ll S = some r) : pm_call pm_prog D 1423 [.ref (A (0, 0, 0))] (wput A (Cp_d lc fq ll) S h) = some (Outcome.returned (some (.int r)), (wput A (Cp_d lc fq ll) S h)) := by
  obtain ⟨D, rfl⟩ : ∃ D', D = D' + 1 := ⟨D - 1, by omega⟩
  have hD : 0 ≤ D := by omega
  simp only [f1423] at e
  rw [c1423 (Cp_c0 hP hA), b1423_0]
  by_cases k1 : (S.1 (0, 0, 0) 2) < (S.1 (0, 0, 0) 1)
  · rw [if_pos k1] at e
    by_cases k2 : 0 ≤ (S.1 (0, 0, 0) 2) ∧ (S.1 (0, 0, 0) 2) < 240
    · rw [if_pos k2] at e
      by_cases k3 : 0 ≤ (UInt32.toInt32 (Int32.toUInt32 (S.1 (1, 0, 0) (S.1 (0, 0, 0) 2)) % 65536)) ∧ (UInt32.toInt32 (Int32.toUInt32 (S.1 (1, 0, 0) (S.1 (0, 0, 0) 2)) % 65536)) ≤ 65535
      · rw [if_pos k3] at e
        have e := Option.some.inj e; subst e
        simp -implicitDefEqProofs (disch := first | assumption | exact Nat.le_of_ble_eq_true rfl | decide) only [b1423_0, g1423_1, b1423_1, g1423_2, b1423_2, pe_aload0, pe_getfield, pe_icmp_ge, pe_baload, pe_i2c, pe_goto, pe_sipush, pe_goto_w, pe_aloadN0, pe_aastoreN, pe_areturnN, pe_null, pm_prog_1, pm_ob_some, Nat.reduceDiv, Nat.reduceMod, Nat.reduceMul, Nat.reduceAdd, Int.reduceToNat, pm_kill_i, pm_kill_r, pm_kill_n, pm_kill_j, pm_kill_l, pm_kill_d, pm_cats_nil, pm_cats_i, pm_cats_r, pm_cats_n, pm_cats_l, pm_cats_d, sz_1, sz_2, sl_1, sl_2, lc_0, lc_lt, lc_le, li_ne, va_rf, wr_m1, we_m1, pm_kill_w, Int32.reduceOfInt, Int64.reduceOfInt, Int32.reduceOfNat, Int32.reduceLT, Int32.reduceLE, Prod.mk.injEq, Nat.reduceEqDiff, reduceCtorEq, and_true, true_and, and_false, false_and, and_self, ite_true, ite_false, ↓reduceIte, not_true_eq_false, not_false_eq_true, pe_ri, pe_rz, pe_rc, Cp_g0_0 hP hA, Cp_g0_1 hP hA, Cp_g0_2 hP hA, Cp_r1 hP hA, eq_true k1]
      · rw [if_neg k3] at e; cases e
    · rw [if_neg k2] at e; cases e
  · rw [if_neg k1] at e
    have e := Option.some.inj e; subst e
    simp -implicitDefEqProofs (disch := first | assumption | exact Nat.le_of_ble_eq_true rfl | decide) only [b1423_0, g1423_1, b1423_1, g1423_2, b1423_2, pe_aload0, pe_getfield, pe_icmp_ge, pe_baload, pe_i2c, pe_goto, pe_sipush, pe_goto_w, pe_aloadN0, pe_aastoreN, pe_areturnN, pe_null, pm_prog_1, pm_ob_some, Nat.reduceDiv, Nat.reduceMod, Nat.reduceMul, Nat.reduceAdd, Int.reduceToNat, pm_kill_i, pm_kill_r, pm_kill_n, pm_kill_j, pm_kill_l, pm_kill_d, pm_cats_nil, pm_cats_i, pm_cats_r, pm_cats_n, pm_cats_l, pm_cats_d, sz_1, sz_2, sl_1, sl_2, lc_0, lc_lt, lc_le, li_ne, va_rf, wr_m1, we_m1, pm_kill_w, Int32.reduceOfInt, Int64.reduceOfInt, Int32.reduceOfNat, Int32.reduceLT, Int32.reduceLE, Prod.mk.injEq, Nat.reduceEqDiff, reduceCtorEq, and_true, true_and, and_false, false_and, and_self, ite_true, ite_false, ↓reduceIte, not_true_eq_false, not_false_eq_true, pe_ri, pe_rz, pe_rc, Cp_g0_0 hP hA, Cp_g0_1 hP hA, Cp_g0_2 hP hA, Cp_r1 hP hA, eq_false k1]
/-- TimberHouse$PriceLines.isDigit(C)Z -/
theorem c1424 {d : Nat} {h : pm_H} {x0 : Int32} : pm_call pm_prog (d + 1) 1424 [.int x0] h = pm_ev pm_prog (pm_call pm_prog d) 1424 0 b1424_0 [.int x0] [] h := pm_cal (pm_rc0 rfl) rfl rfl rfl
theorem g1424_1 {cl : pm_C} {ls st : List Value} {h : pm_H} : pm_go pm_prog cl 1424 1 ls st h = pm_ev pm_prog cl 1424 1 b1424_1 ls st h := pm_go_eq pm_prog cl 1424 1 ls st h
theorem g1424_2 {cl : pm_C} {ls st : List Value} {h : pm_H} : pm_go pm_prog cl 1424 2 ls st h = pm_ev pm_prog cl 1424 2 b1424_2 ls st h := pm_go_eq pm_prog cl 1424 2 ls st h
/-- TimberHouse$PriceLines.isDigit(C)Z -/
noncomputable def f1424 (x0 : Int32) : Option (Int32) :=
  if x0 < 48 then
    some 0
  else
    if x0 ≤ 57 then
      some 1
    else
      some 0
theorem x1424 {h : pm_H} {D : Nat} {x0 : Int32} {r : Int32} (hD : 1 ≤ D) (e : f1424 x0 = some r) : pm_call pm_prog D 1424 [.int x0] h = some (Outcome.returned (some (.int r)), h) := by
  obtain ⟨D, rfl⟩ : ∃ D', D = D' + 1 := ⟨D - 1, by omega⟩
  have hD : 0 ≤ D := by omega
  simp only [f1424] at e
  rw [c1424, b1424_0]
  by_cases k1 : x0 < 48
  · rw [if_pos k1] at e
    have e := Option.some.inj e; subst e
    simp -implicitDefEqProofs (disch := first | assumption | exact Nat.le_of_ble_eq_true rfl | decide) only [b1424_0, g1424_1, b1424_1, g1424_2, b1424_2, pe_iload0, pe_sipush, pe_icmp_lt, pe_icmp_gt, pe_goto, pe_goto_w, pe_aastoreN, pe_areturnN, pe_null, pm_prog_1, pm_ob_some, Nat.reduceDiv, Nat.reduceMod, Nat.reduceMul, Nat.reduceAdd, Int.reduceToNat, pm_kill_i, pm_kill_r, pm_kill_n, pm_kill_j, pm_kill_l, pm_kill_d, pm_cats_nil, pm_cats_i, pm_cats_r, pm_cats_n, pm_cats_l, pm_cats_d, sz_1, sz_2, sl_1, sl_2, lc_0, lc_lt, lc_le, li_ne, va_rf, wr_m1, we_m1, pm_kill_w, Int32.reduceOfInt, Int64.reduceOfInt, Int32.reduceOfNat, Int32.reduceLT, Int32.reduceLE, Prod.mk.injEq, Nat.reduceEqDiff, reduceCtorEq, and_true, true_and, and_false, false_and, and_self, ite_true, ite_false, ↓reduceIte, not_true_eq_false, not_false_eq_true, pe_ri, pe_rz, pe_rc, eq_true k1]
  · rw [if_neg k1] at e
    by_cases k2 : x0 ≤ 57
    · rw [if_pos k2] at e
      have e := Option.some.inj e; subst e
      simp -implicitDefEqProofs (disch := first | assumption | exact Nat.le_of_ble_eq_true rfl | decide) only [b1424_0, g1424_1, b1424_1, g1424_2, b1424_2, pe_iload0, pe_sipush, pe_icmp_lt, pe_icmp_gt, pe_goto, pe_goto_w, pe_aastoreN, pe_areturnN, pe_null, pm_prog_1, pm_ob_some, Nat.reduceDiv, Nat.reduceMod, Nat.reduceMul, Nat.reduceAdd, Int.reduceToNat, pm_kill_i, pm_kill_r, pm_kill_n, pm_kill_j, pm_kill_l, pm_kill_d, pm_cats_nil, pm_cats_i, pm_cats_r, pm_cats_n, pm_cats_l, pm_cats_d, sz_1, sz_2, sl_1, sl_2, lc_0, lc_lt, lc_le, li_ne, va_rf, wr_m1, we_m1, pm_kill_w, Int32.reduceOfInt, Int64.reduceOfInt, Int32.reduceOfNat, Int32.reduceLT, Int32.reduceLE, Prod.mk.injEq, Nat.reduceEqDiff, reduceCtorEq, and_true, true_and, and_false, false_and, and_self, ite_true, ite_false, ↓reduceIte, not_true_eq_false, not_false_eq_true, pe_ri, pe_rz, pe_rc, eq_false k1, eq_true k2]
    · rw [if_neg k2] at e
      have e := Option.some.inj e; subst e
      simp -implicitDefEqProofs (disch := first | assumption | exact Nat.le_of_ble_eq_true rfl | decide) only [b1424_0, g1424_1, b1424_1, g1424_2, b1424_2, pe_iload0, pe_sipush, pe_icmp_lt, pe_icmp_gt, pe_goto, pe_goto_w, pe_aastoreN, pe_areturnN, pe_null, pm_prog_1, pm_ob_some, Nat.reduceDiv, Nat.reduceMod, Nat.reduceMul, Nat.reduceAdd, Int.reduceToNat, pm_kill_i, pm_kill_r, pm_kill_n, pm_kill_j, pm_kill_l, pm_kill_d, pm_cats_nil, pm_cats_i, pm_cats_r, pm_cats_n, pm_cats_l, pm_cats_d, sz_1, sz_2, sl_1, sl_2, lc_0, lc_lt, lc_le, li_ne, va_rf, wr_m1, we_m1, pm_kill_w, Int32.reduceOfInt, Int64.reduceOfInt, Int32.reduceOfNat, Int32.reduceLT, Int32.reduceLE, Prod.mk.injEq, Nat.reduceEqDiff, reduceCtorEq, and_true, true_and, and_false, false_and, and_self, ite_true, ite_false, ↓reduceIte, not_true_eq_false, not_false_eq_true, pe_ri, pe_rz, pe_rc, eq_false k1, eq_false k2]
/-- TimberHouse$PriceLines.isLetter(C)Z -/
theorem c1425 {d : Nat} {h : pm_H} {x0 : Int32} : pm_call pm_prog (d + 1) 1425 [.int x0] h = pm_ev pm_prog (pm_call pm_prog d) 1425 0 b1425_0 [.int x0] [] h := pm_cal (pm_rc0 rfl) rfl rfl rfl
theorem g1425_1 {cl : pm_C} {ls st : List Value} {h : pm_H} : pm_go pm_prog cl 1425 1 ls st h = pm_ev pm_prog cl 1425 1 b1425_1 ls st h := pm_go_eq pm_prog cl 1425 1 ls st h
theorem g1425_2 {cl : pm_C} {ls st : List Value} {h : pm_H} : pm_go pm_prog cl 1425 2 ls st h = pm_ev pm_prog cl 1425 2 b1425_2 ls st h := pm_go_eq pm_prog cl 1425 2 ls st h
/-- TimberHouse$PriceLines.isLetter(C)Z -/
noncomputable def f1425 (x0 : Int32) : Option (Int32) :=
  if x0 < 97 then
    some 0
  else
    if x0 ≤ 122 then
      if x0 = 114 then
        some 0
      else
        some 1
    else
      some 0
theorem x1425 {h : pm_H} {D : Nat} {x0 : Int32} {r : Int32} (hD : 1 ≤ D) (e : f1425 x0 = some r) : pm_call pm_prog D 1425 [.int x0] h = some (Outcome.returned (some (.int r)), h) := by
  obtain ⟨D, rfl⟩ : ∃ D', D = D' + 1 := ⟨D - 1, by omega⟩
  have hD : 0 ≤ D := by omega
  simp only [f1425] at e
  rw [c1425, b1425_0]
  by_cases k1 : x0 < 97
  · rw [if_pos k1] at e
    have e := Option.some.inj e; subst e
    simp -implicitDefEqProofs (disch := first | assumption | exact Nat.le_of_ble_eq_true rfl | decide) only [b1425_0, g1425_1, b1425_1, g1425_2, b1425_2, pe_iload0, pe_sipush, pe_icmp_lt, pe_icmp_gt, pe_icmp_eq, pe_goto, pe_goto_w, pe_aastoreN, pe_areturnN, pe_null, pm_prog_1, pm_ob_some, Nat.reduceDiv, Nat.reduceMod, Nat.reduceMul, Nat.reduceAdd, Int.reduceToNat, pm_kill_i, pm_kill_r, pm_kill_n, pm_kill_j, pm_kill_l, pm_kill_d, pm_cats_nil, pm_cats_i, pm_cats_r, pm_cats_n, pm_cats_l, pm_cats_d, sz_1, sz_2, sl_1, sl_2, lc_0, lc_lt, lc_le, li_ne, va_rf, wr_m1, we_m1, pm_kill_w, Int32.reduceOfInt, Int64.reduceOfInt, Int32.reduceOfNat, Int32.reduceLT, Int32.reduceLE, Prod.mk.injEq, Nat.reduceEqDiff, reduceCtorEq, and_true, true_and, and_false, false_and, and_self, ite_true, ite_false, ↓reduceIte, not_true_eq_false, not_false_eq_true, pe_ri, pe_rz, pe_rc, eq_true k1]
  · rw [if_neg k1] at e
    by_cases k2 : x0 ≤ 122
    · rw [if_pos k2] at e
      by_cases k3 : x0 = 114
      · rw [if_pos k3] at e
        have e := Option.some.inj e; subst e
        simp -implicitDefEqProofs (disch := first | assumption | exact Nat.le_of_ble_eq_true rfl | decide) only [b1425_0, g1425_1, b1425_1, g1425_2, b1425_2, pe_iload0, pe_sipush, pe_icmp_lt, pe_icmp_gt, pe_icmp_eq, pe_goto, pe_goto_w, pe_aastoreN, pe_areturnN, pe_null, pm_prog_1, pm_ob_some, Nat.reduceDiv, Nat.reduceMod, Nat.reduceMul, Nat.reduceAdd, Int.reduceToNat, pm_kill_i, pm_kill_r, pm_kill_n, pm_kill_j, pm_kill_l, pm_kill_d, pm_cats_nil, pm_cats_i, pm_cats_r, pm_cats_n, pm_cats_l, pm_cats_d, sz_1, sz_2, sl_1, sl_2, lc_0, lc_lt, lc_le, li_ne, va_rf, wr_m1, we_m1, pm_kill_w, Int32.reduceOfInt, Int64.reduceOfInt, Int32.reduceOfNat, Int32.reduceLT, Int32.reduceLE, Prod.mk.injEq, Nat.reduceEqDiff, reduceCtorEq, and_true, true_and, and_false, false_and, and_self, ite_true, ite_false, ↓reduceIte, not_true_eq_false, not_false_eq_true, pe_ri, pe_rz, pe_rc, eq_false k1, eq_true k2, eq_true k3]
      · rw [if_neg k3] at e
        have e := Option.some.inj e; subst e
        simp -implicitDefEqProofs (disch := first | assumption | exact Nat.le_of_ble_eq_true rfl | decide) only [b1425_0, g1425_1, b1425_1, g1425_2, b1425_2, pe_iload0, pe_sipush, pe_icmp_lt, pe_icmp_gt, pe_icmp_eq, pe_goto, pe_goto_w, pe_aastoreN, pe_areturnN, pe_null, pm_prog_1, pm_ob_some, Nat.reduceDiv, Nat.reduceMod, Nat.reduceMul, Nat.reduceAdd, Int.reduceToNat, pm_kill_i, pm_kill_r, pm_kill_n, pm_kill_j, pm_kill_l, pm_kill_d, pm_cats_nil, pm_cats_i, pm_cats_r, pm_cats_n, pm_cats_l, pm_cats_d, sz_1, sz_2, sl_1, sl_2, lc_0, lc_lt, lc_le, li_ne, va_rf, wr_m1, we_m1, pm_kill_w, Int32.reduceOfInt, Int64.reduceOfInt, Int32.reduceOfNat, Int32.reduceLT, Int32.reduceLE, Prod.mk.injEq, Nat.reduceEqDiff, reduceCtorEq, and_true, true_and, and_false, false_and, and_self, ite_true, ite_false, ↓reduceIte, not_true_eq_false, not_false_eq_true, pe_ri, pe_rz, pe_rc, eq_false k1, eq_true k2, eq_false k3]
    · rw [if_neg k2] at e
      have e := Option.some.inj e; subst e
      simp -implicitDefEqProofs (disch := first | assumption | exact Nat.le_of_ble_eq_true rfl | decide) only [b1425_0, g1425_1, b1425_1, g1425_2, b1425_2, pe_iload0, pe_sipush, pe_icmp_lt, pe_icmp_gt, pe_icmp_eq, pe_goto, pe_goto_w, pe_aastoreN, pe_areturnN, pe_null, pm_prog_1, pm_ob_some, Nat.reduceDiv, Nat.reduceMod, Nat.reduceMul, Nat.reduceAdd, Int.reduceToNat, pm_kill_i, pm_kill_r, pm_kill_n, pm_kill_j, pm_kill_l, pm_kill_d, pm_cats_nil, pm_cats_i, pm_cats_r, pm_cats_n, pm_cats_l, pm_cats_d, sz_1, sz_2, sl_1, sl_2, lc_0, lc_lt, lc_le, li_ne, va_rf, wr_m1, we_m1, pm_kill_w, Int32.reduceOfInt, Int64.reduceOfInt, Int32.reduceOfNat, Int32.reduceLT, Int32.reduceLE, Prod.mk.injEq, Nat.reduceEqDiff, reduceCtorEq, and_true, true_and, and_false, false_and, and_self, ite_true, ite_false, ↓reduceIte, not_true_eq_false, not_false_eq_true, pe_ri, pe_rz, pe_rc, eq_false k1, eq_false k2]
/-- TimberHouse$PriceLines.number()I -/
theorem c1427 {d : Nat} {h : pm_H} {a : Nat} (hc : pm_cls h a = some 22) : pm_call pm_prog (d + 1) 1427 [.ref a] h = pm_ev pm_prog (pm_call pm_prog d) 1427 0 b1427_0 [.ref a, pm_junk, pm_junk] [] h := pm_cal (pm_rc1 hc rfl) rfl rfl rfl
theorem g1427_1 {cl : pm_C} {ls st : List Value} {h : pm_H} : pm_go pm_prog cl 1427 1 ls st h = pm_ev pm_prog cl 1427 1 b1427_1 ls st h := pm_go_eq pm_prog cl 1427 1 ls st h
theorem g1427_2 {cl : pm_C} {ls st : List Value} {h : pm_H} : pm_go pm_prog cl 1427 2 ls st h = pm_ev pm_prog cl 1427 2 b1427_2 ls st h := pm_go_eq pm_prog cl 1427 2 ls st h
theorem g1427_3 {cl : pm_C} {ls st : List Value} {h : pm_H} : pm_go pm_prog cl 1427 3 ls st h = pm_ev pm_prog cl 1427 3 b1427_3 ls st h := pm_go_eq pm_prog cl 1427 3 ls st h
theorem g1427_4 {cl : pm_C} {ls st : List Value} {h : pm_H} : pm_go pm_prog cl 1427 4 ls st h = pm_ev pm_prog cl 1427 4 b1427_4 ls st h := pm_go_eq pm_prog cl 1427 4 ls st h
theorem t1427 {cl : pm_C} {j : Nat} {ls : List Value} {c : Nat} {h : pm_H} : pm_thr pm_prog cl 1427 j ls c h = some (.threw c, h) := rfl
noncomputable def f1427_3_1 (lc : Int32) (fq : Int32) (ll : Int32 → Int32) (S : wS) (x1 : Int32) (x2 : Int32) (y1 : Int32) : Option ((Int32 × Int32 × wS) ⊕ ((Int32 × wS) ⊕ (Nat × wS))) :=
  (f1421 lc fq ll S y1).bind fun r => match r with
  | .inl (c5, S6) =>
    some (.inr (.inr ((c5, S6))))
  | .inr S3 =>
  (f1423 lc fq ll S3).bind fun v4 =>
  some (.inl ((((10 * x1) + v4) - 48), (x2 + 1), (sz S3 (0, 0, 0) 2 ((S3.1 (0, 0, 0) 2) + 1))))
noncomputable def f1427_b1 (lc : Int32) (fq : Int32) (ll : Int32 → Int32) : Int32 × Int32 × wS → Option ((Int32 × Int32 × wS) ⊕ ((Int32 × wS) ⊕ (Nat × wS))) := fun (x1, x2, S) =>
  (f1423 lc fq ll S).bind fun v1 =>
  (f1424 v1).bind fun v2 =>
  if v2 = 0 then
    some (.inr (.inl (x1, S)))
  else
    if x2 < 5 then
      f1427_3_1 lc fq ll S x1 x2 1
    else
      f1427_3_1 lc fq ll S x1 x2 0
/-- TimberHouse$PriceLines.number()I -/
noncomputable def f1427 (lc : Int32) (fq : Int32) (ll : Int32 → Int32) (S : wS) : Option ((Nat × wS) ⊕ (Int32 × wS)) :=
  (lp (f1427_b1 lc fq ll) FU (0, 0, S)).bind fun b => match b with
  | (.inl (v8, S7)) =>
    some (.inr (v8, S7))
  | (.inr ((c10, S9))) =>
    some (.inl (c10, S9))
def go1427_1 (lc : Int32) (fq : Int32) (ll : Int32 → Int32) (A : wK → Nat) (h : pm_H) (D : Nat) (R : Outcome × pm_H) : Int32 × Int32 × wS → Prop := fun (x1, x2, S) => pm_go pm_prog (pm_call pm_prog D) 1427 1 [.ref (A (0, 0, 0)), .int x1, .int x2] [] (wput A (Cp_d lc fq ll) S h) = some R
def ex1427_1 (lc : Int32) (fq : Int32) (ll : Int32 → Int32) (A : wK → Nat) (h : pm_H) (D : Nat) (R : Outcome × pm_H) : (Int32 × wS) ⊕ (Nat × wS) → Prop := fun b => match b with
  | (.inl (x1, S)) => ∀ q0 q2 : Value, pm_go pm_prog (pm_call pm_prog D) 1427 4 [q0, .int x1, q2] [] (wput A (Cp_d lc fq ll) S h) = some R
  | (.inr ((xc, S))) => some (Outcome.threw xc, (wput A (Cp_d lc fq ll) S (pm_new h 6 (.inr (xc, []))))) = some R
theorem y1427_3_1 {lc : Int32} {fq : Int32} {ll : Int32 → Int32} {A : wK → Nat} {h : pm_H} {D : Nat} {R : Outcome × pm_H} {S : wS} {x1 : Int32} {x2 : Int32} {y1 : Int32} {r : (Int32 × Int32 × wS) ⊕ ((Int32 × wS) ⊕ (Nat × wS))} (hP : Cp_P lc fq ll) (hA : wok A (Cp_d lc fq ll) h.1) (hD : 1 ≤ D) (e : f1427_3_1 lc fq ll S x1 x2 y1 = some r) (hc : Sum.elim (go1427_1 lc fq ll A h D R) (ex1427_1 lc fq ll A h D R) r) : pm_go pm_prog (pm_call pm_prog D) 1427 3 [.ref (A (0, 0, 0)), .int x1, .int x2] [.int y1, .ref (A (0, 0, 0))] (wput A (Cp_d lc fq ll) S h) = some R := by
  simp only [f1427_3_1] at e
  rw [g1427_3, b1427_3]
  obtain ⟨r, k1, e⟩ := Option.bind_eq_some_iff.mp e
  have z1 := x1421 (D := D) (h := h) hP hA (by omega) k1
  rcases r with ⟨c5, S6⟩ | S3
  · dsimp only at e z1
    have e := Option.some.inj e; subst e
    dsimp only [Sum.elim_inr, ex1427_1] at hc
    have hc := Option.some.inj hc; subst hc
    simp -implicitDefEqProofs (disch := first | assumption | exact Nat.le_of_ble_eq_true rfl | decide) only [b1427_0, g1427_2, b1427_2, g1427_4, b1427_4, pe_sipush, pe_istore1, pe_istore2, pe_goto_w, pe_aload0, pe_call1, pm_af_ret, pm_af_void, pm_af_thr, pe_if_eq, pe_iload2, pe_icmp_ge, pe_goto, pe_call2, pe_iload1, pe_imul, pe_iadd, pe_isub, pe_iinc2, pe_dup_i, pe_dup_r, pe_getfield, pe_putfield, pe_aloadN0, pe_aastoreN, pe_areturnN, pe_null, pm_prog_1, pm_ob_some, Nat.reduceDiv, Nat.reduceMod, Nat.reduceMul, Nat.reduceAdd, Int.reduceToNat, pm_kill_i, pm_kill_r, pm_kill_n, pm_kill_j, pm_kill_l, pm_kill_d, pm_cats_nil, pm_cats_i, pm_cats_r, pm_cats_n, pm_cats_l, pm_cats_d, sz_1, sz_2, sl_1, sl_2, lc_0, lc_lt, lc_le, li_ne, va_rf, wr_m1, we_m1, pm_kill_w, Int32.reduceOfInt, Int64.reduceOfInt, Int32.reduceOfNat, Int32.reduceLT, Int32.reduceLE, Prod.mk.injEq, Nat.reduceEqDiff, reduceCtorEq, and_true, true_and, and_false, false_and, and_self, ite_true, ite_false, ↓reduceIte, not_true_eq_false, not_false_eq_true, pe_ri, pe_rz, pe_rc, p_throw, t1427, w_junk hA, Cp_g0_2 hP hA, Cp_p0_2 hP hA, z1]
  · dsimp only at e z1
    obtain ⟨v4, k2, e⟩ := Option.bind_eq_some_iff.mp e
    try dsimp only at e
    have z2 := x1423 (D := D) (h := h) hP hA (by omega) k2
    have e := Option.some.inj e; subst e
    dsimp only [Sum.elim_inl, go1427_1] at hc
    simp -implicitDefEqProofs (disch := first | assumption | exact Nat.le_of_ble_eq_true rfl | decide) only [b1427_0, g1427_2, b1427_2, g1427_4, b1427_4, pe_sipush, pe_istore1, pe_istore2, pe_goto_w, pe_aload0, pe_call1, pm_af_ret, pm_af_void, pm_af_thr, pe_if_eq, pe_iload2, pe_icmp_ge, pe_goto, pe_call2, pe_iload1, pe_imul, pe_iadd, pe_isub, pe_iinc2, pe_dup_i, pe_dup_r, pe_getfield, pe_putfield, pe_aloadN0, pe_aastoreN, pe_areturnN, pe_null, pm_prog_1, pm_ob_some, Nat.reduceDiv, Nat.reduceMod, Nat.reduceMul, Nat.reduceAdd, Int.reduceToNat, pm_kill_i, pm_kill_r, pm_kill_n, pm_kill_j, pm_kill_l, pm_kill_d, pm_cats_nil, pm_cats_i, pm_cats_r, pm_cats_n, pm_cats_l, pm_cats_d, sz_1, sz_2, sl_1, sl_2, lc_0, lc_lt, lc_le, li_ne, va_rf, wr_m1, we_m1, pm_kill_w, Int32.reduceOfInt, Int64.reduceOfInt, Int32.reduceOfNat, Int32.reduceLT, Int32.reduceLE, Prod.mk.injEq, Nat.reduceEqDiff, reduceCtorEq, and_true, true_and, and_false, false_and, and_self, ite_true, ite_false, ↓reduceIte, not_true_eq_false, not_false_eq_true, pe_ri, pe_rz, pe_rc, p_throw, t1427, w_junk hA, Cp_g0_2 hP hA, Cp_p0_2 hP hA, z1, z2, hc]
theorem y1427_b1 {lc : Int32} {fq : Int32} {ll : Int32 → Int32} {A : wK → Nat} {h : pm_H} {D : Nat} {R : Outcome × pm_H} (hP : Cp_P lc fq ll) (hA : wok A (Cp_d lc fq ll) h.1) (hD : 1 ≤ D) (a : Int32 × Int32 × wS) (r : (Int32 × Int32 × wS) ⊕ ((Int32 × wS) ⊕ (Nat × wS))) (e : f1427_b1 lc fq ll a = some r) (hc : Sum.elim (go1427_1 lc fq ll A h D R) (ex1427_1 lc fq ll A h D R) r) : go1427_1 lc fq ll A h D R a := by
  obtain ⟨x1, x2, S⟩ := a
  dsimp only [go1427_1]
  simp only [f1427_b1] at e
  rw [g1427_1, b1427_1]
  obtain ⟨v1, k1, e⟩ := Option.bind_eq_some_iff.mp e
  try dsimp only at e
  have z1 := x1423 (D := D) (h := h) hP hA (by omega) k1
  obtain ⟨v2, k2, e⟩ := Option.bind_eq_some_iff.mp e
  try dsimp only at e
  have z2 := fun h => x1424 (D := D) (h := h) (by omega) k2
  by_cases k3 : v2 = 0
  · rw [if_pos k3] at e
    have e := Option.some.inj e; subst e
    dsimp only [Sum.elim_inr, ex1427_1] at hc
    simp -implicitDefEqProofs (disch := first | assumption | exact Nat.le_of_ble_eq_true rfl | decide) only [b1427_0, g1427_2, b1427_2, g1427_4, b1427_4, pe_sipush, pe_istore1, pe_istore2, pe_goto_w, pe_aload0, pe_call1, pm_af_ret, pm_af_void, pm_af_thr, pe_if_eq, pe_iload2, pe_icmp_ge, pe_goto, pe_call2, pe_iload1, pe_imul, pe_iadd, pe_isub, pe_iinc2, pe_dup_i, pe_dup_r, pe_getfield, pe_putfield, pe_aloadN0, pe_aastoreN, pe_areturnN, pe_null, pm_prog_1, pm_ob_some, Nat.reduceDiv, Nat.reduceMod, Nat.reduceMul, Nat.reduceAdd, Int.reduceToNat, pm_kill_i, pm_kill_r, pm_kill_n, pm_kill_j, pm_kill_l, pm_kill_d, pm_cats_nil, pm_cats_i, pm_cats_r, pm_cats_n, pm_cats_l, pm_cats_d, sz_1, sz_2, sl_1, sl_2, lc_0, lc_lt, lc_le, li_ne, va_rf, wr_m1, we_m1, pm_kill_w, Int32.reduceOfInt, Int64.reduceOfInt, Int32.reduceOfNat, Int32.reduceLT, Int32.reduceLE, Prod.mk.injEq, Nat.reduceEqDiff, reduceCtorEq, and_true, true_and, and_false, false_and, and_self, ite_true, ite_false, ↓reduceIte, not_true_eq_false, not_false_eq_true, pe_ri, pe_rz, pe_rc, p_throw, t1427, w_junk hA, Cp_g0_2 hP hA, Cp_p0_2 hP hA, z1, z2, eq_true k3, hc]
  · rw [if_neg k3] at e
    by_cases k4 : x2 < 5
    · rw [if_pos k4] at e
      have k5 := y1427_3_1 (h := h) hP hA hD e hc
      simp -implicitDefEqProofs (disch := first | assumption | exact Nat.le_of_ble_eq_true rfl | decide) only [b1427_0, g1427_2, b1427_2, g1427_4, b1427_4, pe_sipush, pe_istore1, pe_istore2, pe_goto_w, pe_aload0, pe_call1, pm_af_ret, pm_af_void, pm_af_thr, pe_if_eq, pe_iload2, pe_icmp_ge, pe_goto, pe_call2, pe_iload1, pe_imul, pe_iadd, pe_isub, pe_iinc2, pe_dup_i, pe_dup_r, pe_getfield, pe_putfield, pe_aloadN0, pe_aastoreN, pe_areturnN, pe_null, pm_prog_1, pm_ob_some, Nat.reduceDiv, Nat.reduceMod, Nat.reduceMul, Nat.reduceAdd, Int.reduceToNat, pm_kill_i, pm_kill_r, pm_kill_n, pm_kill_j, pm_kill_l, pm_kill_d, pm_cats_nil, pm_cats_i, pm_cats_r, pm_cats_n, pm_cats_l, pm_cats_d, sz_1, sz_2, sl_1, sl_2, lc_0, lc_lt, lc_le, li_ne, va_rf, wr_m1, we_m1, pm_kill_w, Int32.reduceOfInt, Int64.reduceOfInt, Int32.reduceOfNat, Int32.reduceLT, Int32.reduceLE, Prod.mk.injEq, Nat.reduceEqDiff, reduceCtorEq, and_true, true_and, and_false, false_and, and_self, ite_true, ite_false, ↓reduceIte, not_true_eq_false, not_false_eq_true, pe_ri, pe_rz, pe_rc, p_throw, t1427, w_junk hA, Cp_g0_2 hP hA, Cp_p0_2 hP hA, z1, z2, eq_false k3, eq_true k4, k5]
    · rw [if_neg k4] at e
      have k6 := y1427_3_1 (h := h) hP hA hD e hc
      simp -implicitDefEqProofs (disch := first | assumption | exact Nat.le_of_ble_eq_true rfl | decide) only [b1427_0, g1427_2, b1427_2, g1427_4, b1427_4, pe_sipush, pe_istore1, pe_istore2, pe_goto_w, pe_aload0, pe_call1, pm_af_ret, pm_af_void, pm_af_thr, pe_if_eq, pe_iload2, pe_icmp_ge, pe_goto, pe_call2, pe_iload1, pe_imul, pe_iadd, pe_isub, pe_iinc2, pe_dup_i, pe_dup_r, pe_getfield, pe_putfield, pe_aloadN0, pe_aastoreN, pe_areturnN, pe_null, pm_prog_1, pm_ob_some, Nat.reduceDiv, Nat.reduceMod, Nat.reduceMul, Nat.reduceAdd, Int.reduceToNat, pm_kill_i, pm_kill_r, pm_kill_n, pm_kill_j, pm_kill_l, pm_kill_d, pm_cats_nil, pm_cats_i, pm_cats_r, pm_cats_n, pm_cats_l, pm_cats_d, sz_1, sz_2, sl_1, sl_2, lc_0, lc_lt, lc_le, li_ne, va_rf, wr_m1, we_m1, pm_kill_w, Int32.reduceOfInt, Int64.reduceOfInt, Int32.reduceOfNat, Int32.reduceLT, Int32.reduceLE, Prod.mk.injEq, Nat.reduceEqDiff, reduceCtorEq, and_true, true_and, and_false, false_and, and_self, ite_true, ite_false, ↓reduceIte, not_true_eq_false, not_false_eq_true, pe_ri, pe_rz, pe_rc, p_throw, t1427, w_junk hA, Cp_g0_2 hP hA, Cp_p0_2 hP hA, z1, z2, eq_false k3, eq_false k4, k6]
theorem z1427_1 {lc : Int32} {fq : Int32} {ll : Int32 → Int32} {A : wK → Nat} {h : pm_H} {D : Nat} {R : Outcome × pm_H} (hP : Cp_P lc fq ll) (hA : wok A (Cp_d lc fq ll) h.1) (hD : 1 ≤ D) {n : Nat} {a : Int32 × Int32 × wS} {b : (Int32 × wS) ⊕ (Nat × wS)} (e : lp (f1427_b1 lc fq ll) n a = some b) (hx : ex1427_1 lc fq ll A h D R b) : go1427_1 lc fq ll A h D R a := lp_run (fun a r => y1427_b1 hP hA hD a r) n a b e hx
theorem x1427 {lc : Int32} {fq : Int32} {ll : Int32 → Int32} {A : wK → Nat} {h : pm_H} {D : Nat} {S : wS} {r : (Nat × wS) ⊕ (Int32 × wS)} (hP : Cp_P lc fq ll) (hA : wok A (Cp_d lc fq ll) h.1) (hD : 2 ≤ D) (e : f1427 lc fq ll S = some r) : pm_call pm_prog D 1427 [.ref (A (0, 0, 0))] (wput A (Cp_d lc fq ll) S h) = some (match (generalizing := false) r with | .inl (c, S1) => (Outcome.threw c, (wput A (Cp_d lc fq ll) S1 (pm_new h 6 (.inr (c, []))))) | .inr (w0, S1) => (Outcome.returned (some (.int w0)), (wput A (Cp_d lc fq ll) S1 h))) := by
  obtain ⟨D, rfl⟩ : ∃ D', D = D' + 1 := ⟨D - 1, by omega⟩
  have hD : 1 ≤ D := by omega
  simp only [f1427] at e
  rw [c1427 (Cp_c0 hP hA), b1427_0]
  obtain ⟨b, k1, e⟩ := Option.bind_eq_some_iff.mp e
  rcases b with ⟨v8, S7⟩ | ⟨c10, S9⟩
  ·
    try dsimp only at e
    try simp -implicitDefEqProofs (disch := first | assumption | exact Nat.le_of_ble_eq_true rfl | decide) only [b1427_0, g1427_2, b1427_2, g1427_4, b1427_4, pe_sipush, pe_istore1, pe_istore2, pe_goto_w, pe_aload0, pe_call1, pm_af_ret, pm_af_void, pm_af_thr, pe_if_eq, pe_iload2, pe_icmp_ge, pe_goto, pe_call2, pe_iload1, pe_imul, pe_iadd, pe_isub, pe_iinc2, pe_dup_i, pe_dup_r, pe_getfield, pe_putfield, pe_aloadN0, pe_aastoreN, pe_areturnN, pe_null, pm_prog_1, pm_ob_some, Nat.reduceDiv, Nat.reduceMod, Nat.reduceMul, Nat.reduceAdd, Int.reduceToNat, pm_kill_i, pm_kill_r, pm_kill_n, pm_kill_j, pm_kill_l, pm_kill_d, pm_cats_nil, pm_cats_i, pm_cats_r, pm_cats_n, pm_cats_l, pm_cats_d, sz_1, sz_2, sl_1, sl_2, lc_0, lc_lt, lc_le, li_ne, va_rf, wr_m1, we_m1, pm_kill_w, Int32.reduceOfInt, Int64.reduceOfInt, Int32.reduceOfNat, Int32.reduceLT, Int32.reduceLE, Prod.mk.injEq, Nat.reduceEqDiff, reduceCtorEq, and_true, true_and, and_false, false_and, and_self, ite_true, ite_false, ↓reduceIte, not_true_eq_false, not_false_eq_true, pe_ri, pe_rz, pe_rc, p_throw, t1427, w_junk hA, Cp_g0_2 hP hA, Cp_p0_2 hP hA]
    refine z1427_1 hP hA hD k1 ?_
    dsimp only [ex1427_1]
    intro q0 q2
    have e := Option.some.inj e; subst e
    simp -implicitDefEqProofs (disch := first | assumption | exact Nat.le_of_ble_eq_true rfl | decide) only [b1427_0, g1427_2, b1427_2, g1427_4, b1427_4, pe_sipush, pe_istore1, pe_istore2, pe_goto_w, pe_aload0, pe_call1, pm_af_ret, pm_af_void, pm_af_thr, pe_if_eq, pe_iload2, pe_icmp_ge, pe_goto, pe_call2, pe_iload1, pe_imul, pe_iadd, pe_isub, pe_iinc2, pe_dup_i, pe_dup_r, pe_getfield, pe_putfield, pe_aloadN0, pe_aastoreN, pe_areturnN, pe_null, pm_prog_1, pm_ob_some, Nat.reduceDiv, Nat.reduceMod, Nat.reduceMul, Nat.reduceAdd, Int.reduceToNat, pm_kill_i, pm_kill_r, pm_kill_n, pm_kill_j, pm_kill_l, pm_kill_d, pm_cats_nil, pm_cats_i, pm_cats_r, pm_cats_n, pm_cats_l, pm_cats_d, sz_1, sz_2, sl_1, sl_2, lc_0, lc_lt, lc_le, li_ne, va_rf, wr_m1, we_m1, pm_kill_w, Int32.reduceOfInt, Int64.reduceOfInt, Int32.reduceOfNat, Int32.reduceLT, Int32.reduceLE, Prod.mk.injEq, Nat.reduceEqDiff, reduceCtorEq, and_true, true_and, and_false, false_and, and_self, ite_true, ite_false, ↓reduceIte, not_true_eq_false, not_false_eq_true, pe_ri, pe_rz, pe_rc, p_throw, t1427, w_junk hA, Cp_g0_2 hP hA, Cp_p0_2 hP hA]
  ·
    try dsimp only at e
    try simp -implicitDefEqProofs (disch := first | assumption | exact Nat.le_of_ble_eq_true rfl | decide) only [b1427_0, g1427_2, b1427_2, g1427_4, b1427_4, pe_sipush, pe_istore1, pe_istore2, pe_goto_w, pe_aload0, pe_call1, pm_af_ret, pm_af_void, pm_af_thr, pe_if_eq, pe_iload2, pe_icmp_ge, pe_goto, pe_call2, pe_iload1, pe_imul, pe_iadd, pe_isub, pe_iinc2, pe_dup_i, pe_dup_r, pe_getfield, pe_putfield, pe_aloadN0, pe_aastoreN, pe_areturnN, pe_null, pm_prog_1, pm_ob_some, Nat.reduceDiv, Nat.reduceMod, Nat.reduceMul, Nat.reduceAdd, Int.reduceToNat, pm_kill_i, pm_kill_r, pm_kill_n, pm_kill_j, pm_kill_l, pm_kill_d, pm_cats_nil, pm_cats_i, pm_cats_r, pm_cats_n, pm_cats_l, pm_cats_d, sz_1, sz_2, sl_1, sl_2, lc_0, lc_lt, lc_le, li_ne, va_rf, wr_m1, we_m1, pm_kill_w, Int32.reduceOfInt, Int64.reduceOfInt, Int32.reduceOfNat, Int32.reduceLT, Int32.reduceLE, Prod.mk.injEq, Nat.reduceEqDiff, reduceCtorEq, and_true, true_and, and_false, false_and, and_self, ite_true, ite_false, ↓reduceIte, not_true_eq_false, not_false_eq_true, pe_ri, pe_rz, pe_rc, p_throw, t1427, w_junk hA, Cp_g0_2 hP hA, Cp_p0_2 hP hA]
    refine z1427_1 hP hA hD k1 ?_
    dsimp only [ex1427_1]
    have e := Option.some.inj e; subst e
    simp -implicitDefEqProofs (disch := first | assumption | exact Nat.le_of_ble_eq_true rfl | decide) only [b1427_0, g1427_2, b1427_2, g1427_4, b1427_4, pe_sipush, pe_istore1, pe_istore2, pe_goto_w, pe_aload0, pe_call1, pm_af_ret, pm_af_void, pm_af_thr, pe_if_eq, pe_iload2, pe_icmp_ge, pe_goto, pe_call2, pe_iload1, pe_imul, pe_iadd, pe_isub, pe_iinc2, pe_dup_i, pe_dup_r, pe_getfield, pe_putfield, pe_aloadN0, pe_aastoreN, pe_areturnN, pe_null, pm_prog_1, pm_ob_some, Nat.reduceDiv, Nat.reduceMod, Nat.reduceMul, Nat.reduceAdd, Int.reduceToNat, pm_kill_i, pm_kill_r, pm_kill_n, pm_kill_j, pm_kill_l, pm_kill_d, pm_cats_nil, pm_cats_i, pm_cats_r, pm_cats_n, pm_cats_l, pm_cats_d, sz_1, sz_2, sl_1, sl_2, lc_0, lc_lt, lc_le, li_ne, va_rf, wr_m1, we_m1, pm_kill_w, Int32.reduceOfInt, Int64.reduceOfInt, Int32.reduceOfNat, Int32.reduceLT, Int32.reduceLE, Prod.mk.injEq, Nat.reduceEqDiff, reduceCtorEq, and_true, true_and, and_false, false_and, and_self, ite_true, ite_false, ↓reduceIte, not_true_eq_false, not_false_eq_true, pe_ri, pe_rz, pe_rc, p_throw, t1427, w_junk hA, Cp_g0_2 hP hA, Cp_p0_2 hP hA]
/-- TimberHouse$PriceLines.isJoining(C)Z -/
theorem c1426 {d : Nat} {h : pm_H} {x0 : Int32} : pm_call pm_prog (d + 1) 1426 [.int x0] h = pm_ev pm_prog (pm_call pm_prog d) 1426 0 b1426_0 [.int x0] [] h := pm_cal (pm_rc0 rfl) rfl rfl rfl
theorem g1426_1 {cl : pm_C} {ls st : List Value} {h : pm_H} : pm_go pm_prog cl 1426 1 ls st h = pm_ev pm_prog cl 1426 1 b1426_1 ls st h := pm_go_eq pm_prog cl 1426 1 ls st h
theorem g1426_2 {cl : pm_C} {ls st : List Value} {h : pm_H} : pm_go pm_prog cl 1426 2 ls st h = pm_ev pm_prog cl 1426 2 b1426_2 ls st h := pm_go_eq pm_prog cl 1426 2 ls st h
theorem g1426_3 {cl : pm_C} {ls st : List Value} {h : pm_H} : pm_go pm_prog cl 1426 3 ls st h = pm_ev pm_prog cl 1426 3 b1426_3 ls st h := pm_go_eq pm_prog cl 1426 3 ls st h
/-- TimberHouse$PriceLines.isJoining(C)Z -/
noncomputable def f1426 (x0 : Int32) : Option (Int32) :=
  if x0 = 43 then
    some 1
  else
    if x0 = 45 then
      some 1
    else
      if x0 = 42 then
        some 1
      else
        if x0 = 47 then
          some 1
        else
          if x0 = 60 then
            some 1
          else
            if x0 = 62 then
              some 1
            else
              some 0
theorem x1426 {h : pm_H} {D : Nat} {x0 : Int32} {r : Int32} (hD : 1 ≤ D) (e : f1426 x0 = some r) : pm_call pm_prog D 1426 [.int x0] h = some (Outcome.returned (some (.int r)), h) := by
  obtain ⟨D, rfl⟩ : ∃ D', D = D' + 1 := ⟨D - 1, by omega⟩
  have hD : 0 ≤ D := by omega
  simp only [f1426] at e
  rw [c1426, b1426_0]
  by_cases k1 : x0 = 43
  · rw [if_pos k1] at e
    have e := Option.some.inj e; subst e
    simp -implicitDefEqProofs (disch := first | assumption | exact Nat.le_of_ble_eq_true rfl | decide) only [b1426_0, g1426_1, b1426_1, g1426_2, b1426_2, g1426_3, b1426_3, pe_iload0, pe_sipush, pe_icmp_eq, pe_icmp_ne, pe_goto_w, pe_goto, pe_aastoreN, pe_areturnN, pe_null, pm_prog_1, pm_ob_some, Nat.reduceDiv, Nat.reduceMod, Nat.reduceMul, Nat.reduceAdd, Int.reduceToNat, pm_kill_i, pm_kill_r, pm_kill_n, pm_kill_j, pm_kill_l, pm_kill_d, pm_cats_nil, pm_cats_i, pm_cats_r, pm_cats_n, pm_cats_l, pm_cats_d, sz_1, sz_2, sl_1, sl_2, lc_0, lc_lt, lc_le, li_ne, va_rf, wr_m1, we_m1, pm_kill_w, Int32.reduceOfInt, Int64.reduceOfInt, Int32.reduceOfNat, Int32.reduceLT, Int32.reduceLE, Prod.mk.injEq, Nat.reduceEqDiff, reduceCtorEq, and_true, true_and, and_false, false_and, and_self, ite_true, ite_false, ↓reduceIte, not_true_eq_false, not_false_eq_true, pe_ri, pe_rz, pe_rc, eq_true k1]
  · rw [if_neg k1] at e
    by_cases k2 : x0 = 45
    · rw [if_pos k2] at e
      have e := Option.some.inj e; subst e
      simp -implicitDefEqProofs (disch := first | assumption | exact Nat.le_of_ble_eq_true rfl | decide) only [b1426_0, g1426_1, b1426_1, g1426_2, b1426_2, g1426_3, b1426_3, pe_iload0, pe_sipush, pe_icmp_eq, pe_icmp_ne, pe_goto_w, pe_goto, pe_aastoreN, pe_areturnN, pe_null, pm_prog_1, pm_ob_some, Nat.reduceDiv, Nat.reduceMod, Nat.reduceMul, Nat.reduceAdd, Int.reduceToNat, pm_kill_i, pm_kill_r, pm_kill_n, pm_kill_j, pm_kill_l, pm_kill_d, pm_cats_nil, pm_cats_i, pm_cats_r, pm_cats_n, pm_cats_l, pm_cats_d, sz_1, sz_2, sl_1, sl_2, lc_0, lc_lt, lc_le, li_ne, va_rf, wr_m1, we_m1, pm_kill_w, Int32.reduceOfInt, Int64.reduceOfInt, Int32.reduceOfNat, Int32.reduceLT, Int32.reduceLE, Prod.mk.injEq, Nat.reduceEqDiff, reduceCtorEq, and_true, true_and, and_false, false_and, and_self, ite_true, ite_false, ↓reduceIte, not_true_eq_false, not_false_eq_true, pe_ri, pe_rz, pe_rc, eq_false k1, eq_true k2]
    · rw [if_neg k2] at e
      by_cases k3 : x0 = 42
      · rw [if_pos k3] at e
        have e := Option.some.inj e; subst e
        simp -implicitDefEqProofs (disch := first | assumption | exact Nat.le_of_ble_eq_true rfl | decide) only [b1426_0, g1426_1, b1426_1, g1426_2, b1426_2, g1426_3, b1426_3, pe_iload0, pe_sipush, pe_icmp_eq, pe_icmp_ne, pe_goto_w, pe_goto, pe_aastoreN, pe_areturnN, pe_null, pm_prog_1, pm_ob_some, Nat.reduceDiv, Nat.reduceMod, Nat.reduceMul, Nat.reduceAdd, Int.reduceToNat, pm_kill_i, pm_kill_r, pm_kill_n, pm_kill_j, pm_kill_l, pm_kill_d, pm_cats_nil, pm_cats_i, pm_cats_r, pm_cats_n, pm_cats_l, pm_cats_d, sz_1, sz_2, sl_1, sl_2, lc_0, lc_lt, lc_le, li_ne, va_rf, wr_m1, we_m1, pm_kill_w, Int32.reduceOfInt, Int64.reduceOfInt, Int32.reduceOfNat, Int32.reduceLT, Int32.reduceLE, Prod.mk.injEq, Nat.reduceEqDiff, reduceCtorEq, and_true, true_and, and_false, false_and, and_self, ite_true, ite_false, ↓reduceIte, not_true_eq_false, not_false_eq_true, pe_ri, pe_rz, pe_rc, eq_false k1, eq_false k2, eq_true k3]
      · rw [if_neg k3] at e
        by_cases k4 : x0 = 47
        · rw [if_pos k4] at e
          have e := Option.some.inj e; subst e
          simp -implicitDefEqProofs (disch := first | assumption | exact Nat.le_of_ble_eq_true rfl | decide) only [b1426_0, g1426_1, b1426_1, g1426_2, b1426_2, g1426_3, b1426_3, pe_iload0, pe_sipush, pe_icmp_eq, pe_icmp_ne, pe_goto_w, pe_goto, pe_aastoreN, pe_areturnN, pe_null, pm_prog_1, pm_ob_some, Nat.reduceDiv, Nat.reduceMod, Nat.reduceMul, Nat.reduceAdd, Int.reduceToNat, pm_kill_i, pm_kill_r, pm_kill_n, pm_kill_j, pm_kill_l, pm_kill_d, pm_cats_nil, pm_cats_i, pm_cats_r, pm_cats_n, pm_cats_l, pm_cats_d, sz_1, sz_2, sl_1, sl_2, lc_0, lc_lt, lc_le, li_ne, va_rf, wr_m1, we_m1, pm_kill_w, Int32.reduceOfInt, Int64.reduceOfInt, Int32.reduceOfNat, Int32.reduceLT, Int32.reduceLE, Prod.mk.injEq, Nat.reduceEqDiff, reduceCtorEq, and_true, true_and, and_false, false_and, and_self, ite_true, ite_false, ↓reduceIte, not_true_eq_false, not_false_eq_true, pe_ri, pe_rz, pe_rc, eq_false k1, eq_false k2, eq_false k3, eq_true k4]
        · rw [if_neg k4] at e
          by_cases k5 : x0 = 60
          · rw [if_pos k5] at e
            have e := Option.some.inj e; subst e
            simp -implicitDefEqProofs (disch := first | assumption | exact Nat.le_of_ble_eq_true rfl | decide) only [b1426_0, g1426_1, b1426_1, g1426_2, b1426_2, g1426_3, b1426_3, pe_iload0, pe_sipush, pe_icmp_eq, pe_icmp_ne, pe_goto_w, pe_goto, pe_aastoreN, pe_areturnN, pe_null, pm_prog_1, pm_ob_some, Nat.reduceDiv, Nat.reduceMod, Nat.reduceMul, Nat.reduceAdd, Int.reduceToNat, pm_kill_i, pm_kill_r, pm_kill_n, pm_kill_j, pm_kill_l, pm_kill_d, pm_cats_nil, pm_cats_i, pm_cats_r, pm_cats_n, pm_cats_l, pm_cats_d, sz_1, sz_2, sl_1, sl_2, lc_0, lc_lt, lc_le, li_ne, va_rf, wr_m1, we_m1, pm_kill_w, Int32.reduceOfInt, Int64.reduceOfInt, Int32.reduceOfNat, Int32.reduceLT, Int32.reduceLE, Prod.mk.injEq, Nat.reduceEqDiff, reduceCtorEq, and_true, true_and, and_false, false_and, and_self, ite_true, ite_false, ↓reduceIte, not_true_eq_false, not_false_eq_true, pe_ri, pe_rz, pe_rc, eq_false k1, eq_false k2, eq_false k3, eq_false k4, eq_true k5]
          · rw [if_neg k5] at e
            by_cases k6 : x0 = 62
            · rw [if_pos k6] at e
              have e := Option.some.inj e; subst e
              simp -implicitDefEqProofs (disch := first | assumption | exact Nat.le_of_ble_eq_true rfl | decide) only [b1426_0, g1426_1, b1426_1, g1426_2, b1426_2, g1426_3, b1426_3, pe_iload0, pe_sipush, pe_icmp_eq, pe_icmp_ne, pe_goto_w, pe_goto, pe_aastoreN, pe_areturnN, pe_null, pm_prog_1, pm_ob_some, Nat.reduceDiv, Nat.reduceMod, Nat.reduceMul, Nat.reduceAdd, Int.reduceToNat, pm_kill_i, pm_kill_r, pm_kill_n, pm_kill_j, pm_kill_l, pm_kill_d, pm_cats_nil, pm_cats_i, pm_cats_r, pm_cats_n, pm_cats_l, pm_cats_d, sz_1, sz_2, sl_1, sl_2, lc_0, lc_lt, lc_le, li_ne, va_rf, wr_m1, we_m1, pm_kill_w, Int32.reduceOfInt, Int64.reduceOfInt, Int32.reduceOfNat, Int32.reduceLT, Int32.reduceLE, Prod.mk.injEq, Nat.reduceEqDiff, reduceCtorEq, and_true, true_and, and_false, false_and, and_self, ite_true, ite_false, ↓reduceIte, not_true_eq_false, not_false_eq_true, pe_ri, pe_rz, pe_rc, eq_false k1, eq_false k2, eq_false k3, eq_false k4, eq_false k5, eq_true k6]
            · rw [if_neg k6] at e
              have e := Option.some.inj e; subst e
              simp -implicitDefEqProofs (disch := first | assumption | exact Nat.le_of_ble_eq_true rfl | decide) only [b1426_0, g1426_1, b1426_1, g1426_2, b1426_2, g1426_3, b1426_3, pe_iload0, pe_sipush, pe_icmp_eq, pe_icmp_ne, pe_goto_w, pe_goto, pe_aastoreN, pe_areturnN, pe_null, pm_prog_1, pm_ob_some, Nat.reduceDiv, Nat.reduceMod, Nat.reduceMul, Nat.reduceAdd, Int.reduceToNat, pm_kill_i, pm_kill_r, pm_kill_n, pm_kill_j, pm_kill_l, pm_kill_d, pm_cats_nil, pm_cats_i, pm_cats_r, pm_cats_n, pm_cats_l, pm_cats_d, sz_1, sz_2, sl_1, sl_2, lc_0, lc_lt, lc_le, li_ne, va_rf, wr_m1, we_m1, pm_kill_w, Int32.reduceOfInt, Int64.reduceOfInt, Int32.reduceOfNat, Int32.reduceLT, Int32.reduceLE, Prod.mk.injEq, Nat.reduceEqDiff, reduceCtorEq, and_true, true_and, and_false, false_and, and_self, ite_true, ite_false, ↓reduceIte, not_true_eq_false, not_false_eq_true, pe_ri, pe_rz, pe_rc, eq_false k1, eq_false k2, eq_false k3, eq_false k4, eq_false k5, eq_false k6]
/-- TimberHouse$PriceLines.skip()V -/
theorem c1428 {d : Nat} {h : pm_H} {a : Nat} (hc : pm_cls h a = some 22) : pm_call pm_prog (d + 1) 1428 [.ref a] h = pm_ev pm_prog (pm_call pm_prog d) 1428 0 b1428_0 [.ref a] [] h := pm_cal (pm_rc1 hc rfl) rfl rfl rfl
theorem g1428_1 {cl : pm_C} {ls st : List Value} {h : pm_H} : pm_go pm_prog cl 1428 1 ls st h = pm_ev pm_prog cl 1428 1 b1428_1 ls st h := pm_go_eq pm_prog cl 1428 1 ls st h
noncomputable def f1428_b0 (lc : Int32) (fq : Int32) (ll : Int32 → Int32) : wS → Option ((wS) ⊕ ((wS))) := fun S =>
  (f1423 lc fq ll S).bind fun v1 =>
  if v1 = 32 then
    some (.inl (sz S (0, 0, 0) 2 ((S.1 (0, 0, 0) 2) + 1)))
  else
    some (.inr S)
/-- TimberHouse$PriceLines.skip()V -/
noncomputable def f1428 (lc : Int32) (fq : Int32) (ll : Int32 → Int32) (S : wS) : Option (wS) :=
  (lp (f1428_b0 lc fq ll) FU S).bind fun S2 =>
  some S2
theorem g1428_0 {cl : pm_C} {ls st : List Value} {h : pm_H} : pm_go pm_prog cl 1428 0 ls st h = pm_ev pm_prog cl 1428 0 b1428_0 ls st h := pm_go_eq pm_prog cl 1428 0 ls st h
def go1428_0 (lc : Int32) (fq : Int32) (ll : Int32 → Int32) (A : wK → Nat) (h : pm_H) (D : Nat) (R : Outcome × pm_H) : wS → Prop := fun S => pm_go pm_prog (pm_call pm_prog D) 1428 0 [.ref (A (0, 0, 0))] [] (wput A (Cp_d lc fq ll) S h) = some R
def ex1428_0 (lc : Int32) (fq : Int32) (ll : Int32 → Int32) (A : wK → Nat) (h : pm_H) (D : Nat) (R : Outcome × pm_H) : (wS) → Prop := fun S => ∀ q0 : Value, pm_go pm_prog (pm_call pm_prog D) 1428 1 [q0] [] (wput A (Cp_d lc fq ll) S h) = some R
theorem y1428_b0 {lc : Int32} {fq : Int32} {ll : Int32 → Int32} {A : wK → Nat} {h : pm_H} {D : Nat} {R : Outcome × pm_H} (hP : Cp_P lc fq ll) (hA : wok A (Cp_d lc fq ll) h.1) (hD : 1 ≤ D) (S : wS) (r : (wS) ⊕ ((wS))) (e : f1428_b0 lc fq ll S = some r) (hc : Sum.elim (go1428_0 lc fq ll A h D R) (ex1428_0 lc fq ll A h D R) r) : go1428_0 lc fq ll A h D R S := by
  dsimp only [go1428_0]
  simp only [f1428_b0] at e
  rw [g1428_0, b1428_0]
  obtain ⟨v1, k1, e⟩ := Option.bind_eq_some_iff.mp e
  try dsimp only at e
  have z1 := x1423 (D := D) (h := h) hP hA (by omega) k1
  by_cases k2 : v1 = 32
  · rw [if_pos k2] at e
    have e := Option.some.inj e; subst e
    dsimp only [Sum.elim_inl, go1428_0] at hc
    simp -implicitDefEqProofs (disch := first | assumption | exact Nat.le_of_ble_eq_true rfl | decide) only [g1428_1, b1428_1, pe_aload0, pe_call1, pm_af_ret, pm_af_void, pm_af_thr, pe_sipush, pe_icmp_ne, pe_dup_i, pe_dup_r, pe_getfield, pe_iadd, pe_putfield, pe_goto, pe_return, pe_aloadN0, pe_aastoreN, pe_areturnN, pe_null, pm_prog_1, pm_ob_some, Nat.reduceDiv, Nat.reduceMod, Nat.reduceMul, Nat.reduceAdd, Int.reduceToNat, pm_kill_i, pm_kill_r, pm_kill_n, pm_kill_j, pm_kill_l, pm_kill_d, pm_cats_nil, pm_cats_i, pm_cats_r, pm_cats_n, pm_cats_l, pm_cats_d, sz_1, sz_2, sl_1, sl_2, lc_0, lc_lt, lc_le, li_ne, va_rf, wr_m1, we_m1, pm_kill_w, Int32.reduceOfInt, Int64.reduceOfInt, Int32.reduceOfNat, Int32.reduceLT, Int32.reduceLE, Prod.mk.injEq, Nat.reduceEqDiff, reduceCtorEq, and_true, true_and, and_false, false_and, and_self, ite_true, ite_false, ↓reduceIte, not_true_eq_false, not_false_eq_true, pe_ri, pe_rz, pe_rc, Cp_g0_2 hP hA, Cp_p0_2 hP hA, z1, eq_true k2, hc]
  · rw [if_neg k2] at e
    have e := Option.some.inj e; subst e
    dsimp only [Sum.elim_inr, ex1428_0] at hc
    simp -implicitDefEqProofs (disch := first | assumption | exact Nat.le_of_ble_eq_true rfl | decide) only [g1428_1, b1428_1, pe_aload0, pe_call1, pm_af_ret, pm_af_void, pm_af_thr, pe_sipush, pe_icmp_ne, pe_dup_i, pe_dup_r, pe_getfield, pe_iadd, pe_putfield, pe_goto, pe_return, pe_aloadN0, pe_aastoreN, pe_areturnN, pe_null, pm_prog_1, pm_ob_some, Nat.reduceDiv, Nat.reduceMod, Nat.reduceMul, Nat.reduceAdd, Int.reduceToNat, pm_kill_i, pm_kill_r, pm_kill_n, pm_kill_j, pm_kill_l, pm_kill_d, pm_cats_nil, pm_cats_i, pm_cats_r, pm_cats_n, pm_cats_l, pm_cats_d, sz_1, sz_2, sl_1, sl_2, lc_0, lc_lt, lc_le, li_ne, va_rf, wr_m1, we_m1, pm_kill_w, Int32.reduceOfInt, Int64.reduceOfInt, Int32.reduceOfNat, Int32.reduceLT, Int32.reduceLE, Prod.mk.injEq, Nat.reduceEqDiff, reduceCtorEq, and_true, true_and, and_false, false_and, and_self, ite_true, ite_false, ↓reduceIte, not_true_eq_false, not_false_eq_true, pe_ri, pe_rz, pe_rc, Cp_g0_2 hP hA, Cp_p0_2 hP hA, z1, eq_false k2, hc]
theorem z1428_0 {lc : Int32} {fq : Int32} {ll : Int32 → Int32} {A : wK → Nat} {h : pm_H} {D : Nat} {R : Outcome × pm_H} (hP : Cp_P lc fq ll) (hA : wok A (Cp_d lc fq ll) h.1) (hD : 1 ≤ D) {n : Nat} {a : wS} {b : (wS)} (e : lp (f1428_b0 lc fq ll) n a = some b) (hx : ex1428_0 lc fq ll A h D R b) : go1428_0 lc fq ll A h D R a := lp_run (fun a r => y1428_b0 hP hA hD a r) n a b e hx
theorem x1428 {lc : Int32} {fq : Int32} {ll : Int32 → Int32} {A : wK → Nat} {h : pm_H} {D : Nat} {S : wS} {r : wS} (hP : Cp_P lc fq ll) (hA : wok A (Cp_d lc fq ll) h.1) (hD : 2 ≤ D) (e : f1428 lc fq ll S = some r) : pm_call pm_prog D 1428 [.ref (A (0, 0, 0))] (wput A (Cp_d lc fq ll) S h) = some (Outcome.returned none, (wput A (Cp_d lc fq ll) r h)) := by
  obtain ⟨D, rfl⟩ : ∃ D', D = D' + 1 := ⟨D - 1, by omega⟩
  have hD : 1 ≤ D := by omega
  simp only [f1428] at e
  rw [c1428 (Cp_c0 hP hA), ← g1428_0]
  obtain ⟨S2, k1, e⟩ := Option.bind_eq_some_iff.mp e
  try dsimp only at e
  try simp -implicitDefEqProofs (disch := first | assumption | exact Nat.le_of_ble_eq_true rfl | decide) only [g1428_1, b1428_1, pe_aload0, pe_call1, pm_af_ret, pm_af_void, pm_af_thr, pe_sipush, pe_icmp_ne, pe_dup_i, pe_dup_r, pe_getfield, pe_iadd, pe_putfield, pe_goto, pe_return, pe_aloadN0, pe_aastoreN, pe_areturnN, pe_null, pm_prog_1, pm_ob_some, Nat.reduceDiv, Nat.reduceMod, Nat.reduceMul, Nat.reduceAdd, Int.reduceToNat, pm_kill_i, pm_kill_r, pm_kill_n, pm_kill_j, pm_kill_l, pm_kill_d, pm_cats_nil, pm_cats_i, pm_cats_r, pm_cats_n, pm_cats_l, pm_cats_d, sz_1, sz_2, sl_1, sl_2, lc_0, lc_lt, lc_le, li_ne, va_rf, wr_m1, we_m1, pm_kill_w, Int32.reduceOfInt, Int64.reduceOfInt, Int32.reduceOfNat, Int32.reduceLT, Int32.reduceLE, Prod.mk.injEq, Nat.reduceEqDiff, reduceCtorEq, and_true, true_and, and_false, false_and, and_self, ite_true, ite_false, ↓reduceIte, not_true_eq_false, not_false_eq_true, pe_ri, pe_rz, pe_rc, Cp_g0_2 hP hA, Cp_p0_2 hP hA]
  refine z1428_0 hP hA hD k1 ?_
  dsimp only [ex1428_0]
  intro q0
  have e := Option.some.inj e; subst e
  simp -implicitDefEqProofs (disch := first | assumption | exact Nat.le_of_ble_eq_true rfl | decide) only [g1428_1, b1428_1, pe_aload0, pe_call1, pm_af_ret, pm_af_void, pm_af_thr, pe_sipush, pe_icmp_ne, pe_dup_i, pe_dup_r, pe_getfield, pe_iadd, pe_putfield, pe_goto, pe_return, pe_aloadN0, pe_aastoreN, pe_areturnN, pe_null, pm_prog_1, pm_ob_some, Nat.reduceDiv, Nat.reduceMod, Nat.reduceMul, Nat.reduceAdd, Int.reduceToNat, pm_kill_i, pm_kill_r, pm_kill_n, pm_kill_j, pm_kill_l, pm_kill_d, pm_cats_nil, pm_cats_i, pm_cats_r, pm_cats_n, pm_cats_l, pm_cats_d, sz_1, sz_2, sl_1, sl_2, lc_0, lc_lt, lc_le, li_ne, va_rf, wr_m1, we_m1, pm_kill_w, Int32.reduceOfInt, Int64.reduceOfInt, Int32.reduceOfNat, Int32.reduceLT, Int32.reduceLE, Prod.mk.injEq, Nat.reduceEqDiff, reduceCtorEq, and_true, true_and, and_false, false_and, and_self, ite_true, ite_false, ↓reduceIte, not_true_eq_false, not_false_eq_true, pe_ri, pe_rz, pe_rc, Cp_g0_2 hP hA, Cp_p0_2 hP hA]
/-- TimberHouse$PriceLines$Fraction.set(JJ)Z -/
theorem c1473 {d : Nat} {h : pm_H} {a : Nat} {x0 : Int64} {x1 : Int64} (hc : pm_cls h a = some 23) : pm_call pm_prog (d + 1) 1473 [.ref a, .long x0, .long x1] h = pm_ev pm_prog (pm_call pm_prog d) 1473 0 b1473_0 [.ref a, .long x0, pm_junk, .long x1, pm_junk, pm_junk, pm_junk] [] h := pm_cal (pm_rc1 hc rfl) rfl rfl rfl
theorem g1473_1 {cl : pm_C} {ls st : List Value} {h : pm_H} : pm_go pm_prog cl 1473 1 ls st h = pm_ev pm_prog cl 1473 1 b1473_1 ls st h := pm_go_eq pm_prog cl 1473 1 ls st h
theorem g1473_2 {cl : pm_C} {ls st : List Value} {h : pm_H} : pm_go pm_prog cl 1473 2 ls st h = pm_ev pm_prog cl 1473 2 b1473_2 ls st h := pm_go_eq pm_prog cl 1473 2 ls st h
theorem g1473_3 {cl : pm_C} {ls st : List Value} {h : pm_H} : pm_go pm_prog cl 1473 3 ls st h = pm_ev pm_prog cl 1473 3 b1473_3 ls st h := pm_go_eq pm_prog cl 1473 3 ls st h
theorem g1473_4 {cl : pm_C} {ls st : List Value} {h : pm_H} : pm_go pm_prog cl 1473 4 ls st h = pm_ev pm_prog cl 1473 4 b1473_4 ls st h := pm_go_eq pm_prog cl 1473 4 ls st h
theorem g1473_5 {cl : pm_C} {ls st : List Value} {h : pm_H} : pm_go pm_prog cl 1473 5 ls st h = pm_ev pm_prog cl 1473 5 b1473_5 ls st h := pm_go_eq pm_prog cl 1473 5 ls st h
theorem g1473_6 {cl : pm_C} {ls st : List Value} {h : pm_H} : pm_go pm_prog cl 1473 6 ls st h = pm_ev pm_prog cl 1473 6 b1473_6 ls st h := pm_go_eq pm_prog cl 1473 6 ls st h
theorem g1473_7 {cl : pm_C} {ls st : List Value} {h : pm_H} : pm_go pm_prog cl 1473 7 ls st h = pm_ev pm_prog cl 1473 7 b1473_7 ls st h := pm_go_eq pm_prog cl 1473 7 ls st h
theorem g1473_8 {cl : pm_C} {ls st : List Value} {h : pm_H} : pm_go pm_prog cl 1473 8 ls st h = pm_ev pm_prog cl 1473 8 b1473_8 ls st h := pm_go_eq pm_prog cl 1473 8 ls st h
noncomputable def f1473_6 (lc : Int32) (fq : Int32) (ll : Int32 → Int32) (S : wS) (x5 : Int64) (y1 : Int64) : Option (Int32 × wS) :=
  if ¬ x5 = 0 then
    if (S.2 (21, 0, 0) 0) ≤ 1000000000 then
      if (S.2 (21, 0, 0) 0) < (-1000000000) then
        some (0, (sl S (21, 0, 0) 1 (y1 / x5)))
      else
        if (y1 / x5) ≤ 1000000000 then
          some (1, (sl S (21, 0, 0) 1 (y1 / x5)))
        else
          some (0, (sl S (21, 0, 0) 1 (y1 / x5)))
    else
      some (0, (sl S (21, 0, 0) 1 (y1 / x5)))
  else none
noncomputable def f1473_4 (lc : Int32) (fq : Int32) (ll : Int32 → Int32) (S : wS) (x3 : Int64) (x5 : Int64) (y1 : Int64) : Option (Int32 × wS) :=
  if ¬ x5 = 0 then
    if x3 < 0 then
      f1473_6 lc fq ll (sl S (21, 0, 0) 0 (y1 / x5)) x5 (-x3)
    else
      f1473_6 lc fq ll (sl S (21, 0, 0) 0 (y1 / x5)) x5 x3
  else none
noncomputable def f1473_2 (lc : Int32) (fq : Int32) (ll : Int32 → Int32) (S : wS) (x1 : Int64) (x3 : Int64) (y0 : Int64) (y1 : Int64) : Option (Int32 × wS) :=
  (f1415 y0 y1).bind fun v1 =>
  if x3 < 0 then
    f1473_4 lc fq ll S x3 v1 (-x1)
  else
    f1473_4 lc fq ll S x3 v1 x1
/-- TimberHouse$PriceLines$Fraction.set(JJ)Z -/
noncomputable def f1473 (lc : Int32) (fq : Int32) (ll : Int32 → Int32) (S : wS) (x1 : Int64) (x3 : Int64) : Option (Int32 × wS) :=
  if x3 < 0 then
    f1473_2 lc fq ll S x1 x3 x1 (-x3)
  else
    f1473_2 lc fq ll S x1 x3 x1 x3
theorem y1473_6 {lc : Int32} {fq : Int32} {ll : Int32 → Int32} {A : wK → Nat} {h : pm_H} {D : Nat} {S : wS} {x5 : Int64} {y1 : Int64} {r : Int32 × wS} (hP : Cp_P lc fq ll) (hA : wok A (Cp_d lc fq ll) h.1) (hD : 1 ≤ D) (e : f1473_6 lc fq ll S x5 y1 = some r) : ∀ q1 q2 q3 q4 : Value, pm_go pm_prog (pm_call pm_prog D) 1473 6 [.ref (A (21, 0, 0)), q1, q2, q3, q4, .long x5, pm_junk] [.long y1, .ref (A (21, 0, 0))] (wput A (Cp_d lc fq ll) S h) = some (match (generalizing := false) r with | (w0, S1) => (Outcome.returned (some (.int w0)), (wput A (Cp_d lc fq ll) S1 h))) := by
  intro q1 q2 q3 q4
  simp only [f1473_6] at e
  rw [g1473_6, b1473_6]
  by_cases k1 : ¬ x5 = 0
  · rw [if_pos k1] at e
    by_cases k2 : (S.2 (21, 0, 0) 0) ≤ 1000000000
    · rw [if_pos k2] at e
      by_cases k3 : (S.2 (21, 0, 0) 0) < (-1000000000)
      · rw [if_pos k3] at e
        have e := Option.some.inj e; subst e
        simp -implicitDefEqProofs (disch := first | assumption | exact Nat.le_of_ble_eq_true rfl | decide) only [b1473_0, g1473_1, b1473_1, g1473_3, b1473_3, g1473_5, b1473_5, g1473_7, b1473_7, g1473_8, b1473_8, pe_lload1, pe_lload3, pe_bipush, pe_lcmp, pe_if_ge, pe_lneg, pe_goto, pe_goto_w, pe_call2, pm_af_ret, pm_af_void, pm_af_thr, pe_lstore5, pe_aload0, pe_lload5, pe_ldiv, pe_putfield, pe_getfield, pe_if_gt, pe_if_lt, pe_sipush, pe_aloadN0, pe_aastoreN, pe_areturnN, pe_null, pm_prog_1, pm_ob_some, Nat.reduceDiv, Nat.reduceMod, Nat.reduceMul, Nat.reduceAdd, Int.reduceToNat, pm_kill_i, pm_kill_r, pm_kill_n, pm_kill_j, pm_kill_l, pm_kill_d, pm_cats_nil, pm_cats_i, pm_cats_r, pm_cats_n, pm_cats_l, pm_cats_d, sz_1, sz_2, sl_1, sl_2, lc_0, lc_lt, lc_le, li_ne, va_rf, wr_m1, we_m1, pm_kill_w, Int32.reduceOfInt, Int64.reduceOfInt, Int32.reduceOfNat, Int32.reduceLT, Int32.reduceLE, Prod.mk.injEq, Nat.reduceEqDiff, reduceCtorEq, and_true, true_and, and_false, false_and, and_self, ite_true, ite_false, ↓reduceIte, not_true_eq_false, not_false_eq_true, pe_ri, pe_rz, pe_rc, Cp_g21_0 hP hA, Cp_g21_1 hP hA, Cp_p21_0 hP hA, Cp_p21_1 hP hA, eq_true k2, eq_true k3]
      · rw [if_neg k3] at e
        by_cases k4 : (y1 / x5) ≤ 1000000000
        · rw [if_pos k4] at e
          have e := Option.some.inj e; subst e
          simp -implicitDefEqProofs (disch := first | assumption | exact Nat.le_of_ble_eq_true rfl | decide) only [b1473_0, g1473_1, b1473_1, g1473_3, b1473_3, g1473_5, b1473_5, g1473_7, b1473_7, g1473_8, b1473_8, pe_lload1, pe_lload3, pe_bipush, pe_lcmp, pe_if_ge, pe_lneg, pe_goto, pe_goto_w, pe_call2, pm_af_ret, pm_af_void, pm_af_thr, pe_lstore5, pe_aload0, pe_lload5, pe_ldiv, pe_putfield, pe_getfield, pe_if_gt, pe_if_lt, pe_sipush, pe_aloadN0, pe_aastoreN, pe_areturnN, pe_null, pm_prog_1, pm_ob_some, Nat.reduceDiv, Nat.reduceMod, Nat.reduceMul, Nat.reduceAdd, Int.reduceToNat, pm_kill_i, pm_kill_r, pm_kill_n, pm_kill_j, pm_kill_l, pm_kill_d, pm_cats_nil, pm_cats_i, pm_cats_r, pm_cats_n, pm_cats_l, pm_cats_d, sz_1, sz_2, sl_1, sl_2, lc_0, lc_lt, lc_le, li_ne, va_rf, wr_m1, we_m1, pm_kill_w, Int32.reduceOfInt, Int64.reduceOfInt, Int32.reduceOfNat, Int32.reduceLT, Int32.reduceLE, Prod.mk.injEq, Nat.reduceEqDiff, reduceCtorEq, and_true, true_and, and_false, false_and, and_self, ite_true, ite_false, ↓reduceIte, not_true_eq_false, not_false_eq_true, pe_ri, pe_rz, pe_rc, Cp_g21_0 hP hA, Cp_g21_1 hP hA, Cp_p21_0 hP hA, Cp_p21_1 hP hA, eq_true k2, eq_false k3, eq_true k4]
        · rw [if_neg k4] at e
          have e := Option.some.inj e; subst e
          simp -implicitDefEqProofs (disch := first | assumption | exact Nat.le_of_ble_eq_true rfl | decide) only [b1473_0, g1473_1, b1473_1, g1473_3, b1473_3, g1473_5, b1473_5, g1473_7, b1473_7, g1473_8, b1473_8, pe_lload1, pe_lload3, pe_bipush, pe_lcmp, pe_if_ge, pe_lneg, pe_goto, pe_goto_w, pe_call2, pm_af_ret, pm_af_void, pm_af_thr, pe_lstore5, pe_aload0, pe_lload5, pe_ldiv, pe_putfield, pe_getfield, pe_if_gt, pe_if_lt, pe_sipush, pe_aloadN0, pe_aastoreN, pe_areturnN, pe_null, pm_prog_1, pm_ob_some, Nat.reduceDiv, Nat.reduceMod, Nat.reduceMul, Nat.reduceAdd, Int.reduceToNat, pm_kill_i, pm_kill_r, pm_kill_n, pm_kill_j, pm_kill_l, pm_kill_d, pm_cats_nil, pm_cats_i, pm_cats_r, pm_cats_n, pm_cats_l, pm_cats_d, sz_1, sz_2, sl_1, sl_2, lc_0, lc_lt, lc_le, li_ne, va_rf, wr_m1, we_m1, pm_kill_w, Int32.reduceOfInt, Int64.reduceOfInt, Int32.reduceOfNat, Int32.reduceLT, Int32.reduceLE, Prod.mk.injEq, Nat.reduceEqDiff, reduceCtorEq, and_true, true_and, and_false, false_and, and_self, ite_true, ite_false, ↓reduceIte, not_true_eq_false, not_false_eq_true, pe_ri, pe_rz, pe_rc, Cp_g21_0 hP hA, Cp_g21_1 hP hA, Cp_p21_0 hP hA, Cp_p21_1 hP hA, eq_true k2, eq_false k3, eq_false k4]
    · rw [if_neg k2] at e
      have e := Option.some.inj e; subst e
      simp -implicitDefEqProofs (disch := first | assumption | exact Nat.le_of_ble_eq_true rfl | decide) only [b1473_0, g1473_1, b1473_1, g1473_3, b1473_3, g1473_5, b1473_5, g1473_7, b1473_7, g1473_8, b1473_8, pe_lload1, pe_lload3, pe_bipush, pe_lcmp, pe_if_ge, pe_lneg, pe_goto, pe_goto_w, pe_call2, pm_af_ret, pm_af_void, pm_af_thr, pe_lstore5, pe_aload0, pe_lload5, pe_ldiv, pe_putfield, pe_getfield, pe_if_gt, pe_if_lt, pe_sipush, pe_aloadN0, pe_aastoreN, pe_areturnN, pe_null, pm_prog_1, pm_ob_some, Nat.reduceDiv, Nat.reduceMod, Nat.reduceMul, Nat.reduceAdd, Int.reduceToNat, pm_kill_i, pm_kill_r, pm_kill_n, pm_kill_j, pm_kill_l, pm_kill_d, pm_cats_nil, pm_cats_i, pm_cats_r, pm_cats_n, pm_cats_l, pm_cats_d, sz_1, sz_2, sl_1, sl_2, lc_0, lc_lt, lc_le, li_ne, va_rf, wr_m1, we_m1, pm_kill_w, Int32.reduceOfInt, Int64.reduceOfInt, Int32.reduceOfNat, Int32.reduceLT, Int32.reduceLE, Prod.mk.injEq, Nat.reduceEqDiff, reduceCtorEq, and_true, true_and, and_false, false_and, and_self, ite_true, ite_false, ↓reduceIte, not_true_eq_false, not_false_eq_true, pe_ri, pe_rz, pe_rc, Cp_g21_0 hP hA, Cp_g21_1 hP hA, Cp_p21_0 hP hA, Cp_p21_1 hP hA, eq_false k2]
  · rw [if_neg k1] at e; cases e
theorem y1473_4 {lc : Int32} {fq : Int32} {ll : Int32 → Int32} {A : wK → Nat} {h : pm_H} {D : Nat} {S : wS} {x3 : Int64} {x5 : Int64} {y1 : Int64} {r : Int32 × wS} (hP : Cp_P lc fq ll) (hA : wok A (Cp_d lc fq ll) h.1) (hD : 1 ≤ D) (e : f1473_4 lc fq ll S x3 x5 y1 = some r) : ∀ q1 q2 : Value, pm_go pm_prog (pm_call pm_prog D) 1473 4 [.ref (A (21, 0, 0)), q1, q2, .long x3, pm_junk, .long x5, pm_junk] [.long y1, .ref (A (21, 0, 0))] (wput A (Cp_d lc fq ll) S h) = some (match (generalizing := false) r with | (w0, S1) => (Outcome.returned (some (.int w0)), (wput A (Cp_d lc fq ll) S1 h))) := by
  intro q1 q2
  simp only [f1473_4] at e
  rw [g1473_4, b1473_4]
  by_cases k1 : ¬ x5 = 0
  · rw [if_pos k1] at e
    by_cases k2 : x3 < 0
    · rw [if_pos k2] at e
      have k3 := y1473_6 (h := h) hP hA hD e
      simp -implicitDefEqProofs (disch := first | assumption | exact Nat.le_of_ble_eq_true rfl | decide) only [b1473_0, g1473_1, b1473_1, g1473_3, b1473_3, g1473_5, b1473_5, g1473_7, b1473_7, g1473_8, b1473_8, pe_lload1, pe_lload3, pe_bipush, pe_lcmp, pe_if_ge, pe_lneg, pe_goto, pe_goto_w, pe_call2, pm_af_ret, pm_af_void, pm_af_thr, pe_lstore5, pe_aload0, pe_lload5, pe_ldiv, pe_putfield, pe_getfield, pe_if_gt, pe_if_lt, pe_sipush, pe_aloadN0, pe_aastoreN, pe_areturnN, pe_null, pm_prog_1, pm_ob_some, Nat.reduceDiv, Nat.reduceMod, Nat.reduceMul, Nat.reduceAdd, Int.reduceToNat, pm_kill_i, pm_kill_r, pm_kill_n, pm_kill_j, pm_kill_l, pm_kill_d, pm_cats_nil, pm_cats_i, pm_cats_r, pm_cats_n, pm_cats_l, pm_cats_d, sz_1, sz_2, sl_1, sl_2, lc_0, lc_lt, lc_le, li_ne, va_rf, wr_m1, we_m1, pm_kill_w, Int32.reduceOfInt, Int64.reduceOfInt, Int32.reduceOfNat, Int32.reduceLT, Int32.reduceLE, Prod.mk.injEq, Nat.reduceEqDiff, reduceCtorEq, and_true, true_and, and_false, false_and, and_self, ite_true, ite_false, ↓reduceIte, not_true_eq_false, not_false_eq_true, pe_ri, pe_rz, pe_rc, Cp_g21_0 hP hA, Cp_g21_1 hP hA, Cp_p21_0 hP hA, Cp_p21_1 hP hA, eq_true k2, k3]
    · rw [if_neg k2] at e
      have k4 := y1473_6 (h := h) hP hA hD e
      simp -implicitDefEqProofs (disch := first | assumption | exact Nat.le_of_ble_eq_true rfl | decide) only [b1473_0, g1473_1, b1473_1, g1473_3, b1473_3, g1473_5, b1473_5, g1473_7, b1473_7, g1473_8, b1473_8, pe_lload1, pe_lload3, pe_bipush, pe_lcmp, pe_if_ge, pe_lneg, pe_goto, pe_goto_w, pe_call2, pm_af_ret, pm_af_void, pm_af_thr, pe_lstore5, pe_aload0, pe_lload5, pe_ldiv, pe_putfield, pe_getfield, pe_if_gt, pe_if_lt, pe_sipush, pe_aloadN0, pe_aastoreN, pe_areturnN, pe_null, pm_prog_1, pm_ob_some, Nat.reduceDiv, Nat.reduceMod, Nat.reduceMul, Nat.reduceAdd, Int.reduceToNat, pm_kill_i, pm_kill_r, pm_kill_n, pm_kill_j, pm_kill_l, pm_kill_d, pm_cats_nil, pm_cats_i, pm_cats_r, pm_cats_n, pm_cats_l, pm_cats_d, sz_1, sz_2, sl_1, sl_2, lc_0, lc_lt, lc_le, li_ne, va_rf, wr_m1, we_m1, pm_kill_w, Int32.reduceOfInt, Int64.reduceOfInt, Int32.reduceOfNat, Int32.reduceLT, Int32.reduceLE, Prod.mk.injEq, Nat.reduceEqDiff, reduceCtorEq, and_true, true_and, and_false, false_and, and_self, ite_true, ite_false, ↓reduceIte, not_true_eq_false, not_false_eq_true, pe_ri, pe_rz, pe_rc, Cp_g21_0 hP hA, Cp_g21_1 hP hA, Cp_p21_0 hP hA, Cp_p21_1 hP hA, eq_false k2, k4]
  · rw [if_neg k1] at e; cases e
theorem y1473_2 {lc : Int32} {fq : Int32} {ll : Int32 → Int32} {A : wK → Nat} {h : pm_H} {D : Nat} {S : wS} {x1 : Int64} {x3 : Int64} {y0 : Int64} {y1 : Int64} {r : Int32 × wS} (hP : Cp_P lc fq ll) (hA : wok A (Cp_d lc fq ll) h.1) (hD : 1 ≤ D) (e : f1473_2 lc fq ll S x1 x3 y0 y1 = some r) : ∀ q5 q6 : Value, pm_go pm_prog (pm_call pm_prog D) 1473 2 [.ref (A (21, 0, 0)), .long x1, pm_junk, .long x3, pm_junk, q5, q6] [.long y1, .long y0] (wput A (Cp_d lc fq ll) S h) = some (match (generalizing := false) r with | (w0, S1) => (Outcome.returned (some (.int w0)), (wput A (Cp_d lc fq ll) S1 h))) := by
  intro q5 q6
  simp only [f1473_2] at e
  rw [g1473_2, b1473_2]
  obtain ⟨v1, k1, e⟩ := Option.bind_eq_some_iff.mp e
  try dsimp only at e
  have z1 := fun h => x1415 (D := D) (h := h) (by omega) k1
  by_cases k2 : x3 < 0
  · rw [if_pos k2] at e
    have k3 := y1473_4 (h := h) hP hA hD e
    simp -implicitDefEqProofs (disch := first | assumption | exact Nat.le_of_ble_eq_true rfl | decide) only [b1473_0, g1473_1, b1473_1, g1473_3, b1473_3, g1473_5, b1473_5, g1473_7, b1473_7, g1473_8, b1473_8, pe_lload1, pe_lload3, pe_bipush, pe_lcmp, pe_if_ge, pe_lneg, pe_goto, pe_goto_w, pe_call2, pm_af_ret, pm_af_void, pm_af_thr, pe_lstore5, pe_aload0, pe_lload5, pe_ldiv, pe_putfield, pe_getfield, pe_if_gt, pe_if_lt, pe_sipush, pe_aloadN0, pe_aastoreN, pe_areturnN, pe_null, pm_prog_1, pm_ob_some, Nat.reduceDiv, Nat.reduceMod, Nat.reduceMul, Nat.reduceAdd, Int.reduceToNat, pm_kill_i, pm_kill_r, pm_kill_n, pm_kill_j, pm_kill_l, pm_kill_d, pm_cats_nil, pm_cats_i, pm_cats_r, pm_cats_n, pm_cats_l, pm_cats_d, sz_1, sz_2, sl_1, sl_2, lc_0, lc_lt, lc_le, li_ne, va_rf, wr_m1, we_m1, pm_kill_w, Int32.reduceOfInt, Int64.reduceOfInt, Int32.reduceOfNat, Int32.reduceLT, Int32.reduceLE, Prod.mk.injEq, Nat.reduceEqDiff, reduceCtorEq, and_true, true_and, and_false, false_and, and_self, ite_true, ite_false, ↓reduceIte, not_true_eq_false, not_false_eq_true, pe_ri, pe_rz, pe_rc, Cp_g21_0 hP hA, Cp_g21_1 hP hA, Cp_p21_0 hP hA, Cp_p21_1 hP hA, z1, eq_true k2, k3]
  · rw [if_neg k2] at e
    have k4 := y1473_4 (h := h) hP hA hD e
    simp -implicitDefEqProofs (disch := first | assumption | exact Nat.le_of_ble_eq_true rfl | decide) only [b1473_0, g1473_1, b1473_1, g1473_3, b1473_3, g1473_5, b1473_5, g1473_7, b1473_7, g1473_8, b1473_8, pe_lload1, pe_lload3, pe_bipush, pe_lcmp, pe_if_ge, pe_lneg, pe_goto, pe_goto_w, pe_call2, pm_af_ret, pm_af_void, pm_af_thr, pe_lstore5, pe_aload0, pe_lload5, pe_ldiv, pe_putfield, pe_getfield, pe_if_gt, pe_if_lt, pe_sipush, pe_aloadN0, pe_aastoreN, pe_areturnN, pe_null, pm_prog_1, pm_ob_some, Nat.reduceDiv, Nat.reduceMod, Nat.reduceMul, Nat.reduceAdd, Int.reduceToNat, pm_kill_i, pm_kill_r, pm_kill_n, pm_kill_j, pm_kill_l, pm_kill_d, pm_cats_nil, pm_cats_i, pm_cats_r, pm_cats_n, pm_cats_l, pm_cats_d, sz_1, sz_2, sl_1, sl_2, lc_0, lc_lt, lc_le, li_ne, va_rf, wr_m1, we_m1, pm_kill_w, Int32.reduceOfInt, Int64.reduceOfInt, Int32.reduceOfNat, Int32.reduceLT, Int32.reduceLE, Prod.mk.injEq, Nat.reduceEqDiff, reduceCtorEq, and_true, true_and, and_false, false_and, and_self, ite_true, ite_false, ↓reduceIte, not_true_eq_false, not_false_eq_true, pe_ri, pe_rz, pe_rc, Cp_g21_0 hP hA, Cp_g21_1 hP hA, Cp_p21_0 hP hA, Cp_p21_1 hP hA, z1, eq_false k2, k4]
theorem x1473 {lc : Int32} {fq : Int32} {ll : Int32 → Int32} {A : wK → Nat} {h : pm_H} {D : Nat} {S : wS} {x1 : Int64} {x3 : Int64} {r : Int32 × wS} (hP : Cp_P lc fq ll) (hA : wok A (Cp_d lc fq ll) h.1) (hD : 2 ≤ D) (e : f1473 lc fq ll S x1 x3 = some r) : pm_call pm_prog D 1473 [.ref (A (21, 0, 0)), .long x1, .long x3] (wput A (Cp_d lc fq ll) S h) = some (match (generalizing := false) r with | (w0, S1) => (Outcome.returned (some (.int w0)), (wput A (Cp_d lc fq ll) S1 h))) := by
  obtain ⟨D, rfl⟩ : ∃ D', D = D' + 1 := ⟨D - 1, by omega⟩
  have hD : 1 ≤ D := by omega
  simp only [f1473] at e
  rw [c1473 (Cp_c21 hP hA), b1473_0]
  by_cases k1 : x3 < 0
  · rw [if_pos k1] at e
    have k2 := y1473_2 (h := h) hP hA hD e
    simp -implicitDefEqProofs (disch := first | assumption | exact Nat.le_of_ble_eq_true rfl | decide) only [b1473_0, g1473_1, b1473_1, g1473_3, b1473_3, g1473_5, b1473_5, g1473_7, b1473_7, g1473_8, b1473_8, pe_lload1, pe_lload3, pe_bipush, pe_lcmp, pe_if_ge, pe_lneg, pe_goto, pe_goto_w, pe_call2, pm_af_ret, pm_af_void, pm_af_thr, pe_lstore5, pe_aload0, pe_lload5, pe_ldiv, pe_putfield, pe_getfield, pe_if_gt, pe_if_lt, pe_sipush, pe_aloadN0, pe_aastoreN, pe_areturnN, pe_null, pm_prog_1, pm_ob_some, Nat.reduceDiv, Nat.reduceMod, Nat.reduceMul, Nat.reduceAdd, Int.reduceToNat, pm_kill_i, pm_kill_r, pm_kill_n, pm_kill_j, pm_kill_l, pm_kill_d, pm_cats_nil, pm_cats_i, pm_cats_r, pm_cats_n, pm_cats_l, pm_cats_d, sz_1, sz_2, sl_1, sl_2, lc_0, lc_lt, lc_le, li_ne, va_rf, wr_m1, we_m1, pm_kill_w, Int32.reduceOfInt, Int64.reduceOfInt, Int32.reduceOfNat, Int32.reduceLT, Int32.reduceLE, Prod.mk.injEq, Nat.reduceEqDiff, reduceCtorEq, and_true, true_and, and_false, false_and, and_self, ite_true, ite_false, ↓reduceIte, not_true_eq_false, not_false_eq_true, pe_ri, pe_rz, pe_rc, Cp_g21_0 hP hA, Cp_g21_1 hP hA, Cp_p21_0 hP hA, Cp_p21_1 hP hA, eq_true k1, k2]
  · rw [if_neg k1] at e
    have k3 := y1473_2 (h := h) hP hA hD e
    simp -implicitDefEqProofs (disch := first | assumption | exact Nat.le_of_ble_eq_true rfl | decide) only [b1473_0, g1473_1, b1473_1, g1473_3, b1473_3, g1473_5, b1473_5, g1473_7, b1473_7, g1473_8, b1473_8, pe_lload1, pe_lload3, pe_bipush, pe_lcmp, pe_if_ge, pe_lneg, pe_goto, pe_goto_w, pe_call2, pm_af_ret, pm_af_void, pm_af_thr, pe_lstore5, pe_aload0, pe_lload5, pe_ldiv, pe_putfield, pe_getfield, pe_if_gt, pe_if_lt, pe_sipush, pe_aloadN0, pe_aastoreN, pe_areturnN, pe_null, pm_prog_1, pm_ob_some, Nat.reduceDiv, Nat.reduceMod, Nat.reduceMul, Nat.reduceAdd, Int.reduceToNat, pm_kill_i, pm_kill_r, pm_kill_n, pm_kill_j, pm_kill_l, pm_kill_d, pm_cats_nil, pm_cats_i, pm_cats_r, pm_cats_n, pm_cats_l, pm_cats_d, sz_1, sz_2, sl_1, sl_2, lc_0, lc_lt, lc_le, li_ne, va_rf, wr_m1, we_m1, pm_kill_w, Int32.reduceOfInt, Int64.reduceOfInt, Int32.reduceOfNat, Int32.reduceLT, Int32.reduceLE, Prod.mk.injEq, Nat.reduceEqDiff, reduceCtorEq, and_true, true_and, and_false, false_and, and_self, ite_true, ite_false, ↓reduceIte, not_true_eq_false, not_false_eq_true, pe_ri, pe_rz, pe_rc, Cp_g21_0 hP hA, Cp_g21_1 hP hA, Cp_p21_0 hP hA, Cp_p21_1 hP hA, eq_false k1, k3]
/-- TimberHouse$PriceLines$Fraction.rounded(J)J -/
theorem c1474 {d : Nat} {h : pm_H} {a : Nat} {x0 : Int64} (hc : pm_cls h a = some 23) : pm_call pm_prog (d + 1) 1474 [.ref a, .long x0] h = pm_ev pm_prog (pm_call pm_prog d) 1474 0 b1474_0 [.ref a, .long x0, pm_junk] [] h := pm_cal (pm_rc1 hc rfl) rfl rfl rfl
/-- TimberHouse$PriceLines$Fraction.rounded(J)J -/
noncomputable def f1474 (lc : Int32) (fq : Int32) (ll : Int32 → Int32) (S : wS) (x0i : Int32) (x1 : Int64) : Option (Int64) :=
  if 0 ≤ x0i ∧ x0i < 6 then
    (f3846 (((2 * (S.2 (20, x0i, 0) 0)) * x1) + (S.2 (20, x0i, 0) 1)) (2 * (S.2 (20, x0i, 0) 1))).bind fun v1 =>
    some v1
  else none
theorem x1474 {lc : Int32} {fq : Int32} {ll : Int32 → Int32} {A : wK → Nat} {h : pm_H} {D : Nat} {S : wS} {x0i : Int32} {x1 : Int64} {r : Int64} (hP : Cp_P lc fq ll) (hA : wok A (Cp_d lc fq ll) h.1) (hD : 2 ≤ D) (e : f1474 lc fq ll S x0i x1 = some r) : pm_call pm_prog D 1474 [.ref (A (20, x0i, 0)), .long x1] (wput A (Cp_d lc fq ll) S h) = some (Outcome.returned (some (.long r)), (wput A (Cp_d lc fq ll) S h)) := by
  obtain ⟨D, rfl⟩ : ∃ D', D = D' + 1 := ⟨D - 1, by omega⟩
  have hD : 1 ≤ D := by omega
  simp only [f1474] at e
  have k1 : 0 ≤ x0i ∧ x0i < 6 := by
    by_cases q : 0 ≤ x0i ∧ x0i < 6
    · exact q
    · rw [if_neg q] at e; cases e
  rw [if_pos k1] at e
  rw [c1474 (Cp_c20 hP hA k1), b1474_0]
  obtain ⟨v1, k2, e⟩ := Option.bind_eq_some_iff.mp e
  try dsimp only at e
  have z2 := fun h => x3846 (D := D) (h := h) (by omega) k2
  have e := Option.some.inj e; subst e
  simp -implicitDefEqProofs (disch := first | assumption | exact Nat.le_of_ble_eq_true rfl | decide) only [b1474_0, pe_bipush, pe_aload0, pe_getfield, pe_lmul, pe_lload1, pe_ladd, pe_call2, pm_af_ret, pm_af_void, pm_af_thr, pe_lreturn, pe_aloadN0, pe_aastoreN, pe_areturnN, pe_null, pm_prog_1, pm_ob_some, Nat.reduceDiv, Nat.reduceMod, Nat.reduceMul, Nat.reduceAdd, Int.reduceToNat, pm_kill_i, pm_kill_r, pm_kill_n, pm_kill_j, pm_kill_l, pm_kill_d, pm_cats_nil, pm_cats_i, pm_cats_r, pm_cats_n, pm_cats_l, pm_cats_d, sz_1, sz_2, sl_1, sl_2, lc_0, lc_lt, lc_le, li_ne, va_rf, wr_m1, we_m1, pm_kill_w, Int32.reduceOfInt, Int64.reduceOfInt, Int32.reduceOfNat, Int32.reduceLT, Int32.reduceLE, Prod.mk.injEq, Nat.reduceEqDiff, reduceCtorEq, and_true, true_and, and_false, false_and, and_self, ite_true, ite_false, ↓reduceIte, not_true_eq_false, not_false_eq_true, pe_ri, pe_rz, pe_rc, Cp_g20_0 hP hA, Cp_g20_1 hP hA, z2]
noncomputable def f1473v1_6 (lc : Int32) (fq : Int32) (ll : Int32 → Int32) (S : wS) (x0i : Int32) (x5 : Int64) (y0i : Int32) (y1 : Int64) : Option (Int32 × wS) :=
  if 0 ≤ x0i ∧ x0i < 6 then
    if 0 ≤ y0i ∧ y0i < 6 then
      if ¬ x5 = 0 then
        if (S.2 (20, x0i, 0) 0) ≤ 1000000000 then
          if (S.2 (20, x0i, 0) 0) < (-1000000000) then
            some (0, (sl S (20, y0i, 0) 1 (y1 / x5)))
          else
            if (if x0i = y0i then (y1 / x5) else (S.2 (20, x0i, 0) 1)) ≤ 1000000000 then
              some (1, (sl S (20, y0i, 0) 1 (y1 / x5)))
            else
              some (0, (sl S (20, y0i, 0) 1 (y1 / x5)))
        else
          some (0, (sl S (20, y0i, 0) 1 (y1 / x5)))
      else none
    else none
  else none
noncomputable def f1473v1_4 (lc : Int32) (fq : Int32) (ll : Int32 → Int32) (S : wS) (x0i : Int32) (x3 : Int64) (x5 : Int64) (y0i : Int32) (y1 : Int64) : Option (Int32 × wS) :=
  if 0 ≤ x0i ∧ x0i < 6 then
    if 0 ≤ y0i ∧ y0i < 6 then
      if ¬ x5 = 0 then
        if x3 < 0 then
          f1473v1_6 lc fq ll (sl S (20, y0i, 0) 0 (y1 / x5)) x0i x5 x0i (-x3)
        else
          f1473v1_6 lc fq ll (sl S (20, y0i, 0) 0 (y1 / x5)) x0i x5 x0i x3
      else none
    else none
  else none
noncomputable def f1473v1_2 (lc : Int32) (fq : Int32) (ll : Int32 → Int32) (S : wS) (x0i : Int32) (x1 : Int64) (x3 : Int64) (y0 : Int64) (y1 : Int64) : Option (Int32 × wS) :=
  if 0 ≤ x0i ∧ x0i < 6 then
    (f1415 y0 y1).bind fun v1 =>
    if x3 < 0 then
      f1473v1_4 lc fq ll S x0i x3 v1 x0i (-x1)
    else
      f1473v1_4 lc fq ll S x0i x3 v1 x0i x1
  else none
/-- TimberHouse$PriceLines$Fraction.set(JJ)Z -/
noncomputable def f1473v1 (lc : Int32) (fq : Int32) (ll : Int32 → Int32) (S : wS) (x0i : Int32) (x1 : Int64) (x3 : Int64) : Option (Int32 × wS) :=
  if 0 ≤ x0i ∧ x0i < 6 then
    if x3 < 0 then
      f1473v1_2 lc fq ll S x0i x1 x3 x1 (-x3)
    else
      f1473v1_2 lc fq ll S x0i x1 x3 x1 x3
  else none
theorem y1473v1_6 {lc : Int32} {fq : Int32} {ll : Int32 → Int32} {A : wK → Nat} {h : pm_H} {D : Nat} {S : wS} {x0i : Int32} {x5 : Int64} {y0i : Int32} {y1 : Int64} {r : Int32 × wS} (hP : Cp_P lc fq ll) (hA : wok A (Cp_d lc fq ll) h.1) (hD : 1 ≤ D) (e : f1473v1_6 lc fq ll S x0i x5 y0i y1 = some r) : ∀ q1 q2 q3 q4 : Value, pm_go pm_prog (pm_call pm_prog D) 1473 6 [.ref (A (20, x0i, 0)), q1, q2, q3, q4, .long x5, pm_junk] [.long y1, .ref (A (20, y0i, 0))] (wput A (Cp_d lc fq ll) S h) = some (match (generalizing := false) r with | (w0, S1) => (Outcome.returned (some (.int w0)), (wput A (Cp_d lc fq ll) S1 h))) := by
  intro q1 q2 q3 q4
  simp only [f1473v1_6] at e
  rw [g1473_6, b1473_6]
  by_cases k1 : 0 ≤ x0i ∧ x0i < 6
  · rw [if_pos k1] at e
    by_cases k2 : 0 ≤ y0i ∧ y0i < 6
    · rw [if_pos k2] at e
      by_cases k3 : ¬ x5 = 0
      · rw [if_pos k3] at e
        by_cases k4 : (S.2 (20, x0i, 0) 0) ≤ 1000000000
        · rw [if_pos k4] at e
          by_cases k5 : (S.2 (20, x0i, 0) 0) < (-1000000000)
          · rw [if_pos k5] at e
            have e := Option.some.inj e; subst e
            simp -implicitDefEqProofs (disch := first | assumption | exact Nat.le_of_ble_eq_true rfl | decide) only [b1473_0, g1473_1, b1473_1, g1473_3, b1473_3, g1473_5, b1473_5, g1473_7, b1473_7, g1473_8, b1473_8, pe_lload1, pe_lload3, pe_bipush, pe_lcmp, pe_if_ge, pe_lneg, pe_goto, pe_goto_w, pe_call2, pm_af_ret, pm_af_void, pm_af_thr, pe_lstore5, pe_aload0, pe_lload5, pe_ldiv, pe_putfield, pe_getfield, pe_if_gt, pe_if_lt, pe_sipush, pe_aloadN0, pe_aastoreN, pe_areturnN, pe_null, pm_prog_1, pm_ob_some, Nat.reduceDiv, Nat.reduceMod, Nat.reduceMul, Nat.reduceAdd, Int.reduceToNat, pm_kill_i, pm_kill_r, pm_kill_n, pm_kill_j, pm_kill_l, pm_kill_d, pm_cats_nil, pm_cats_i, pm_cats_r, pm_cats_n, pm_cats_l, pm_cats_d, sz_1, sz_2, sl_1, sl_2, lc_0, lc_lt, lc_le, li_ne, va_rf, wr_m1, we_m1, pm_kill_w, Int32.reduceOfInt, Int64.reduceOfInt, Int32.reduceOfNat, Int32.reduceLT, Int32.reduceLE, Prod.mk.injEq, Nat.reduceEqDiff, reduceCtorEq, and_true, true_and, and_false, false_and, and_self, ite_true, ite_false, ↓reduceIte, not_true_eq_false, not_false_eq_true, pe_ri, pe_rz, pe_rc, Cp_g20_0 hP hA, Cp_g20_1 hP hA, Cp_p20_0 hP hA, Cp_p20_1 hP hA, eq_true k4, eq_true k5]
          · rw [if_neg k5] at e
            by_cases k6 : (if x0i = y0i then (y1 / x5) else (S.2 (20, x0i, 0) 1)) ≤ 1000000000
            · rw [if_pos k6] at e
              have e := Option.some.inj e; subst e
              simp -implicitDefEqProofs (disch := first | assumption | exact Nat.le_of_ble_eq_true rfl | decide) only [b1473_0, g1473_1, b1473_1, g1473_3, b1473_3, g1473_5, b1473_5, g1473_7, b1473_7, g1473_8, b1473_8, pe_lload1, pe_lload3, pe_bipush, pe_lcmp, pe_if_ge, pe_lneg, pe_goto, pe_goto_w, pe_call2, pm_af_ret, pm_af_void, pm_af_thr, pe_lstore5, pe_aload0, pe_lload5, pe_ldiv, pe_putfield, pe_getfield, pe_if_gt, pe_if_lt, pe_sipush, pe_aloadN0, pe_aastoreN, pe_areturnN, pe_null, pm_prog_1, pm_ob_some, Nat.reduceDiv, Nat.reduceMod, Nat.reduceMul, Nat.reduceAdd, Int.reduceToNat, pm_kill_i, pm_kill_r, pm_kill_n, pm_kill_j, pm_kill_l, pm_kill_d, pm_cats_nil, pm_cats_i, pm_cats_r, pm_cats_n, pm_cats_l, pm_cats_d, sz_1, sz_2, sl_1, sl_2, lc_0, lc_lt, lc_le, li_ne, va_rf, wr_m1, we_m1, pm_kill_w, Int32.reduceOfInt, Int64.reduceOfInt, Int32.reduceOfNat, Int32.reduceLT, Int32.reduceLE, Prod.mk.injEq, Nat.reduceEqDiff, reduceCtorEq, and_true, true_and, and_false, false_and, and_self, ite_true, ite_false, ↓reduceIte, not_true_eq_false, not_false_eq_true, pe_ri, pe_rz, pe_rc, Cp_g20_0 hP hA, Cp_g20_1 hP hA, Cp_p20_0 hP hA, Cp_p20_1 hP hA, eq_true k4, eq_false k5, eq_true k6]
            · rw [if_neg k6] at e
              have e := Option.some.inj e; subst e
              simp -implicitDefEqProofs (disch := first | assumption | exact Nat.le_of_ble_eq_true rfl | decide) only [b1473_0, g1473_1, b1473_1, g1473_3, b1473_3, g1473_5, b1473_5, g1473_7, b1473_7, g1473_8, b1473_8, pe_lload1, pe_lload3, pe_bipush, pe_lcmp, pe_if_ge, pe_lneg, pe_goto, pe_goto_w, pe_call2, pm_af_ret, pm_af_void, pm_af_thr, pe_lstore5, pe_aload0, pe_lload5, pe_ldiv, pe_putfield, pe_getfield, pe_if_gt, pe_if_lt, pe_sipush, pe_aloadN0, pe_aastoreN, pe_areturnN, pe_null, pm_prog_1, pm_ob_some, Nat.reduceDiv, Nat.reduceMod, Nat.reduceMul, Nat.reduceAdd, Int.reduceToNat, pm_kill_i, pm_kill_r, pm_kill_n, pm_kill_j, pm_kill_l, pm_kill_d, pm_cats_nil, pm_cats_i, pm_cats_r, pm_cats_n, pm_cats_l, pm_cats_d, sz_1, sz_2, sl_1, sl_2, lc_0, lc_lt, lc_le, li_ne, va_rf, wr_m1, we_m1, pm_kill_w, Int32.reduceOfInt, Int64.reduceOfInt, Int32.reduceOfNat, Int32.reduceLT, Int32.reduceLE, Prod.mk.injEq, Nat.reduceEqDiff, reduceCtorEq, and_true, true_and, and_false, false_and, and_self, ite_true, ite_false, ↓reduceIte, not_true_eq_false, not_false_eq_true, pe_ri, pe_rz, pe_rc, Cp_g20_0 hP hA, Cp_g20_1 hP hA, Cp_p20_0 hP hA, Cp_p20_1 hP hA, eq_true k4, eq_false k5, eq_false k6]
        · rw [if_neg k4] at e
          have e := Option.some.inj e; subst e
          simp -implicitDefEqProofs (disch := first | assumption | exact Nat.le_of_ble_eq_true rfl | decide) only [b1473_0, g1473_1, b1473_1, g1473_3, b1473_3, g1473_5, b1473_5, g1473_7, b1473_7, g1473_8, b1473_8, pe_lload1, pe_lload3, pe_bipush, pe_lcmp, pe_if_ge, pe_lneg, pe_goto, pe_goto_w, pe_call2, pm_af_ret, pm_af_void, pm_af_thr, pe_lstore5, pe_aload0, pe_lload5, pe_ldiv, pe_putfield, pe_getfield, pe_if_gt, pe_if_lt, pe_sipush, pe_aloadN0, pe_aastoreN, pe_areturnN, pe_null, pm_prog_1, pm_ob_some, Nat.reduceDiv, Nat.reduceMod, Nat.reduceMul, Nat.reduceAdd, Int.reduceToNat, pm_kill_i, pm_kill_r, pm_kill_n, pm_kill_j, pm_kill_l, pm_kill_d, pm_cats_nil, pm_cats_i, pm_cats_r, pm_cats_n, pm_cats_l, pm_cats_d, sz_1, sz_2, sl_1, sl_2, lc_0, lc_lt, lc_le, li_ne, va_rf, wr_m1, we_m1, pm_kill_w, Int32.reduceOfInt, Int64.reduceOfInt, Int32.reduceOfNat, Int32.reduceLT, Int32.reduceLE, Prod.mk.injEq, Nat.reduceEqDiff, reduceCtorEq, and_true, true_and, and_false, false_and, and_self, ite_true, ite_false, ↓reduceIte, not_true_eq_false, not_false_eq_true, pe_ri, pe_rz, pe_rc, Cp_g20_0 hP hA, Cp_g20_1 hP hA, Cp_p20_0 hP hA, Cp_p20_1 hP hA, eq_false k4]
      · rw [if_neg k3] at e; cases e
    · rw [if_neg k2] at e; cases e
  · rw [if_neg k1] at e; cases e
theorem y1473v1_4 {lc : Int32} {fq : Int32} {ll : Int32 → Int32} {A : wK → Nat} {h : pm_H} {D : Nat} {S : wS} {x0i : Int32} {x3 : Int64} {x5 : Int64} {y0i : Int32} {y1 : Int64} {r : Int32 × wS} (hP : Cp_P lc fq ll) (hA : wok A (Cp_d lc fq ll) h.1) (hD : 1 ≤ D) (e : f1473v1_4 lc fq ll S x0i x3 x5 y0i y1 = some r) : ∀ q1 q2 : Value, pm_go pm_prog (pm_call pm_prog D) 1473 4 [.ref (A (20, x0i, 0)), q1, q2, .long x3, pm_junk, .long x5, pm_junk] [.long y1, .ref (A (20, y0i, 0))] (wput A (Cp_d lc fq ll) S h) = some (match (generalizing := false) r with | (w0, S1) => (Outcome.returned (some (.int w0)), (wput A (Cp_d lc fq ll) S1 h))) := by
  intro q1 q2
  simp only [f1473v1_4] at e
  rw [g1473_4, b1473_4]
  by_cases k1 : 0 ≤ x0i ∧ x0i < 6
  · rw [if_pos k1] at e
    by_cases k2 : 0 ≤ y0i ∧ y0i < 6
    · rw [if_pos k2] at e
      by_cases k3 : ¬ x5 = 0
      · rw [if_pos k3] at e
        by_cases k4 : x3 < 0
        · rw [if_pos k4] at e
          have k5 := y1473v1_6 (h := h) hP hA hD e
          simp -implicitDefEqProofs (disch := first | assumption | exact Nat.le_of_ble_eq_true rfl | decide) only [b1473_0, g1473_1, b1473_1, g1473_3, b1473_3, g1473_5, b1473_5, g1473_7, b1473_7, g1473_8, b1473_8, pe_lload1, pe_lload3, pe_bipush, pe_lcmp, pe_if_ge, pe_lneg, pe_goto, pe_goto_w, pe_call2, pm_af_ret, pm_af_void, pm_af_thr, pe_lstore5, pe_aload0, pe_lload5, pe_ldiv, pe_putfield, pe_getfield, pe_if_gt, pe_if_lt, pe_sipush, pe_aloadN0, pe_aastoreN, pe_areturnN, pe_null, pm_prog_1, pm_ob_some, Nat.reduceDiv, Nat.reduceMod, Nat.reduceMul, Nat.reduceAdd, Int.reduceToNat, pm_kill_i, pm_kill_r, pm_kill_n, pm_kill_j, pm_kill_l, pm_kill_d, pm_cats_nil, pm_cats_i, pm_cats_r, pm_cats_n, pm_cats_l, pm_cats_d, sz_1, sz_2, sl_1, sl_2, lc_0, lc_lt, lc_le, li_ne, va_rf, wr_m1, we_m1, pm_kill_w, Int32.reduceOfInt, Int64.reduceOfInt, Int32.reduceOfNat, Int32.reduceLT, Int32.reduceLE, Prod.mk.injEq, Nat.reduceEqDiff, reduceCtorEq, and_true, true_and, and_false, false_and, and_self, ite_true, ite_false, ↓reduceIte, not_true_eq_false, not_false_eq_true, pe_ri, pe_rz, pe_rc, Cp_g20_0 hP hA, Cp_g20_1 hP hA, Cp_p20_0 hP hA, Cp_p20_1 hP hA, eq_true k4, k5]
        · rw [if_neg k4] at e
          have k6 := y1473v1_6 (h := h) hP hA hD e
          simp -implicitDefEqProofs (disch := first | assumption | exact Nat.le_of_ble_eq_true rfl | decide) only [b1473_0, g1473_1, b1473_1, g1473_3, b1473_3, g1473_5, b1473_5, g1473_7, b1473_7, g1473_8, b1473_8, pe_lload1, pe_lload3, pe_bipush, pe_lcmp, pe_if_ge, pe_lneg, pe_goto, pe_goto_w, pe_call2, pm_af_ret, pm_af_void, pm_af_thr, pe_lstore5, pe_aload0, pe_lload5, pe_ldiv, pe_putfield, pe_getfield, pe_if_gt, pe_if_lt, pe_sipush, pe_aloadN0, pe_aastoreN, pe_areturnN, pe_null, pm_prog_1, pm_ob_some, Nat.reduceDiv, Nat.reduceMod, Nat.reduceMul, Nat.reduceAdd, Int.reduceToNat, pm_kill_i, pm_kill_r, pm_kill_n, pm_kill_j, pm_kill_l, pm_kill_d, pm_cats_nil, pm_cats_i, pm_cats_r, pm_cats_n, pm_cats_l, pm_cats_d, sz_1, sz_2, sl_1, sl_2, lc_0, lc_lt, lc_le, li_ne, va_rf, wr_m1, we_m1, pm_kill_w, Int32.reduceOfInt, Int64.reduceOfInt, Int32.reduceOfNat, Int32.reduceLT, Int32.reduceLE, Prod.mk.injEq, Nat.reduceEqDiff, reduceCtorEq, and_true, true_and, and_false, false_and, and_self, ite_true, ite_false, ↓reduceIte, not_true_eq_false, not_false_eq_true, pe_ri, pe_rz, pe_rc, Cp_g20_0 hP hA, Cp_g20_1 hP hA, Cp_p20_0 hP hA, Cp_p20_1 hP hA, eq_false k4, k6]
      · rw [if_neg k3] at e; cases e
    · rw [if_neg k2] at e; cases e
  · rw [if_neg k1] at e; cases e
theorem y1473v1_2 {lc : Int32} {fq : Int32} {ll : Int32 → Int32} {A : wK → Nat} {h : pm_H} {D : Nat} {S : wS} {x0i : Int32} {x1 : Int64} {x3 : Int64} {y0 : Int64} {y1 : Int64} {r : Int32 × wS} (hP : Cp_P lc fq ll) (hA : wok A (Cp_d lc fq ll) h.1) (hD : 1 ≤ D) (e : f1473v1_2 lc fq ll S x0i x1 x3 y0 y1 = some r) : ∀ q5 q6 : Value, pm_go pm_prog (pm_call pm_prog D) 1473 2 [.ref (A (20, x0i, 0)), .long x1, pm_junk, .long x3, pm_junk, q5, q6] [.long y1, .long y0] (wput A (Cp_d lc fq ll) S h) = some (match (generalizing := false) r with | (w0, S1) => (Outcome.returned (some (.int w0)), (wput A (Cp_d lc fq ll) S1 h))) := by
  intro q5 q6
  simp only [f1473v1_2] at e
  rw [g1473_2, b1473_2]
  by_cases k1 : 0 ≤ x0i ∧ x0i < 6
  · rw [if_pos k1] at e
    obtain ⟨v1, k2, e⟩ := Option.bind_eq_some_iff.mp e
    try dsimp only at e
    have z2 := fun h => x1415 (D := D) (h := h) (by omega) k2
    by_cases k3 : x3 < 0
    · rw [if_pos k3] at e
      have k4 := y1473v1_4 (h := h) hP hA hD e
      simp -implicitDefEqProofs (disch := first | assumption | exact Nat.le_of_ble_eq_true rfl | decide) only [b1473_0, g1473_1, b1473_1, g1473_3, b1473_3, g1473_5, b1473_5, g1473_7, b1473_7, g1473_8, b1473_8, pe_lload1, pe_lload3, pe_bipush, pe_lcmp, pe_if_ge, pe_lneg, pe_goto, pe_goto_w, pe_call2, pm_af_ret, pm_af_void, pm_af_thr, pe_lstore5, pe_aload0, pe_lload5, pe_ldiv, pe_putfield, pe_getfield, pe_if_gt, pe_if_lt, pe_sipush, pe_aloadN0, pe_aastoreN, pe_areturnN, pe_null, pm_prog_1, pm_ob_some, Nat.reduceDiv, Nat.reduceMod, Nat.reduceMul, Nat.reduceAdd, Int.reduceToNat, pm_kill_i, pm_kill_r, pm_kill_n, pm_kill_j, pm_kill_l, pm_kill_d, pm_cats_nil, pm_cats_i, pm_cats_r, pm_cats_n, pm_cats_l, pm_cats_d, sz_1, sz_2, sl_1, sl_2, lc_0, lc_lt, lc_le, li_ne, va_rf, wr_m1, we_m1, pm_kill_w, Int32.reduceOfInt, Int64.reduceOfInt, Int32.reduceOfNat, Int32.reduceLT, Int32.reduceLE, Prod.mk.injEq, Nat.reduceEqDiff, reduceCtorEq, and_true, true_and, and_false, false_and, and_self, ite_true, ite_false, ↓reduceIte, not_true_eq_false, not_false_eq_true, pe_ri, pe_rz, pe_rc, Cp_g20_0 hP hA, Cp_g20_1 hP hA, Cp_p20_0 hP hA, Cp_p20_1 hP hA, z2, eq_true k3, k4]
    · rw [if_neg k3] at e
      have k5 := y1473v1_4 (h := h) hP hA hD e
      simp -implicitDefEqProofs (disch := first | assumption | exact Nat.le_of_ble_eq_true rfl | decide) only [b1473_0, g1473_1, b1473_1, g1473_3, b1473_3, g1473_5, b1473_5, g1473_7, b1473_7, g1473_8, b1473_8, pe_lload1, pe_lload3, pe_bipush, pe_lcmp, pe_if_ge, pe_lneg, pe_goto, pe_goto_w, pe_call2, pm_af_ret, pm_af_void, pm_af_thr, pe_lstore5, pe_aload0, pe_lload5, pe_ldiv, pe_putfield, pe_getfield, pe_if_gt, pe_if_lt, pe_sipush, pe_aloadN0, pe_aastoreN, pe_areturnN, pe_null, pm_prog_1, pm_ob_some, Nat.reduceDiv, Nat.reduceMod, Nat.reduceMul, Nat.reduceAdd, Int.reduceToNat, pm_kill_i, pm_kill_r, pm_kill_n, pm_kill_j, pm_kill_l, pm_kill_d, pm_cats_nil, pm_cats_i, pm_cats_r, pm_cats_n, pm_cats_l, pm_cats_d, sz_1, sz_2, sl_1, sl_2, lc_0, lc_lt, lc_le, li_ne, va_rf, wr_m1, we_m1, pm_kill_w, Int32.reduceOfInt, Int64.reduceOfInt, Int32.reduceOfNat, Int32.reduceLT, Int32.reduceLE, Prod.mk.injEq, Nat.reduceEqDiff, reduceCtorEq, and_true, true_and, and_false, false_and, and_self, ite_true, ite_false, ↓reduceIte, not_true_eq_false, not_false_eq_true, pe_ri, pe_rz, pe_rc, Cp_g20_0 hP hA, Cp_g20_1 hP hA, Cp_p20_0 hP hA, Cp_p20_1 hP hA, z2, eq_false k3, k5]
  · rw [if_neg k1] at e; cases e
theorem x1473v1 {lc : Int32} {fq : Int32} {ll : Int32 → Int32} {A : wK → Nat} {h : pm_H} {D : Nat} {S : wS} {x0i : Int32} {x1 : Int64} {x3 : Int64} {r : Int32 × wS} (hP : Cp_P lc fq ll) (hA : wok A (Cp_d lc fq ll) h.1) (hD : 2 ≤ D) (e : f1473v1 lc fq ll S x0i x1 x3 = some r) : pm_call pm_prog D 1473 [.ref (A (20, x0i, 0)), .long x1, .long x3] (wput A (Cp_d lc fq ll) S h) = some (match (generalizing := false) r with | (w0, S1) => (Outcome.returned (some (.int w0)), (wput A (Cp_d lc fq ll) S1 h))) := by
  obtain ⟨D, rfl⟩ : ∃ D', D = D' + 1 := ⟨D - 1, by omega⟩
  have hD : 1 ≤ D := by omega
  simp only [f1473v1] at e
  have k1 : 0 ≤ x0i ∧ x0i < 6 := by
    by_cases q : 0 ≤ x0i ∧ x0i < 6
    · exact q
    · rw [if_neg q] at e; cases e
  rw [if_pos k1] at e
  rw [c1473 (Cp_c20 hP hA k1), b1473_0]
  by_cases k2 : x3 < 0
  · rw [if_pos k2] at e
    have k3 := y1473v1_2 (h := h) hP hA hD e
    simp -implicitDefEqProofs (disch := first | assumption | exact Nat.le_of_ble_eq_true rfl | decide) only [b1473_0, g1473_1, b1473_1, g1473_3, b1473_3, g1473_5, b1473_5, g1473_7, b1473_7, g1473_8, b1473_8, pe_lload1, pe_lload3, pe_bipush, pe_lcmp, pe_if_ge, pe_lneg, pe_goto, pe_goto_w, pe_call2, pm_af_ret, pm_af_void, pm_af_thr, pe_lstore5, pe_aload0, pe_lload5, pe_ldiv, pe_putfield, pe_getfield, pe_if_gt, pe_if_lt, pe_sipush, pe_aloadN0, pe_aastoreN, pe_areturnN, pe_null, pm_prog_1, pm_ob_some, Nat.reduceDiv, Nat.reduceMod, Nat.reduceMul, Nat.reduceAdd, Int.reduceToNat, pm_kill_i, pm_kill_r, pm_kill_n, pm_kill_j, pm_kill_l, pm_kill_d, pm_cats_nil, pm_cats_i, pm_cats_r, pm_cats_n, pm_cats_l, pm_cats_d, sz_1, sz_2, sl_1, sl_2, lc_0, lc_lt, lc_le, li_ne, va_rf, wr_m1, we_m1, pm_kill_w, Int32.reduceOfInt, Int64.reduceOfInt, Int32.reduceOfNat, Int32.reduceLT, Int32.reduceLE, Prod.mk.injEq, Nat.reduceEqDiff, reduceCtorEq, and_true, true_and, and_false, false_and, and_self, ite_true, ite_false, ↓reduceIte, not_true_eq_false, not_false_eq_true, pe_ri, pe_rz, pe_rc, Cp_g20_0 hP hA, Cp_g20_1 hP hA, Cp_p20_0 hP hA, Cp_p20_1 hP hA, eq_true k2, k3]
  · rw [if_neg k2] at e
    have k4 := y1473v1_2 (h := h) hP hA hD e
    simp -implicitDefEqProofs (disch := first | assumption | exact Nat.le_of_ble_eq_true rfl | decide) only [b1473_0, g1473_1, b1473_1, g1473_3, b1473_3, g1473_5, b1473_5, g1473_7, b1473_7, g1473_8, b1473_8, pe_lload1, pe_lload3, pe_bipush, pe_lcmp, pe_if_ge, pe_lneg, pe_goto, pe_goto_w, pe_call2, pm_af_ret, pm_af_void, pm_af_thr, pe_lstore5, pe_aload0, pe_lload5, pe_ldiv, pe_putfield, pe_getfield, pe_if_gt, pe_if_lt, pe_sipush, pe_aloadN0, pe_aastoreN, pe_areturnN, pe_null, pm_prog_1, pm_ob_some, Nat.reduceDiv, Nat.reduceMod, Nat.reduceMul, Nat.reduceAdd, Int.reduceToNat, pm_kill_i, pm_kill_r, pm_kill_n, pm_kill_j, pm_kill_l, pm_kill_d, pm_cats_nil, pm_cats_i, pm_cats_r, pm_cats_n, pm_cats_l, pm_cats_d, sz_1, sz_2, sl_1, sl_2, lc_0, lc_lt, lc_le, li_ne, va_rf, wr_m1, we_m1, pm_kill_w, Int32.reduceOfInt, Int64.reduceOfInt, Int32.reduceOfNat, Int32.reduceLT, Int32.reduceLE, Prod.mk.injEq, Nat.reduceEqDiff, reduceCtorEq, and_true, true_and, and_false, false_and, and_self, ite_true, ite_false, ↓reduceIte, not_true_eq_false, not_false_eq_true, pe_ri, pe_rz, pe_rc, Cp_g20_0 hP hA, Cp_g20_1 hP hA, Cp_p20_0 hP hA, Cp_p20_1 hP hA, eq_false k2, k4]
/-- TimberHouse$PriceLines$Fraction.isNothing()Z -/
theorem c1475 {d : Nat} {h : pm_H} {a : Nat} (hc : pm_cls h a = some 23) : pm_call pm_prog (d + 1) 1475 [.ref a] h = pm_ev pm_prog (pm_call pm_prog d) 1475 0 b1475_0 [.ref a] [] h := pm_cal (pm_rc1 hc rfl) rfl rfl rfl
theorem g1475_1 {cl : pm_C} {ls st : List Value} {h : pm_H} : pm_go pm_prog cl 1475 1 ls st h = pm_ev pm_prog cl 1475 1 b1475_1 ls st h := pm_go_eq pm_prog cl 1475 1 ls st h
theorem g1475_2 {cl : pm_C} {ls st : List Value} {h : pm_H} : pm_go pm_prog cl 1475 2 ls st h = pm_ev pm_prog cl 1475 2 b1475_2 ls st h := pm_go_eq pm_prog cl 1475 2 ls st h
/-- TimberHouse$PriceLines$Fraction.isNothing()Z -/
noncomputable def f1475 (lc : Int32) (fq : Int32) (ll : Int32 → Int32) (S : wS) (x0i : Int32) : Option (Int32) :=
  if 0 ≤ x0i ∧ x0i < 6 then
    if (S.2 (20, x0i, 0) 0) = 0 then
      some 1
    else
      some 0
  else none
theorem x1475 {lc : Int32} {fq : Int32} {ll : Int32 → Int32} {A : wK → Nat} {h : pm_H} {D : Nat} {S : wS} {x0i : Int32} {r : Int32} (hP : Cp_P lc fq ll) (hA : wok A (Cp_d lc fq ll) h.1) (hD : 1 ≤ D) (e : f1475 lc fq ll S x0i = some r) : pm_call pm_prog D 1475 [.ref (A (20, x0i, 0))] (wput A (Cp_d lc fq ll) S h) = some (Outcome.returned (some (.int r)), (wput A (Cp_d lc fq ll) S h)) := by
  obtain ⟨D, rfl⟩ : ∃ D', D = D' + 1 := ⟨D - 1, by omega⟩
  have hD : 0 ≤ D := by omega
  simp only [f1475] at e
  have k1 : 0 ≤ x0i ∧ x0i < 6 := by
    by_cases q : 0 ≤ x0i ∧ x0i < 6
    · exact q
    · rw [if_neg q] at e; cases e
  rw [if_pos k1] at e
  rw [c1475 (Cp_c20 hP hA k1), b1475_0]
  by_cases k2 : (S.2 (20, x0i, 0) 0) = 0
  · rw [if_pos k2] at e
    have e := Option.some.inj e; subst e
    simp -implicitDefEqProofs (disch := first | assumption | exact Nat.le_of_ble_eq_true rfl | decide) only [b1475_0, g1475_1, b1475_1, g1475_2, b1475_2, pe_aload0, pe_getfield, pe_bipush, pe_lcmp, pe_if_ne, pe_sipush, pe_goto, pe_goto_w, pe_aloadN0, pe_aastoreN, pe_areturnN, pe_null, pm_prog_1, pm_ob_some, Nat.reduceDiv, Nat.reduceMod, Nat.reduceMul, Nat.reduceAdd, Int.reduceToNat, pm_kill_i, pm_kill_r, pm_kill_n, pm_kill_j, pm_kill_l, pm_kill_d, pm_cats_nil, pm_cats_i, pm_cats_r, pm_cats_n, pm_cats_l, pm_cats_d, sz_1, sz_2, sl_1, sl_2, lc_0, lc_lt, lc_le, li_ne, va_rf, wr_m1, we_m1, pm_kill_w, Int32.reduceOfInt, Int64.reduceOfInt, Int32.reduceOfNat, Int32.reduceLT, Int32.reduceLE, Prod.mk.injEq, Nat.reduceEqDiff, reduceCtorEq, and_true, true_and, and_false, false_and, and_self, ite_true, ite_false, ↓reduceIte, not_true_eq_false, not_false_eq_true, pe_ri, pe_rz, pe_rc, Cp_g20_0 hP hA, eq_true k2]
  · rw [if_neg k2] at e
    have e := Option.some.inj e; subst e
    simp -implicitDefEqProofs (disch := first | assumption | exact Nat.le_of_ble_eq_true rfl | decide) only [b1475_0, g1475_1, b1475_1, g1475_2, b1475_2, pe_aload0, pe_getfield, pe_bipush, pe_lcmp, pe_if_ne, pe_sipush, pe_goto, pe_goto_w, pe_aloadN0, pe_aastoreN, pe_areturnN, pe_null, pm_prog_1, pm_ob_some, Nat.reduceDiv, Nat.reduceMod, Nat.reduceMul, Nat.reduceAdd, Int.reduceToNat, pm_kill_i, pm_kill_r, pm_kill_n, pm_kill_j, pm_kill_l, pm_kill_d, pm_cats_nil, pm_cats_i, pm_cats_r, pm_cats_n, pm_cats_l, pm_cats_d, sz_1, sz_2, sl_1, sl_2, lc_0, lc_lt, lc_le, li_ne, va_rf, wr_m1, we_m1, pm_kill_w, Int32.reduceOfInt, Int64.reduceOfInt, Int32.reduceOfNat, Int32.reduceLT, Int32.reduceLE, Prod.mk.injEq, Nat.reduceEqDiff, reduceCtorEq, and_true, true_and, and_false, false_and, and_self, ite_true, ite_false, ↓reduceIte, not_true_eq_false, not_false_eq_true, pe_ri, pe_rz, pe_rc, Cp_g20_0 hP hA, eq_false k2]
/-- TimberHouse$PriceLines$Fraction.work(CLTimberHouse$PriceLines$Fraction;)Z -/
theorem c1476 {d : Nat} {h : pm_H} {a : Nat} {x0 : Int32} {r1 : Nat} (hc : pm_cls h a = some 23) : pm_call pm_prog (d + 1) 1476 [.ref a, .int x0, .ref r1] h = pm_ev pm_prog (pm_call pm_prog d) 1476 0 b1476_0 [.ref a, .int x0, .ref r1] [] h := pm_cal (pm_rc1 hc rfl) rfl rfl rfl
theorem g1476_1 {cl : pm_C} {ls st : List Value} {h : pm_H} : pm_go pm_prog cl 1476 1 ls st h = pm_ev pm_prog cl 1476 1 b1476_1 ls st h := pm_go_eq pm_prog cl 1476 1 ls st h
theorem g1476_2 {cl : pm_C} {ls st : List Value} {h : pm_H} : pm_go pm_prog cl 1476 2 ls st h = pm_ev pm_prog cl 1476 2 b1476_2 ls st h := pm_go_eq pm_prog cl 1476 2 ls st h
theorem g1476_3 {cl : pm_C} {ls st : List Value} {h : pm_H} : pm_go pm_prog cl 1476 3 ls st h = pm_ev pm_prog cl 1476 3 b1476_3 ls st h := pm_go_eq pm_prog cl 1476 3 ls st h
theorem g1476_4 {cl : pm_C} {ls st : List Value} {h : pm_H} : pm_go pm_prog cl 1476 4 ls st h = pm_ev pm_prog cl 1476 4 b1476_4 ls st h := pm_go_eq pm_prog cl 1476 4 ls st h
theorem g1476_5 {cl : pm_C} {ls st : List Value} {h : pm_H} : pm_go pm_prog cl 1476 5 ls st h = pm_ev pm_prog cl 1476 5 b1476_5 ls st h := pm_go_eq pm_prog cl 1476 5 ls st h
theorem g1476_6 {cl : pm_C} {ls st : List Value} {h : pm_H} : pm_go pm_prog cl 1476 6 ls st h = pm_ev pm_prog cl 1476 6 b1476_6 ls st h := pm_go_eq pm_prog cl 1476 6 ls st h
theorem g1476_7 {cl : pm_C} {ls st : List Value} {h : pm_H} : pm_go pm_prog cl 1476 7 ls st h = pm_ev pm_prog cl 1476 7 b1476_7 ls st h := pm_go_eq pm_prog cl 1476 7 ls st h
theorem g1476_8 {cl : pm_C} {ls st : List Value} {h : pm_H} : pm_go pm_prog cl 1476 8 ls st h = pm_ev pm_prog cl 1476 8 b1476_8 ls st h := pm_go_eq pm_prog cl 1476 8 ls st h
theorem g1476_9 {cl : pm_C} {ls st : List Value} {h : pm_H} : pm_go pm_prog cl 1476 9 ls st h = pm_ev pm_prog cl 1476 9 b1476_9 ls st h := pm_go_eq pm_prog cl 1476 9 ls st h
theorem g1476_10 {cl : pm_C} {ls st : List Value} {h : pm_H} : pm_go pm_prog cl 1476 10 ls st h = pm_ev pm_prog cl 1476 10 b1476_10 ls st h := pm_go_eq pm_prog cl 1476 10 ls st h
theorem g1476_11 {cl : pm_C} {ls st : List Value} {h : pm_H} : pm_go pm_prog cl 1476 11 ls st h = pm_ev pm_prog cl 1476 11 b1476_11 ls st h := pm_go_eq pm_prog cl 1476 11 ls st h
/-- TimberHouse$PriceLines$Fraction.work(CLTimberHouse$PriceLines$Fraction;)Z -/
noncomputable def f1476 (lc : Int32) (fq : Int32) (ll : Int32 → Int32) (S : wS) (x0i : Int32) (x1 : Int32) (x2i : Int32) : Option (Int32 × wS) :=
  if 0 ≤ x0i ∧ x0i < 6 then
    if 0 ≤ x2i ∧ x2i < 6 then
      if x1 = 42 then
        (f1473v1 lc fq ll S x0i ((S.2 (20, x0i, 0) 0) * (S.2 (20, x2i, 0) 0)) ((S.2 (20, x0i, 0) 1) * (S.2 (20, x2i, 0) 1))).bind fun (v1, S2) =>
        if v1 = 0 ∨ v1 = 1 then
          some (v1, S2)
        else none
      else
        if x1 = 43 then
          (f1473v1 lc fq ll S x0i (((S.2 (20, x0i, 0) 0) * (S.2 (20, x2i, 0) 1)) + ((S.2 (20, x2i, 0) 0) * (S.2 (20, x0i, 0) 1))) ((S.2 (20, x0i, 0) 1) * (S.2 (20, x2i, 0) 1))).bind fun (v3, S4) =>
          if v3 = 0 ∨ v3 = 1 then
            some (v3, S4)
          else none
        else
          if x1 = 45 then
            (f1473v1 lc fq ll S x0i (((S.2 (20, x0i, 0) 0) * (S.2 (20, x2i, 0) 1)) - ((S.2 (20, x2i, 0) 0) * (S.2 (20, x0i, 0) 1))) ((S.2 (20, x0i, 0) 1) * (S.2 (20, x2i, 0) 1))).bind fun (v5, S6) =>
            if v5 = 0 ∨ v5 = 1 then
              some (v5, S6)
            else none
          else
            if x1 = 47 then
              (f1473v1 lc fq ll S x0i ((S.2 (20, x0i, 0) 0) * (S.2 (20, x2i, 0) 1)) ((S.2 (20, x0i, 0) 1) * (S.2 (20, x2i, 0) 0))).bind fun (v7, S8) =>
              if v7 = 0 ∨ v7 = 1 then
                some (v7, S8)
              else none
            else
              if x1 = 60 then
                if ((S.2 (20, x0i, 0) 0) * (S.2 (20, x2i, 0) 1)) ≤ ((S.2 (20, x2i, 0) 0) * (S.2 (20, x0i, 0) 1)) then
                  some (1, S)
                else
                  (f1473v1 lc fq ll S x0i (S.2 (20, x2i, 0) 0) (S.2 (20, x2i, 0) 1)).bind fun (v9, S10) =>
                  if v9 = 0 then
                    some (0, S10)
                  else
                    some (1, S10)
              else
                if ((S.2 (20, x0i, 0) 0) * (S.2 (20, x2i, 0) 1)) < ((S.2 (20, x2i, 0) 0) * (S.2 (20, x0i, 0) 1)) then
                  (f1473v1 lc fq ll S x0i (S.2 (20, x2i, 0) 0) (S.2 (20, x2i, 0) 1)).bind fun (v11, S12) =>
                  if v11 = 0 then
                    some (0, S12)
                  else
                    some (1, S12)
                else
                  some (1, S)
    else none
  else none
theorem sw1476_0 {x : Int32} : pm_lk 8 [(42, 3), (43, 1), (45, 2), (47, 4), (60, 5)] x = if x = 42 then 3 else if x = 43 then 1 else if x = 45 then 2 else if x = 47 then 4 else if x = 60 then 5 else 8 := by
  simp (disch := decide) only [pm_lk, sw_eq, Int32.reduceOfInt, Int.reduceToNat]
theorem x1476 {lc : Int32} {fq : Int32} {ll : Int32 → Int32} {A : wK → Nat} {h : pm_H} {D : Nat} {S : wS} {x0i : Int32} {x1 : Int32} {x2i : Int32} {r : Int32 × wS} (hP : Cp_P lc fq ll) (hA : wok A (Cp_d lc fq ll) h.1) (hD : 3 ≤ D) (e : f1476 lc fq ll S x0i x1 x2i = some r) : pm_call pm_prog D 1476 [.ref (A (20, x0i, 0)), .int x1, .ref (A (20, x2i, 0))] (wput A (Cp_d lc fq ll) S h) = some (match (generalizing := false) r with | (w0, S1) => (Outcome.returned (some (.int w0)), (wput A (Cp_d lc fq ll) S1 h))) := by
  obtain ⟨D, rfl⟩ : ∃ D', D = D' + 1 := ⟨D - 1, by omega⟩
  have hD : 2 ≤ D := by omega
  simp only [f1476] at e
  have k1 : 0 ≤ x0i ∧ x0i < 6 := by
    by_cases q : 0 ≤ x0i ∧ x0i < 6
    · exact q
    · rw [if_neg q] at e; cases e
  rw [if_pos k1] at e
  have k2 : 0 ≤ x2i ∧ x2i < 6 := by
    by_cases q : 0 ≤ x2i ∧ x2i < 6
    · exact q
    · rw [if_neg q] at e; cases e
  rw [if_pos k2] at e
  rw [c1476 (Cp_c20 hP hA k1), b1476_0]
  by_cases k3 : x1 = 42
  · rw [if_pos k3] at e
    obtain ⟨⟨v1, S2⟩, k4, e⟩ := Option.bind_eq_some_iff.mp e
    try dsimp only at e
    have z4 := x1473v1 (D := D) (h := h) hP hA (by omega) k4
    dsimp only at z4
    by_cases k5 : v1 = 0 ∨ v1 = 1
    · rw [if_pos k5] at e
      have e := Option.some.inj e; subst e
      simp -implicitDefEqProofs (disch := first | assumption | exact Nat.le_of_ble_eq_true rfl | decide) only [b1476_0, g1476_1, b1476_1, g1476_2, b1476_2, g1476_3, b1476_3, g1476_4, b1476_4, g1476_5, b1476_5, g1476_6, b1476_6, g1476_7, b1476_7, g1476_8, b1476_8, g1476_9, b1476_9, g1476_10, b1476_10, g1476_11, b1476_11, pe_iload1, pe_lookupswitch, pe_aload0, pe_getfield, pe_aload2, pe_lmul, pe_ladd, pe_call3, pm_af_ret, pm_af_void, pm_af_thr, pe_goto, pe_lsub, pe_lcmp, pe_if_le, pe_if_eq, pe_goto_w, pe_sipush, pe_if_ge, pe_aloadN0, pe_aloadN2, pe_aastoreN, pe_areturnN, pe_null, pm_prog_1, pm_ob_some, Nat.reduceDiv, Nat.reduceMod, Nat.reduceMul, Nat.reduceAdd, Int.reduceToNat, pm_kill_i, pm_kill_r, pm_kill_n, pm_kill_j, pm_kill_l, pm_kill_d, pm_cats_nil, pm_cats_i, pm_cats_r, pm_cats_n, pm_cats_l, pm_cats_d, sz_1, sz_2, sl_1, sl_2, lc_0, lc_lt, lc_le, li_ne, va_rf, wr_m1, we_m1, pm_kill_w, Int32.reduceOfInt, Int64.reduceOfInt, Int32.reduceOfNat, Int32.reduceLT, Int32.reduceLE, Prod.mk.injEq, Nat.reduceEqDiff, reduceCtorEq, and_true, true_and, and_false, false_and, and_self, ite_true, ite_false, ↓reduceIte, not_true_eq_false, not_false_eq_true, pe_ri, pe_rz, pe_rc, sw1476_0, Cp_g20_0 hP hA, Cp_g20_1 hP hA, eq_true k3, z4]
    · rw [if_neg k5] at e; cases e
  · rw [if_neg k3] at e
    by_cases k6 : x1 = 43
    · rw [if_pos k6] at e
      obtain ⟨⟨v3, S4⟩, k7, e⟩ := Option.bind_eq_some_iff.mp e
      try dsimp only at e
      have z7 := x1473v1 (D := D) (h := h) hP hA (by omega) k7
      dsimp only at z7
      by_cases k8 : v3 = 0 ∨ v3 = 1
      · rw [if_pos k8] at e
        have e := Option.some.inj e; subst e
        simp -implicitDefEqProofs (disch := first | assumption | exact Nat.le_of_ble_eq_true rfl | decide) only [b1476_0, g1476_1, b1476_1, g1476_2, b1476_2, g1476_3, b1476_3, g1476_4, b1476_4, g1476_5, b1476_5, g1476_6, b1476_6, g1476_7, b1476_7, g1476_8, b1476_8, g1476_9, b1476_9, g1476_10, b1476_10, g1476_11, b1476_11, pe_iload1, pe_lookupswitch, pe_aload0, pe_getfield, pe_aload2, pe_lmul, pe_ladd, pe_call3, pm_af_ret, pm_af_void, pm_af_thr, pe_goto, pe_lsub, pe_lcmp, pe_if_le, pe_if_eq, pe_goto_w, pe_sipush, pe_if_ge, pe_aloadN0, pe_aloadN2, pe_aastoreN, pe_areturnN, pe_null, pm_prog_1, pm_ob_some, Nat.reduceDiv, Nat.reduceMod, Nat.reduceMul, Nat.reduceAdd, Int.reduceToNat, pm_kill_i, pm_kill_r, pm_kill_n, pm_kill_j, pm_kill_l, pm_kill_d, pm_cats_nil, pm_cats_i, pm_cats_r, pm_cats_n, pm_cats_l, pm_cats_d, sz_1, sz_2, sl_1, sl_2, lc_0, lc_lt, lc_le, li_ne, va_rf, wr_m1, we_m1, pm_kill_w, Int32.reduceOfInt, Int64.reduceOfInt, Int32.reduceOfNat, Int32.reduceLT, Int32.reduceLE, Prod.mk.injEq, Nat.reduceEqDiff, reduceCtorEq, and_true, true_and, and_false, false_and, and_self, ite_true, ite_false, ↓reduceIte, not_true_eq_false, not_false_eq_true, pe_ri, pe_rz, pe_rc, sw1476_0, Cp_g20_0 hP hA, Cp_g20_1 hP hA, eq_false k3, eq_true k6, z7]
      · rw [if_neg k8] at e; cases e
    · rw [if_neg k6] at e
      by_cases k9 : x1 = 45
      · rw [if_pos k9] at e
        obtain ⟨⟨v5, S6⟩, k10, e⟩ := Option.bind_eq_some_iff.mp e
        try dsimp only at e
        have z10 := x1473v1 (D := D) (h := h) hP hA (by omega) k10
        dsimp only at z10
        by_cases k11 : v5 = 0 ∨ v5 = 1
        · rw [if_pos k11] at e
          have e := Option.some.inj e; subst e
          simp -implicitDefEqProofs (disch := first | assumption | exact Nat.le_of_ble_eq_true rfl | decide) only [b1476_0, g1476_1, b1476_1, g1476_2, b1476_2, g1476_3, b1476_3, g1476_4, b1476_4, g1476_5, b1476_5, g1476_6, b1476_6, g1476_7, b1476_7, g1476_8, b1476_8, g1476_9, b1476_9, g1476_10, b1476_10, g1476_11, b1476_11, pe_iload1, pe_lookupswitch, pe_aload0, pe_getfield, pe_aload2, pe_lmul, pe_ladd, pe_call3, pm_af_ret, pm_af_void, pm_af_thr, pe_goto, pe_lsub, pe_lcmp, pe_if_le, pe_if_eq, pe_goto_w, pe_sipush, pe_if_ge, pe_aloadN0, pe_aloadN2, pe_aastoreN, pe_areturnN, pe_null, pm_prog_1, pm_ob_some, Nat.reduceDiv, Nat.reduceMod, Nat.reduceMul, Nat.reduceAdd, Int.reduceToNat, pm_kill_i, pm_kill_r, pm_kill_n, pm_kill_j, pm_kill_l, pm_kill_d, pm_cats_nil, pm_cats_i, pm_cats_r, pm_cats_n, pm_cats_l, pm_cats_d, sz_1, sz_2, sl_1, sl_2, lc_0, lc_lt, lc_le, li_ne, va_rf, wr_m1, we_m1, pm_kill_w, Int32.reduceOfInt, Int64.reduceOfInt, Int32.reduceOfNat, Int32.reduceLT, Int32.reduceLE, Prod.mk.injEq, Nat.reduceEqDiff, reduceCtorEq, and_true, true_and, and_false, false_and, and_self, ite_true, ite_false, ↓reduceIte, not_true_eq_false, not_false_eq_true, pe_ri, pe_rz, pe_rc, sw1476_0, Cp_g20_0 hP hA, Cp_g20_1 hP hA, eq_false k3, eq_false k6, eq_true k9, z10]
        · rw [if_neg k11] at e; cases e
      · rw [if_neg k9] at e
        by_cases k12 : x1 = 47
        · rw [if_pos k12] at e
          obtain ⟨⟨v7, S8⟩, k13, e⟩ := Option.bind_eq_some_iff.mp e
          try dsimp only at e
          have z13 := x1473v1 (D := D) (h := h) hP hA (by omega) k13
          dsimp only at z13
          by_cases k14 : v7 = 0 ∨ v7 = 1
          · rw [if_pos k14] at e
            have e := Option.some.inj e; subst e
            simp -implicitDefEqProofs (disch := first | assumption | exact Nat.le_of_ble_eq_true rfl | decide) only [b1476_0, g1476_1, b1476_1, g1476_2, b1476_2, g1476_3, b1476_3, g1476_4, b1476_4, g1476_5, b1476_5, g1476_6, b1476_6, g1476_7, b1476_7, g1476_8, b1476_8, g1476_9, b1476_9, g1476_10, b1476_10, g1476_11, b1476_11, pe_iload1, pe_lookupswitch, pe_aload0, pe_getfield, pe_aload2, pe_lmul, pe_ladd, pe_call3, pm_af_ret, pm_af_void, pm_af_thr, pe_goto, pe_lsub, pe_lcmp, pe_if_le, pe_if_eq, pe_goto_w, pe_sipush, pe_if_ge, pe_aloadN0, pe_aloadN2, pe_aastoreN, pe_areturnN, pe_null, pm_prog_1, pm_ob_some, Nat.reduceDiv, Nat.reduceMod, Nat.reduceMul, Nat.reduceAdd, Int.reduceToNat, pm_kill_i, pm_kill_r, pm_kill_n, pm_kill_j, pm_kill_l, pm_kill_d, pm_cats_nil, pm_cats_i, pm_cats_r, pm_cats_n, pm_cats_l, pm_cats_d, sz_1, sz_2, sl_1, sl_2, lc_0, lc_lt, lc_le, li_ne, va_rf, wr_m1, we_m1, pm_kill_w, Int32.reduceOfInt, Int64.reduceOfInt, Int32.reduceOfNat, Int32.reduceLT, Int32.reduceLE, Prod.mk.injEq, Nat.reduceEqDiff, reduceCtorEq, and_true, true_and, and_false, false_and, and_self, ite_true, ite_false, ↓reduceIte, not_true_eq_false, not_false_eq_true, pe_ri, pe_rz, pe_rc, sw1476_0, Cp_g20_0 hP hA, Cp_g20_1 hP hA, eq_false k3, eq_false k6, eq_false k9, eq_true k12, z13]
          · rw [if_neg k14] at e; cases e
        · rw [if_neg k12] at e
          by_cases k15 : x1 = 60
          · rw [if_pos k15] at e
            by_cases k16 : ((S.2 (20, x0i, 0) 0) * (S.2 (20, x2i, 0) 1)) ≤ ((S.2 (20, x2i, 0) 0) * (S.2 (20, x0i, 0) 1))
            · rw [if_pos k16] at e
              have e := Option.some.inj e; subst e
              simp -implicitDefEqProofs (disch := first | assumption | exact Nat.le_of_ble_eq_true rfl | decide) only [b1476_0, g1476_1, b1476_1, g1476_2, b1476_2, g1476_3, b1476_3, g1476_4, b1476_4, g1476_5, b1476_5, g1476_6, b1476_6, g1476_7, b1476_7, g1476_8, b1476_8, g1476_9, b1476_9, g1476_10, b1476_10, g1476_11, b1476_11, pe_iload1, pe_lookupswitch, pe_aload0, pe_getfield, pe_aload2, pe_lmul, pe_ladd, pe_call3, pm_af_ret, pm_af_void, pm_af_thr, pe_goto, pe_lsub, pe_lcmp, pe_if_le, pe_if_eq, pe_goto_w, pe_sipush, pe_if_ge, pe_aloadN0, pe_aloadN2, pe_aastoreN, pe_areturnN, pe_null, pm_prog_1, pm_ob_some, Nat.reduceDiv, Nat.reduceMod, Nat.reduceMul, Nat.reduceAdd, Int.reduceToNat, pm_kill_i, pm_kill_r, pm_kill_n, pm_kill_j, pm_kill_l, pm_kill_d, pm_cats_nil, pm_cats_i, pm_cats_r, pm_cats_n, pm_cats_l, pm_cats_d, sz_1, sz_2, sl_1, sl_2, lc_0, lc_lt, lc_le, li_ne, va_rf, wr_m1, we_m1, pm_kill_w, Int32.reduceOfInt, Int64.reduceOfInt, Int32.reduceOfNat, Int32.reduceLT, Int32.reduceLE, Prod.mk.injEq, Nat.reduceEqDiff, reduceCtorEq, and_true, true_and, and_false, false_and, and_self, ite_true, ite_false, ↓reduceIte, not_true_eq_false, not_false_eq_true, pe_ri, pe_rz, pe_rc, sw1476_0, Cp_g20_0 hP hA, Cp_g20_1 hP hA, eq_false k3, eq_false k6, eq_false k9, eq_false k12, eq_true k15, eq_true k16]
            · rw [if_neg k16] at e
              obtain ⟨⟨v9, S10⟩, k17, e⟩ := Option.bind_eq_some_iff.mp e
              try dsimp only at e
              have z17 := x1473v1 (D := D) (h := h) hP hA (by omega) k17
              dsimp only at z17
              by_cases k18 : v9 = 0
              · rw [if_pos k18] at e
                have e := Option.some.inj e; subst e
                simp -implicitDefEqProofs (disch := first | assumption | exact Nat.le_of_ble_eq_true rfl | decide) only [b1476_0, g1476_1, b1476_1, g1476_2, b1476_2, g1476_3, b1476_3, g1476_4, b1476_4, g1476_5, b1476_5, g1476_6, b1476_6, g1476_7, b1476_7, g1476_8, b1476_8, g1476_9, b1476_9, g1476_10, b1476_10, g1476_11, b1476_11, pe_iload1, pe_lookupswitch, pe_aload0, pe_getfield, pe_aload2, pe_lmul, pe_ladd, pe_call3, pm_af_ret, pm_af_void, pm_af_thr, pe_goto, pe_lsub, pe_lcmp, pe_if_le, pe_if_eq, pe_goto_w, pe_sipush, pe_if_ge, pe_aloadN0, pe_aloadN2, pe_aastoreN, pe_areturnN, pe_null, pm_prog_1, pm_ob_some, Nat.reduceDiv, Nat.reduceMod, Nat.reduceMul, Nat.reduceAdd, Int.reduceToNat, pm_kill_i, pm_kill_r, pm_kill_n, pm_kill_j, pm_kill_l, pm_kill_d, pm_cats_nil, pm_cats_i, pm_cats_r, pm_cats_n, pm_cats_l, pm_cats_d, sz_1, sz_2, sl_1, sl_2, lc_0, lc_lt, lc_le, li_ne, va_rf, wr_m1, we_m1, pm_kill_w, Int32.reduceOfInt, Int64.reduceOfInt, Int32.reduceOfNat, Int32.reduceLT, Int32.reduceLE, Prod.mk.injEq, Nat.reduceEqDiff, reduceCtorEq, and_true, true_and, and_false, false_and, and_self, ite_true, ite_false, ↓reduceIte, not_true_eq_false, not_false_eq_true, pe_ri, pe_rz, pe_rc, sw1476_0, Cp_g20_0 hP hA, Cp_g20_1 hP hA, eq_false k3, eq_false k6, eq_false k9, eq_false k12, eq_true k15, eq_false k16, z17, eq_true k18]
              · rw [if_neg k18] at e
                have e := Option.some.inj e; subst e
                simp -implicitDefEqProofs (disch := first | assumption | exact Nat.le_of_ble_eq_true rfl | decide) only [b1476_0, g1476_1, b1476_1, g1476_2, b1476_2, g1476_3, b1476_3, g1476_4, b1476_4, g1476_5, b1476_5, g1476_6, b1476_6, g1476_7, b1476_7, g1476_8, b1476_8, g1476_9, b1476_9, g1476_10, b1476_10, g1476_11, b1476_11, pe_iload1, pe_lookupswitch, pe_aload0, pe_getfield, pe_aload2, pe_lmul, pe_ladd, pe_call3, pm_af_ret, pm_af_void, pm_af_thr, pe_goto, pe_lsub, pe_lcmp, pe_if_le, pe_if_eq, pe_goto_w, pe_sipush, pe_if_ge, pe_aloadN0, pe_aloadN2, pe_aastoreN, pe_areturnN, pe_null, pm_prog_1, pm_ob_some, Nat.reduceDiv, Nat.reduceMod, Nat.reduceMul, Nat.reduceAdd, Int.reduceToNat, pm_kill_i, pm_kill_r, pm_kill_n, pm_kill_j, pm_kill_l, pm_kill_d, pm_cats_nil, pm_cats_i, pm_cats_r, pm_cats_n, pm_cats_l, pm_cats_d, sz_1, sz_2, sl_1, sl_2, lc_0, lc_lt, lc_le, li_ne, va_rf, wr_m1, we_m1, pm_kill_w, Int32.reduceOfInt, Int64.reduceOfInt, Int32.reduceOfNat, Int32.reduceLT, Int32.reduceLE, Prod.mk.injEq, Nat.reduceEqDiff, reduceCtorEq, and_true, true_and, and_false, false_and, and_self, ite_true, ite_false, ↓reduceIte, not_true_eq_false, not_false_eq_true, pe_ri, pe_rz, pe_rc, sw1476_0, Cp_g20_0 hP hA, Cp_g20_1 hP hA, eq_false k3, eq_false k6, eq_false k9, eq_false k12, eq_true k15, eq_false k16, z17, eq_false k18]
          · rw [if_neg k15] at e
            by_cases k19 : ((S.2 (20, x0i, 0) 0) * (S.2 (20, x2i, 0) 1)) < ((S.2 (20, x2i, 0) 0) * (S.2 (20, x0i, 0) 1))
            · rw [if_pos k19] at e
              obtain ⟨⟨v11, S12⟩, k20, e⟩ := Option.bind_eq_some_iff.mp e
              try dsimp only at e
              have z20 := x1473v1 (D := D) (h := h) hP hA (by omega) k20
              dsimp only at z20
              by_cases k21 : v11 = 0
              · rw [if_pos k21] at e
                have e := Option.some.inj e; subst e
                simp -implicitDefEqProofs (disch := first | assumption | exact Nat.le_of_ble_eq_true rfl | decide) only [b1476_0, g1476_1, b1476_1, g1476_2, b1476_2, g1476_3, b1476_3, g1476_4, b1476_4, g1476_5, b1476_5, g1476_6, b1476_6, g1476_7, b1476_7, g1476_8, b1476_8, g1476_9, b1476_9, g1476_10, b1476_10, g1476_11, b1476_11, pe_iload1, pe_lookupswitch, pe_aload0, pe_getfield, pe_aload2, pe_lmul, pe_ladd, pe_call3, pm_af_ret, pm_af_void, pm_af_thr, pe_goto, pe_lsub, pe_lcmp, pe_if_le, pe_if_eq, pe_goto_w, pe_sipush, pe_if_ge, pe_aloadN0, pe_aloadN2, pe_aastoreN, pe_areturnN, pe_null, pm_prog_1, pm_ob_some, Nat.reduceDiv, Nat.reduceMod, Nat.reduceMul, Nat.reduceAdd, Int.reduceToNat, pm_kill_i, pm_kill_r, pm_kill_n, pm_kill_j, pm_kill_l, pm_kill_d, pm_cats_nil, pm_cats_i, pm_cats_r, pm_cats_n, pm_cats_l, pm_cats_d, sz_1, sz_2, sl_1, sl_2, lc_0, lc_lt, lc_le, li_ne, va_rf, wr_m1, we_m1, pm_kill_w, Int32.reduceOfInt, Int64.reduceOfInt, Int32.reduceOfNat, Int32.reduceLT, Int32.reduceLE, Prod.mk.injEq, Nat.reduceEqDiff, reduceCtorEq, and_true, true_and, and_false, false_and, and_self, ite_true, ite_false, ↓reduceIte, not_true_eq_false, not_false_eq_true, pe_ri, pe_rz, pe_rc, sw1476_0, Cp_g20_0 hP hA, Cp_g20_1 hP hA, eq_false k3, eq_false k6, eq_false k9, eq_false k12, eq_false k15, eq_true k19, z20, eq_true k21]
              · rw [if_neg k21] at e
                have e := Option.some.inj e; subst e
                simp -implicitDefEqProofs (disch := first | assumption | exact Nat.le_of_ble_eq_true rfl | decide) only [b1476_0, g1476_1, b1476_1, g1476_2, b1476_2, g1476_3, b1476_3, g1476_4, b1476_4, g1476_5, b1476_5, g1476_6, b1476_6, g1476_7, b1476_7, g1476_8, b1476_8, g1476_9, b1476_9, g1476_10, b1476_10, g1476_11, b1476_11, pe_iload1, pe_lookupswitch, pe_aload0, pe_getfield, pe_aload2, pe_lmul, pe_ladd, pe_call3, pm_af_ret, pm_af_void, pm_af_thr, pe_goto, pe_lsub, pe_lcmp, pe_if_le, pe_if_eq, pe_goto_w, pe_sipush, pe_if_ge, pe_aloadN0, pe_aloadN2, pe_aastoreN, pe_areturnN, pe_null, pm_prog_1, pm_ob_some, Nat.reduceDiv, Nat.reduceMod, Nat.reduceMul, Nat.reduceAdd, Int.reduceToNat, pm_kill_i, pm_kill_r, pm_kill_n, pm_kill_j, pm_kill_l, pm_kill_d, pm_cats_nil, pm_cats_i, pm_cats_r, pm_cats_n, pm_cats_l, pm_cats_d, sz_1, sz_2, sl_1, sl_2, lc_0, lc_lt, lc_le, li_ne, va_rf, wr_m1, we_m1, pm_kill_w, Int32.reduceOfInt, Int64.reduceOfInt, Int32.reduceOfNat, Int32.reduceLT, Int32.reduceLE, Prod.mk.injEq, Nat.reduceEqDiff, reduceCtorEq, and_true, true_and, and_false, false_and, and_self, ite_true, ite_false, ↓reduceIte, not_true_eq_false, not_false_eq_true, pe_ri, pe_rz, pe_rc, sw1476_0, Cp_g20_0 hP hA, Cp_g20_1 hP hA, eq_false k3, eq_false k6, eq_false k9, eq_false k12, eq_false k15, eq_true k19, z20, eq_false k21]
            · rw [if_neg k19] at e
              have e := Option.some.inj e; subst e
              simp -implicitDefEqProofs (disch := first | assumption | exact Nat.le_of_ble_eq_true rfl | decide) only [b1476_0, g1476_1, b1476_1, g1476_2, b1476_2, g1476_3, b1476_3, g1476_4, b1476_4, g1476_5, b1476_5, g1476_6, b1476_6, g1476_7, b1476_7, g1476_8, b1476_8, g1476_9, b1476_9, g1476_10, b1476_10, g1476_11, b1476_11, pe_iload1, pe_lookupswitch, pe_aload0, pe_getfield, pe_aload2, pe_lmul, pe_ladd, pe_call3, pm_af_ret, pm_af_void, pm_af_thr, pe_goto, pe_lsub, pe_lcmp, pe_if_le, pe_if_eq, pe_goto_w, pe_sipush, pe_if_ge, pe_aloadN0, pe_aloadN2, pe_aastoreN, pe_areturnN, pe_null, pm_prog_1, pm_ob_some, Nat.reduceDiv, Nat.reduceMod, Nat.reduceMul, Nat.reduceAdd, Int.reduceToNat, pm_kill_i, pm_kill_r, pm_kill_n, pm_kill_j, pm_kill_l, pm_kill_d, pm_cats_nil, pm_cats_i, pm_cats_r, pm_cats_n, pm_cats_l, pm_cats_d, sz_1, sz_2, sl_1, sl_2, lc_0, lc_lt, lc_le, li_ne, va_rf, wr_m1, we_m1, pm_kill_w, Int32.reduceOfInt, Int64.reduceOfInt, Int32.reduceOfNat, Int32.reduceLT, Int32.reduceLE, Prod.mk.injEq, Nat.reduceEqDiff, reduceCtorEq, and_true, true_and, and_false, false_and, and_self, ite_true, ite_false, ↓reduceIte, not_true_eq_false, not_false_eq_true, pe_ri, pe_rz, pe_rc, sw1476_0, Cp_g20_0 hP hA, Cp_g20_1 hP hA, eq_false k3, eq_false k6, eq_false k9, eq_false k12, eq_false k15, eq_false k19]
/-- TimberHouse$PriceLines.lay(JJ)V -/
theorem c1433 {d : Nat} {h : pm_H} {a : Nat} {x0 : Int64} {x1 : Int64} (hc : pm_cls h a = some 22) : pm_call pm_prog (d + 1) 1433 [.ref a, .long x0, .long x1] h = pm_ev pm_prog (pm_call pm_prog d) 1433 0 b1433_0 [.ref a, .long x0, pm_junk, .long x1, pm_junk, pm_junk] [] h := pm_cal (pm_rc1 hc rfl) rfl rfl rfl
/-- TimberHouse$PriceLines.lay(JJ)V -/
noncomputable def f1433 (lc : Int32) (fq : Int32) (ll : Int32 → Int32) (S : wS) (x1 : Int64) (x3 : Int64) : Option (wS) :=
  if 0 ≤ (S.1 (0, 0, 0) 12) ∧ (S.1 (0, 0, 0) 12) < 6 then
    (f1473v1 lc fq ll (sz S (0, 0, 0) 12 ((S.1 (0, 0, 0) 12) + 1)) (S.1 (0, 0, 0) 12) x1 x3).bind fun (v1, S2) =>
    some S2
  else none
theorem x1433 {lc : Int32} {fq : Int32} {ll : Int32 → Int32} {A : wK → Nat} {h : pm_H} {D : Nat} {S : wS} {x1 : Int64} {x3 : Int64} {r : wS} (hP : Cp_P lc fq ll) (hA : wok A (Cp_d lc fq ll) h.1) (hD : 3 ≤ D) (e : f1433 lc fq ll S x1 x3 = some r) : pm_call pm_prog D 1433 [.ref (A (0, 0, 0)), .long x1, .long x3] (wput A (Cp_d lc fq ll) S h) = some (Outcome.returned none, (wput A (Cp_d lc fq ll) r h)) := by
  obtain ⟨D, rfl⟩ : ∃ D', D = D' + 1 := ⟨D - 1, by omega⟩
  have hD : 2 ≤ D := by omega
  simp only [f1433] at e
  rw [c1433 (Cp_c0 hP hA), b1433_0]
  by_cases k1 : 0 ≤ (S.1 (0, 0, 0) 12) ∧ (S.1 (0, 0, 0) 12) < 6
  · rw [if_pos k1] at e
    obtain ⟨⟨v1, S2⟩, k2, e⟩ := Option.bind_eq_some_iff.mp e
    try dsimp only at e
    have z2 := x1473v1 (D := D) (h := h) hP hA (by omega) k2
    dsimp only at z2
    have e := Option.some.inj e; subst e
    simp -implicitDefEqProofs (disch := first | assumption | exact Nat.le_of_ble_eq_true rfl | decide) only [b1433_0, pe_aload0, pe_getfield, pe_dup_i, pe_dup_r, pe_dup_x1_ii, pe_dup_x1_ir, pe_dup_x1_ri, pe_dup_x1_rr, pe_sipush, pe_iadd, pe_putfield, pe_aaload, pe_lload1, pe_lload3, pe_call3, pm_af_ret, pm_af_void, pm_af_thr, pe_istore5, pe_return, pe_aloadN0, pe_aastoreN, pe_areturnN, pe_null, pm_prog_1, pm_ob_some, Nat.reduceDiv, Nat.reduceMod, Nat.reduceMul, Nat.reduceAdd, Int.reduceToNat, pm_kill_i, pm_kill_r, pm_kill_n, pm_kill_j, pm_kill_l, pm_kill_d, pm_cats_nil, pm_cats_i, pm_cats_r, pm_cats_n, pm_cats_l, pm_cats_d, sz_1, sz_2, sl_1, sl_2, lc_0, lc_lt, lc_le, li_ne, va_rf, wr_m1, we_m1, pm_kill_w, Int32.reduceOfInt, Int64.reduceOfInt, Int32.reduceOfNat, Int32.reduceLT, Int32.reduceLE, Prod.mk.injEq, Nat.reduceEqDiff, reduceCtorEq, and_true, true_and, and_false, false_and, and_self, ite_true, ite_false, ↓reduceIte, not_true_eq_false, not_false_eq_true, pe_ri, pe_rz, pe_rc, Cp_g0_11 hP hA, Cp_g0_12 hP hA, Cp_p0_12 hP hA, Cp_r6 hP hA, z2]
  · rw [if_neg k1] at e; cases e
/-- TimberHouse$PriceLines.sign(I)I -/
theorem c1432 {d : Nat} {h : pm_H} {a : Nat} {x0 : Int32} (hc : pm_cls h a = some 22) : pm_call pm_prog (d + 1) 1432 [.ref a, .int x0] h = pm_ev pm_prog (pm_call pm_prog d) 1432 0 b1432_0 [.ref a, .int x0, pm_junk, pm_junk] [] h := pm_cal (pm_rc1 hc rfl) rfl rfl rfl
theorem g1432_1 {cl : pm_C} {ls st : List Value} {h : pm_H} : pm_go pm_prog cl 1432 1 ls st h = pm_ev pm_prog cl 1432 1 b1432_1 ls st h := pm_go_eq pm_prog cl 1432 1 ls st h
theorem g1432_2 {cl : pm_C} {ls st : List Value} {h : pm_H} : pm_go pm_prog cl 1432 2 ls st h = pm_ev pm_prog cl 1432 2 b1432_2 ls st h := pm_go_eq pm_prog cl 1432 2 ls st h
theorem g1432_3 {cl : pm_C} {ls st : List Value} {h : pm_H} : pm_go pm_prog cl 1432 3 ls st h = pm_ev pm_prog cl 1432 3 b1432_3 ls st h := pm_go_eq pm_prog cl 1432 3 ls st h
theorem g1432_4 {cl : pm_C} {ls st : List Value} {h : pm_H} : pm_go pm_prog cl 1432 4 ls st h = pm_ev pm_prog cl 1432 4 b1432_4 ls st h := pm_go_eq pm_prog cl 1432 4 ls st h
theorem g1432_5 {cl : pm_C} {ls st : List Value} {h : pm_H} : pm_go pm_prog cl 1432 5 ls st h = pm_ev pm_prog cl 1432 5 b1432_5 ls st h := pm_go_eq pm_prog cl 1432 5 ls st h
theorem g1432_6 {cl : pm_C} {ls st : List Value} {h : pm_H} : pm_go pm_prog cl 1432 6 ls st h = pm_ev pm_prog cl 1432 6 b1432_6 ls st h := pm_go_eq pm_prog cl 1432 6 ls st h
theorem g1432_7 {cl : pm_C} {ls st : List Value} {h : pm_H} : pm_go pm_prog cl 1432 7 ls st h = pm_ev pm_prog cl 1432 7 b1432_7 ls st h := pm_go_eq pm_prog cl 1432 7 ls st h
theorem g1432_8 {cl : pm_C} {ls st : List Value} {h : pm_H} : pm_go pm_prog cl 1432 8 ls st h = pm_ev pm_prog cl 1432 8 b1432_8 ls st h := pm_go_eq pm_prog cl 1432 8 ls st h
theorem g1432_9 {cl : pm_C} {ls st : List Value} {h : pm_H} : pm_go pm_prog cl 1432 9 ls st h = pm_ev pm_prog cl 1432 9 b1432_9 ls st h := pm_go_eq pm_prog cl 1432 9 ls st h
theorem g1432_10 {cl : pm_C} {ls st : List Value} {h : pm_H} : pm_go pm_prog cl 1432 10 ls st h = pm_ev pm_prog cl 1432 10 b1432_10 ls st h := pm_go_eq pm_prog cl 1432 10 ls st h
noncomputable def f1432_7 (lc : Int32) (fq : Int32) (ll : Int32 → Int32) (S : wS) (x2 : Int32) (x3i : Int32) : Option (Int32 × wS) :=
  if 0 ≤ x3i ∧ x3i < 6 then
    if 0 ≤ ((S.1 (0, 0, 0) 12) - 1) ∧ ((S.1 (0, 0, 0) 12) - 1) < 6 then
      (f1476 lc fq ll S ((S.1 (0, 0, 0) 12) - 1) x2 x3i).bind fun (v6, S7) =>
      if v6 = 0 then
        some (3, S7)
      else
        some (0, S7)
    else none
  else none
/-- TimberHouse$PriceLines.sign(I)I -/
noncomputable def f1432 (lc : Int32) (fq : Int32) (ll : Int32 → Int32) (S : wS) (x1 : Int32) : Option (Int32 × wS) :=
  if x1 < 0 then
    if (UInt32.toInt32 (Int32.toUInt32 (-x1) % 65536)) = 114 then
      if 0 ≤ ((S.1 (0, 0, 0) 12) - 1) ∧ ((S.1 (0, 0, 0) 12) - 1) < 6 then
        (f1474 lc fq ll S ((S.1 (0, 0, 0) 12) - 1) 100).bind fun v1 =>
        (f1473v1 lc fq ll S ((S.1 (0, 0, 0) 12) - 1) v1 100).bind fun (v2, S3) =>
        if v2 = 0 then
          some (3, S3)
        else
          some (0, S3)
      else none
    else
      (f1425 (UInt32.toInt32 (Int32.toUInt32 (-x1) % 65536))).bind fun v4 =>
      if v4 = 0 then
        if 0 ≤ ((S.1 (0, 0, 0) 12) - 1) ∧ ((S.1 (0, 0, 0) 12) - 1) < 6 then
          if (UInt32.toInt32 (Int32.toUInt32 (-x1) % 65536)) = 47 then
            (f1475 lc fq ll (sz S (0, 0, 0) 12 ((S.1 (0, 0, 0) 12) - 1)) ((S.1 (0, 0, 0) 12) - 1)).bind fun v5 =>
            if v5 = 0 then
              f1432_7 lc fq ll (sz S (0, 0, 0) 12 ((S.1 (0, 0, 0) 12) - 1)) (UInt32.toInt32 (Int32.toUInt32 (-x1) % 65536)) ((S.1 (0, 0, 0) 12) - 1)
            else
              some (2, (sz S (0, 0, 0) 12 ((S.1 (0, 0, 0) 12) - 1)))
          else
            f1432_7 lc fq ll (sz S (0, 0, 0) 12 ((S.1 (0, 0, 0) 12) - 1)) (UInt32.toInt32 (Int32.toUInt32 (-x1) % 65536)) ((S.1 (0, 0, 0) 12) - 1)
        else none
      else
        if 0 ≤ ((UInt32.toInt32 (Int32.toUInt32 (-x1) % 65536)) - 97) ∧ ((UInt32.toInt32 (Int32.toUInt32 (-x1) % 65536)) - 97) < 26 then
          if (S.1 (5, 0, 0) ((UInt32.toInt32 (Int32.toUInt32 (-x1) % 65536)) - 97)) < 0 then
            some (1, S)
          else
            if 0 ≤ (S.1 (5, 0, 0) ((UInt32.toInt32 (Int32.toUInt32 (-x1) % 65536)) - 97)) ∧ (S.1 (5, 0, 0) ((UInt32.toInt32 (Int32.toUInt32 (-x1) % 65536)) - 97)) < fq then
              (f1433 lc fq ll S (S.2 (25, (S.1 (5, 0, 0) ((UInt32.toInt32 (Int32.toUInt32 (-x1) % 65536)) - 97)), 0) 0) (S.2 (25, (S.1 (5, 0, 0) ((UInt32.toInt32 (Int32.toUInt32 (-x1) % 65536)) - 97)), 0) 1)).bind fun S8 =>
              some (0, S8)
            else none
        else none
  else
    (f1433 lc fq ll S (Int32.toInt64 x1) 1).bind fun S9 =>
    some (0, S9)
theorem y1432_7 {lc : Int32} {fq : Int32} {ll : Int32 → Int32} {A : wK → Nat} {h : pm_H} {D : Nat} {S : wS} {x2 : Int32} {x3i : Int32} {r : Int32 × wS} (hP : Cp_P lc fq ll) (hA : wok A (Cp_d lc fq ll) h.1) (hD : 3 ≤ D) (e : f1432_7 lc fq ll S x2 x3i = some r) : ∀ q1 : Value, pm_go pm_prog (pm_call pm_prog D) 1432 7 [.ref (A (0, 0, 0)), q1, .int x2, .ref (A (20, x3i, 0))] [] (wput A (Cp_d lc fq ll) S h) = some (match (generalizing := false) r with | (w0, S1) => (Outcome.returned (some (.int w0)), (wput A (Cp_d lc fq ll) S1 h))) := by
  intro q1
  simp only [f1432_7] at e
  rw [g1432_7, b1432_7]
  by_cases k1 : 0 ≤ x3i ∧ x3i < 6
  · rw [if_pos k1] at e
    by_cases k2 : 0 ≤ ((S.1 (0, 0, 0) 12) - 1) ∧ ((S.1 (0, 0, 0) 12) - 1) < 6
    · rw [if_pos k2] at e
      obtain ⟨⟨v6, S7⟩, k3, e⟩ := Option.bind_eq_some_iff.mp e
      try dsimp only at e
      have z3 := x1476 (D := D) (h := h) hP hA (by omega) k3
      dsimp only at z3
      by_cases k4 : v6 = 0
      · rw [if_pos k4] at e
        have e := Option.some.inj e; subst e
        simp -implicitDefEqProofs (disch := first | assumption | exact Nat.le_of_ble_eq_true rfl | decide) only [b1432_0, g1432_1, b1432_1, g1432_2, b1432_2, g1432_3, b1432_3, g1432_4, b1432_4, g1432_5, b1432_5, g1432_6, b1432_6, g1432_8, b1432_8, g1432_9, b1432_9, g1432_10, b1432_10, pe_iload1, pe_ineg, pe_i2c, pe_istore2, pe_if_lt, pe_aload0, pe_i2l, pe_bipush, pe_call3, pm_af_ret, pm_af_void, pm_af_thr, pe_goto, pe_iload2, pe_sipush, pe_icmp_ne, pe_getfield, pe_isub, pe_aaload, pe_astore3, pe_aload3, pe_call2, pe_if_eq, pe_goto_w, pe_call1, pe_ifnonnull_n, pe_ifnonnull_r, pe_dup_i, pe_dup_r, pe_dup_x1_ii, pe_dup_x1_ir, pe_dup_x1_ri, pe_dup_x1_rr, pe_putfield, pe_aloadN0, pe_astoreN3, pe_aloadN3, pe_aastoreN, pe_areturnN, pe_null, pm_prog_1, pm_ob_some, Nat.reduceDiv, Nat.reduceMod, Nat.reduceMul, Nat.reduceAdd, Int.reduceToNat, pm_kill_i, pm_kill_r, pm_kill_n, pm_kill_j, pm_kill_l, pm_kill_d, pm_cats_nil, pm_cats_i, pm_cats_r, pm_cats_n, pm_cats_l, pm_cats_d, sz_1, sz_2, sl_1, sl_2, lc_0, lc_lt, lc_le, li_ne, va_rf, wr_m1, we_m1, pm_kill_w, Int32.reduceOfInt, Int64.reduceOfInt, Int32.reduceOfNat, Int32.reduceLT, Int32.reduceLE, Prod.mk.injEq, Nat.reduceEqDiff, reduceCtorEq, and_true, true_and, and_false, false_and, and_self, ite_true, ite_false, ↓reduceIte, not_true_eq_false, not_false_eq_true, pe_ri, pe_rz, pe_rc, Cp_g0_10 hP hA, Cp_g0_11 hP hA, Cp_g0_12 hP hA, Cp_g25_0 hP hA, Cp_g25_1 hP hA, Cp_p0_12 hP hA, Cp_r5 hP hA, Cp_r6 hP hA, z3, eq_true k4]
      · rw [if_neg k4] at e
        have e := Option.some.inj e; subst e
        simp -implicitDefEqProofs (disch := first | assumption | exact Nat.le_of_ble_eq_true rfl | decide) only [b1432_0, g1432_1, b1432_1, g1432_2, b1432_2, g1432_3, b1432_3, g1432_4, b1432_4, g1432_5, b1432_5, g1432_6, b1432_6, g1432_8, b1432_8, g1432_9, b1432_9, g1432_10, b1432_10, pe_iload1, pe_ineg, pe_i2c, pe_istore2, pe_if_lt, pe_aload0, pe_i2l, pe_bipush, pe_call3, pm_af_ret, pm_af_void, pm_af_thr, pe_goto, pe_iload2, pe_sipush, pe_icmp_ne, pe_getfield, pe_isub, pe_aaload, pe_astore3, pe_aload3, pe_call2, pe_if_eq, pe_goto_w, pe_call1, pe_ifnonnull_n, pe_ifnonnull_r, pe_dup_i, pe_dup_r, pe_dup_x1_ii, pe_dup_x1_ir, pe_dup_x1_ri, pe_dup_x1_rr, pe_putfield, pe_aloadN0, pe_astoreN3, pe_aloadN3, pe_aastoreN, pe_areturnN, pe_null, pm_prog_1, pm_ob_some, Nat.reduceDiv, Nat.reduceMod, Nat.reduceMul, Nat.reduceAdd, Int.reduceToNat, pm_kill_i, pm_kill_r, pm_kill_n, pm_kill_j, pm_kill_l, pm_kill_d, pm_cats_nil, pm_cats_i, pm_cats_r, pm_cats_n, pm_cats_l, pm_cats_d, sz_1, sz_2, sl_1, sl_2, lc_0, lc_lt, lc_le, li_ne, va_rf, wr_m1, we_m1, pm_kill_w, Int32.reduceOfInt, Int64.reduceOfInt, Int32.reduceOfNat, Int32.reduceLT, Int32.reduceLE, Prod.mk.injEq, Nat.reduceEqDiff, reduceCtorEq, and_true, true_and, and_false, false_and, and_self, ite_true, ite_false, ↓reduceIte, not_true_eq_false, not_false_eq_true, pe_ri, pe_rz, pe_rc, Cp_g0_10 hP hA, Cp_g0_11 hP hA, Cp_g0_12 hP hA, Cp_g25_0 hP hA, Cp_g25_1 hP hA, Cp_p0_12 hP hA, Cp_r5 hP hA, Cp_r6 hP hA, z3, eq_false k4]
    · rw [if_neg k2] at e; cases e
  · rw [if_neg k1] at e; cases e
theorem x1432 {lc : Int32} {fq : Int32} {ll : Int32 → Int32} {A : wK → Nat} {h : pm_H} {D : Nat} {S : wS} {x1 : Int32} {r : Int32 × wS} (hP : Cp_P lc fq ll) (hA : wok A (Cp_d lc fq ll) h.1) (hD : 4 ≤ D) (e : f1432 lc fq ll S x1 = some r) : pm_call pm_prog D 1432 [.ref (A (0, 0, 0)), .int x1] (wput A (Cp_d lc fq ll) S h) = some (match (generalizing := false) r with | (w0, S1) => (Outcome.returned (some (.int w0)), (wput A (Cp_d lc fq ll) S1 h))) := by
  obtain ⟨D, rfl⟩ : ∃ D', D = D' + 1 := ⟨D - 1, by omega⟩
  have hD : 3 ≤ D := by omega
  simp only [f1432] at e
  rw [c1432 (Cp_c0 hP hA), b1432_0]
  by_cases k1 : x1 < 0
  · rw [if_pos k1] at e
    by_cases k2 : (UInt32.toInt32 (Int32.toUInt32 (-x1) % 65536)) = 114
    · rw [if_pos k2] at e
      by_cases k3 : 0 ≤ ((S.1 (0, 0, 0) 12) - 1) ∧ ((S.1 (0, 0, 0) 12) - 1) < 6
      · rw [if_pos k3] at e
        obtain ⟨v1, k4, e⟩ := Option.bind_eq_some_iff.mp e
        try dsimp only at e
        have z4 := x1474 (D := D) (h := h) hP hA (by omega) k4
        obtain ⟨⟨v2, S3⟩, k5, e⟩ := Option.bind_eq_some_iff.mp e
        try dsimp only at e
        have z5 := x1473v1 (D := D) (h := h) hP hA (by omega) k5
        dsimp only at z5
        by_cases k6 : v2 = 0
        · rw [if_pos k6] at e
          have e := Option.some.inj e; subst e
          simp -implicitDefEqProofs (disch := first | assumption | exact Nat.le_of_ble_eq_true rfl | decide) only [b1432_0, g1432_1, b1432_1, g1432_2, b1432_2, g1432_3, b1432_3, g1432_4, b1432_4, g1432_5, b1432_5, g1432_6, b1432_6, g1432_8, b1432_8, g1432_9, b1432_9, g1432_10, b1432_10, pe_iload1, pe_ineg, pe_i2c, pe_istore2, pe_if_lt, pe_aload0, pe_i2l, pe_bipush, pe_call3, pm_af_ret, pm_af_void, pm_af_thr, pe_goto, pe_iload2, pe_sipush, pe_icmp_ne, pe_getfield, pe_isub, pe_aaload, pe_astore3, pe_aload3, pe_call2, pe_if_eq, pe_goto_w, pe_call1, pe_ifnonnull_n, pe_ifnonnull_r, pe_dup_i, pe_dup_r, pe_dup_x1_ii, pe_dup_x1_ir, pe_dup_x1_ri, pe_dup_x1_rr, pe_putfield, pe_aloadN0, pe_astoreN3, pe_aloadN3, pe_aastoreN, pe_areturnN, pe_null, pm_prog_1, pm_ob_some, Nat.reduceDiv, Nat.reduceMod, Nat.reduceMul, Nat.reduceAdd, Int.reduceToNat, pm_kill_i, pm_kill_r, pm_kill_n, pm_kill_j, pm_kill_l, pm_kill_d, pm_cats_nil, pm_cats_i, pm_cats_r, pm_cats_n, pm_cats_l, pm_cats_d, sz_1, sz_2, sl_1, sl_2, lc_0, lc_lt, lc_le, li_ne, va_rf, wr_m1, we_m1, pm_kill_w, Int32.reduceOfInt, Int64.reduceOfInt, Int32.reduceOfNat, Int32.reduceLT, Int32.reduceLE, Prod.mk.injEq, Nat.reduceEqDiff, reduceCtorEq, and_true, true_and, and_false, false_and, and_self, ite_true, ite_false, ↓reduceIte, not_true_eq_false, not_false_eq_true, pe_ri, pe_rz, pe_rc, Cp_g0_10 hP hA, Cp_g0_11 hP hA, Cp_g0_12 hP hA, Cp_g25_0 hP hA, Cp_g25_1 hP hA, Cp_p0_12 hP hA, Cp_r5 hP hA, Cp_r6 hP hA, eq_true k1, eq_true k2, z4, z5, eq_true k6]
        · rw [if_neg k6] at e
          have e := Option.some.inj e; subst e
          simp -implicitDefEqProofs (disch := first | assumption | exact Nat.le_of_ble_eq_true rfl | decide) only [b1432_0, g1432_1, b1432_1, g1432_2, b1432_2, g1432_3, b1432_3, g1432_4, b1432_4, g1432_5, b1432_5, g1432_6, b1432_6, g1432_8, b1432_8, g1432_9, b1432_9, g1432_10, b1432_10, pe_iload1, pe_ineg, pe_i2c, pe_istore2, pe_if_lt, pe_aload0, pe_i2l, pe_bipush, pe_call3, pm_af_ret, pm_af_void, pm_af_thr, pe_goto, pe_iload2, pe_sipush, pe_icmp_ne, pe_getfield, pe_isub, pe_aaload, pe_astore3, pe_aload3, pe_call2, pe_if_eq, pe_goto_w, pe_call1, pe_ifnonnull_n, pe_ifnonnull_r, pe_dup_i, pe_dup_r, pe_dup_x1_ii, pe_dup_x1_ir, pe_dup_x1_ri, pe_dup_x1_rr, pe_putfield, pe_aloadN0, pe_astoreN3, pe_aloadN3, pe_aastoreN, pe_areturnN, pe_null, pm_prog_1, pm_ob_some, Nat.reduceDiv, Nat.reduceMod, Nat.reduceMul, Nat.reduceAdd, Int.reduceToNat, pm_kill_i, pm_kill_r, pm_kill_n, pm_kill_j, pm_kill_l, pm_kill_d, pm_cats_nil, pm_cats_i, pm_cats_r, pm_cats_n, pm_cats_l, pm_cats_d, sz_1, sz_2, sl_1, sl_2, lc_0, lc_lt, lc_le, li_ne, va_rf, wr_m1, we_m1, pm_kill_w, Int32.reduceOfInt, Int64.reduceOfInt, Int32.reduceOfNat, Int32.reduceLT, Int32.reduceLE, Prod.mk.injEq, Nat.reduceEqDiff, reduceCtorEq, and_true, true_and, and_false, false_and, and_self, ite_true, ite_false, ↓reduceIte, not_true_eq_false, not_false_eq_true, pe_ri, pe_rz, pe_rc, Cp_g0_10 hP hA, Cp_g0_11 hP hA, Cp_g0_12 hP hA, Cp_g25_0 hP hA, Cp_g25_1 hP hA, Cp_p0_12 hP hA, Cp_r5 hP hA, Cp_r6 hP hA, eq_true k1, eq_true k2, z4, z5, eq_false k6]
      · rw [if_neg k3] at e; cases e
    · rw [if_neg k2] at e
      obtain ⟨v4, k7, e⟩ := Option.bind_eq_some_iff.mp e
      try dsimp only at e
      have z7 := fun h => x1425 (D := D) (h := h) (by omega) k7
      by_cases k8 : v4 = 0
      · rw [if_pos k8] at e
        by_cases k9 : 0 ≤ ((S.1 (0, 0, 0) 12) - 1) ∧ ((S.1 (0, 0, 0) 12) - 1) < 6
        · rw [if_pos k9] at e
          by_cases k10 : (UInt32.toInt32 (Int32.toUInt32 (-x1) % 65536)) = 47
          · rw [if_pos k10] at e
            obtain ⟨v5, k11, e⟩ := Option.bind_eq_some_iff.mp e
            try dsimp only at e
            have z11 := x1475 (D := D) (h := h) hP hA (by omega) k11
            by_cases k12 : v5 = 0
            · rw [if_pos k12] at e
              have k13 := y1432_7 (h := h) hP hA hD e
              simp -implicitDefEqProofs (disch := first | assumption | exact Nat.le_of_ble_eq_true rfl | decide) only [b1432_0, g1432_1, b1432_1, g1432_2, b1432_2, g1432_3, b1432_3, g1432_4, b1432_4, g1432_5, b1432_5, g1432_6, b1432_6, g1432_8, b1432_8, g1432_9, b1432_9, g1432_10, b1432_10, pe_iload1, pe_ineg, pe_i2c, pe_istore2, pe_if_lt, pe_aload0, pe_i2l, pe_bipush, pe_call3, pm_af_ret, pm_af_void, pm_af_thr, pe_goto, pe_iload2, pe_sipush, pe_icmp_ne, pe_getfield, pe_isub, pe_aaload, pe_astore3, pe_aload3, pe_call2, pe_if_eq, pe_goto_w, pe_call1, pe_ifnonnull_n, pe_ifnonnull_r, pe_dup_i, pe_dup_r, pe_dup_x1_ii, pe_dup_x1_ir, pe_dup_x1_ri, pe_dup_x1_rr, pe_putfield, pe_aloadN0, pe_astoreN3, pe_aloadN3, pe_aastoreN, pe_areturnN, pe_null, pm_prog_1, pm_ob_some, Nat.reduceDiv, Nat.reduceMod, Nat.reduceMul, Nat.reduceAdd, Int.reduceToNat, pm_kill_i, pm_kill_r, pm_kill_n, pm_kill_j, pm_kill_l, pm_kill_d, pm_cats_nil, pm_cats_i, pm_cats_r, pm_cats_n, pm_cats_l, pm_cats_d, sz_1, sz_2, sl_1, sl_2, lc_0, lc_lt, lc_le, li_ne, va_rf, wr_m1, we_m1, pm_kill_w, Int32.reduceOfInt, Int64.reduceOfInt, Int32.reduceOfNat, Int32.reduceLT, Int32.reduceLE, Prod.mk.injEq, Nat.reduceEqDiff, reduceCtorEq, and_true, true_and, and_false, false_and, and_self, ite_true, ite_false, ↓reduceIte, not_true_eq_false, not_false_eq_true, pe_ri, pe_rz, pe_rc, Cp_g0_10 hP hA, Cp_g0_11 hP hA, Cp_g0_12 hP hA, Cp_g25_0 hP hA, Cp_g25_1 hP hA, Cp_p0_12 hP hA, Cp_r5 hP hA, Cp_r6 hP hA, eq_true k1, eq_false k2, z7, eq_true k8, eq_true k10, z11, eq_true k12, k13]
            · rw [if_neg k12] at e
              have e := Option.some.inj e; subst e
              simp -implicitDefEqProofs (disch := first | assumption | exact Nat.le_of_ble_eq_true rfl | decide) only [b1432_0, g1432_1, b1432_1, g1432_2, b1432_2, g1432_3, b1432_3, g1432_4, b1432_4, g1432_5, b1432_5, g1432_6, b1432_6, g1432_8, b1432_8, g1432_9, b1432_9, g1432_10, b1432_10, pe_iload1, pe_ineg, pe_i2c, pe_istore2, pe_if_lt, pe_aload0, pe_i2l, pe_bipush, pe_call3, pm_af_ret, pm_af_void, pm_af_thr, pe_goto, pe_iload2, pe_sipush, pe_icmp_ne, pe_getfield, pe_isub, pe_aaload, pe_astore3, pe_aload3, pe_call2, pe_if_eq, pe_goto_w, pe_call1, pe_ifnonnull_n, pe_ifnonnull_r, pe_dup_i, pe_dup_r, pe_dup_x1_ii, pe_dup_x1_ir, pe_dup_x1_ri, pe_dup_x1_rr, pe_putfield, pe_aloadN0, pe_astoreN3, pe_aloadN3, pe_aastoreN, pe_areturnN, pe_null, pm_prog_1, pm_ob_some, Nat.reduceDiv, Nat.reduceMod, Nat.reduceMul, Nat.reduceAdd, Int.reduceToNat, pm_kill_i, pm_kill_r, pm_kill_n, pm_kill_j, pm_kill_l, pm_kill_d, pm_cats_nil, pm_cats_i, pm_cats_r, pm_cats_n, pm_cats_l, pm_cats_d, sz_1, sz_2, sl_1, sl_2, lc_0, lc_lt, lc_le, li_ne, va_rf, wr_m1, we_m1, pm_kill_w, Int32.reduceOfInt, Int64.reduceOfInt, Int32.reduceOfNat, Int32.reduceLT, Int32.reduceLE, Prod.mk.injEq, Nat.reduceEqDiff, reduceCtorEq, and_true, true_and, and_false, false_and, and_self, ite_true, ite_false, ↓reduceIte, not_true_eq_false, not_false_eq_true, pe_ri, pe_rz, pe_rc, Cp_g0_10 hP hA, Cp_g0_11 hP hA, Cp_g0_12 hP hA, Cp_g25_0 hP hA, Cp_g25_1 hP hA, Cp_p0_12 hP hA, Cp_r5 hP hA, Cp_r6 hP hA, eq_true k1, eq_false k2, z7, eq_true k8, eq_true k10, z11, eq_false k12]
          · rw [if_neg k10] at e
            have k14 := y1432_7 (h := h) hP hA hD e
            simp -implicitDefEqProofs (disch := first | assumption | exact Nat.le_of_ble_eq_true rfl | decide) only [b1432_0, g1432_1, b1432_1, g1432_2, b1432_2, g1432_3, b1432_3, g1432_4, b1432_4, g1432_5, b1432_5, g1432_6, b1432_6, g1432_8, b1432_8, g1432_9, b1432_9, g1432_10, b1432_10, pe_iload1, pe_ineg, pe_i2c, pe_istore2, pe_if_lt, pe_aload0, pe_i2l, pe_bipush, pe_call3, pm_af_ret, pm_af_void, pm_af_thr, pe_goto, pe_iload2, pe_sipush, pe_icmp_ne, pe_getfield, pe_isub, pe_aaload, pe_astore3, pe_aload3, pe_call2, pe_if_eq, pe_goto_w, pe_call1, pe_ifnonnull_n, pe_ifnonnull_r, pe_dup_i, pe_dup_r, pe_dup_x1_ii, pe_dup_x1_ir, pe_dup_x1_ri, pe_dup_x1_rr, pe_putfield, pe_aloadN0, pe_astoreN3, pe_aloadN3, pe_aastoreN, pe_areturnN, pe_null, pm_prog_1, pm_ob_some, Nat.reduceDiv, Nat.reduceMod, Nat.reduceMul, Nat.reduceAdd, Int.reduceToNat, pm_kill_i, pm_kill_r, pm_kill_n, pm_kill_j, pm_kill_l, pm_kill_d, pm_cats_nil, pm_cats_i, pm_cats_r, pm_cats_n, pm_cats_l, pm_cats_d, sz_1, sz_2, sl_1, sl_2, lc_0, lc_lt, lc_le, li_ne, va_rf, wr_m1, we_m1, pm_kill_w, Int32.reduceOfInt, Int64.reduceOfInt, Int32.reduceOfNat, Int32.reduceLT, Int32.reduceLE, Prod.mk.injEq, Nat.reduceEqDiff, reduceCtorEq, and_true, true_and, and_false, false_and, and_self, ite_true, ite_false, ↓reduceIte, not_true_eq_false, not_false_eq_true, pe_ri, pe_rz, pe_rc, Cp_g0_10 hP hA, Cp_g0_11 hP hA, Cp_g0_12 hP hA, Cp_g25_0 hP hA, Cp_g25_1 hP hA, Cp_p0_12 hP hA, Cp_r5 hP hA, Cp_r6 hP hA, eq_true k1, eq_false k2, z7, eq_true k8, eq_false k10, k14]
        · rw [if_neg k9] at e; cases e
      · rw [if_neg k8] at e
        by_cases k15 : 0 ≤ ((UInt32.toInt32 (Int32.toUInt32 (-x1) % 65536)) - 97) ∧ ((UInt32.toInt32 (Int32.toUInt32 (-x1) % 65536)) - 97) < 26
        · rw [if_pos k15] at e
          by_cases k16 : (S.1 (5, 0, 0) ((UInt32.toInt32 (Int32.toUInt32 (-x1) % 65536)) - 97)) < 0
          · rw [if_pos k16] at e
            have e := Option.some.inj e; subst e
            simp -implicitDefEqProofs (disch := first | assumption | exact Nat.le_of_ble_eq_true rfl | decide) only [b1432_0, g1432_1, b1432_1, g1432_2, b1432_2, g1432_3, b1432_3, g1432_4, b1432_4, g1432_5, b1432_5, g1432_6, b1432_6, g1432_8, b1432_8, g1432_9, b1432_9, g1432_10, b1432_10, pe_iload1, pe_ineg, pe_i2c, pe_istore2, pe_if_lt, pe_aload0, pe_i2l, pe_bipush, pe_call3, pm_af_ret, pm_af_void, pm_af_thr, pe_goto, pe_iload2, pe_sipush, pe_icmp_ne, pe_getfield, pe_isub, pe_aaload, pe_astore3, pe_aload3, pe_call2, pe_if_eq, pe_goto_w, pe_call1, pe_ifnonnull_n, pe_ifnonnull_r, pe_dup_i, pe_dup_r, pe_dup_x1_ii, pe_dup_x1_ir, pe_dup_x1_ri, pe_dup_x1_rr, pe_putfield, pe_aloadN0, pe_astoreN3, pe_aloadN3, pe_aastoreN, pe_areturnN, pe_null, pm_prog_1, pm_ob_some, Nat.reduceDiv, Nat.reduceMod, Nat.reduceMul, Nat.reduceAdd, Int.reduceToNat, pm_kill_i, pm_kill_r, pm_kill_n, pm_kill_j, pm_kill_l, pm_kill_d, pm_cats_nil, pm_cats_i, pm_cats_r, pm_cats_n, pm_cats_l, pm_cats_d, sz_1, sz_2, sl_1, sl_2, lc_0, lc_lt, lc_le, li_ne, va_rf, wr_m1, we_m1, pm_kill_w, Int32.reduceOfInt, Int64.reduceOfInt, Int32.reduceOfNat, Int32.reduceLT, Int32.reduceLE, Prod.mk.injEq, Nat.reduceEqDiff, reduceCtorEq, and_true, true_and, and_false, false_and, and_self, ite_true, ite_false, ↓reduceIte, not_true_eq_false, not_false_eq_true, pe_ri, pe_rz, pe_rc, Cp_g0_10 hP hA, Cp_g0_11 hP hA, Cp_g0_12 hP hA, Cp_g25_0 hP hA, Cp_g25_1 hP hA, Cp_p0_12 hP hA, Cp_r5 hP hA, Cp_r6 hP hA, eq_true k1, eq_false k2, z7, eq_false k8, wr_n (A := A) (f := 25) k16, we_n (A := A) (f := 25) k16]
          · rw [if_neg k16] at e
            by_cases k17 : 0 ≤ (S.1 (5, 0, 0) ((UInt32.toInt32 (Int32.toUInt32 (-x1) % 65536)) - 97)) ∧ (S.1 (5, 0, 0) ((UInt32.toInt32 (Int32.toUInt32 (-x1) % 65536)) - 97)) < fq
            · rw [if_pos k17] at e
              obtain ⟨S8, k18, e⟩ := Option.bind_eq_some_iff.mp e
              try dsimp only at e
              have z18 := x1433 (D := D) (h := h) hP hA (by omega) k18
              have e := Option.some.inj e; subst e
              simp -implicitDefEqProofs (disch := first | assumption | exact Nat.le_of_ble_eq_true rfl | decide) only [b1432_0, g1432_1, b1432_1, g1432_2, b1432_2, g1432_3, b1432_3, g1432_4, b1432_4, g1432_5, b1432_5, g1432_6, b1432_6, g1432_8, b1432_8, g1432_9, b1432_9, g1432_10, b1432_10, pe_iload1, pe_ineg, pe_i2c, pe_istore2, pe_if_lt, pe_aload0, pe_i2l, pe_bipush, pe_call3, pm_af_ret, pm_af_void, pm_af_thr, pe_goto, pe_iload2, pe_sipush, pe_icmp_ne, pe_getfield, pe_isub, pe_aaload, pe_astore3, pe_aload3, pe_call2, pe_if_eq, pe_goto_w, pe_call1, pe_ifnonnull_n, pe_ifnonnull_r, pe_dup_i, pe_dup_r, pe_dup_x1_ii, pe_dup_x1_ir, pe_dup_x1_ri, pe_dup_x1_rr, pe_putfield, pe_aloadN0, pe_astoreN3, pe_aloadN3, pe_aastoreN, pe_areturnN, pe_null, pm_prog_1, pm_ob_some, Nat.reduceDiv, Nat.reduceMod, Nat.reduceMul, Nat.reduceAdd, Int.reduceToNat, pm_kill_i, pm_kill_r, pm_kill_n, pm_kill_j, pm_kill_l, pm_kill_d, pm_cats_nil, pm_cats_i, pm_cats_r, pm_cats_n, pm_cats_l, pm_cats_d, sz_1, sz_2, sl_1, sl_2, lc_0, lc_lt, lc_le, li_ne, va_rf, wr_m1, we_m1, pm_kill_w, Int32.reduceOfInt, Int64.reduceOfInt, Int32.reduceOfNat, Int32.reduceLT, Int32.reduceLE, Prod.mk.injEq, Nat.reduceEqDiff, reduceCtorEq, and_true, true_and, and_false, false_and, and_self, ite_true, ite_false, ↓reduceIte, not_true_eq_false, not_false_eq_true, pe_ri, pe_rz, pe_rc, Cp_g0_10 hP hA, Cp_g0_11 hP hA, Cp_g0_12 hP hA, Cp_g25_0 hP hA, Cp_g25_1 hP hA, Cp_p0_12 hP hA, Cp_r5 hP hA, Cp_r6 hP hA, eq_true k1, eq_false k2, z7, eq_false k8, wr_p (A := A) (f := 25) k16, we_p (A := A) (f := 25) k16, wr_p (A := A) (f := 25) (wz_lt k17), we_p (A := A) (f := 25) (wz_lt k17), z18]
            · rw [if_neg k17] at e; cases e
        · rw [if_neg k15] at e; cases e
  · rw [if_neg k1] at e
    obtain ⟨S9, k19, e⟩ := Option.bind_eq_some_iff.mp e
    try dsimp only at e
    have z19 := x1433 (D := D) (h := h) hP hA (by omega) k19
    have e := Option.some.inj e; subst e
    simp -implicitDefEqProofs (disch := first | assumption | exact Nat.le_of_ble_eq_true rfl | decide) only [b1432_0, g1432_1, b1432_1, g1432_2, b1432_2, g1432_3, b1432_3, g1432_4, b1432_4, g1432_5, b1432_5, g1432_6, b1432_6, g1432_8, b1432_8, g1432_9, b1432_9, g1432_10, b1432_10, pe_iload1, pe_ineg, pe_i2c, pe_istore2, pe_if_lt, pe_aload0, pe_i2l, pe_bipush, pe_call3, pm_af_ret, pm_af_void, pm_af_thr, pe_goto, pe_iload2, pe_sipush, pe_icmp_ne, pe_getfield, pe_isub, pe_aaload, pe_astore3, pe_aload3, pe_call2, pe_if_eq, pe_goto_w, pe_call1, pe_ifnonnull_n, pe_ifnonnull_r, pe_dup_i, pe_dup_r, pe_dup_x1_ii, pe_dup_x1_ir, pe_dup_x1_ri, pe_dup_x1_rr, pe_putfield, pe_aloadN0, pe_astoreN3, pe_aloadN3, pe_aastoreN, pe_areturnN, pe_null, pm_prog_1, pm_ob_some, Nat.reduceDiv, Nat.reduceMod, Nat.reduceMul, Nat.reduceAdd, Int.reduceToNat, pm_kill_i, pm_kill_r, pm_kill_n, pm_kill_j, pm_kill_l, pm_kill_d, pm_cats_nil, pm_cats_i, pm_cats_r, pm_cats_n, pm_cats_l, pm_cats_d, sz_1, sz_2, sl_1, sl_2, lc_0, lc_lt, lc_le, li_ne, va_rf, wr_m1, we_m1, pm_kill_w, Int32.reduceOfInt, Int64.reduceOfInt, Int32.reduceOfNat, Int32.reduceLT, Int32.reduceLE, Prod.mk.injEq, Nat.reduceEqDiff, reduceCtorEq, and_true, true_and, and_false, false_and, and_self, ite_true, ite_false, ↓reduceIte, not_true_eq_false, not_false_eq_true, pe_ri, pe_rz, pe_rc, Cp_g0_10 hP hA, Cp_g0_11 hP hA, Cp_g0_12 hP hA, Cp_g25_0 hP hA, Cp_g25_1 hP hA, Cp_p0_12 hP hA, Cp_r5 hP hA, Cp_r6 hP hA, eq_false k1, z19]
/-- TimberHouse$PriceLines.open(II)Z -/
theorem c1434 {d : Nat} {h : pm_H} {a : Nat} {x0 : Int32} {x1 : Int32} (hc : pm_cls h a = some 22) : pm_call pm_prog (d + 1) 1434 [.ref a, .int x0, .int x1] h = pm_ev pm_prog (pm_call pm_prog d) 1434 0 b1434_0 [.ref a, .int x0, .int x1] [] h := pm_cal (pm_rc1 hc rfl) rfl rfl rfl
/-- TimberHouse$PriceLines.open(II)Z -/
noncomputable def f1434 (lc : Int32) (fq : Int32) (ll : Int32 → Int32) (S : wS) (x1 : Int32) (x2 : Int32) : Option (Int32 × wS) :=
  some (0, (sz (sz S (0, 0, 0) 4 x1) (0, 0, 0) 5 x2))
theorem x1434 {lc : Int32} {fq : Int32} {ll : Int32 → Int32} {A : wK → Nat} {h : pm_H} {D : Nat} {S : wS} {x1 : Int32} {x2 : Int32} {r : Int32 × wS} (hP : Cp_P lc fq ll) (hA : wok A (Cp_d lc fq ll) h.1) (hD : 1 ≤ D) (e : f1434 lc fq ll S x1 x2 = some r) : pm_call pm_prog D 1434 [.ref (A (0, 0, 0)), .int x1, .int x2] (wput A (Cp_d lc fq ll) S h) = some (match (generalizing := false) r with | (w0, S1) => (Outcome.returned (some (.int w0)), (wput A (Cp_d lc fq ll) S1 h))) := by
  obtain ⟨D, rfl⟩ : ∃ D', D = D' + 1 := ⟨D - 1, by omega⟩
  have hD : 0 ≤ D := by omega
  simp only [f1434] at e
  rw [c1434 (Cp_c0 hP hA), b1434_0]
  have e := Option.some.inj e; subst e
  simp -implicitDefEqProofs (disch := first | assumption | exact Nat.le_of_ble_eq_true rfl | decide) only [b1434_0, pe_aload0, pe_iload1, pe_putfield, pe_iload2, pe_sipush, pe_aloadN0, pe_aastoreN, pe_areturnN, pe_null, pm_prog_1, pm_ob_some, Nat.reduceDiv, Nat.reduceMod, Nat.reduceMul, Nat.reduceAdd, Int.reduceToNat, pm_kill_i, pm_kill_r, pm_kill_n, pm_kill_j, pm_kill_l, pm_kill_d, pm_cats_nil, pm_cats_i, pm_cats_r, pm_cats_n, pm_cats_l, pm_cats_d, sz_1, sz_2, sl_1, sl_2, lc_0, lc_lt, lc_le, li_ne, va_rf, wr_m1, we_m1, pm_kill_w, Int32.reduceOfInt, Int64.reduceOfInt, Int32.reduceOfNat, Int32.reduceLT, Int32.reduceLE, Prod.mk.injEq, Nat.reduceEqDiff, reduceCtorEq, and_true, true_and, and_false, false_and, and_self, ite_true, ite_false, ↓reduceIte, not_true_eq_false, not_false_eq_true, pe_ri, pe_rz, pe_rc, Cp_p0_4 hP hA, Cp_p0_5 hP hA]
noncomputable def f1473v2_6 (lc : Int32) (fq : Int32) (ll : Int32 → Int32) (S : wS) (x5 : Int64) (y1 : Int64) : Option (Int32 × wS) :=
  if ¬ x5 = 0 then
    if (S.2 (22, 0, 0) 0) ≤ 1000000000 then
      if (S.2 (22, 0, 0) 0) < (-1000000000) then
        some (0, (sl S (22, 0, 0) 1 (y1 / x5)))
      else
        if (y1 / x5) ≤ 1000000000 then
          some (1, (sl S (22, 0, 0) 1 (y1 / x5)))
        else
          some (0, (sl S (22, 0, 0) 1 (y1 / x5)))
    else
      some (0, (sl S (22, 0, 0) 1 (y1 / x5)))
  else none
noncomputable def f1473v2_4 (lc : Int32) (fq : Int32) (ll : Int32 → Int32) (S : wS) (x3 : Int64) (x5 : Int64) (y1 : Int64) : Option (Int32 × wS) :=
  if ¬ x5 = 0 then
    if x3 < 0 then
      f1473v2_6 lc fq ll (sl S (22, 0, 0) 0 (y1 / x5)) x5 (-x3)
    else
      f1473v2_6 lc fq ll (sl S (22, 0, 0) 0 (y1 / x5)) x5 x3
  else none
noncomputable def f1473v2_2 (lc : Int32) (fq : Int32) (ll : Int32 → Int32) (S : wS) (x1 : Int64) (x3 : Int64) (y0 : Int64) (y1 : Int64) : Option (Int32 × wS) :=
  (f1415 y0 y1).bind fun v1 =>
  if x3 < 0 then
    f1473v2_4 lc fq ll S x3 v1 (-x1)
  else
    f1473v2_4 lc fq ll S x3 v1 x1
/-- TimberHouse$PriceLines$Fraction.set(JJ)Z -/
noncomputable def f1473v2 (lc : Int32) (fq : Int32) (ll : Int32 → Int32) (S : wS) (x1 : Int64) (x3 : Int64) : Option (Int32 × wS) :=
  if x3 < 0 then
    f1473v2_2 lc fq ll S x1 x3 x1 (-x3)
  else
    f1473v2_2 lc fq ll S x1 x3 x1 x3
theorem y1473v2_6 {lc : Int32} {fq : Int32} {ll : Int32 → Int32} {A : wK → Nat} {h : pm_H} {D : Nat} {S : wS} {x5 : Int64} {y1 : Int64} {r : Int32 × wS} (hP : Cp_P lc fq ll) (hA : wok A (Cp_d lc fq ll) h.1) (hD : 1 ≤ D) (e : f1473v2_6 lc fq ll S x5 y1 = some r) : ∀ q1 q2 q3 q4 : Value, pm_go pm_prog (pm_call pm_prog D) 1473 6 [.ref (A (22, 0, 0)), q1, q2, q3, q4, .long x5, pm_junk] [.long y1, .ref (A (22, 0, 0))] (wput A (Cp_d lc fq ll) S h) = some (match (generalizing := false) r with | (w0, S1) => (Outcome.returned (some (.int w0)), (wput A (Cp_d lc fq ll) S1 h))) := by
  intro q1 q2 q3 q4
  simp only [f1473v2_6] at e
  rw [g1473_6, b1473_6]
  by_cases k1 : ¬ x5 = 0
  · rw [if_pos k1] at e
    by_cases k2 : (S.2 (22, 0, 0) 0) ≤ 1000000000
    · rw [if_pos k2] at e
      by_cases k3 : (S.2 (22, 0, 0) 0) < (-1000000000)
      · rw [if_pos k3] at e
        have e := Option.some.inj e; subst e
        simp -implicitDefEqProofs (disch := first | assumption | exact Nat.le_of_ble_eq_true rfl | decide) only [b1473_0, g1473_1, b1473_1, g1473_3, b1473_3, g1473_5, b1473_5, g1473_7, b1473_7, g1473_8, b1473_8, pe_lload1, pe_lload3, pe_bipush, pe_lcmp, pe_if_ge, pe_lneg, pe_goto, pe_goto_w, pe_call2, pm_af_ret, pm_af_void, pm_af_thr, pe_lstore5, pe_aload0, pe_lload5, pe_ldiv, pe_putfield, pe_getfield, pe_if_gt, pe_if_lt, pe_sipush, pe_aloadN0, pe_aastoreN, pe_areturnN, pe_null, pm_prog_1, pm_ob_some, Nat.reduceDiv, Nat.reduceMod, Nat.reduceMul, Nat.reduceAdd, Int.reduceToNat, pm_kill_i, pm_kill_r, pm_kill_n, pm_kill_j, pm_kill_l, pm_kill_d, pm_cats_nil, pm_cats_i, pm_cats_r, pm_cats_n, pm_cats_l, pm_cats_d, sz_1, sz_2, sl_1, sl_2, lc_0, lc_lt, lc_le, li_ne, va_rf, wr_m1, we_m1, pm_kill_w, Int32.reduceOfInt, Int64.reduceOfInt, Int32.reduceOfNat, Int32.reduceLT, Int32.reduceLE, Prod.mk.injEq, Nat.reduceEqDiff, reduceCtorEq, and_true, true_and, and_false, false_and, and_self, ite_true, ite_false, ↓reduceIte, not_true_eq_false, not_false_eq_true, pe_ri, pe_rz, pe_rc, Cp_g22_0 hP hA, Cp_g22_1 hP hA, Cp_p22_0 hP hA, Cp_p22_1 hP hA, eq_true k2, eq_true k3]
      · rw [if_neg k3] at e
        by_cases k4 : (y1 / x5) ≤ 1000000000
        · rw [if_pos k4] at e
          have e := Option.some.inj e; subst e
          simp -implicitDefEqProofs (disch := first | assumption | exact Nat.le_of_ble_eq_true rfl | decide) only [b1473_0, g1473_1, b1473_1, g1473_3, b1473_3, g1473_5, b1473_5, g1473_7, b1473_7, g1473_8, b1473_8, pe_lload1, pe_lload3, pe_bipush, pe_lcmp, pe_if_ge, pe_lneg, pe_goto, pe_goto_w, pe_call2, pm_af_ret, pm_af_void, pm_af_thr, pe_lstore5, pe_aload0, pe_lload5, pe_ldiv, pe_putfield, pe_getfield, pe_if_gt, pe_if_lt, pe_sipush, pe_aloadN0, pe_aastoreN, pe_areturnN, pe_null, pm_prog_1, pm_ob_some, Nat.reduceDiv, Nat.reduceMod, Nat.reduceMul, Nat.reduceAdd, Int.reduceToNat, pm_kill_i, pm_kill_r, pm_kill_n, pm_kill_j, pm_kill_l, pm_kill_d, pm_cats_nil, pm_cats_i, pm_cats_r, pm_cats_n, pm_cats_l, pm_cats_d, sz_1, sz_2, sl_1, sl_2, lc_0, lc_lt, lc_le, li_ne, va_rf, wr_m1, we_m1, pm_kill_w, Int32.reduceOfInt, Int64.reduceOfInt, Int32.reduceOfNat, Int32.reduceLT, Int32.reduceLE, Prod.mk.injEq, Nat.reduceEqDiff, reduceCtorEq, and_true, true_and, and_false, false_and, and_self, ite_true, ite_false, ↓reduceIte, not_true_eq_false, not_false_eq_true, pe_ri, pe_rz, pe_rc, Cp_g22_0 hP hA, Cp_g22_1 hP hA, Cp_p22_0 hP hA, Cp_p22_1 hP hA, eq_true k2, eq_false k3, eq_true k4]
        · rw [if_neg k4] at e
          have e := Option.some.inj e; subst e
          simp -implicitDefEqProofs (disch := first | assumption | exact Nat.le_of_ble_eq_true rfl | decide) only [b1473_0, g1473_1, b1473_1, g1473_3, b1473_3, g1473_5, b1473_5, g1473_7, b1473_7, g1473_8, b1473_8, pe_lload1, pe_lload3, pe_bipush, pe_lcmp, pe_if_ge, pe_lneg, pe_goto, pe_goto_w, pe_call2, pm_af_ret, pm_af_void, pm_af_thr, pe_lstore5, pe_aload0, pe_lload5, pe_ldiv, pe_putfield, pe_getfield, pe_if_gt, pe_if_lt, pe_sipush, pe_aloadN0, pe_aastoreN, pe_areturnN, pe_null, pm_prog_1, pm_ob_some, Nat.reduceDiv, Nat.reduceMod, Nat.reduceMul, Nat.reduceAdd, Int.reduceToNat, pm_kill_i, pm_kill_r, pm_kill_n, pm_kill_j, pm_kill_l, pm_kill_d, pm_cats_nil, pm_cats_i, pm_cats_r, pm_cats_n, pm_cats_l, pm_cats_d, sz_1, sz_2, sl_1, sl_2, lc_0, lc_lt, lc_le, li_ne, va_rf, wr_m1, we_m1, pm_kill_w, Int32.reduceOfInt, Int64.reduceOfInt, Int32.reduceOfNat, Int32.reduceLT, Int32.reduceLE, Prod.mk.injEq, Nat.reduceEqDiff, reduceCtorEq, and_true, true_and, and_false, false_and, and_self, ite_true, ite_false, ↓reduceIte, not_true_eq_false, not_false_eq_true, pe_ri, pe_rz, pe_rc, Cp_g22_0 hP hA, Cp_g22_1 hP hA, Cp_p22_0 hP hA, Cp_p22_1 hP hA, eq_true k2, eq_false k3, eq_false k4]
    · rw [if_neg k2] at e
      have e := Option.some.inj e; subst e
      simp -implicitDefEqProofs (disch := first | assumption | exact Nat.le_of_ble_eq_true rfl | decide) only [b1473_0, g1473_1, b1473_1, g1473_3, b1473_3, g1473_5, b1473_5, g1473_7, b1473_7, g1473_8, b1473_8, pe_lload1, pe_lload3, pe_bipush, pe_lcmp, pe_if_ge, pe_lneg, pe_goto, pe_goto_w, pe_call2, pm_af_ret, pm_af_void, pm_af_thr, pe_lstore5, pe_aload0, pe_lload5, pe_ldiv, pe_putfield, pe_getfield, pe_if_gt, pe_if_lt, pe_sipush, pe_aloadN0, pe_aastoreN, pe_areturnN, pe_null, pm_prog_1, pm_ob_some, Nat.reduceDiv, Nat.reduceMod, Nat.reduceMul, Nat.reduceAdd, Int.reduceToNat, pm_kill_i, pm_kill_r, pm_kill_n, pm_kill_j, pm_kill_l, pm_kill_d, pm_cats_nil, pm_cats_i, pm_cats_r, pm_cats_n, pm_cats_l, pm_cats_d, sz_1, sz_2, sl_1, sl_2, lc_0, lc_lt, lc_le, li_ne, va_rf, wr_m1, we_m1, pm_kill_w, Int32.reduceOfInt, Int64.reduceOfInt, Int32.reduceOfNat, Int32.reduceLT, Int32.reduceLE, Prod.mk.injEq, Nat.reduceEqDiff, reduceCtorEq, and_true, true_and, and_false, false_and, and_self, ite_true, ite_false, ↓reduceIte, not_true_eq_false, not_false_eq_true, pe_ri, pe_rz, pe_rc, Cp_g22_0 hP hA, Cp_g22_1 hP hA, Cp_p22_0 hP hA, Cp_p22_1 hP hA, eq_false k2]
  · rw [if_neg k1] at e; cases e
theorem y1473v2_4 {lc : Int32} {fq : Int32} {ll : Int32 → Int32} {A : wK → Nat} {h : pm_H} {D : Nat} {S : wS} {x3 : Int64} {x5 : Int64} {y1 : Int64} {r : Int32 × wS} (hP : Cp_P lc fq ll) (hA : wok A (Cp_d lc fq ll) h.1) (hD : 1 ≤ D) (e : f1473v2_4 lc fq ll S x3 x5 y1 = some r) : ∀ q1 q2 : Value, pm_go pm_prog (pm_call pm_prog D) 1473 4 [.ref (A (22, 0, 0)), q1, q2, .long x3, pm_junk, .long x5, pm_junk] [.long y1, .ref (A (22, 0, 0))] (wput A (Cp_d lc fq ll) S h) = some (match (generalizing := false) r with | (w0, S1) => (Outcome.returned (some (.int w0)), (wput A (Cp_d lc fq ll) S1 h))) := by
  intro q1 q2
  simp only [f1473v2_4] at e
  rw [g1473_4, b1473_4]
  by_cases k1 : ¬ x5 = 0
  · rw [if_pos k1] at e
    by_cases k2 : x3 < 0
    · rw [if_pos k2] at e
      have k3 := y1473v2_6 (h := h) hP hA hD e
      simp -implicitDefEqProofs (disch := first | assumption | exact Nat.le_of_ble_eq_true rfl | decide) only [b1473_0, g1473_1, b1473_1, g1473_3, b1473_3, g1473_5, b1473_5, g1473_7, b1473_7, g1473_8, b1473_8, pe_lload1, pe_lload3, pe_bipush, pe_lcmp, pe_if_ge, pe_lneg, pe_goto, pe_goto_w, pe_call2, pm_af_ret, pm_af_void, pm_af_thr, pe_lstore5, pe_aload0, pe_lload5, pe_ldiv, pe_putfield, pe_getfield, pe_if_gt, pe_if_lt, pe_sipush, pe_aloadN0, pe_aastoreN, pe_areturnN, pe_null, pm_prog_1, pm_ob_some, Nat.reduceDiv, Nat.reduceMod, Nat.reduceMul, Nat.reduceAdd, Int.reduceToNat, pm_kill_i, pm_kill_r, pm_kill_n, pm_kill_j, pm_kill_l, pm_kill_d, pm_cats_nil, pm_cats_i, pm_cats_r, pm_cats_n, pm_cats_l, pm_cats_d, sz_1, sz_2, sl_1, sl_2, lc_0, lc_lt, lc_le, li_ne, va_rf, wr_m1, we_m1, pm_kill_w, Int32.reduceOfInt, Int64.reduceOfInt, Int32.reduceOfNat, Int32.reduceLT, Int32.reduceLE, Prod.mk.injEq, Nat.reduceEqDiff, reduceCtorEq, and_true, true_and, and_false, false_and, and_self, ite_true, ite_false, ↓reduceIte, not_true_eq_false, not_false_eq_true, pe_ri, pe_rz, pe_rc, Cp_g22_0 hP hA, Cp_g22_1 hP hA, Cp_p22_0 hP hA, Cp_p22_1 hP hA, eq_true k2, k3]
    · rw [if_neg k2] at e
      have k4 := y1473v2_6 (h := h) hP hA hD e
      simp -implicitDefEqProofs (disch := first | assumption | exact Nat.le_of_ble_eq_true rfl | decide) only [b1473_0, g1473_1, b1473_1, g1473_3, b1473_3, g1473_5, b1473_5, g1473_7, b1473_7, g1473_8, b1473_8, pe_lload1, pe_lload3, pe_bipush, pe_lcmp, pe_if_ge, pe_lneg, pe_goto, pe_goto_w, pe_call2, pm_af_ret, pm_af_void, pm_af_thr, pe_lstore5, pe_aload0, pe_lload5, pe_ldiv, pe_putfield, pe_getfield, pe_if_gt, pe_if_lt, pe_sipush, pe_aloadN0, pe_aastoreN, pe_areturnN, pe_null, pm_prog_1, pm_ob_some, Nat.reduceDiv, Nat.reduceMod, Nat.reduceMul, Nat.reduceAdd, Int.reduceToNat, pm_kill_i, pm_kill_r, pm_kill_n, pm_kill_j, pm_kill_l, pm_kill_d, pm_cats_nil, pm_cats_i, pm_cats_r, pm_cats_n, pm_cats_l, pm_cats_d, sz_1, sz_2, sl_1, sl_2, lc_0, lc_lt, lc_le, li_ne, va_rf, wr_m1, we_m1, pm_kill_w, Int32.reduceOfInt, Int64.reduceOfInt, Int32.reduceOfNat, Int32.reduceLT, Int32.reduceLE, Prod.mk.injEq, Nat.reduceEqDiff, reduceCtorEq, and_true, true_and, and_false, false_and, and_self, ite_true, ite_false, ↓reduceIte, not_true_eq_false, not_false_eq_true, pe_ri, pe_rz, pe_rc, Cp_g22_0 hP hA, Cp_g22_1 hP hA, Cp_p22_0 hP hA, Cp_p22_1 hP hA, eq_false k2, k4]
  · rw [if_neg k1] at e; cases e
theorem y1473v2_2 {lc : Int32} {fq : Int32} {ll : Int32 → Int32} {A : wK → Nat} {h : pm_H} {D : Nat} {S : wS} {x1 : Int64} {x3 : Int64} {y0 : Int64} {y1 : Int64} {r : Int32 × wS} (hP : Cp_P lc fq ll) (hA : wok A (Cp_d lc fq ll) h.1) (hD : 1 ≤ D) (e : f1473v2_2 lc fq ll S x1 x3 y0 y1 = some r) : ∀ q5 q6 : Value, pm_go pm_prog (pm_call pm_prog D) 1473 2 [.ref (A (22, 0, 0)), .long x1, pm_junk, .long x3, pm_junk, q5, q6] [.long y1, .long y0] (wput A (Cp_d lc fq ll) S h) = some (match (generalizing := false) r with | (w0, S1) => (Outcome.returned (some (.int w0)), (wput A (Cp_d lc fq ll) S1 h))) := by
  intro q5 q6
  simp only [f1473v2_2] at e
  rw [g1473_2, b1473_2]
  obtain ⟨v1, k1, e⟩ := Option.bind_eq_some_iff.mp e
  try dsimp only at e
  have z1 := fun h => x1415 (D := D) (h := h) (by omega) k1
  by_cases k2 : x3 < 0
  · rw [if_pos k2] at e
    have k3 := y1473v2_4 (h := h) hP hA hD e
    simp -implicitDefEqProofs (disch := first | assumption | exact Nat.le_of_ble_eq_true rfl | decide) only [b1473_0, g1473_1, b1473_1, g1473_3, b1473_3, g1473_5, b1473_5, g1473_7, b1473_7, g1473_8, b1473_8, pe_lload1, pe_lload3, pe_bipush, pe_lcmp, pe_if_ge, pe_lneg, pe_goto, pe_goto_w, pe_call2, pm_af_ret, pm_af_void, pm_af_thr, pe_lstore5, pe_aload0, pe_lload5, pe_ldiv, pe_putfield, pe_getfield, pe_if_gt, pe_if_lt, pe_sipush, pe_aloadN0, pe_aastoreN, pe_areturnN, pe_null, pm_prog_1, pm_ob_some, Nat.reduceDiv, Nat.reduceMod, Nat.reduceMul, Nat.reduceAdd, Int.reduceToNat, pm_kill_i, pm_kill_r, pm_kill_n, pm_kill_j, pm_kill_l, pm_kill_d, pm_cats_nil, pm_cats_i, pm_cats_r, pm_cats_n, pm_cats_l, pm_cats_d, sz_1, sz_2, sl_1, sl_2, lc_0, lc_lt, lc_le, li_ne, va_rf, wr_m1, we_m1, pm_kill_w, Int32.reduceOfInt, Int64.reduceOfInt, Int32.reduceOfNat, Int32.reduceLT, Int32.reduceLE, Prod.mk.injEq, Nat.reduceEqDiff, reduceCtorEq, and_true, true_and, and_false, false_and, and_self, ite_true, ite_false, ↓reduceIte, not_true_eq_false, not_false_eq_true, pe_ri, pe_rz, pe_rc, Cp_g22_0 hP hA, Cp_g22_1 hP hA, Cp_p22_0 hP hA, Cp_p22_1 hP hA, z1, eq_true k2, k3]
  · rw [if_neg k2] at e
    have k4 := y1473v2_4 (h := h) hP hA hD e
    simp -implicitDefEqProofs (disch := first | assumption | exact Nat.le_of_ble_eq_true rfl | decide) only [b1473_0, g1473_1, b1473_1, g1473_3, b1473_3, g1473_5, b1473_5, g1473_7, b1473_7, g1473_8, b1473_8, pe_lload1, pe_lload3, pe_bipush, pe_lcmp, pe_if_ge, pe_lneg, pe_goto, pe_goto_w, pe_call2, pm_af_ret, pm_af_void, pm_af_thr, pe_lstore5, pe_aload0, pe_lload5, pe_ldiv, pe_putfield, pe_getfield, pe_if_gt, pe_if_lt, pe_sipush, pe_aloadN0, pe_aastoreN, pe_areturnN, pe_null, pm_prog_1, pm_ob_some, Nat.reduceDiv, Nat.reduceMod, Nat.reduceMul, Nat.reduceAdd, Int.reduceToNat, pm_kill_i, pm_kill_r, pm_kill_n, pm_kill_j, pm_kill_l, pm_kill_d, pm_cats_nil, pm_cats_i, pm_cats_r, pm_cats_n, pm_cats_l, pm_cats_d, sz_1, sz_2, sl_1, sl_2, lc_0, lc_lt, lc_le, li_ne, va_rf, wr_m1, we_m1, pm_kill_w, Int32.reduceOfInt, Int64.reduceOfInt, Int32.reduceOfNat, Int32.reduceLT, Int32.reduceLE, Prod.mk.injEq, Nat.reduceEqDiff, reduceCtorEq, and_true, true_and, and_false, false_and, and_self, ite_true, ite_false, ↓reduceIte, not_true_eq_false, not_false_eq_true, pe_ri, pe_rz, pe_rc, Cp_g22_0 hP hA, Cp_g22_1 hP hA, Cp_p22_0 hP hA, Cp_p22_1 hP hA, z1, eq_false k2, k4]
theorem x1473v2 {lc : Int32} {fq : Int32} {ll : Int32 → Int32} {A : wK → Nat} {h : pm_H} {D : Nat} {S : wS} {x1 : Int64} {x3 : Int64} {r : Int32 × wS} (hP : Cp_P lc fq ll) (hA : wok A (Cp_d lc fq ll) h.1) (hD : 2 ≤ D) (e : f1473v2 lc fq ll S x1 x3 = some r) : pm_call pm_prog D 1473 [.ref (A (22, 0, 0)), .long x1, .long x3] (wput A (Cp_d lc fq ll) S h) = some (match (generalizing := false) r with | (w0, S1) => (Outcome.returned (some (.int w0)), (wput A (Cp_d lc fq ll) S1 h))) := by
  obtain ⟨D, rfl⟩ : ∃ D', D = D' + 1 := ⟨D - 1, by omega⟩
  have hD : 1 ≤ D := by omega
  simp only [f1473v2] at e
  rw [c1473 (Cp_c22 hP hA), b1473_0]
  by_cases k1 : x3 < 0
  · rw [if_pos k1] at e
    have k2 := y1473v2_2 (h := h) hP hA hD e
    simp -implicitDefEqProofs (disch := first | assumption | exact Nat.le_of_ble_eq_true rfl | decide) only [b1473_0, g1473_1, b1473_1, g1473_3, b1473_3, g1473_5, b1473_5, g1473_7, b1473_7, g1473_8, b1473_8, pe_lload1, pe_lload3, pe_bipush, pe_lcmp, pe_if_ge, pe_lneg, pe_goto, pe_goto_w, pe_call2, pm_af_ret, pm_af_void, pm_af_thr, pe_lstore5, pe_aload0, pe_lload5, pe_ldiv, pe_putfield, pe_getfield, pe_if_gt, pe_if_lt, pe_sipush, pe_aloadN0, pe_aastoreN, pe_areturnN, pe_null, pm_prog_1, pm_ob_some, Nat.reduceDiv, Nat.reduceMod, Nat.reduceMul, Nat.reduceAdd, Int.reduceToNat, pm_kill_i, pm_kill_r, pm_kill_n, pm_kill_j, pm_kill_l, pm_kill_d, pm_cats_nil, pm_cats_i, pm_cats_r, pm_cats_n, pm_cats_l, pm_cats_d, sz_1, sz_2, sl_1, sl_2, lc_0, lc_lt, lc_le, li_ne, va_rf, wr_m1, we_m1, pm_kill_w, Int32.reduceOfInt, Int64.reduceOfInt, Int32.reduceOfNat, Int32.reduceLT, Int32.reduceLE, Prod.mk.injEq, Nat.reduceEqDiff, reduceCtorEq, and_true, true_and, and_false, false_and, and_self, ite_true, ite_false, ↓reduceIte, not_true_eq_false, not_false_eq_true, pe_ri, pe_rz, pe_rc, Cp_g22_0 hP hA, Cp_g22_1 hP hA, Cp_p22_0 hP hA, Cp_p22_1 hP hA, eq_true k1, k2]
  · rw [if_neg k1] at e
    have k3 := y1473v2_2 (h := h) hP hA hD e
    simp -implicitDefEqProofs (disch := first | assumption | exact Nat.le_of_ble_eq_true rfl | decide) only [b1473_0, g1473_1, b1473_1, g1473_3, b1473_3, g1473_5, b1473_5, g1473_7, b1473_7, g1473_8, b1473_8, pe_lload1, pe_lload3, pe_bipush, pe_lcmp, pe_if_ge, pe_lneg, pe_goto, pe_goto_w, pe_call2, pm_af_ret, pm_af_void, pm_af_thr, pe_lstore5, pe_aload0, pe_lload5, pe_ldiv, pe_putfield, pe_getfield, pe_if_gt, pe_if_lt, pe_sipush, pe_aloadN0, pe_aastoreN, pe_areturnN, pe_null, pm_prog_1, pm_ob_some, Nat.reduceDiv, Nat.reduceMod, Nat.reduceMul, Nat.reduceAdd, Int.reduceToNat, pm_kill_i, pm_kill_r, pm_kill_n, pm_kill_j, pm_kill_l, pm_kill_d, pm_cats_nil, pm_cats_i, pm_cats_r, pm_cats_n, pm_cats_l, pm_cats_d, sz_1, sz_2, sl_1, sl_2, lc_0, lc_lt, lc_le, li_ne, va_rf, wr_m1, we_m1, pm_kill_w, Int32.reduceOfInt, Int64.reduceOfInt, Int32.reduceOfNat, Int32.reduceLT, Int32.reduceLE, Prod.mk.injEq, Nat.reduceEqDiff, reduceCtorEq, and_true, true_and, and_false, false_and, and_self, ite_true, ite_false, ↓reduceIte, not_true_eq_false, not_false_eq_true, pe_ri, pe_rz, pe_rc, Cp_g22_0 hP hA, Cp_g22_1 hP hA, Cp_p22_0 hP hA, Cp_p22_1 hP hA, eq_false k1, k3]
noncomputable def f1473v3_6 (lc : Int32) (fq : Int32) (ll : Int32 → Int32) (S : wS) (x5 : Int64) (y1 : Int64) : Option (Int32 × wS) :=
  if ¬ x5 = 0 then
    if (S.2 (23, 0, 0) 0) ≤ 1000000000 then
      if (S.2 (23, 0, 0) 0) < (-1000000000) then
        some (0, (sl S (23, 0, 0) 1 (y1 / x5)))
      else
        if (y1 / x5) ≤ 1000000000 then
          some (1, (sl S (23, 0, 0) 1 (y1 / x5)))
        else
          some (0, (sl S (23, 0, 0) 1 (y1 / x5)))
    else
      some (0, (sl S (23, 0, 0) 1 (y1 / x5)))
  else none
noncomputable def f1473v3_4 (lc : Int32) (fq : Int32) (ll : Int32 → Int32) (S : wS) (x3 : Int64) (x5 : Int64) (y1 : Int64) : Option (Int32 × wS) :=
  if ¬ x5 = 0 then
    if x3 < 0 then
      f1473v3_6 lc fq ll (sl S (23, 0, 0) 0 (y1 / x5)) x5 (-x3)
    else
      f1473v3_6 lc fq ll (sl S (23, 0, 0) 0 (y1 / x5)) x5 x3
  else none
noncomputable def f1473v3_2 (lc : Int32) (fq : Int32) (ll : Int32 → Int32) (S : wS) (x1 : Int64) (x3 : Int64) (y0 : Int64) (y1 : Int64) : Option (Int32 × wS) :=
  (f1415 y0 y1).bind fun v1 =>
  if x3 < 0 then
    f1473v3_4 lc fq ll S x3 v1 (-x1)
  else
    f1473v3_4 lc fq ll S x3 v1 x1
/-- TimberHouse$PriceLines$Fraction.set(JJ)Z -/
noncomputable def f1473v3 (lc : Int32) (fq : Int32) (ll : Int32 → Int32) (S : wS) (x1 : Int64) (x3 : Int64) : Option (Int32 × wS) :=
  if x3 < 0 then
    f1473v3_2 lc fq ll S x1 x3 x1 (-x3)
  else
    f1473v3_2 lc fq ll S x1 x3 x1 x3
theorem y1473v3_6 {lc : Int32} {fq : Int32} {ll : Int32 → Int32} {A : wK → Nat} {h : pm_H} {D : Nat} {S : wS} {x5 : Int64} {y1 : Int64} {r : Int32 × wS} (hP : Cp_P lc fq ll) (hA : wok A (Cp_d lc fq ll) h.1) (hD : 1 ≤ D) (e : f1473v3_6 lc fq ll S x5 y1 = some r) : ∀ q1 q2 q3 q4 : Value, pm_go pm_prog (pm_call pm_prog D) 1473 6 [.ref (A (23, 0, 0)), q1, q2, q3, q4, .long x5, pm_junk] [.long y1, .ref (A (23, 0, 0))] (wput A (Cp_d lc fq ll) S h) = some (match (generalizing := false) r with | (w0, S1) => (Outcome.returned (some (.int w0)), (wput A (Cp_d lc fq ll) S1 h))) := by
  intro q1 q2 q3 q4
  simp only [f1473v3_6] at e
  rw [g1473_6, b1473_6]
  by_cases k1 : ¬ x5 = 0
  · rw [if_pos k1] at e
    by_cases k2 : (S.2 (23, 0, 0) 0) ≤ 1000000000
    · rw [if_pos k2] at e
      by_cases k3 : (S.2 (23, 0, 0) 0) < (-1000000000)
      · rw [if_pos k3] at e
        have e := Option.some.inj e; subst e
        simp -implicitDefEqProofs (disch := first | assumption | exact Nat.le_of_ble_eq_true rfl | decide) only [b1473_0, g1473_1, b1473_1, g1473_3, b1473_3, g1473_5, b1473_5, g1473_7, b1473_7, g1473_8, b1473_8, pe_lload1, pe_lload3, pe_bipush, pe_lcmp, pe_if_ge, pe_lneg, pe_goto, pe_goto_w, pe_call2, pm_af_ret, pm_af_void, pm_af_thr, pe_lstore5, pe_aload0, pe_lload5, pe_ldiv, pe_putfield, pe_getfield, pe_if_gt, pe_if_lt, pe_sipush, pe_aloadN0, pe_aastoreN, pe_areturnN, pe_null, pm_prog_1, pm_ob_some, Nat.reduceDiv, Nat.reduceMod, Nat.reduceMul, Nat.reduceAdd, Int.reduceToNat, pm_kill_i, pm_kill_r, pm_kill_n, pm_kill_j, pm_kill_l, pm_kill_d, pm_cats_nil, pm_cats_i, pm_cats_r, pm_cats_n, pm_cats_l, pm_cats_d, sz_1, sz_2, sl_1, sl_2, lc_0, lc_lt, lc_le, li_ne, va_rf, wr_m1, we_m1, pm_kill_w, Int32.reduceOfInt, Int64.reduceOfInt, Int32.reduceOfNat, Int32.reduceLT, Int32.reduceLE, Prod.mk.injEq, Nat.reduceEqDiff, reduceCtorEq, and_true, true_and, and_false, false_and, and_self, ite_true, ite_false, ↓reduceIte, not_true_eq_false, not_false_eq_true, pe_ri, pe_rz, pe_rc, Cp_g23_0 hP hA, Cp_g23_1 hP hA, Cp_p23_0 hP hA, Cp_p23_1 hP hA, eq_true k2, eq_true k3]
      · rw [if_neg k3] at e
        by_cases k4 : (y1 / x5) ≤ 1000000000
        · rw [if_pos k4] at e
          have e := Option.some.inj e; subst e
          simp -implicitDefEqProofs (disch := first | assumption | exact Nat.le_of_ble_eq_true rfl | decide) only [b1473_0, g1473_1, b1473_1, g1473_3, b1473_3, g1473_5, b1473_5, g1473_7, b1473_7, g1473_8, b1473_8, pe_lload1, pe_lload3, pe_bipush, pe_lcmp, pe_if_ge, pe_lneg, pe_goto, pe_goto_w, pe_call2, pm_af_ret, pm_af_void, pm_af_thr, pe_lstore5, pe_aload0, pe_lload5, pe_ldiv, pe_putfield, pe_getfield, pe_if_gt, pe_if_lt, pe_sipush, pe_aloadN0, pe_aastoreN, pe_areturnN, pe_null, pm_prog_1, pm_ob_some, Nat.reduceDiv, Nat.reduceMod, Nat.reduceMul, Nat.reduceAdd, Int.reduceToNat, pm_kill_i, pm_kill_r, pm_kill_n, pm_kill_j, pm_kill_l, pm_kill_d, pm_cats_nil, pm_cats_i, pm_cats_r, pm_cats_n, pm_cats_l, pm_cats_d, sz_1, sz_2, sl_1, sl_2, lc_0, lc_lt, lc_le, li_ne, va_rf, wr_m1, we_m1, pm_kill_w, Int32.reduceOfInt, Int64.reduceOfInt, Int32.reduceOfNat, Int32.reduceLT, Int32.reduceLE, Prod.mk.injEq, Nat.reduceEqDiff, reduceCtorEq, and_true, true_and, and_false, false_and, and_self, ite_true, ite_false, ↓reduceIte, not_true_eq_false, not_false_eq_true, pe_ri, pe_rz, pe_rc, Cp_g23_0 hP hA, Cp_g23_1 hP hA, Cp_p23_0 hP hA, Cp_p23_1 hP hA, eq_true k2, eq_false k3, eq_true k4]
        · rw [if_neg k4] at e
          have e := Option.some.inj e; subst e
          simp -implicitDefEqProofs (disch := first | assumption | exact Nat.le_of_ble_eq_true rfl | decide) only [b1473_0, g1473_1, b1473_1, g1473_3, b1473_3, g1473_5, b1473_5, g1473_7, b1473_7, g1473_8, b1473_8, pe_lload1, pe_lload3, pe_bipush, pe_lcmp, pe_if_ge, pe_lneg, pe_goto, pe_goto_w, pe_call2, pm_af_ret, pm_af_void, pm_af_thr, pe_lstore5, pe_aload0, pe_lload5, pe_ldiv, pe_putfield, pe_getfield, pe_if_gt, pe_if_lt, pe_sipush, pe_aloadN0, pe_aastoreN, pe_areturnN, pe_null, pm_prog_1, pm_ob_some, Nat.reduceDiv, Nat.reduceMod, Nat.reduceMul, Nat.reduceAdd, Int.reduceToNat, pm_kill_i, pm_kill_r, pm_kill_n, pm_kill_j, pm_kill_l, pm_kill_d, pm_cats_nil, pm_cats_i, pm_cats_r, pm_cats_n, pm_cats_l, pm_cats_d, sz_1, sz_2, sl_1, sl_2, lc_0, lc_lt, lc_le, li_ne, va_rf, wr_m1, we_m1, pm_kill_w, Int32.reduceOfInt, Int64.reduceOfInt, Int32.reduceOfNat, Int32.reduceLT, Int32.reduceLE, Prod.mk.injEq, Nat.reduceEqDiff, reduceCtorEq, and_true, true_and, and_false, false_and, and_self, ite_true, ite_false, ↓reduceIte, not_true_eq_false, not_false_eq_true, pe_ri, pe_rz, pe_rc, Cp_g23_0 hP hA, Cp_g23_1 hP hA, Cp_p23_0 hP hA, Cp_p23_1 hP hA, eq_true k2, eq_false k3, eq_false k4]
    · rw [if_neg k2] at e
      have e := Option.some.inj e; subst e
      simp -implicitDefEqProofs (disch := first | assumption | exact Nat.le_of_ble_eq_true rfl | decide) only [b1473_0, g1473_1, b1473_1, g1473_3, b1473_3, g1473_5, b1473_5, g1473_7, b1473_7, g1473_8, b1473_8, pe_lload1, pe_lload3, pe_bipush, pe_lcmp, pe_if_ge, pe_lneg, pe_goto, pe_goto_w, pe_call2, pm_af_ret, pm_af_void, pm_af_thr, pe_lstore5, pe_aload0, pe_lload5, pe_ldiv, pe_putfield, pe_getfield, pe_if_gt, pe_if_lt, pe_sipush, pe_aloadN0, pe_aastoreN, pe_areturnN, pe_null, pm_prog_1, pm_ob_some, Nat.reduceDiv, Nat.reduceMod, Nat.reduceMul, Nat.reduceAdd, Int.reduceToNat, pm_kill_i, pm_kill_r, pm_kill_n, pm_kill_j, pm_kill_l, pm_kill_d, pm_cats_nil, pm_cats_i, pm_cats_r, pm_cats_n, pm_cats_l, pm_cats_d, sz_1, sz_2, sl_1, sl_2, lc_0, lc_lt, lc_le, li_ne, va_rf, wr_m1, we_m1, pm_kill_w, Int32.reduceOfInt, Int64.reduceOfInt, Int32.reduceOfNat, Int32.reduceLT, Int32.reduceLE, Prod.mk.injEq, Nat.reduceEqDiff, reduceCtorEq, and_true, true_and, and_false, false_and, and_self, ite_true, ite_false, ↓reduceIte, not_true_eq_false, not_false_eq_true, pe_ri, pe_rz, pe_rc, Cp_g23_0 hP hA, Cp_g23_1 hP hA, Cp_p23_0 hP hA, Cp_p23_1 hP hA, eq_false k2]
  · rw [if_neg k1] at e; cases e
theorem y1473v3_4 {lc : Int32} {fq : Int32} {ll : Int32 → Int32} {A : wK → Nat} {h : pm_H} {D : Nat} {S : wS} {x3 : Int64} {x5 : Int64} {y1 : Int64} {r : Int32 × wS} (hP : Cp_P lc fq ll) (hA : wok A (Cp_d lc fq ll) h.1) (hD : 1 ≤ D) (e : f1473v3_4 lc fq ll S x3 x5 y1 = some r) : ∀ q1 q2 : Value, pm_go pm_prog (pm_call pm_prog D) 1473 4 [.ref (A (23, 0, 0)), q1, q2, .long x3, pm_junk, .long x5, pm_junk] [.long y1, .ref (A (23, 0, 0))] (wput A (Cp_d lc fq ll) S h) = some (match (generalizing := false) r with | (w0, S1) => (Outcome.returned (some (.int w0)), (wput A (Cp_d lc fq ll) S1 h))) := by
  intro q1 q2
  simp only [f1473v3_4] at e
  rw [g1473_4, b1473_4]
  by_cases k1 : ¬ x5 = 0
  · rw [if_pos k1] at e
    by_cases k2 : x3 < 0
    · rw [if_pos k2] at e
      have k3 := y1473v3_6 (h := h) hP hA hD e
      simp -implicitDefEqProofs (disch := first | assumption | exact Nat.le_of_ble_eq_true rfl | decide) only [b1473_0, g1473_1, b1473_1, g1473_3, b1473_3, g1473_5, b1473_5, g1473_7, b1473_7, g1473_8, b1473_8, pe_lload1, pe_lload3, pe_bipush, pe_lcmp, pe_if_ge, pe_lneg, pe_goto, pe_goto_w, pe_call2, pm_af_ret, pm_af_void, pm_af_thr, pe_lstore5, pe_aload0, pe_lload5, pe_ldiv, pe_putfield, pe_getfield, pe_if_gt, pe_if_lt, pe_sipush, pe_aloadN0, pe_aastoreN, pe_areturnN, pe_null, pm_prog_1, pm_ob_some, Nat.reduceDiv, Nat.reduceMod, Nat.reduceMul, Nat.reduceAdd, Int.reduceToNat, pm_kill_i, pm_kill_r, pm_kill_n, pm_kill_j, pm_kill_l, pm_kill_d, pm_cats_nil, pm_cats_i, pm_cats_r, pm_cats_n, pm_cats_l, pm_cats_d, sz_1, sz_2, sl_1, sl_2, lc_0, lc_lt, lc_le, li_ne, va_rf, wr_m1, we_m1, pm_kill_w, Int32.reduceOfInt, Int64.reduceOfInt, Int32.reduceOfNat, Int32.reduceLT, Int32.reduceLE, Prod.mk.injEq, Nat.reduceEqDiff, reduceCtorEq, and_true, true_and, and_false, false_and, and_self, ite_true, ite_false, ↓reduceIte, not_true_eq_false, not_false_eq_true, pe_ri, pe_rz, pe_rc, Cp_g23_0 hP hA, Cp_g23_1 hP hA, Cp_p23_0 hP hA, Cp_p23_1 hP hA, eq_true k2, k3]
    · rw [if_neg k2] at e
      have k4 := y1473v3_6 (h := h) hP hA hD e
      simp -implicitDefEqProofs (disch := first | assumption | exact Nat.le_of_ble_eq_true rfl | decide) only [b1473_0, g1473_1, b1473_1, g1473_3, b1473_3, g1473_5, b1473_5, g1473_7, b1473_7, g1473_8, b1473_8, pe_lload1, pe_lload3, pe_bipush, pe_lcmp, pe_if_ge, pe_lneg, pe_goto, pe_goto_w, pe_call2, pm_af_ret, pm_af_void, pm_af_thr, pe_lstore5, pe_aload0, pe_lload5, pe_ldiv, pe_putfield, pe_getfield, pe_if_gt, pe_if_lt, pe_sipush, pe_aloadN0, pe_aastoreN, pe_areturnN, pe_null, pm_prog_1, pm_ob_some, Nat.reduceDiv, Nat.reduceMod, Nat.reduceMul, Nat.reduceAdd, Int.reduceToNat, pm_kill_i, pm_kill_r, pm_kill_n, pm_kill_j, pm_kill_l, pm_kill_d, pm_cats_nil, pm_cats_i, pm_cats_r, pm_cats_n, pm_cats_l, pm_cats_d, sz_1, sz_2, sl_1, sl_2, lc_0, lc_lt, lc_le, li_ne, va_rf, wr_m1, we_m1, pm_kill_w, Int32.reduceOfInt, Int64.reduceOfInt, Int32.reduceOfNat, Int32.reduceLT, Int32.reduceLE, Prod.mk.injEq, Nat.reduceEqDiff, reduceCtorEq, and_true, true_and, and_false, false_and, and_self, ite_true, ite_false, ↓reduceIte, not_true_eq_false, not_false_eq_true, pe_ri, pe_rz, pe_rc, Cp_g23_0 hP hA, Cp_g23_1 hP hA, Cp_p23_0 hP hA, Cp_p23_1 hP hA, eq_false k2, k4]
  · rw [if_neg k1] at e; cases e
theorem y1473v3_2 {lc : Int32} {fq : Int32} {ll : Int32 → Int32} {A : wK → Nat} {h : pm_H} {D : Nat} {S : wS} {x1 : Int64} {x3 : Int64} {y0 : Int64} {y1 : Int64} {r : Int32 × wS} (hP : Cp_P lc fq ll) (hA : wok A (Cp_d lc fq ll) h.1) (hD : 1 ≤ D) (e : f1473v3_2 lc fq ll S x1 x3 y0 y1 = some r) : ∀ q5 q6 : Value, pm_go pm_prog (pm_call pm_prog D) 1473 2 [.ref (A (23, 0, 0)), .long x1, pm_junk, .long x3, pm_junk, q5, q6] [.long y1, .long y0] (wput A (Cp_d lc fq ll) S h) = some (match (generalizing := false) r with | (w0, S1) => (Outcome.returned (some (.int w0)), (wput A (Cp_d lc fq ll) S1 h))) := by
  intro q5 q6
  simp only [f1473v3_2] at e
  rw [g1473_2, b1473_2]
  obtain ⟨v1, k1, e⟩ := Option.bind_eq_some_iff.mp e
  try dsimp only at e
  have z1 := fun h => x1415 (D := D) (h := h) (by omega) k1
  by_cases k2 : x3 < 0
  · rw [if_pos k2] at e
    have k3 := y1473v3_4 (h := h) hP hA hD e
    simp -implicitDefEqProofs (disch := first | assumption | exact Nat.le_of_ble_eq_true rfl | decide) only [b1473_0, g1473_1, b1473_1, g1473_3, b1473_3, g1473_5, b1473_5, g1473_7, b1473_7, g1473_8, b1473_8, pe_lload1, pe_lload3, pe_bipush, pe_lcmp, pe_if_ge, pe_lneg, pe_goto, pe_goto_w, pe_call2, pm_af_ret, pm_af_void, pm_af_thr, pe_lstore5, pe_aload0, pe_lload5, pe_ldiv, pe_putfield, pe_getfield, pe_if_gt, pe_if_lt, pe_sipush, pe_aloadN0, pe_aastoreN, pe_areturnN, pe_null, pm_prog_1, pm_ob_some, Nat.reduceDiv, Nat.reduceMod, Nat.reduceMul, Nat.reduceAdd, Int.reduceToNat, pm_kill_i, pm_kill_r, pm_kill_n, pm_kill_j, pm_kill_l, pm_kill_d, pm_cats_nil, pm_cats_i, pm_cats_r, pm_cats_n, pm_cats_l, pm_cats_d, sz_1, sz_2, sl_1, sl_2, lc_0, lc_lt, lc_le, li_ne, va_rf, wr_m1, we_m1, pm_kill_w, Int32.reduceOfInt, Int64.reduceOfInt, Int32.reduceOfNat, Int32.reduceLT, Int32.reduceLE, Prod.mk.injEq, Nat.reduceEqDiff, reduceCtorEq, and_true, true_and, and_false, false_and, and_self, ite_true, ite_false, ↓reduceIte, not_true_eq_false, not_false_eq_true, pe_ri, pe_rz, pe_rc, Cp_g23_0 hP hA, Cp_g23_1 hP hA, Cp_p23_0 hP hA, Cp_p23_1 hP hA, z1, eq_true k2, k3]
  · rw [if_neg k2] at e
    have k4 := y1473v3_4 (h := h) hP hA hD e
    simp -implicitDefEqProofs (disch := first | assumption | exact Nat.le_of_ble_eq_true rfl | decide) only [b1473_0, g1473_1, b1473_1, g1473_3, b1473_3, g1473_5, b1473_5, g1473_7, b1473_7, g1473_8, b1473_8, pe_lload1, pe_lload3, pe_bipush, pe_lcmp, pe_if_ge, pe_lneg, pe_goto, pe_goto_w, pe_call2, pm_af_ret, pm_af_void, pm_af_thr, pe_lstore5, pe_aload0, pe_lload5, pe_ldiv, pe_putfield, pe_getfield, pe_if_gt, pe_if_lt, pe_sipush, pe_aloadN0, pe_aastoreN, pe_areturnN, pe_null, pm_prog_1, pm_ob_some, Nat.reduceDiv, Nat.reduceMod, Nat.reduceMul, Nat.reduceAdd, Int.reduceToNat, pm_kill_i, pm_kill_r, pm_kill_n, pm_kill_j, pm_kill_l, pm_kill_d, pm_cats_nil, pm_cats_i, pm_cats_r, pm_cats_n, pm_cats_l, pm_cats_d, sz_1, sz_2, sl_1, sl_2, lc_0, lc_lt, lc_le, li_ne, va_rf, wr_m1, we_m1, pm_kill_w, Int32.reduceOfInt, Int64.reduceOfInt, Int32.reduceOfNat, Int32.reduceLT, Int32.reduceLE, Prod.mk.injEq, Nat.reduceEqDiff, reduceCtorEq, and_true, true_and, and_false, false_and, and_self, ite_true, ite_false, ↓reduceIte, not_true_eq_false, not_false_eq_true, pe_ri, pe_rz, pe_rc, Cp_g23_0 hP hA, Cp_g23_1 hP hA, Cp_p23_0 hP hA, Cp_p23_1 hP hA, z1, eq_false k2, k4]
theorem x1473v3 {lc : Int32} {fq : Int32} {ll : Int32 → Int32} {A : wK → Nat} {h : pm_H} {D : Nat} {S : wS} {x1 : Int64} {x3 : Int64} {r : Int32 × wS} (hP : Cp_P lc fq ll) (hA : wok A (Cp_d lc fq ll) h.1) (hD : 2 ≤ D) (e : f1473v3 lc fq ll S x1 x3 = some r) : pm_call pm_prog D 1473 [.ref (A (23, 0, 0)), .long x1, .long x3] (wput A (Cp_d lc fq ll) S h) = some (match (generalizing := false) r with | (w0, S1) => (Outcome.returned (some (.int w0)), (wput A (Cp_d lc fq ll) S1 h))) := by
  obtain ⟨D, rfl⟩ : ∃ D', D = D' + 1 := ⟨D - 1, by omega⟩
  have hD : 1 ≤ D := by omega
  simp only [f1473v3] at e
  rw [c1473 (Cp_c23 hP hA), b1473_0]
  by_cases k1 : x3 < 0
  · rw [if_pos k1] at e
    have k2 := y1473v3_2 (h := h) hP hA hD e
    simp -implicitDefEqProofs (disch := first | assumption | exact Nat.le_of_ble_eq_true rfl | decide) only [b1473_0, g1473_1, b1473_1, g1473_3, b1473_3, g1473_5, b1473_5, g1473_7, b1473_7, g1473_8, b1473_8, pe_lload1, pe_lload3, pe_bipush, pe_lcmp, pe_if_ge, pe_lneg, pe_goto, pe_goto_w, pe_call2, pm_af_ret, pm_af_void, pm_af_thr, pe_lstore5, pe_aload0, pe_lload5, pe_ldiv, pe_putfield, pe_getfield, pe_if_gt, pe_if_lt, pe_sipush, pe_aloadN0, pe_aastoreN, pe_areturnN, pe_null, pm_prog_1, pm_ob_some, Nat.reduceDiv, Nat.reduceMod, Nat.reduceMul, Nat.reduceAdd, Int.reduceToNat, pm_kill_i, pm_kill_r, pm_kill_n, pm_kill_j, pm_kill_l, pm_kill_d, pm_cats_nil, pm_cats_i, pm_cats_r, pm_cats_n, pm_cats_l, pm_cats_d, sz_1, sz_2, sl_1, sl_2, lc_0, lc_lt, lc_le, li_ne, va_rf, wr_m1, we_m1, pm_kill_w, Int32.reduceOfInt, Int64.reduceOfInt, Int32.reduceOfNat, Int32.reduceLT, Int32.reduceLE, Prod.mk.injEq, Nat.reduceEqDiff, reduceCtorEq, and_true, true_and, and_false, false_and, and_self, ite_true, ite_false, ↓reduceIte, not_true_eq_false, not_false_eq_true, pe_ri, pe_rz, pe_rc, Cp_g23_0 hP hA, Cp_g23_1 hP hA, Cp_p23_0 hP hA, Cp_p23_1 hP hA, eq_true k1, k2]
  · rw [if_neg k1] at e
    have k3 := y1473v3_2 (h := h) hP hA hD e
    simp -implicitDefEqProofs (disch := first | assumption | exact Nat.le_of_ble_eq_true rfl | decide) only [b1473_0, g1473_1, b1473_1, g1473_3, b1473_3, g1473_5, b1473_5, g1473_7, b1473_7, g1473_8, b1473_8, pe_lload1, pe_lload3, pe_bipush, pe_lcmp, pe_if_ge, pe_lneg, pe_goto, pe_goto_w, pe_call2, pm_af_ret, pm_af_void, pm_af_thr, pe_lstore5, pe_aload0, pe_lload5, pe_ldiv, pe_putfield, pe_getfield, pe_if_gt, pe_if_lt, pe_sipush, pe_aloadN0, pe_aastoreN, pe_areturnN, pe_null, pm_prog_1, pm_ob_some, Nat.reduceDiv, Nat.reduceMod, Nat.reduceMul, Nat.reduceAdd, Int.reduceToNat, pm_kill_i, pm_kill_r, pm_kill_n, pm_kill_j, pm_kill_l, pm_kill_d, pm_cats_nil, pm_cats_i, pm_cats_r, pm_cats_n, pm_cats_l, pm_cats_d, sz_1, sz_2, sl_1, sl_2, lc_0, lc_lt, lc_le, li_ne, va_rf, wr_m1, we_m1, pm_kill_w, Int32.reduceOfInt, Int64.reduceOfInt, Int32.reduceOfNat, Int32.reduceLT, Int32.reduceLE, Prod.mk.injEq, Nat.reduceEqDiff, reduceCtorEq, and_true, true_and, and_false, false_and, and_self, ite_true, ite_false, ↓reduceIte, not_true_eq_false, not_false_eq_true, pe_ri, pe_rz, pe_rc, Cp_g23_0 hP hA, Cp_g23_1 hP hA, Cp_p23_0 hP hA, Cp_p23_1 hP hA, eq_false k1, k3]
/-- TimberHouse$PriceLines$Fraction.work(CLTimberHouse$PriceLines$Fraction;)Z -/
noncomputable def f1476v1 (lc : Int32) (fq : Int32) (ll : Int32 → Int32) (S : wS) (x1 : Int32) : Option (Int32 × wS) :=
  if x1 = 42 then
    (f1473v2 lc fq ll S ((S.2 (22, 0, 0) 0) * (S.2 (23, 0, 0) 0)) ((S.2 (22, 0, 0) 1) * (S.2 (23, 0, 0) 1))).bind fun (v1, S2) =>
    if v1 = 0 ∨ v1 = 1 then
      some (v1, S2)
    else none
  else
    if x1 = 43 then
      (f1473v2 lc fq ll S (((S.2 (22, 0, 0) 0) * (S.2 (23, 0, 0) 1)) + ((S.2 (23, 0, 0) 0) * (S.2 (22, 0, 0) 1))) ((S.2 (22, 0, 0) 1) * (S.2 (23, 0, 0) 1))).bind fun (v3, S4) =>
      if v3 = 0 ∨ v3 = 1 then
        some (v3, S4)
      else none
    else
      if x1 = 45 then
        (f1473v2 lc fq ll S (((S.2 (22, 0, 0) 0) * (S.2 (23, 0, 0) 1)) - ((S.2 (23, 0, 0) 0) * (S.2 (22, 0, 0) 1))) ((S.2 (22, 0, 0) 1) * (S.2 (23, 0, 0) 1))).bind fun (v5, S6) =>
        if v5 = 0 ∨ v5 = 1 then
          some (v5, S6)
        else none
      else
        if x1 = 47 then
          (f1473v2 lc fq ll S ((S.2 (22, 0, 0) 0) * (S.2 (23, 0, 0) 1)) ((S.2 (22, 0, 0) 1) * (S.2 (23, 0, 0) 0))).bind fun (v7, S8) =>
          if v7 = 0 ∨ v7 = 1 then
            some (v7, S8)
          else none
        else
          if x1 = 60 then
            if ((S.2 (22, 0, 0) 0) * (S.2 (23, 0, 0) 1)) ≤ ((S.2 (23, 0, 0) 0) * (S.2 (22, 0, 0) 1)) then
              some (1, S)
            else
              (f1473v2 lc fq ll S (S.2 (23, 0, 0) 0) (S.2 (23, 0, 0) 1)).bind fun (v9, S10) =>
              if v9 = 0 then
                some (0, S10)
              else
                some (1, S10)
          else
            if ((S.2 (22, 0, 0) 0) * (S.2 (23, 0, 0) 1)) < ((S.2 (23, 0, 0) 0) * (S.2 (22, 0, 0) 1)) then
              (f1473v2 lc fq ll S (S.2 (23, 0, 0) 0) (S.2 (23, 0, 0) 1)).bind fun (v11, S12) =>
              if v11 = 0 then
                some (0, S12)
              else
                some (1, S12)
            else
              some (1, S)
theorem sw1476v1_0 {x : Int32} : pm_lk 8 [(42, 3), (43, 1), (45, 2), (47, 4), (60, 5)] x = if x = 42 then 3 else if x = 43 then 1 else if x = 45 then 2 else if x = 47 then 4 else if x = 60 then 5 else 8 := by
  simp (disch := decide) only [pm_lk, sw_eq, Int32.reduceOfInt, Int.reduceToNat]
theorem x1476v1 {lc : Int32} {fq : Int32} {ll : Int32 → Int32} {A : wK → Nat} {h : pm_H} {D : Nat} {S : wS} {x1 : Int32} {r : Int32 × wS} (hP : Cp_P lc fq ll) (hA : wok A (Cp_d lc fq ll) h.1) (hD : 3 ≤ D) (e : f1476v1 lc fq ll S x1 = some r) : pm_call pm_prog D 1476 [.ref (A (22, 0, 0)), .int x1, .ref (A (23, 0, 0))] (wput A (Cp_d lc fq ll) S h) = some (match (generalizing := false) r with | (w0, S1) => (Outcome.returned (some (.int w0)), (wput A (Cp_d lc fq ll) S1 h))) := by
  obtain ⟨D, rfl⟩ : ∃ D', D = D' + 1 := ⟨D - 1, by omega⟩
  have hD : 2 ≤ D := by omega
  simp only [f1476v1] at e
  rw [c1476 (Cp_c22 hP hA), b1476_0]
  by_cases k1 : x1 = 42
  · rw [if_pos k1] at e
    obtain ⟨⟨v1, S2⟩, k2, e⟩ := Option.bind_eq_some_iff.mp e
    try dsimp only at e
    have z2 := x1473v2 (D := D) (h := h) hP hA (by omega) k2
    dsimp only at z2
    by_cases k3 : v1 = 0 ∨ v1 = 1
    · rw [if_pos k3] at e
      have e := Option.some.inj e; subst e
      simp -implicitDefEqProofs (disch := first | assumption | exact Nat.le_of_ble_eq_true rfl | decide) only [b1476_0, g1476_1, b1476_1, g1476_2, b1476_2, g1476_3, b1476_3, g1476_4, b1476_4, g1476_5, b1476_5, g1476_6, b1476_6, g1476_7, b1476_7, g1476_8, b1476_8, g1476_9, b1476_9, g1476_10, b1476_10, g1476_11, b1476_11, pe_iload1, pe_lookupswitch, pe_aload0, pe_getfield, pe_aload2, pe_lmul, pe_ladd, pe_call3, pm_af_ret, pm_af_void, pm_af_thr, pe_goto, pe_lsub, pe_lcmp, pe_if_le, pe_if_eq, pe_goto_w, pe_sipush, pe_if_ge, pe_aloadN0, pe_aloadN2, pe_aastoreN, pe_areturnN, pe_null, pm_prog_1, pm_ob_some, Nat.reduceDiv, Nat.reduceMod, Nat.reduceMul, Nat.reduceAdd, Int.reduceToNat, pm_kill_i, pm_kill_r, pm_kill_n, pm_kill_j, pm_kill_l, pm_kill_d, pm_cats_nil, pm_cats_i, pm_cats_r, pm_cats_n, pm_cats_l, pm_cats_d, sz_1, sz_2, sl_1, sl_2, lc_0, lc_lt, lc_le, li_ne, va_rf, wr_m1, we_m1, pm_kill_w, Int32.reduceOfInt, Int64.reduceOfInt, Int32.reduceOfNat, Int32.reduceLT, Int32.reduceLE, Prod.mk.injEq, Nat.reduceEqDiff, reduceCtorEq, and_true, true_and, and_false, false_and, and_self, ite_true, ite_false, ↓reduceIte, not_true_eq_false, not_false_eq_true, pe_ri, pe_rz, pe_rc, sw1476v1_0, Cp_g22_0 hP hA, Cp_g22_1 hP hA, Cp_g23_0 hP hA, Cp_g23_1 hP hA, eq_true k1, z2]
    · rw [if_neg k3] at e; cases e
  · rw [if_neg k1] at e
    by_cases k4 : x1 = 43
    · rw [if_pos k4] at e
      obtain ⟨⟨v3, S4⟩, k5, e⟩ := Option.bind_eq_some_iff.mp e
      try dsimp only at e
      have z5 := x1473v2 (D := D) (h := h) hP hA (by omega) k5
      dsimp only at z5
      by_cases k6 : v3 = 0 ∨ v3 = 1
      · rw [if_pos k6] at e
        have e := Option.some.inj e; subst e
        simp -implicitDefEqProofs (disch := first | assumption | exact Nat.le_of_ble_eq_true rfl | decide) only [b1476_0, g1476_1, b1476_1, g1476_2, b1476_2, g1476_3, b1476_3, g1476_4, b1476_4, g1476_5, b1476_5, g1476_6, b1476_6, g1476_7, b1476_7, g1476_8, b1476_8, g1476_9, b1476_9, g1476_10, b1476_10, g1476_11, b1476_11, pe_iload1, pe_lookupswitch, pe_aload0, pe_getfield, pe_aload2, pe_lmul, pe_ladd, pe_call3, pm_af_ret, pm_af_void, pm_af_thr, pe_goto, pe_lsub, pe_lcmp, pe_if_le, pe_if_eq, pe_goto_w, pe_sipush, pe_if_ge, pe_aloadN0, pe_aloadN2, pe_aastoreN, pe_areturnN, pe_null, pm_prog_1, pm_ob_some, Nat.reduceDiv, Nat.reduceMod, Nat.reduceMul, Nat.reduceAdd, Int.reduceToNat, pm_kill_i, pm_kill_r, pm_kill_n, pm_kill_j, pm_kill_l, pm_kill_d, pm_cats_nil, pm_cats_i, pm_cats_r, pm_cats_n, pm_cats_l, pm_cats_d, sz_1, sz_2, sl_1, sl_2, lc_0, lc_lt, lc_le, li_ne, va_rf, wr_m1, we_m1, pm_kill_w, Int32.reduceOfInt, Int64.reduceOfInt, Int32.reduceOfNat, Int32.reduceLT, Int32.reduceLE, Prod.mk.injEq, Nat.reduceEqDiff, reduceCtorEq, and_true, true_and, and_false, false_and, and_self, ite_true, ite_false, ↓reduceIte, not_true_eq_false, not_false_eq_true, pe_ri, pe_rz, pe_rc, sw1476v1_0, Cp_g22_0 hP hA, Cp_g22_1 hP hA, Cp_g23_0 hP hA, Cp_g23_1 hP hA, eq_false k1, eq_true k4, z5]
      · rw [if_neg k6] at e; cases e
    · rw [if_neg k4] at e
      by_cases k7 : x1 = 45
      · rw [if_pos k7] at e
        obtain ⟨⟨v5, S6⟩, k8, e⟩ := Option.bind_eq_some_iff.mp e
        try dsimp only at e
        have z8 := x1473v2 (D := D) (h := h) hP hA (by omega) k8
        dsimp only at z8
        by_cases k9 : v5 = 0 ∨ v5 = 1
        · rw [if_pos k9] at e
          have e := Option.some.inj e; subst e
          simp -implicitDefEqProofs (disch := first | assumption | exact Nat.le_of_ble_eq_true rfl | decide) only [b1476_0, g1476_1, b1476_1, g1476_2, b1476_2, g1476_3, b1476_3, g1476_4, b1476_4, g1476_5, b1476_5, g1476_6, b1476_6, g1476_7, b1476_7, g1476_8, b1476_8, g1476_9, b1476_9, g1476_10, b1476_10, g1476_11, b1476_11, pe_iload1, pe_lookupswitch, pe_aload0, pe_getfield, pe_aload2, pe_lmul, pe_ladd, pe_call3, pm_af_ret, pm_af_void, pm_af_thr, pe_goto, pe_lsub, pe_lcmp, pe_if_le, pe_if_eq, pe_goto_w, pe_sipush, pe_if_ge, pe_aloadN0, pe_aloadN2, pe_aastoreN, pe_areturnN, pe_null, pm_prog_1, pm_ob_some, Nat.reduceDiv, Nat.reduceMod, Nat.reduceMul, Nat.reduceAdd, Int.reduceToNat, pm_kill_i, pm_kill_r, pm_kill_n, pm_kill_j, pm_kill_l, pm_kill_d, pm_cats_nil, pm_cats_i, pm_cats_r, pm_cats_n, pm_cats_l, pm_cats_d, sz_1, sz_2, sl_1, sl_2, lc_0, lc_lt, lc_le, li_ne, va_rf, wr_m1, we_m1, pm_kill_w, Int32.reduceOfInt, Int64.reduceOfInt, Int32.reduceOfNat, Int32.reduceLT, Int32.reduceLE, Prod.mk.injEq, Nat.reduceEqDiff, reduceCtorEq, and_true, true_and, and_false, false_and, and_self, ite_true, ite_false, ↓reduceIte, not_true_eq_false, not_false_eq_true, pe_ri, pe_rz, pe_rc, sw1476v1_0, Cp_g22_0 hP hA, Cp_g22_1 hP hA, Cp_g23_0 hP hA, Cp_g23_1 hP hA, eq_false k1, eq_false k4, eq_true k7, z8]
        · rw [if_neg k9] at e; cases e
      · rw [if_neg k7] at e
        by_cases k10 : x1 = 47
        · rw [if_pos k10] at e
          obtain ⟨⟨v7, S8⟩, k11, e⟩ := Option.bind_eq_some_iff.mp e
          try dsimp only at e
          have z11 := x1473v2 (D := D) (h := h) hP hA (by omega) k11
          dsimp only at z11
          by_cases k12 : v7 = 0 ∨ v7 = 1
          · rw [if_pos k12] at e
            have e := Option.some.inj e; subst e
            simp -implicitDefEqProofs (disch := first | assumption | exact Nat.le_of_ble_eq_true rfl | decide) only [b1476_0, g1476_1, b1476_1, g1476_2, b1476_2, g1476_3, b1476_3, g1476_4, b1476_4, g1476_5, b1476_5, g1476_6, b1476_6, g1476_7, b1476_7, g1476_8, b1476_8, g1476_9, b1476_9, g1476_10, b1476_10, g1476_11, b1476_11, pe_iload1, pe_lookupswitch, pe_aload0, pe_getfield, pe_aload2, pe_lmul, pe_ladd, pe_call3, pm_af_ret, pm_af_void, pm_af_thr, pe_goto, pe_lsub, pe_lcmp, pe_if_le, pe_if_eq, pe_goto_w, pe_sipush, pe_if_ge, pe_aloadN0, pe_aloadN2, pe_aastoreN, pe_areturnN, pe_null, pm_prog_1, pm_ob_some, Nat.reduceDiv, Nat.reduceMod, Nat.reduceMul, Nat.reduceAdd, Int.reduceToNat, pm_kill_i, pm_kill_r, pm_kill_n, pm_kill_j, pm_kill_l, pm_kill_d, pm_cats_nil, pm_cats_i, pm_cats_r, pm_cats_n, pm_cats_l, pm_cats_d, sz_1, sz_2, sl_1, sl_2, lc_0, lc_lt, lc_le, li_ne, va_rf, wr_m1, we_m1, pm_kill_w, Int32.reduceOfInt, Int64.reduceOfInt, Int32.reduceOfNat, Int32.reduceLT, Int32.reduceLE, Prod.mk.injEq, Nat.reduceEqDiff, reduceCtorEq, and_true, true_and, and_false, false_and, and_self, ite_true, ite_false, ↓reduceIte, not_true_eq_false, not_false_eq_true, pe_ri, pe_rz, pe_rc, sw1476v1_0, Cp_g22_0 hP hA, Cp_g22_1 hP hA, Cp_g23_0 hP hA, Cp_g23_1 hP hA, eq_false k1, eq_false k4, eq_false k7, eq_true k10, z11]
          · rw [if_neg k12] at e; cases e
        · rw [if_neg k10] at e
          by_cases k13 : x1 = 60
          · rw [if_pos k13] at e
            by_cases k14 : ((S.2 (22, 0, 0) 0) * (S.2 (23, 0, 0) 1)) ≤ ((S.2 (23, 0, 0) 0) * (S.2 (22, 0, 0) 1))
            · rw [if_pos k14] at e
              have e := Option.some.inj e; subst e
              simp -implicitDefEqProofs (disch := first | assumption | exact Nat.le_of_ble_eq_true rfl | decide) only [b1476_0, g1476_1, b1476_1, g1476_2, b1476_2, g1476_3, b1476_3, g1476_4, b1476_4, g1476_5, b1476_5, g1476_6, b1476_6, g1476_7, b1476_7, g1476_8, b1476_8, g1476_9, b1476_9, g1476_10, b1476_10, g1476_11, b1476_11, pe_iload1, pe_lookupswitch, pe_aload0, pe_getfield, pe_aload2, pe_lmul, pe_ladd, pe_call3, pm_af_ret, pm_af_void, pm_af_thr, pe_goto, pe_lsub, pe_lcmp, pe_if_le, pe_if_eq, pe_goto_w, pe_sipush, pe_if_ge, pe_aloadN0, pe_aloadN2, pe_aastoreN, pe_areturnN, pe_null, pm_prog_1, pm_ob_some, Nat.reduceDiv, Nat.reduceMod, Nat.reduceMul, Nat.reduceAdd, Int.reduceToNat, pm_kill_i, pm_kill_r, pm_kill_n, pm_kill_j, pm_kill_l, pm_kill_d, pm_cats_nil, pm_cats_i, pm_cats_r, pm_cats_n, pm_cats_l, pm_cats_d, sz_1, sz_2, sl_1, sl_2, lc_0, lc_lt, lc_le, li_ne, va_rf, wr_m1, we_m1, pm_kill_w, Int32.reduceOfInt, Int64.reduceOfInt, Int32.reduceOfNat, Int32.reduceLT, Int32.reduceLE, Prod.mk.injEq, Nat.reduceEqDiff, reduceCtorEq, and_true, true_and, and_false, false_and, and_self, ite_true, ite_false, ↓reduceIte, not_true_eq_false, not_false_eq_true, pe_ri, pe_rz, pe_rc, sw1476v1_0, Cp_g22_0 hP hA, Cp_g22_1 hP hA, Cp_g23_0 hP hA, Cp_g23_1 hP hA, eq_false k1, eq_false k4, eq_false k7, eq_false k10, eq_true k13, eq_true k14]
            · rw [if_neg k14] at e
              obtain ⟨⟨v9, S10⟩, k15, e⟩ := Option.bind_eq_some_iff.mp e
              try dsimp only at e
              have z15 := x1473v2 (D := D) (h := h) hP hA (by omega) k15
              dsimp only at z15
              by_cases k16 : v9 = 0
              · rw [if_pos k16] at e
                have e := Option.some.inj e; subst e
                simp -implicitDefEqProofs (disch := first | assumption | exact Nat.le_of_ble_eq_true rfl | decide) only [b1476_0, g1476_1, b1476_1, g1476_2, b1476_2, g1476_3, b1476_3, g1476_4, b1476_4, g1476_5, b1476_5, g1476_6, b1476_6, g1476_7, b1476_7, g1476_8, b1476_8, g1476_9, b1476_9, g1476_10, b1476_10, g1476_11, b1476_11, pe_iload1, pe_lookupswitch, pe_aload0, pe_getfield, pe_aload2, pe_lmul, pe_ladd, pe_call3, pm_af_ret, pm_af_void, pm_af_thr, pe_goto, pe_lsub, pe_lcmp, pe_if_le, pe_if_eq, pe_goto_w, pe_sipush, pe_if_ge, pe_aloadN0, pe_aloadN2, pe_aastoreN, pe_areturnN, pe_null, pm_prog_1, pm_ob_some, Nat.reduceDiv, Nat.reduceMod, Nat.reduceMul, Nat.reduceAdd, Int.reduceToNat, pm_kill_i, pm_kill_r, pm_kill_n, pm_kill_j, pm_kill_l, pm_kill_d, pm_cats_nil, pm_cats_i, pm_cats_r, pm_cats_n, pm_cats_l, pm_cats_d, sz_1, sz_2, sl_1, sl_2, lc_0, lc_lt, lc_le, li_ne, va_rf, wr_m1, we_m1, pm_kill_w, Int32.reduceOfInt, Int64.reduceOfInt, Int32.reduceOfNat, Int32.reduceLT, Int32.reduceLE, Prod.mk.injEq, Nat.reduceEqDiff, reduceCtorEq, and_true, true_and, and_false, false_and, and_self, ite_true, ite_false, ↓reduceIte, not_true_eq_false, not_false_eq_true, pe_ri, pe_rz, pe_rc, sw1476v1_0, Cp_g22_0 hP hA, Cp_g22_1 hP hA, Cp_g23_0 hP hA, Cp_g23_1 hP hA, eq_false k1, eq_false k4, eq_false k7, eq_false k10, eq_true k13, eq_false k14, z15, eq_true k16]
              · rw [if_neg k16] at e
                have e := Option.some.inj e; subst e
                simp -implicitDefEqProofs (disch := first | assumption | exact Nat.le_of_ble_eq_true rfl | decide) only [b1476_0, g1476_1, b1476_1, g1476_2, b1476_2, g1476_3, b1476_3, g1476_4, b1476_4, g1476_5, b1476_5, g1476_6, b1476_6, g1476_7, b1476_7, g1476_8, b1476_8, g1476_9, b1476_9, g1476_10, b1476_10, g1476_11, b1476_11, pe_iload1, pe_lookupswitch, pe_aload0, pe_getfield, pe_aload2, pe_lmul, pe_ladd, pe_call3, pm_af_ret, pm_af_void, pm_af_thr, pe_goto, pe_lsub, pe_lcmp, pe_if_le, pe_if_eq, pe_goto_w, pe_sipush, pe_if_ge, pe_aloadN0, pe_aloadN2, pe_aastoreN, pe_areturnN, pe_null, pm_prog_1, pm_ob_some, Nat.reduceDiv, Nat.reduceMod, Nat.reduceMul, Nat.reduceAdd, Int.reduceToNat, pm_kill_i, pm_kill_r, pm_kill_n, pm_kill_j, pm_kill_l, pm_kill_d, pm_cats_nil, pm_cats_i, pm_cats_r, pm_cats_n, pm_cats_l, pm_cats_d, sz_1, sz_2, sl_1, sl_2, lc_0, lc_lt, lc_le, li_ne, va_rf, wr_m1, we_m1, pm_kill_w, Int32.reduceOfInt, Int64.reduceOfInt, Int32.reduceOfNat, Int32.reduceLT, Int32.reduceLE, Prod.mk.injEq, Nat.reduceEqDiff, reduceCtorEq, and_true, true_and, and_false, false_and, and_self, ite_true, ite_false, ↓reduceIte, not_true_eq_false, not_false_eq_true, pe_ri, pe_rz, pe_rc, sw1476v1_0, Cp_g22_0 hP hA, Cp_g22_1 hP hA, Cp_g23_0 hP hA, Cp_g23_1 hP hA, eq_false k1, eq_false k4, eq_false k7, eq_false k10, eq_true k13, eq_false k14, z15, eq_false k16]
          · rw [if_neg k13] at e
            by_cases k17 : ((S.2 (22, 0, 0) 0) * (S.2 (23, 0, 0) 1)) < ((S.2 (23, 0, 0) 0) * (S.2 (22, 0, 0) 1))
            · rw [if_pos k17] at e
              obtain ⟨⟨v11, S12⟩, k18, e⟩ := Option.bind_eq_some_iff.mp e
              try dsimp only at e
              have z18 := x1473v2 (D := D) (h := h) hP hA (by omega) k18
              dsimp only at z18
              by_cases k19 : v11 = 0
              · rw [if_pos k19] at e
                have e := Option.some.inj e; subst e
                simp -implicitDefEqProofs (disch := first | assumption | exact Nat.le_of_ble_eq_true rfl | decide) only [b1476_0, g1476_1, b1476_1, g1476_2, b1476_2, g1476_3, b1476_3, g1476_4, b1476_4, g1476_5, b1476_5, g1476_6, b1476_6, g1476_7, b1476_7, g1476_8, b1476_8, g1476_9, b1476_9, g1476_10, b1476_10, g1476_11, b1476_11, pe_iload1, pe_lookupswitch, pe_aload0, pe_getfield, pe_aload2, pe_lmul, pe_ladd, pe_call3, pm_af_ret, pm_af_void, pm_af_thr, pe_goto, pe_lsub, pe_lcmp, pe_if_le, pe_if_eq, pe_goto_w, pe_sipush, pe_if_ge, pe_aloadN0, pe_aloadN2, pe_aastoreN, pe_areturnN, pe_null, pm_prog_1, pm_ob_some, Nat.reduceDiv, Nat.reduceMod, Nat.reduceMul, Nat.reduceAdd, Int.reduceToNat, pm_kill_i, pm_kill_r, pm_kill_n, pm_kill_j, pm_kill_l, pm_kill_d, pm_cats_nil, pm_cats_i, pm_cats_r, pm_cats_n, pm_cats_l, pm_cats_d, sz_1, sz_2, sl_1, sl_2, lc_0, lc_lt, lc_le, li_ne, va_rf, wr_m1, we_m1, pm_kill_w, Int32.reduceOfInt, Int64.reduceOfInt, Int32.reduceOfNat, Int32.reduceLT, Int32.reduceLE, Prod.mk.injEq, Nat.reduceEqDiff, reduceCtorEq, and_true, true_and, and_false, false_and, and_self, ite_true, ite_false, ↓reduceIte, not_true_eq_false, not_false_eq_true, pe_ri, pe_rz, pe_rc, sw1476v1_0, Cp_g22_0 hP hA, Cp_g22_1 hP hA, Cp_g23_0 hP hA, Cp_g23_1 hP hA, eq_false k1, eq_false k4, eq_false k7, eq_false k10, eq_false k13, eq_true k17, z18, eq_true k19]
              · rw [if_neg k19] at e
                have e := Option.some.inj e; subst e
                simp -implicitDefEqProofs (disch := first | assumption | exact Nat.le_of_ble_eq_true rfl | decide) only [b1476_0, g1476_1, b1476_1, g1476_2, b1476_2, g1476_3, b1476_3, g1476_4, b1476_4, g1476_5, b1476_5, g1476_6, b1476_6, g1476_7, b1476_7, g1476_8, b1476_8, g1476_9, b1476_9, g1476_10, b1476_10, g1476_11, b1476_11, pe_iload1, pe_lookupswitch, pe_aload0, pe_getfield, pe_aload2, pe_lmul, pe_ladd, pe_call3, pm_af_ret, pm_af_void, pm_af_thr, pe_goto, pe_lsub, pe_lcmp, pe_if_le, pe_if_eq, pe_goto_w, pe_sipush, pe_if_ge, pe_aloadN0, pe_aloadN2, pe_aastoreN, pe_areturnN, pe_null, pm_prog_1, pm_ob_some, Nat.reduceDiv, Nat.reduceMod, Nat.reduceMul, Nat.reduceAdd, Int.reduceToNat, pm_kill_i, pm_kill_r, pm_kill_n, pm_kill_j, pm_kill_l, pm_kill_d, pm_cats_nil, pm_cats_i, pm_cats_r, pm_cats_n, pm_cats_l, pm_cats_d, sz_1, sz_2, sl_1, sl_2, lc_0, lc_lt, lc_le, li_ne, va_rf, wr_m1, we_m1, pm_kill_w, Int32.reduceOfInt, Int64.reduceOfInt, Int32.reduceOfNat, Int32.reduceLT, Int32.reduceLE, Prod.mk.injEq, Nat.reduceEqDiff, reduceCtorEq, and_true, true_and, and_false, false_and, and_self, ite_true, ite_false, ↓reduceIte, not_true_eq_false, not_false_eq_true, pe_ri, pe_rz, pe_rc, sw1476v1_0, Cp_g22_0 hP hA, Cp_g22_1 hP hA, Cp_g23_0 hP hA, Cp_g23_1 hP hA, eq_false k1, eq_false k4, eq_false k7, eq_false k10, eq_false k13, eq_true k17, z18, eq_false k19]
            · rw [if_neg k17] at e
              have e := Option.some.inj e; subst e
              simp -implicitDefEqProofs (disch := first | assumption | exact Nat.le_of_ble_eq_true rfl | decide) only [b1476_0, g1476_1, b1476_1, g1476_2, b1476_2, g1476_3, b1476_3, g1476_4, b1476_4, g1476_5, b1476_5, g1476_6, b1476_6, g1476_7, b1476_7, g1476_8, b1476_8, g1476_9, b1476_9, g1476_10, b1476_10, g1476_11, b1476_11, pe_iload1, pe_lookupswitch, pe_aload0, pe_getfield, pe_aload2, pe_lmul, pe_ladd, pe_call3, pm_af_ret, pm_af_void, pm_af_thr, pe_goto, pe_lsub, pe_lcmp, pe_if_le, pe_if_eq, pe_goto_w, pe_sipush, pe_if_ge, pe_aloadN0, pe_aloadN2, pe_aastoreN, pe_areturnN, pe_null, pm_prog_1, pm_ob_some, Nat.reduceDiv, Nat.reduceMod, Nat.reduceMul, Nat.reduceAdd, Int.reduceToNat, pm_kill_i, pm_kill_r, pm_kill_n, pm_kill_j, pm_kill_l, pm_kill_d, pm_cats_nil, pm_cats_i, pm_cats_r, pm_cats_n, pm_cats_l, pm_cats_d, sz_1, sz_2, sl_1, sl_2, lc_0, lc_lt, lc_le, li_ne, va_rf, wr_m1, we_m1, pm_kill_w, Int32.reduceOfInt, Int64.reduceOfInt, Int32.reduceOfNat, Int32.reduceLT, Int32.reduceLE, Prod.mk.injEq, Nat.reduceEqDiff, reduceCtorEq, and_true, true_and, and_false, false_and, and_self, ite_true, ite_false, ↓reduceIte, not_true_eq_false, not_false_eq_true, pe_ri, pe_rz, pe_rc, sw1476v1_0, Cp_g22_0 hP hA, Cp_g22_1 hP hA, Cp_g23_0 hP hA, Cp_g23_1 hP hA, eq_false k1, eq_false k4, eq_false k7, eq_false k10, eq_false k13, eq_false k17]
noncomputable def f1473v4_6 (lc : Int32) (fq : Int32) (ll : Int32 → Int32) (S : wS) (x0i : Int32) (x5 : Int64) (y0i : Int32) (y1 : Int64) : Option (Int32 × wS) :=
  if 0 ≤ x0i ∧ x0i < 16 then
    if 0 ≤ y0i ∧ y0i < 16 then
      if ¬ x5 = 0 then
        if (S.2 (24, x0i, 0) 0) ≤ 1000000000 then
          if (S.2 (24, x0i, 0) 0) < (-1000000000) then
            some (0, (sl S (24, y0i, 0) 1 (y1 / x5)))
          else
            if (if x0i = y0i then (y1 / x5) else (S.2 (24, x0i, 0) 1)) ≤ 1000000000 then
              some (1, (sl S (24, y0i, 0) 1 (y1 / x5)))
            else
              some (0, (sl S (24, y0i, 0) 1 (y1 / x5)))
        else
          some (0, (sl S (24, y0i, 0) 1 (y1 / x5)))
      else none
    else none
  else none
noncomputable def f1473v4_4 (lc : Int32) (fq : Int32) (ll : Int32 → Int32) (S : wS) (x0i : Int32) (x3 : Int64) (x5 : Int64) (y0i : Int32) (y1 : Int64) : Option (Int32 × wS) :=
  if 0 ≤ x0i ∧ x0i < 16 then
    if 0 ≤ y0i ∧ y0i < 16 then
      if ¬ x5 = 0 then
        if x3 < 0 then
          f1473v4_6 lc fq ll (sl S (24, y0i, 0) 0 (y1 / x5)) x0i x5 x0i (-x3)
        else
          f1473v4_6 lc fq ll (sl S (24, y0i, 0) 0 (y1 / x5)) x0i x5 x0i x3
      else none
    else none
  else none
noncomputable def f1473v4_2 (lc : Int32) (fq : Int32) (ll : Int32 → Int32) (S : wS) (x0i : Int32) (x1 : Int64) (x3 : Int64) (y0 : Int64) (y1 : Int64) : Option (Int32 × wS) :=
  if 0 ≤ x0i ∧ x0i < 16 then
    (f1415 y0 y1).bind fun v1 =>
    if x3 < 0 then
      f1473v4_4 lc fq ll S x0i x3 v1 x0i (-x1)
    else
      f1473v4_4 lc fq ll S x0i x3 v1 x0i x1
  else none
/-- TimberHouse$PriceLines$Fraction.set(JJ)Z -/
noncomputable def f1473v4 (lc : Int32) (fq : Int32) (ll : Int32 → Int32) (S : wS) (x0i : Int32) (x1 : Int64) (x3 : Int64) : Option (Int32 × wS) :=
  if 0 ≤ x0i ∧ x0i < 16 then
    if x3 < 0 then
      f1473v4_2 lc fq ll S x0i x1 x3 x1 (-x3)
    else
      f1473v4_2 lc fq ll S x0i x1 x3 x1 x3
  else none
theorem y1473v4_6 {lc : Int32} {fq : Int32} {ll : Int32 → Int32} {A : wK → Nat} {h : pm_H} {D : Nat} {S : wS} {x0i : Int32} {x5 : Int64} {y0i : Int32} {y1 : Int64} {r : Int32 × wS} (hP : Cp_P lc fq ll) (hA : wok A (Cp_d lc fq ll) h.1) (hD : 1 ≤ D) (e : f1473v4_6 lc fq ll S x0i x5 y0i y1 = some r) : ∀ q1 q2 q3 q4 : Value, pm_go pm_prog (pm_call pm_prog D) 1473 6 [.ref (A (24, x0i, 0)), q1, q2, q3, q4, .long x5, pm_junk] [.long y1, .ref (A (24, y0i, 0))] (wput A (Cp_d lc fq ll) S h) = some (match (generalizing := false) r with | (w0, S1) => (Outcome.returned (some (.int w0)), (wput A (Cp_d lc fq ll) S1 h))) := by
  intro q1 q2 q3 q4
  simp only [f1473v4_6] at e
  rw [g1473_6, b1473_6]
  by_cases k1 : 0 ≤ x0i ∧ x0i < 16
  · rw [if_pos k1] at e
    by_cases k2 : 0 ≤ y0i ∧ y0i < 16
    · rw [if_pos k2] at e
      by_cases k3 : ¬ x5 = 0
      · rw [if_pos k3] at e
        by_cases k4 : (S.2 (24, x0i, 0) 0) ≤ 1000000000
        · rw [if_pos k4] at e
          by_cases k5 : (S.2 (24, x0i, 0) 0) < (-1000000000)
          · rw [if_pos k5] at e
            have e := Option.some.inj e; subst e
            simp -implicitDefEqProofs (disch := first | assumption | exact Nat.le_of_ble_eq_true rfl | decide) only [b1473_0, g1473_1, b1473_1, g1473_3, b1473_3, g1473_5, b1473_5, g1473_7, b1473_7, g1473_8, b1473_8, pe_lload1, pe_lload3, pe_bipush, pe_lcmp, pe_if_ge, pe_lneg, pe_goto, pe_goto_w, pe_call2, pm_af_ret, pm_af_void, pm_af_thr, pe_lstore5, pe_aload0, pe_lload5, pe_ldiv, pe_putfield, pe_getfield, pe_if_gt, pe_if_lt, pe_sipush, pe_aloadN0, pe_aastoreN, pe_areturnN, pe_null, pm_prog_1, pm_ob_some, Nat.reduceDiv, Nat.reduceMod, Nat.reduceMul, Nat.reduceAdd, Int.reduceToNat, pm_kill_i, pm_kill_r, pm_kill_n, pm_kill_j, pm_kill_l, pm_kill_d, pm_cats_nil, pm_cats_i, pm_cats_r, pm_cats_n, pm_cats_l, pm_cats_d, sz_1, sz_2, sl_1, sl_2, lc_0, lc_lt, lc_le, li_ne, va_rf, wr_m1, we_m1, pm_kill_w, Int32.reduceOfInt, Int64.reduceOfInt, Int32.reduceOfNat, Int32.reduceLT, Int32.reduceLE, Prod.mk.injEq, Nat.reduceEqDiff, reduceCtorEq, and_true, true_and, and_false, false_and, and_self, ite_true, ite_false, ↓reduceIte, not_true_eq_false, not_false_eq_true, pe_ri, pe_rz, pe_rc, Cp_g24_0 hP hA, Cp_g24_1 hP hA, Cp_p24_0 hP hA, Cp_p24_1 hP hA, eq_true k4, eq_true k5]
          · rw [if_neg k5] at e
            by_cases k6 : (if x0i = y0i then (y1 / x5) else (S.2 (24, x0i, 0) 1)) ≤ 1000000000
            · rw [if_pos k6] at e
              have e := Option.some.inj e; subst e
              simp -implicitDefEqProofs (disch := first | assumption | exact Nat.le_of_ble_eq_true rfl | decide) only [b1473_0, g1473_1, b1473_1, g1473_3, b1473_3, g1473_5, b1473_5, g1473_7, b1473_7, g1473_8, b1473_8, pe_lload1, pe_lload3, pe_bipush, pe_lcmp, pe_if_ge, pe_lneg, pe_goto, pe_goto_w, pe_call2, pm_af_ret, pm_af_void, pm_af_thr, pe_lstore5, pe_aload0, pe_lload5, pe_ldiv, pe_putfield, pe_getfield, pe_if_gt, pe_if_lt, pe_sipush, pe_aloadN0, pe_aastoreN, pe_areturnN, pe_null, pm_prog_1, pm_ob_some, Nat.reduceDiv, Nat.reduceMod, Nat.reduceMul, Nat.reduceAdd, Int.reduceToNat, pm_kill_i, pm_kill_r, pm_kill_n, pm_kill_j, pm_kill_l, pm_kill_d, pm_cats_nil, pm_cats_i, pm_cats_r, pm_cats_n, pm_cats_l, pm_cats_d, sz_1, sz_2, sl_1, sl_2, lc_0, lc_lt, lc_le, li_ne, va_rf, wr_m1, we_m1, pm_kill_w, Int32.reduceOfInt, Int64.reduceOfInt, Int32.reduceOfNat, Int32.reduceLT, Int32.reduceLE, Prod.mk.injEq, Nat.reduceEqDiff, reduceCtorEq, and_true, true_and, and_false, false_and, and_self, ite_true, ite_false, ↓reduceIte, not_true_eq_false, not_false_eq_true, pe_ri, pe_rz, pe_rc, Cp_g24_0 hP hA, Cp_g24_1 hP hA, Cp_p24_0 hP hA, Cp_p24_1 hP hA, eq_true k4, eq_false k5, eq_true k6]
            · rw [if_neg k6] at e
              have e := Option.some.inj e; subst e
              simp -implicitDefEqProofs (disch := first | assumption | exact Nat.le_of_ble_eq_true rfl | decide) only [b1473_0, g1473_1, b1473_1, g1473_3, b1473_3, g1473_5, b1473_5, g1473_7, b1473_7, g1473_8, b1473_8, pe_lload1, pe_lload3, pe_bipush, pe_lcmp, pe_if_ge, pe_lneg, pe_goto, pe_goto_w, pe_call2, pm_af_ret, pm_af_void, pm_af_thr, pe_lstore5, pe_aload0, pe_lload5, pe_ldiv, pe_putfield, pe_getfield, pe_if_gt, pe_if_lt, pe_sipush, pe_aloadN0, pe_aastoreN, pe_areturnN, pe_null, pm_prog_1, pm_ob_some, Nat.reduceDiv, Nat.reduceMod, Nat.reduceMul, Nat.reduceAdd, Int.reduceToNat, pm_kill_i, pm_kill_r, pm_kill_n, pm_kill_j, pm_kill_l, pm_kill_d, pm_cats_nil, pm_cats_i, pm_cats_r, pm_cats_n, pm_cats_l, pm_cats_d, sz_1, sz_2, sl_1, sl_2, lc_0, lc_lt, lc_le, li_ne, va_rf, wr_m1, we_m1, pm_kill_w, Int32.reduceOfInt, Int64.reduceOfInt, Int32.reduceOfNat, Int32.reduceLT, Int32.reduceLE, Prod.mk.injEq, Nat.reduceEqDiff, reduceCtorEq, and_true, true_and, and_false, false_and, and_self, ite_true, ite_false, ↓reduceIte, not_true_eq_false, not_false_eq_true, pe_ri, pe_rz, pe_rc, Cp_g24_0 hP hA, Cp_g24_1 hP hA, Cp_p24_0 hP hA, Cp_p24_1 hP hA, eq_true k4, eq_false k5, eq_false k6]
        · rw [if_neg k4] at e
          have e := Option.some.inj e; subst e
          simp -implicitDefEqProofs (disch := first | assumption | exact Nat.le_of_ble_eq_true rfl | decide) only [b1473_0, g1473_1, b1473_1, g1473_3, b1473_3, g1473_5, b1473_5, g1473_7, b1473_7, g1473_8, b1473_8, pe_lload1, pe_lload3, pe_bipush, pe_lcmp, pe_if_ge, pe_lneg, pe_goto, pe_goto_w, pe_call2, pm_af_ret, pm_af_void, pm_af_thr, pe_lstore5, pe_aload0, pe_lload5, pe_ldiv, pe_putfield, pe_getfield, pe_if_gt, pe_if_lt, pe_sipush, pe_aloadN0, pe_aastoreN, pe_areturnN, pe_null, pm_prog_1, pm_ob_some, Nat.reduceDiv, Nat.reduceMod, Nat.reduceMul, Nat.reduceAdd, Int.reduceToNat, pm_kill_i, pm_kill_r, pm_kill_n, pm_kill_j, pm_kill_l, pm_kill_d, pm_cats_nil, pm_cats_i, pm_cats_r, pm_cats_n, pm_cats_l, pm_cats_d, sz_1, sz_2, sl_1, sl_2, lc_0, lc_lt, lc_le, li_ne, va_rf, wr_m1, we_m1, pm_kill_w, Int32.reduceOfInt, Int64.reduceOfInt, Int32.reduceOfNat, Int32.reduceLT, Int32.reduceLE, Prod.mk.injEq, Nat.reduceEqDiff, reduceCtorEq, and_true, true_and, and_false, false_and, and_self, ite_true, ite_false, ↓reduceIte, not_true_eq_false, not_false_eq_true, pe_ri, pe_rz, pe_rc, Cp_g24_0 hP hA, Cp_g24_1 hP hA, Cp_p24_0 hP hA, Cp_p24_1 hP hA, eq_false k4]
      · rw [if_neg k3] at e; cases e
    · rw [if_neg k2] at e; cases e
  · rw [if_neg k1] at e; cases e
theorem y1473v4_4 {lc : Int32} {fq : Int32} {ll : Int32 → Int32} {A : wK → Nat} {h : pm_H} {D : Nat} {S : wS} {x0i : Int32} {x3 : Int64} {x5 : Int64} {y0i : Int32} {y1 : Int64} {r : Int32 × wS} (hP : Cp_P lc fq ll) (hA : wok A (Cp_d lc fq ll) h.1) (hD : 1 ≤ D) (e : f1473v4_4 lc fq ll S x0i x3 x5 y0i y1 = some r) : ∀ q1 q2 : Value, pm_go pm_prog (pm_call pm_prog D) 1473 4 [.ref (A (24, x0i, 0)), q1, q2, .long x3, pm_junk, .long x5, pm_junk] [.long y1, .ref (A (24, y0i, 0))] (wput A (Cp_d lc fq ll) S h) = some (match (generalizing := false) r with | (w0, S1) => (Outcome.returned (some (.int w0)), (wput A (Cp_d lc fq ll) S1 h))) := by
  intro q1 q2
  simp only [f1473v4_4] at e
  rw [g1473_4, b1473_4]
  by_cases k1 : 0 ≤ x0i ∧ x0i < 16
  · rw [if_pos k1] at e
    by_cases k2 : 0 ≤ y0i ∧ y0i < 16
    · rw [if_pos k2] at e
      by_cases k3 : ¬ x5 = 0
      · rw [if_pos k3] at e
        by_cases k4 : x3 < 0
        · rw [if_pos k4] at e
          have k5 := y1473v4_6 (h := h) hP hA hD e
          simp -implicitDefEqProofs (disch := first | assumption | exact Nat.le_of_ble_eq_true rfl | decide) only [b1473_0, g1473_1, b1473_1, g1473_3, b1473_3, g1473_5, b1473_5, g1473_7, b1473_7, g1473_8, b1473_8, pe_lload1, pe_lload3, pe_bipush, pe_lcmp, pe_if_ge, pe_lneg, pe_goto, pe_goto_w, pe_call2, pm_af_ret, pm_af_void, pm_af_thr, pe_lstore5, pe_aload0, pe_lload5, pe_ldiv, pe_putfield, pe_getfield, pe_if_gt, pe_if_lt, pe_sipush, pe_aloadN0, pe_aastoreN, pe_areturnN, pe_null, pm_prog_1, pm_ob_some, Nat.reduceDiv, Nat.reduceMod, Nat.reduceMul, Nat.reduceAdd, Int.reduceToNat, pm_kill_i, pm_kill_r, pm_kill_n, pm_kill_j, pm_kill_l, pm_kill_d, pm_cats_nil, pm_cats_i, pm_cats_r, pm_cats_n, pm_cats_l, pm_cats_d, sz_1, sz_2, sl_1, sl_2, lc_0, lc_lt, lc_le, li_ne, va_rf, wr_m1, we_m1, pm_kill_w, Int32.reduceOfInt, Int64.reduceOfInt, Int32.reduceOfNat, Int32.reduceLT, Int32.reduceLE, Prod.mk.injEq, Nat.reduceEqDiff, reduceCtorEq, and_true, true_and, and_false, false_and, and_self, ite_true, ite_false, ↓reduceIte, not_true_eq_false, not_false_eq_true, pe_ri, pe_rz, pe_rc, Cp_g24_0 hP hA, Cp_g24_1 hP hA, Cp_p24_0 hP hA, Cp_p24_1 hP hA, eq_true k4, k5]
        · rw [if_neg k4] at e
          have k6 := y1473v4_6 (h := h) hP hA hD e
          simp -implicitDefEqProofs (disch := first | assumption | exact Nat.le_of_ble_eq_true rfl | decide) only [b1473_0, g1473_1, b1473_1, g1473_3, b1473_3, g1473_5, b1473_5, g1473_7, b1473_7, g1473_8, b1473_8, pe_lload1, pe_lload3, pe_bipush, pe_lcmp, pe_if_ge, pe_lneg, pe_goto, pe_goto_w, pe_call2, pm_af_ret, pm_af_void, pm_af_thr, pe_lstore5, pe_aload0, pe_lload5, pe_ldiv, pe_putfield, pe_getfield, pe_if_gt, pe_if_lt, pe_sipush, pe_aloadN0, pe_aastoreN, pe_areturnN, pe_null, pm_prog_1, pm_ob_some, Nat.reduceDiv, Nat.reduceMod, Nat.reduceMul, Nat.reduceAdd, Int.reduceToNat, pm_kill_i, pm_kill_r, pm_kill_n, pm_kill_j, pm_kill_l, pm_kill_d, pm_cats_nil, pm_cats_i, pm_cats_r, pm_cats_n, pm_cats_l, pm_cats_d, sz_1, sz_2, sl_1, sl_2, lc_0, lc_lt, lc_le, li_ne, va_rf, wr_m1, we_m1, pm_kill_w, Int32.reduceOfInt, Int64.reduceOfInt, Int32.reduceOfNat, Int32.reduceLT, Int32.reduceLE, Prod.mk.injEq, Nat.reduceEqDiff, reduceCtorEq, and_true, true_and, and_false, false_and, and_self, ite_true, ite_false, ↓reduceIte, not_true_eq_false, not_false_eq_true, pe_ri, pe_rz, pe_rc, Cp_g24_0 hP hA, Cp_g24_1 hP hA, Cp_p24_0 hP hA, Cp_p24_1 hP hA, eq_false k4, k6]
      · rw [if_neg k3] at e; cases e
    · rw [if_neg k2] at e; cases e
  · rw [if_neg k1] at e; cases e
theorem y1473v4_2 {lc : Int32} {fq : Int32} {ll : Int32 → Int32} {A : wK → Nat} {h : pm_H} {D : Nat} {S : wS} {x0i : Int32} {x1 : Int64} {x3 : Int64} {y0 : Int64} {y1 : Int64} {r : Int32 × wS} (hP : Cp_P lc fq ll) (hA : wok A (Cp_d lc fq ll) h.1) (hD : 1 ≤ D) (e : f1473v4_2 lc fq ll S x0i x1 x3 y0 y1 = some r) : ∀ q5 q6 : Value, pm_go pm_prog (pm_call pm_prog D) 1473 2 [.ref (A (24, x0i, 0)), .long x1, pm_junk, .long x3, pm_junk, q5, q6] [.long y1, .long y0] (wput A (Cp_d lc fq ll) S h) = some (match (generalizing := false) r with | (w0, S1) => (Outcome.returned (some (.int w0)), (wput A (Cp_d lc fq ll) S1 h))) := by
  intro q5 q6
  simp only [f1473v4_2] at e
  rw [g1473_2, b1473_2]
  by_cases k1 : 0 ≤ x0i ∧ x0i < 16
  · rw [if_pos k1] at e
    obtain ⟨v1, k2, e⟩ := Option.bind_eq_some_iff.mp e
    try dsimp only at e
    have z2 := fun h => x1415 (D := D) (h := h) (by omega) k2
    by_cases k3 : x3 < 0
    · rw [if_pos k3] at e
      have k4 := y1473v4_4 (h := h) hP hA hD e
      simp -implicitDefEqProofs (disch := first | assumption | exact Nat.le_of_ble_eq_true rfl | decide) only [b1473_0, g1473_1, b1473_1, g1473_3, b1473_3, g1473_5, b1473_5, g1473_7, b1473_7, g1473_8, b1473_8, pe_lload1, pe_lload3, pe_bipush, pe_lcmp, pe_if_ge, pe_lneg, pe_goto, pe_goto_w, pe_call2, pm_af_ret, pm_af_void, pm_af_thr, pe_lstore5, pe_aload0, pe_lload5, pe_ldiv, pe_putfield, pe_getfield, pe_if_gt, pe_if_lt, pe_sipush, pe_aloadN0, pe_aastoreN, pe_areturnN, pe_null, pm_prog_1, pm_ob_some, Nat.reduceDiv, Nat.reduceMod, Nat.reduceMul, Nat.reduceAdd, Int.reduceToNat, pm_kill_i, pm_kill_r, pm_kill_n, pm_kill_j, pm_kill_l, pm_kill_d, pm_cats_nil, pm_cats_i, pm_cats_r, pm_cats_n, pm_cats_l, pm_cats_d, sz_1, sz_2, sl_1, sl_2, lc_0, lc_lt, lc_le, li_ne, va_rf, wr_m1, we_m1, pm_kill_w, Int32.reduceOfInt, Int64.reduceOfInt, Int32.reduceOfNat, Int32.reduceLT, Int32.reduceLE, Prod.mk.injEq, Nat.reduceEqDiff, reduceCtorEq, and_true, true_and, and_false, false_and, and_self, ite_true, ite_false, ↓reduceIte, not_true_eq_false, not_false_eq_true, pe_ri, pe_rz, pe_rc, Cp_g24_0 hP hA, Cp_g24_1 hP hA, Cp_p24_0 hP hA, Cp_p24_1 hP hA, z2, eq_true k3, k4]
    · rw [if_neg k3] at e
      have k5 := y1473v4_4 (h := h) hP hA hD e
      simp -implicitDefEqProofs (disch := first | assumption | exact Nat.le_of_ble_eq_true rfl | decide) only [b1473_0, g1473_1, b1473_1, g1473_3, b1473_3, g1473_5, b1473_5, g1473_7, b1473_7, g1473_8, b1473_8, pe_lload1, pe_lload3, pe_bipush, pe_lcmp, pe_if_ge, pe_lneg, pe_goto, pe_goto_w, pe_call2, pm_af_ret, pm_af_void, pm_af_thr, pe_lstore5, pe_aload0, pe_lload5, pe_ldiv, pe_putfield, pe_getfield, pe_if_gt, pe_if_lt, pe_sipush, pe_aloadN0, pe_aastoreN, pe_areturnN, pe_null, pm_prog_1, pm_ob_some, Nat.reduceDiv, Nat.reduceMod, Nat.reduceMul, Nat.reduceAdd, Int.reduceToNat, pm_kill_i, pm_kill_r, pm_kill_n, pm_kill_j, pm_kill_l, pm_kill_d, pm_cats_nil, pm_cats_i, pm_cats_r, pm_cats_n, pm_cats_l, pm_cats_d, sz_1, sz_2, sl_1, sl_2, lc_0, lc_lt, lc_le, li_ne, va_rf, wr_m1, we_m1, pm_kill_w, Int32.reduceOfInt, Int64.reduceOfInt, Int32.reduceOfNat, Int32.reduceLT, Int32.reduceLE, Prod.mk.injEq, Nat.reduceEqDiff, reduceCtorEq, and_true, true_and, and_false, false_and, and_self, ite_true, ite_false, ↓reduceIte, not_true_eq_false, not_false_eq_true, pe_ri, pe_rz, pe_rc, Cp_g24_0 hP hA, Cp_g24_1 hP hA, Cp_p24_0 hP hA, Cp_p24_1 hP hA, z2, eq_false k3, k5]
  · rw [if_neg k1] at e; cases e
theorem x1473v4 {lc : Int32} {fq : Int32} {ll : Int32 → Int32} {A : wK → Nat} {h : pm_H} {D : Nat} {S : wS} {x0i : Int32} {x1 : Int64} {x3 : Int64} {r : Int32 × wS} (hP : Cp_P lc fq ll) (hA : wok A (Cp_d lc fq ll) h.1) (hD : 2 ≤ D) (e : f1473v4 lc fq ll S x0i x1 x3 = some r) : pm_call pm_prog D 1473 [.ref (A (24, x0i, 0)), .long x1, .long x3] (wput A (Cp_d lc fq ll) S h) = some (match (generalizing := false) r with | (w0, S1) => (Outcome.returned (some (.int w0)), (wput A (Cp_d lc fq ll) S1 h))) := by
  obtain ⟨D, rfl⟩ : ∃ D', D = D' + 1 := ⟨D - 1, by omega⟩
  have hD : 1 ≤ D := by omega
  simp only [f1473v4] at e
  have k1 : 0 ≤ x0i ∧ x0i < 16 := by
    by_cases q : 0 ≤ x0i ∧ x0i < 16
    · exact q
    · rw [if_neg q] at e; cases e
  rw [if_pos k1] at e
  rw [c1473 (Cp_c24 hP hA k1), b1473_0]
  by_cases k2 : x3 < 0
  · rw [if_pos k2] at e
    have k3 := y1473v4_2 (h := h) hP hA hD e
    simp -implicitDefEqProofs (disch := first | assumption | exact Nat.le_of_ble_eq_true rfl | decide) only [b1473_0, g1473_1, b1473_1, g1473_3, b1473_3, g1473_5, b1473_5, g1473_7, b1473_7, g1473_8, b1473_8, pe_lload1, pe_lload3, pe_bipush, pe_lcmp, pe_if_ge, pe_lneg, pe_goto, pe_goto_w, pe_call2, pm_af_ret, pm_af_void, pm_af_thr, pe_lstore5, pe_aload0, pe_lload5, pe_ldiv, pe_putfield, pe_getfield, pe_if_gt, pe_if_lt, pe_sipush, pe_aloadN0, pe_aastoreN, pe_areturnN, pe_null, pm_prog_1, pm_ob_some, Nat.reduceDiv, Nat.reduceMod, Nat.reduceMul, Nat.reduceAdd, Int.reduceToNat, pm_kill_i, pm_kill_r, pm_kill_n, pm_kill_j, pm_kill_l, pm_kill_d, pm_cats_nil, pm_cats_i, pm_cats_r, pm_cats_n, pm_cats_l, pm_cats_d, sz_1, sz_2, sl_1, sl_2, lc_0, lc_lt, lc_le, li_ne, va_rf, wr_m1, we_m1, pm_kill_w, Int32.reduceOfInt, Int64.reduceOfInt, Int32.reduceOfNat, Int32.reduceLT, Int32.reduceLE, Prod.mk.injEq, Nat.reduceEqDiff, reduceCtorEq, and_true, true_and, and_false, false_and, and_self, ite_true, ite_false, ↓reduceIte, not_true_eq_false, not_false_eq_true, pe_ri, pe_rz, pe_rc, Cp_g24_0 hP hA, Cp_g24_1 hP hA, Cp_p24_0 hP hA, Cp_p24_1 hP hA, eq_true k2, k3]
  · rw [if_neg k2] at e
    have k4 := y1473v4_2 (h := h) hP hA hD e
    simp -implicitDefEqProofs (disch := first | assumption | exact Nat.le_of_ble_eq_true rfl | decide) only [b1473_0, g1473_1, b1473_1, g1473_3, b1473_3, g1473_5, b1473_5, g1473_7, b1473_7, g1473_8, b1473_8, pe_lload1, pe_lload3, pe_bipush, pe_lcmp, pe_if_ge, pe_lneg, pe_goto, pe_goto_w, pe_call2, pm_af_ret, pm_af_void, pm_af_thr, pe_lstore5, pe_aload0, pe_lload5, pe_ldiv, pe_putfield, pe_getfield, pe_if_gt, pe_if_lt, pe_sipush, pe_aloadN0, pe_aastoreN, pe_areturnN, pe_null, pm_prog_1, pm_ob_some, Nat.reduceDiv, Nat.reduceMod, Nat.reduceMul, Nat.reduceAdd, Int.reduceToNat, pm_kill_i, pm_kill_r, pm_kill_n, pm_kill_j, pm_kill_l, pm_kill_d, pm_cats_nil, pm_cats_i, pm_cats_r, pm_cats_n, pm_cats_l, pm_cats_d, sz_1, sz_2, sl_1, sl_2, lc_0, lc_lt, lc_le, li_ne, va_rf, wr_m1, we_m1, pm_kill_w, Int32.reduceOfInt, Int64.reduceOfInt, Int32.reduceOfNat, Int32.reduceLT, Int32.reduceLE, Prod.mk.injEq, Nat.reduceEqDiff, reduceCtorEq, and_true, true_and, and_false, false_and, and_self, ite_true, ite_false, ↓reduceIte, not_true_eq_false, not_false_eq_true, pe_ri, pe_rz, pe_rc, Cp_g24_0 hP hA, Cp_g24_1 hP hA, Cp_p24_0 hP hA, Cp_p24_1 hP hA, eq_false k2, k4]
/-- TimberHouse$PriceLines$Fraction.work(CLTimberHouse$PriceLines$Fraction;)Z -/
noncomputable def f1476v2 (lc : Int32) (fq : Int32) (ll : Int32 → Int32) (S : wS) (x0i : Int32) (x1 : Int32) : Option (Int32 × wS) :=
  if 0 ≤ x0i ∧ x0i < 16 then
    if x1 = 42 then
      (f1473v4 lc fq ll S x0i ((S.2 (24, x0i, 0) 0) * (S.2 (22, 0, 0) 0)) ((S.2 (24, x0i, 0) 1) * (S.2 (22, 0, 0) 1))).bind fun (v1, S2) =>
      if v1 = 0 ∨ v1 = 1 then
        some (v1, S2)
      else none
    else
      if x1 = 43 then
        (f1473v4 lc fq ll S x0i (((S.2 (24, x0i, 0) 0) * (S.2 (22, 0, 0) 1)) + ((S.2 (22, 0, 0) 0) * (S.2 (24, x0i, 0) 1))) ((S.2 (24, x0i, 0) 1) * (S.2 (22, 0, 0) 1))).bind fun (v3, S4) =>
        if v3 = 0 ∨ v3 = 1 then
          some (v3, S4)
        else none
      else
        if x1 = 45 then
          (f1473v4 lc fq ll S x0i (((S.2 (24, x0i, 0) 0) * (S.2 (22, 0, 0) 1)) - ((S.2 (22, 0, 0) 0) * (S.2 (24, x0i, 0) 1))) ((S.2 (24, x0i, 0) 1) * (S.2 (22, 0, 0) 1))).bind fun (v5, S6) =>
          if v5 = 0 ∨ v5 = 1 then
            some (v5, S6)
          else none
        else
          if x1 = 47 then
            (f1473v4 lc fq ll S x0i ((S.2 (24, x0i, 0) 0) * (S.2 (22, 0, 0) 1)) ((S.2 (24, x0i, 0) 1) * (S.2 (22, 0, 0) 0))).bind fun (v7, S8) =>
            if v7 = 0 ∨ v7 = 1 then
              some (v7, S8)
            else none
          else
            if x1 = 60 then
              if ((S.2 (24, x0i, 0) 0) * (S.2 (22, 0, 0) 1)) ≤ ((S.2 (22, 0, 0) 0) * (S.2 (24, x0i, 0) 1)) then
                some (1, S)
              else
                (f1473v4 lc fq ll S x0i (S.2 (22, 0, 0) 0) (S.2 (22, 0, 0) 1)).bind fun (v9, S10) =>
                if v9 = 0 then
                  some (0, S10)
                else
                  some (1, S10)
            else
              if ((S.2 (24, x0i, 0) 0) * (S.2 (22, 0, 0) 1)) < ((S.2 (22, 0, 0) 0) * (S.2 (24, x0i, 0) 1)) then
                (f1473v4 lc fq ll S x0i (S.2 (22, 0, 0) 0) (S.2 (22, 0, 0) 1)).bind fun (v11, S12) =>
                if v11 = 0 then
                  some (0, S12)
                else
                  some (1, S12)
              else
                some (1, S)
  else none
theorem sw1476v2_0 {x : Int32} : pm_lk 8 [(42, 3), (43, 1), (45, 2), (47, 4), (60, 5)] x = if x = 42 then 3 else if x = 43 then 1 else if x = 45 then 2 else if x = 47 then 4 else if x = 60 then 5 else 8 := by
  simp (disch := decide) only [pm_lk, sw_eq, Int32.reduceOfInt, Int.reduceToNat]
theorem x1476v2 {lc : Int32} {fq : Int32} {ll : Int32 → Int32} {A : wK → Nat} {h : pm_H} {D : Nat} {S : wS} {x0i : Int32} {x1 : Int32} {r : Int32 × wS} (hP : Cp_P lc fq ll) (hA : wok A (Cp_d lc fq ll) h.1) (hD : 3 ≤ D) (e : f1476v2 lc fq ll S x0i x1 = some r) : pm_call pm_prog D 1476 [.ref (A (24, x0i, 0)), .int x1, .ref (A (22, 0, 0))] (wput A (Cp_d lc fq ll) S h) = some (match (generalizing := false) r with | (w0, S1) => (Outcome.returned (some (.int w0)), (wput A (Cp_d lc fq ll) S1 h))) := by
  obtain ⟨D, rfl⟩ : ∃ D', D = D' + 1 := ⟨D - 1, by omega⟩
  have hD : 2 ≤ D := by omega
  simp only [f1476v2] at e
  have k1 : 0 ≤ x0i ∧ x0i < 16 := by
    by_cases q : 0 ≤ x0i ∧ x0i < 16
    · exact q
    · rw [if_neg q] at e; cases e
  rw [if_pos k1] at e
  rw [c1476 (Cp_c24 hP hA k1), b1476_0]
  by_cases k2 : x1 = 42
  · rw [if_pos k2] at e
    obtain ⟨⟨v1, S2⟩, k3, e⟩ := Option.bind_eq_some_iff.mp e
    try dsimp only at e
    have z3 := x1473v4 (D := D) (h := h) hP hA (by omega) k3
    dsimp only at z3
    by_cases k4 : v1 = 0 ∨ v1 = 1
    · rw [if_pos k4] at e
      have e := Option.some.inj e; subst e
      simp -implicitDefEqProofs (disch := first | assumption | exact Nat.le_of_ble_eq_true rfl | decide) only [b1476_0, g1476_1, b1476_1, g1476_2, b1476_2, g1476_3, b1476_3, g1476_4, b1476_4, g1476_5, b1476_5, g1476_6, b1476_6, g1476_7, b1476_7, g1476_8, b1476_8, g1476_9, b1476_9, g1476_10, b1476_10, g1476_11, b1476_11, pe_iload1, pe_lookupswitch, pe_aload0, pe_getfield, pe_aload2, pe_lmul, pe_ladd, pe_call3, pm_af_ret, pm_af_void, pm_af_thr, pe_goto, pe_lsub, pe_lcmp, pe_if_le, pe_if_eq, pe_goto_w, pe_sipush, pe_if_ge, pe_aloadN0, pe_aloadN2, pe_aastoreN, pe_areturnN, pe_null, pm_prog_1, pm_ob_some, Nat.reduceDiv, Nat.reduceMod, Nat.reduceMul, Nat.reduceAdd, Int.reduceToNat, pm_kill_i, pm_kill_r, pm_kill_n, pm_kill_j, pm_kill_l, pm_kill_d, pm_cats_nil, pm_cats_i, pm_cats_r, pm_cats_n, pm_cats_l, pm_cats_d, sz_1, sz_2, sl_1, sl_2, lc_0, lc_lt, lc_le, li_ne, va_rf, wr_m1, we_m1, pm_kill_w, Int32.reduceOfInt, Int64.reduceOfInt, Int32.reduceOfNat, Int32.reduceLT, Int32.reduceLE, Prod.mk.injEq, Nat.reduceEqDiff, reduceCtorEq, and_true, true_and, and_false, false_and, and_self, ite_true, ite_false, ↓reduceIte, not_true_eq_false, not_false_eq_true, pe_ri, pe_rz, pe_rc, sw1476v2_0, Cp_g22_0 hP hA, Cp_g22_1 hP hA, Cp_g24_0 hP hA, Cp_g24_1 hP hA, eq_true k2, z3]
    · rw [if_neg k4] at e; cases e
  · rw [if_neg k2] at e
    by_cases k5 : x1 = 43
    · rw [if_pos k5] at e
      obtain ⟨⟨v3, S4⟩, k6, e⟩ := Option.bind_eq_some_iff.mp e
      try dsimp only at e
      have z6 := x1473v4 (D := D) (h := h) hP hA (by omega) k6
      dsimp only at z6
      by_cases k7 : v3 = 0 ∨ v3 = 1
      · rw [if_pos k7] at e
        have e := Option.some.inj e; subst e
        simp -implicitDefEqProofs (disch := first | assumption | exact Nat.le_of_ble_eq_true rfl | decide) only [b1476_0, g1476_1, b1476_1, g1476_2, b1476_2, g1476_3, b1476_3, g1476_4, b1476_4, g1476_5, b1476_5, g1476_6, b1476_6, g1476_7, b1476_7, g1476_8, b1476_8, g1476_9, b1476_9, g1476_10, b1476_10, g1476_11, b1476_11, pe_iload1, pe_lookupswitch, pe_aload0, pe_getfield, pe_aload2, pe_lmul, pe_ladd, pe_call3, pm_af_ret, pm_af_void, pm_af_thr, pe_goto, pe_lsub, pe_lcmp, pe_if_le, pe_if_eq, pe_goto_w, pe_sipush, pe_if_ge, pe_aloadN0, pe_aloadN2, pe_aastoreN, pe_areturnN, pe_null, pm_prog_1, pm_ob_some, Nat.reduceDiv, Nat.reduceMod, Nat.reduceMul, Nat.reduceAdd, Int.reduceToNat, pm_kill_i, pm_kill_r, pm_kill_n, pm_kill_j, pm_kill_l, pm_kill_d, pm_cats_nil, pm_cats_i, pm_cats_r, pm_cats_n, pm_cats_l, pm_cats_d, sz_1, sz_2, sl_1, sl_2, lc_0, lc_lt, lc_le, li_ne, va_rf, wr_m1, we_m1, pm_kill_w, Int32.reduceOfInt, Int64.reduceOfInt, Int32.reduceOfNat, Int32.reduceLT, Int32.reduceLE, Prod.mk.injEq, Nat.reduceEqDiff, reduceCtorEq, and_true, true_and, and_false, false_and, and_self, ite_true, ite_false, ↓reduceIte, not_true_eq_false, not_false_eq_true, pe_ri, pe_rz, pe_rc, sw1476v2_0, Cp_g22_0 hP hA, Cp_g22_1 hP hA, Cp_g24_0 hP hA, Cp_g24_1 hP hA, eq_false k2, eq_true k5, z6]
      · rw [if_neg k7] at e; cases e
    · rw [if_neg k5] at e
      by_cases k8 : x1 = 45
      · rw [if_pos k8] at e
        obtain ⟨⟨v5, S6⟩, k9, e⟩ := Option.bind_eq_some_iff.mp e
        try dsimp only at e
        have z9 := x1473v4 (D := D) (h := h) hP hA (by omega) k9
        dsimp only at z9
        by_cases k10 : v5 = 0 ∨ v5 = 1
        · rw [if_pos k10] at e
          have e := Option.some.inj e; subst e
          simp -implicitDefEqProofs (disch := first | assumption | exact Nat.le_of_ble_eq_true rfl | decide) only [b1476_0, g1476_1, b1476_1, g1476_2, b1476_2, g1476_3, b1476_3, g1476_4, b1476_4, g1476_5, b1476_5, g1476_6, b1476_6, g1476_7, b1476_7, g1476_8, b1476_8, g1476_9, b1476_9, g1476_10, b1476_10, g1476_11, b1476_11, pe_iload1, pe_lookupswitch, pe_aload0, pe_getfield, pe_aload2, pe_lmul, pe_ladd, pe_call3, pm_af_ret, pm_af_void, pm_af_thr, pe_goto, pe_lsub, pe_lcmp, pe_if_le, pe_if_eq, pe_goto_w, pe_sipush, pe_if_ge, pe_aloadN0, pe_aloadN2, pe_aastoreN, pe_areturnN, pe_null, pm_prog_1, pm_ob_some, Nat.reduceDiv, Nat.reduceMod, Nat.reduceMul, Nat.reduceAdd, Int.reduceToNat, pm_kill_i, pm_kill_r, pm_kill_n, pm_kill_j, pm_kill_l, pm_kill_d, pm_cats_nil, pm_cats_i, pm_cats_r, pm_cats_n, pm_cats_l, pm_cats_d, sz_1, sz_2, sl_1, sl_2, lc_0, lc_lt, lc_le, li_ne, va_rf, wr_m1, we_m1, pm_kill_w, Int32.reduceOfInt, Int64.reduceOfInt, Int32.reduceOfNat, Int32.reduceLT, Int32.reduceLE, Prod.mk.injEq, Nat.reduceEqDiff, reduceCtorEq, and_true, true_and, and_false, false_and, and_self, ite_true, ite_false, ↓reduceIte, not_true_eq_false, not_false_eq_true, pe_ri, pe_rz, pe_rc, sw1476v2_0, Cp_g22_0 hP hA, Cp_g22_1 hP hA, Cp_g24_0 hP hA, Cp_g24_1 hP hA, eq_false k2, eq_false k5, eq_true k8, z9]
        · rw [if_neg k10] at e; cases e
      · rw [if_neg k8] at e
        by_cases k11 : x1 = 47
        · rw [if_pos k11] at e
          obtain ⟨⟨v7, S8⟩, k12, e⟩ := Option.bind_eq_some_iff.mp e
          try dsimp only at e
          have z12 := x1473v4 (D := D) (h := h) hP hA (by omega) k12
          dsimp only at z12
          by_cases k13 : v7 = 0 ∨ v7 = 1
          · rw [if_pos k13] at e
            have e := Option.some.inj e; subst e
            simp -implicitDefEqProofs (disch := first | assumption | exact Nat.le_of_ble_eq_true rfl | decide) only [b1476_0, g1476_1, b1476_1, g1476_2, b1476_2, g1476_3, b1476_3, g1476_4, b1476_4, g1476_5, b1476_5, g1476_6, b1476_6, g1476_7, b1476_7, g1476_8, b1476_8, g1476_9, b1476_9, g1476_10, b1476_10, g1476_11, b1476_11, pe_iload1, pe_lookupswitch, pe_aload0, pe_getfield, pe_aload2, pe_lmul, pe_ladd, pe_call3, pm_af_ret, pm_af_void, pm_af_thr, pe_goto, pe_lsub, pe_lcmp, pe_if_le, pe_if_eq, pe_goto_w, pe_sipush, pe_if_ge, pe_aloadN0, pe_aloadN2, pe_aastoreN, pe_areturnN, pe_null, pm_prog_1, pm_ob_some, Nat.reduceDiv, Nat.reduceMod, Nat.reduceMul, Nat.reduceAdd, Int.reduceToNat, pm_kill_i, pm_kill_r, pm_kill_n, pm_kill_j, pm_kill_l, pm_kill_d, pm_cats_nil, pm_cats_i, pm_cats_r, pm_cats_n, pm_cats_l, pm_cats_d, sz_1, sz_2, sl_1, sl_2, lc_0, lc_lt, lc_le, li_ne, va_rf, wr_m1, we_m1, pm_kill_w, Int32.reduceOfInt, Int64.reduceOfInt, Int32.reduceOfNat, Int32.reduceLT, Int32.reduceLE, Prod.mk.injEq, Nat.reduceEqDiff, reduceCtorEq, and_true, true_and, and_false, false_and, and_self, ite_true, ite_false, ↓reduceIte, not_true_eq_false, not_false_eq_true, pe_ri, pe_rz, pe_rc, sw1476v2_0, Cp_g22_0 hP hA, Cp_g22_1 hP hA, Cp_g24_0 hP hA, Cp_g24_1 hP hA, eq_false k2, eq_false k5, eq_false k8, eq_true k11, z12]
          · rw [if_neg k13] at e; cases e
        · rw [if_neg k11] at e
          by_cases k14 : x1 = 60
          · rw [if_pos k14] at e
            by_cases k15 : ((S.2 (24, x0i, 0) 0) * (S.2 (22, 0, 0) 1)) ≤ ((S.2 (22, 0, 0) 0) * (S.2 (24, x0i, 0) 1))
            · rw [if_pos k15] at e
              have e := Option.some.inj e; subst e
              simp -implicitDefEqProofs (disch := first | assumption | exact Nat.le_of_ble_eq_true rfl | decide) only [b1476_0, g1476_1, b1476_1, g1476_2, b1476_2, g1476_3, b1476_3, g1476_4, b1476_4, g1476_5, b1476_5, g1476_6, b1476_6, g1476_7, b1476_7, g1476_8, b1476_8, g1476_9, b1476_9, g1476_10, b1476_10, g1476_11, b1476_11, pe_iload1, pe_lookupswitch, pe_aload0, pe_getfield, pe_aload2, pe_lmul, pe_ladd, pe_call3, pm_af_ret, pm_af_void, pm_af_thr, pe_goto, pe_lsub, pe_lcmp, pe_if_le, pe_if_eq, pe_goto_w, pe_sipush, pe_if_ge, pe_aloadN0, pe_aloadN2, pe_aastoreN, pe_areturnN, pe_null, pm_prog_1, pm_ob_some, Nat.reduceDiv, Nat.reduceMod, Nat.reduceMul, Nat.reduceAdd, Int.reduceToNat, pm_kill_i, pm_kill_r, pm_kill_n, pm_kill_j, pm_kill_l, pm_kill_d, pm_cats_nil, pm_cats_i, pm_cats_r, pm_cats_n, pm_cats_l, pm_cats_d, sz_1, sz_2, sl_1, sl_2, lc_0, lc_lt, lc_le, li_ne, va_rf, wr_m1, we_m1, pm_kill_w, Int32.reduceOfInt, Int64.reduceOfInt, Int32.reduceOfNat, Int32.reduceLT, Int32.reduceLE, Prod.mk.injEq, Nat.reduceEqDiff, reduceCtorEq, and_true, true_and, and_false, false_and, and_self, ite_true, ite_false, ↓reduceIte, not_true_eq_false, not_false_eq_true, pe_ri, pe_rz, pe_rc, sw1476v2_0, Cp_g22_0 hP hA, Cp_g22_1 hP hA, Cp_g24_0 hP hA, Cp_g24_1 hP hA, eq_false k2, eq_false k5, eq_false k8, eq_false k11, eq_true k14, eq_true k15]
            · rw [if_neg k15] at e
              obtain ⟨⟨v9, S10⟩, k16, e⟩ := Option.bind_eq_some_iff.mp e
              try dsimp only at e
              have z16 := x1473v4 (D := D) (h := h) hP hA (by omega) k16
              dsimp only at z16
              by_cases k17 : v9 = 0
              · rw [if_pos k17] at e
                have e := Option.some.inj e; subst e
                simp -implicitDefEqProofs (disch := first | assumption | exact Nat.le_of_ble_eq_true rfl | decide) only [b1476_0, g1476_1, b1476_1, g1476_2, b1476_2, g1476_3, b1476_3, g1476_4, b1476_4, g1476_5, b1476_5, g1476_6, b1476_6, g1476_7, b1476_7, g1476_8, b1476_8, g1476_9, b1476_9, g1476_10, b1476_10, g1476_11, b1476_11, pe_iload1, pe_lookupswitch, pe_aload0, pe_getfield, pe_aload2, pe_lmul, pe_ladd, pe_call3, pm_af_ret, pm_af_void, pm_af_thr, pe_goto, pe_lsub, pe_lcmp, pe_if_le, pe_if_eq, pe_goto_w, pe_sipush, pe_if_ge, pe_aloadN0, pe_aloadN2, pe_aastoreN, pe_areturnN, pe_null, pm_prog_1, pm_ob_some, Nat.reduceDiv, Nat.reduceMod, Nat.reduceMul, Nat.reduceAdd, Int.reduceToNat, pm_kill_i, pm_kill_r, pm_kill_n, pm_kill_j, pm_kill_l, pm_kill_d, pm_cats_nil, pm_cats_i, pm_cats_r, pm_cats_n, pm_cats_l, pm_cats_d, sz_1, sz_2, sl_1, sl_2, lc_0, lc_lt, lc_le, li_ne, va_rf, wr_m1, we_m1, pm_kill_w, Int32.reduceOfInt, Int64.reduceOfInt, Int32.reduceOfNat, Int32.reduceLT, Int32.reduceLE, Prod.mk.injEq, Nat.reduceEqDiff, reduceCtorEq, and_true, true_and, and_false, false_and, and_self, ite_true, ite_false, ↓reduceIte, not_true_eq_false, not_false_eq_true, pe_ri, pe_rz, pe_rc, sw1476v2_0, Cp_g22_0 hP hA, Cp_g22_1 hP hA, Cp_g24_0 hP hA, Cp_g24_1 hP hA, eq_false k2, eq_false k5, eq_false k8, eq_false k11, eq_true k14, eq_false k15, z16, eq_true k17]
              · rw [if_neg k17] at e
                have e := Option.some.inj e; subst e
                simp -implicitDefEqProofs (disch := first | assumption | exact Nat.le_of_ble_eq_true rfl | decide) only [b1476_0, g1476_1, b1476_1, g1476_2, b1476_2, g1476_3, b1476_3, g1476_4, b1476_4, g1476_5, b1476_5, g1476_6, b1476_6, g1476_7, b1476_7, g1476_8, b1476_8, g1476_9, b1476_9, g1476_10, b1476_10, g1476_11, b1476_11, pe_iload1, pe_lookupswitch, pe_aload0, pe_getfield, pe_aload2, pe_lmul, pe_ladd, pe_call3, pm_af_ret, pm_af_void, pm_af_thr, pe_goto, pe_lsub, pe_lcmp, pe_if_le, pe_if_eq, pe_goto_w, pe_sipush, pe_if_ge, pe_aloadN0, pe_aloadN2, pe_aastoreN, pe_areturnN, pe_null, pm_prog_1, pm_ob_some, Nat.reduceDiv, Nat.reduceMod, Nat.reduceMul, Nat.reduceAdd, Int.reduceToNat, pm_kill_i, pm_kill_r, pm_kill_n, pm_kill_j, pm_kill_l, pm_kill_d, pm_cats_nil, pm_cats_i, pm_cats_r, pm_cats_n, pm_cats_l, pm_cats_d, sz_1, sz_2, sl_1, sl_2, lc_0, lc_lt, lc_le, li_ne, va_rf, wr_m1, we_m1, pm_kill_w, Int32.reduceOfInt, Int64.reduceOfInt, Int32.reduceOfNat, Int32.reduceLT, Int32.reduceLE, Prod.mk.injEq, Nat.reduceEqDiff, reduceCtorEq, and_true, true_and, and_false, false_and, and_self, ite_true, ite_false, ↓reduceIte, not_true_eq_false, not_false_eq_true, pe_ri, pe_rz, pe_rc, sw1476v2_0, Cp_g22_0 hP hA, Cp_g22_1 hP hA, Cp_g24_0 hP hA, Cp_g24_1 hP hA, eq_false k2, eq_false k5, eq_false k8, eq_false k11, eq_true k14, eq_false k15, z16, eq_false k17]
          · rw [if_neg k14] at e
            by_cases k18 : ((S.2 (24, x0i, 0) 0) * (S.2 (22, 0, 0) 1)) < ((S.2 (22, 0, 0) 0) * (S.2 (24, x0i, 0) 1))
            · rw [if_pos k18] at e
              obtain ⟨⟨v11, S12⟩, k19, e⟩ := Option.bind_eq_some_iff.mp e
              try dsimp only at e
              have z19 := x1473v4 (D := D) (h := h) hP hA (by omega) k19
              dsimp only at z19
              by_cases k20 : v11 = 0
              · rw [if_pos k20] at e
                have e := Option.some.inj e; subst e
                simp -implicitDefEqProofs (disch := first | assumption | exact Nat.le_of_ble_eq_true rfl | decide) only [b1476_0, g1476_1, b1476_1, g1476_2, b1476_2, g1476_3, b1476_3, g1476_4, b1476_4, g1476_5, b1476_5, g1476_6, b1476_6, g1476_7, b1476_7, g1476_8, b1476_8, g1476_9, b1476_9, g1476_10, b1476_10, g1476_11, b1476_11, pe_iload1, pe_lookupswitch, pe_aload0, pe_getfield, pe_aload2, pe_lmul, pe_ladd, pe_call3, pm_af_ret, pm_af_void, pm_af_thr, pe_goto, pe_lsub, pe_lcmp, pe_if_le, pe_if_eq, pe_goto_w, pe_sipush, pe_if_ge, pe_aloadN0, pe_aloadN2, pe_aastoreN, pe_areturnN, pe_null, pm_prog_1, pm_ob_some, Nat.reduceDiv, Nat.reduceMod, Nat.reduceMul, Nat.reduceAdd, Int.reduceToNat, pm_kill_i, pm_kill_r, pm_kill_n, pm_kill_j, pm_kill_l, pm_kill_d, pm_cats_nil, pm_cats_i, pm_cats_r, pm_cats_n, pm_cats_l, pm_cats_d, sz_1, sz_2, sl_1, sl_2, lc_0, lc_lt, lc_le, li_ne, va_rf, wr_m1, we_m1, pm_kill_w, Int32.reduceOfInt, Int64.reduceOfInt, Int32.reduceOfNat, Int32.reduceLT, Int32.reduceLE, Prod.mk.injEq, Nat.reduceEqDiff, reduceCtorEq, and_true, true_and, and_false, false_and, and_self, ite_true, ite_false, ↓reduceIte, not_true_eq_false, not_false_eq_true, pe_ri, pe_rz, pe_rc, sw1476v2_0, Cp_g22_0 hP hA, Cp_g22_1 hP hA, Cp_g24_0 hP hA, Cp_g24_1 hP hA, eq_false k2, eq_false k5, eq_false k8, eq_false k11, eq_false k14, eq_true k18, z19, eq_true k20]
              · rw [if_neg k20] at e
                have e := Option.some.inj e; subst e
                simp -implicitDefEqProofs (disch := first | assumption | exact Nat.le_of_ble_eq_true rfl | decide) only [b1476_0, g1476_1, b1476_1, g1476_2, b1476_2, g1476_3, b1476_3, g1476_4, b1476_4, g1476_5, b1476_5, g1476_6, b1476_6, g1476_7, b1476_7, g1476_8, b1476_8, g1476_9, b1476_9, g1476_10, b1476_10, g1476_11, b1476_11, pe_iload1, pe_lookupswitch, pe_aload0, pe_getfield, pe_aload2, pe_lmul, pe_ladd, pe_call3, pm_af_ret, pm_af_void, pm_af_thr, pe_goto, pe_lsub, pe_lcmp, pe_if_le, pe_if_eq, pe_goto_w, pe_sipush, pe_if_ge, pe_aloadN0, pe_aloadN2, pe_aastoreN, pe_areturnN, pe_null, pm_prog_1, pm_ob_some, Nat.reduceDiv, Nat.reduceMod, Nat.reduceMul, Nat.reduceAdd, Int.reduceToNat, pm_kill_i, pm_kill_r, pm_kill_n, pm_kill_j, pm_kill_l, pm_kill_d, pm_cats_nil, pm_cats_i, pm_cats_r, pm_cats_n, pm_cats_l, pm_cats_d, sz_1, sz_2, sl_1, sl_2, lc_0, lc_lt, lc_le, li_ne, va_rf, wr_m1, we_m1, pm_kill_w, Int32.reduceOfInt, Int64.reduceOfInt, Int32.reduceOfNat, Int32.reduceLT, Int32.reduceLE, Prod.mk.injEq, Nat.reduceEqDiff, reduceCtorEq, and_true, true_and, and_false, false_and, and_self, ite_true, ite_false, ↓reduceIte, not_true_eq_false, not_false_eq_true, pe_ri, pe_rz, pe_rc, sw1476v2_0, Cp_g22_0 hP hA, Cp_g22_1 hP hA, Cp_g24_0 hP hA, Cp_g24_1 hP hA, eq_false k2, eq_false k5, eq_false k8, eq_false k11, eq_false k14, eq_true k18, z19, eq_false k20]
            · rw [if_neg k18] at e
              have e := Option.some.inj e; subst e
              simp -implicitDefEqProofs (disch := first | assumption | exact Nat.le_of_ble_eq_true rfl | decide) only [b1476_0, g1476_1, b1476_1, g1476_2, b1476_2, g1476_3, b1476_3, g1476_4, b1476_4, g1476_5, b1476_5, g1476_6, b1476_6, g1476_7, b1476_7, g1476_8, b1476_8, g1476_9, b1476_9, g1476_10, b1476_10, g1476_11, b1476_11, pe_iload1, pe_lookupswitch, pe_aload0, pe_getfield, pe_aload2, pe_lmul, pe_ladd, pe_call3, pm_af_ret, pm_af_void, pm_af_thr, pe_goto, pe_lsub, pe_lcmp, pe_if_le, pe_if_eq, pe_goto_w, pe_sipush, pe_if_ge, pe_aloadN0, pe_aloadN2, pe_aastoreN, pe_areturnN, pe_null, pm_prog_1, pm_ob_some, Nat.reduceDiv, Nat.reduceMod, Nat.reduceMul, Nat.reduceAdd, Int.reduceToNat, pm_kill_i, pm_kill_r, pm_kill_n, pm_kill_j, pm_kill_l, pm_kill_d, pm_cats_nil, pm_cats_i, pm_cats_r, pm_cats_n, pm_cats_l, pm_cats_d, sz_1, sz_2, sl_1, sl_2, lc_0, lc_lt, lc_le, li_ne, va_rf, wr_m1, we_m1, pm_kill_w, Int32.reduceOfInt, Int64.reduceOfInt, Int32.reduceOfNat, Int32.reduceLT, Int32.reduceLE, Prod.mk.injEq, Nat.reduceEqDiff, reduceCtorEq, and_true, true_and, and_false, false_and, and_self, ite_true, ite_false, ↓reduceIte, not_true_eq_false, not_false_eq_true, pe_ri, pe_rz, pe_rc, sw1476v2_0, Cp_g22_0 hP hA, Cp_g22_1 hP hA, Cp_g24_0 hP hA, Cp_g24_1 hP hA, eq_false k2, eq_false k5, eq_false k8, eq_false k11, eq_false k14, eq_false k18]
/-- TimberHouse$PriceLines$Fraction.work(CLTimberHouse$PriceLines$Fraction;)Z -/
noncomputable def f1476v3 (lc : Int32) (fq : Int32) (ll : Int32 → Int32) (S : wS) (x1 : Int32) : Option (Int32 × wS) :=
  if x1 = 42 then
    (f1473v2 lc fq ll S ((S.2 (22, 0, 0) 0) * (S.2 (21, 0, 0) 0)) ((S.2 (22, 0, 0) 1) * (S.2 (21, 0, 0) 1))).bind fun (v1, S2) =>
    if v1 = 0 ∨ v1 = 1 then
      some (v1, S2)
    else none
  else
    if x1 = 43 then
      (f1473v2 lc fq ll S (((S.2 (22, 0, 0) 0) * (S.2 (21, 0, 0) 1)) + ((S.2 (21, 0, 0) 0) * (S.2 (22, 0, 0) 1))) ((S.2 (22, 0, 0) 1) * (S.2 (21, 0, 0) 1))).bind fun (v3, S4) =>
      if v3 = 0 ∨ v3 = 1 then
        some (v3, S4)
      else none
    else
      if x1 = 45 then
        (f1473v2 lc fq ll S (((S.2 (22, 0, 0) 0) * (S.2 (21, 0, 0) 1)) - ((S.2 (21, 0, 0) 0) * (S.2 (22, 0, 0) 1))) ((S.2 (22, 0, 0) 1) * (S.2 (21, 0, 0) 1))).bind fun (v5, S6) =>
        if v5 = 0 ∨ v5 = 1 then
          some (v5, S6)
        else none
      else
        if x1 = 47 then
          (f1473v2 lc fq ll S ((S.2 (22, 0, 0) 0) * (S.2 (21, 0, 0) 1)) ((S.2 (22, 0, 0) 1) * (S.2 (21, 0, 0) 0))).bind fun (v7, S8) =>
          if v7 = 0 ∨ v7 = 1 then
            some (v7, S8)
          else none
        else
          if x1 = 60 then
            if ((S.2 (22, 0, 0) 0) * (S.2 (21, 0, 0) 1)) ≤ ((S.2 (21, 0, 0) 0) * (S.2 (22, 0, 0) 1)) then
              some (1, S)
            else
              (f1473v2 lc fq ll S (S.2 (21, 0, 0) 0) (S.2 (21, 0, 0) 1)).bind fun (v9, S10) =>
              if v9 = 0 then
                some (0, S10)
              else
                some (1, S10)
          else
            if ((S.2 (22, 0, 0) 0) * (S.2 (21, 0, 0) 1)) < ((S.2 (21, 0, 0) 0) * (S.2 (22, 0, 0) 1)) then
              (f1473v2 lc fq ll S (S.2 (21, 0, 0) 0) (S.2 (21, 0, 0) 1)).bind fun (v11, S12) =>
              if v11 = 0 then
                some (0, S12)
              else
                some (1, S12)
            else
              some (1, S)
theorem sw1476v3_0 {x : Int32} : pm_lk 8 [(42, 3), (43, 1), (45, 2), (47, 4), (60, 5)] x = if x = 42 then 3 else if x = 43 then 1 else if x = 45 then 2 else if x = 47 then 4 else if x = 60 then 5 else 8 := by
  simp (disch := decide) only [pm_lk, sw_eq, Int32.reduceOfInt, Int.reduceToNat]
theorem x1476v3 {lc : Int32} {fq : Int32} {ll : Int32 → Int32} {A : wK → Nat} {h : pm_H} {D : Nat} {S : wS} {x1 : Int32} {r : Int32 × wS} (hP : Cp_P lc fq ll) (hA : wok A (Cp_d lc fq ll) h.1) (hD : 3 ≤ D) (e : f1476v3 lc fq ll S x1 = some r) : pm_call pm_prog D 1476 [.ref (A (22, 0, 0)), .int x1, .ref (A (21, 0, 0))] (wput A (Cp_d lc fq ll) S h) = some (match (generalizing := false) r with | (w0, S1) => (Outcome.returned (some (.int w0)), (wput A (Cp_d lc fq ll) S1 h))) := by
  obtain ⟨D, rfl⟩ : ∃ D', D = D' + 1 := ⟨D - 1, by omega⟩
  have hD : 2 ≤ D := by omega
  simp only [f1476v3] at e
  rw [c1476 (Cp_c22 hP hA), b1476_0]
  by_cases k1 : x1 = 42
  · rw [if_pos k1] at e
    obtain ⟨⟨v1, S2⟩, k2, e⟩ := Option.bind_eq_some_iff.mp e
    try dsimp only at e
    have z2 := x1473v2 (D := D) (h := h) hP hA (by omega) k2
    dsimp only at z2
    by_cases k3 : v1 = 0 ∨ v1 = 1
    · rw [if_pos k3] at e
      have e := Option.some.inj e; subst e
      simp -implicitDefEqProofs (disch := first | assumption | exact Nat.le_of_ble_eq_true rfl | decide) only [b1476_0, g1476_1, b1476_1, g1476_2, b1476_2, g1476_3, b1476_3, g1476_4, b1476_4, g1476_5, b1476_5, g1476_6, b1476_6, g1476_7, b1476_7, g1476_8, b1476_8, g1476_9, b1476_9, g1476_10, b1476_10, g1476_11, b1476_11, pe_iload1, pe_lookupswitch, pe_aload0, pe_getfield, pe_aload2, pe_lmul, pe_ladd, pe_call3, pm_af_ret, pm_af_void, pm_af_thr, pe_goto, pe_lsub, pe_lcmp, pe_if_le, pe_if_eq, pe_goto_w, pe_sipush, pe_if_ge, pe_aloadN0, pe_aloadN2, pe_aastoreN, pe_areturnN, pe_null, pm_prog_1, pm_ob_some, Nat.reduceDiv, Nat.reduceMod, Nat.reduceMul, Nat.reduceAdd, Int.reduceToNat, pm_kill_i, pm_kill_r, pm_kill_n, pm_kill_j, pm_kill_l, pm_kill_d, pm_cats_nil, pm_cats_i, pm_cats_r, pm_cats_n, pm_cats_l, pm_cats_d, sz_1, sz_2, sl_1, sl_2, lc_0, lc_lt, lc_le, li_ne, va_rf, wr_m1, we_m1, pm_kill_w, Int32.reduceOfInt, Int64.reduceOfInt, Int32.reduceOfNat, Int32.reduceLT, Int32.reduceLE, Prod.mk.injEq, Nat.reduceEqDiff, reduceCtorEq, and_true, true_and, and_false, false_and, and_self, ite_true, ite_false, ↓reduceIte, not_true_eq_false, not_false_eq_true, pe_ri, pe_rz, pe_rc, sw1476v3_0, Cp_g21_0 hP hA, Cp_g21_1 hP hA, Cp_g22_0 hP hA, Cp_g22_1 hP hA, eq_true k1, z2]
    · rw [if_neg k3] at e; cases e
  · rw [if_neg k1] at e
    by_cases k4 : x1 = 43
    · rw [if_pos k4] at e
      obtain ⟨⟨v3, S4⟩, k5, e⟩ := Option.bind_eq_some_iff.mp e
      try dsimp only at e
      have z5 := x1473v2 (D := D) (h := h) hP hA (by omega) k5
      dsimp only at z5
      by_cases k6 : v3 = 0 ∨ v3 = 1
      · rw [if_pos k6] at e
        have e := Option.some.inj e; subst e
        simp -implicitDefEqProofs (disch := first | assumption | exact Nat.le_of_ble_eq_true rfl | decide) only [b1476_0, g1476_1, b1476_1, g1476_2, b1476_2, g1476_3, b1476_3, g1476_4, b1476_4, g1476_5, b1476_5, g1476_6, b1476_6, g1476_7, b1476_7, g1476_8, b1476_8, g1476_9, b1476_9, g1476_10, b1476_10, g1476_11, b1476_11, pe_iload1, pe_lookupswitch, pe_aload0, pe_getfield, pe_aload2, pe_lmul, pe_ladd, pe_call3, pm_af_ret, pm_af_void, pm_af_thr, pe_goto, pe_lsub, pe_lcmp, pe_if_le, pe_if_eq, pe_goto_w, pe_sipush, pe_if_ge, pe_aloadN0, pe_aloadN2, pe_aastoreN, pe_areturnN, pe_null, pm_prog_1, pm_ob_some, Nat.reduceDiv, Nat.reduceMod, Nat.reduceMul, Nat.reduceAdd, Int.reduceToNat, pm_kill_i, pm_kill_r, pm_kill_n, pm_kill_j, pm_kill_l, pm_kill_d, pm_cats_nil, pm_cats_i, pm_cats_r, pm_cats_n, pm_cats_l, pm_cats_d, sz_1, sz_2, sl_1, sl_2, lc_0, lc_lt, lc_le, li_ne, va_rf, wr_m1, we_m1, pm_kill_w, Int32.reduceOfInt, Int64.reduceOfInt, Int32.reduceOfNat, Int32.reduceLT, Int32.reduceLE, Prod.mk.injEq, Nat.reduceEqDiff, reduceCtorEq, and_true, true_and, and_false, false_and, and_self, ite_true, ite_false, ↓reduceIte, not_true_eq_false, not_false_eq_true, pe_ri, pe_rz, pe_rc, sw1476v3_0, Cp_g21_0 hP hA, Cp_g21_1 hP hA, Cp_g22_0 hP hA, Cp_g22_1 hP hA, eq_false k1, eq_true k4, z5]
      · rw [if_neg k6] at e; cases e
    · rw [if_neg k4] at e
      by_cases k7 : x1 = 45
      · rw [if_pos k7] at e
        obtain ⟨⟨v5, S6⟩, k8, e⟩ := Option.bind_eq_some_iff.mp e
        try dsimp only at e
        have z8 := x1473v2 (D := D) (h := h) hP hA (by omega) k8
        dsimp only at z8
        by_cases k9 : v5 = 0 ∨ v5 = 1
        · rw [if_pos k9] at e
          have e := Option.some.inj e; subst e
          simp -implicitDefEqProofs (disch := first | assumption | exact Nat.le_of_ble_eq_true rfl | decide) only [b1476_0, g1476_1, b1476_1, g1476_2, b1476_2, g1476_3, b1476_3, g1476_4, b1476_4, g1476_5, b1476_5, g1476_6, b1476_6, g1476_7, b1476_7, g1476_8, b1476_8, g1476_9, b1476_9, g1476_10, b1476_10, g1476_11, b1476_11, pe_iload1, pe_lookupswitch, pe_aload0, pe_getfield, pe_aload2, pe_lmul, pe_ladd, pe_call3, pm_af_ret, pm_af_void, pm_af_thr, pe_goto, pe_lsub, pe_lcmp, pe_if_le, pe_if_eq, pe_goto_w, pe_sipush, pe_if_ge, pe_aloadN0, pe_aloadN2, pe_aastoreN, pe_areturnN, pe_null, pm_prog_1, pm_ob_some, Nat.reduceDiv, Nat.reduceMod, Nat.reduceMul, Nat.reduceAdd, Int.reduceToNat, pm_kill_i, pm_kill_r, pm_kill_n, pm_kill_j, pm_kill_l, pm_kill_d, pm_cats_nil, pm_cats_i, pm_cats_r, pm_cats_n, pm_cats_l, pm_cats_d, sz_1, sz_2, sl_1, sl_2, lc_0, lc_lt, lc_le, li_ne, va_rf, wr_m1, we_m1, pm_kill_w, Int32.reduceOfInt, Int64.reduceOfInt, Int32.reduceOfNat, Int32.reduceLT, Int32.reduceLE, Prod.mk.injEq, Nat.reduceEqDiff, reduceCtorEq, and_true, true_and, and_false, false_and, and_self, ite_true, ite_false, ↓reduceIte, not_true_eq_false, not_false_eq_true, pe_ri, pe_rz, pe_rc, sw1476v3_0, Cp_g21_0 hP hA, Cp_g21_1 hP hA, Cp_g22_0 hP hA, Cp_g22_1 hP hA, eq_false k1, eq_false k4, eq_true k7, z8]
        · rw [if_neg k9] at e; cases e
      · rw [if_neg k7] at e
        by_cases k10 : x1 = 47
        · rw [if_pos k10] at e
          obtain ⟨⟨v7, S8⟩, k11, e⟩ := Option.bind_eq_some_iff.mp e
          try dsimp only at e
          have z11 := x1473v2 (D := D) (h := h) hP hA (by omega) k11
          dsimp only at z11
          by_cases k12 : v7 = 0 ∨ v7 = 1
          · rw [if_pos k12] at e
            have e := Option.some.inj e; subst e
            simp -implicitDefEqProofs (disch := first | assumption | exact Nat.le_of_ble_eq_true rfl | decide) only [b1476_0, g1476_1, b1476_1, g1476_2, b1476_2, g1476_3, b1476_3, g1476_4, b1476_4, g1476_5, b1476_5, g1476_6, b1476_6, g1476_7, b1476_7, g1476_8, b1476_8, g1476_9, b1476_9, g1476_10, b1476_10, g1476_11, b1476_11, pe_iload1, pe_lookupswitch, pe_aload0, pe_getfield, pe_aload2, pe_lmul, pe_ladd, pe_call3, pm_af_ret, pm_af_void, pm_af_thr, pe_goto, pe_lsub, pe_lcmp, pe_if_le, pe_if_eq, pe_goto_w, pe_sipush, pe_if_ge, pe_aloadN0, pe_aloadN2, pe_aastoreN, pe_areturnN, pe_null, pm_prog_1, pm_ob_some, Nat.reduceDiv, Nat.reduceMod, Nat.reduceMul, Nat.reduceAdd, Int.reduceToNat, pm_kill_i, pm_kill_r, pm_kill_n, pm_kill_j, pm_kill_l, pm_kill_d, pm_cats_nil, pm_cats_i, pm_cats_r, pm_cats_n, pm_cats_l, pm_cats_d, sz_1, sz_2, sl_1, sl_2, lc_0, lc_lt, lc_le, li_ne, va_rf, wr_m1, we_m1, pm_kill_w, Int32.reduceOfInt, Int64.reduceOfInt, Int32.reduceOfNat, Int32.reduceLT, Int32.reduceLE, Prod.mk.injEq, Nat.reduceEqDiff, reduceCtorEq, and_true, true_and, and_false, false_and, and_self, ite_true, ite_false, ↓reduceIte, not_true_eq_false, not_false_eq_true, pe_ri, pe_rz, pe_rc, sw1476v3_0, Cp_g21_0 hP hA, Cp_g21_1 hP hA, Cp_g22_0 hP hA, Cp_g22_1 hP hA, eq_false k1, eq_false k4, eq_false k7, eq_true k10, z11]
          · rw [if_neg k12] at e; cases e
        · rw [if_neg k10] at e
          by_cases k13 : x1 = 60
          · rw [if_pos k13] at e
            by_cases k14 : ((S.2 (22, 0, 0) 0) * (S.2 (21, 0, 0) 1)) ≤ ((S.2 (21, 0, 0) 0) * (S.2 (22, 0, 0) 1))
            · rw [if_pos k14] at e
              have e := Option.some.inj e; subst e
              simp -implicitDefEqProofs (disch := first | assumption | exact Nat.le_of_ble_eq_true rfl | decide) only [b1476_0, g1476_1, b1476_1, g1476_2, b1476_2, g1476_3, b1476_3, g1476_4, b1476_4, g1476_5, b1476_5, g1476_6, b1476_6, g1476_7, b1476_7, g1476_8, b1476_8, g1476_9, b1476_9, g1476_10, b1476_10, g1476_11, b1476_11, pe_iload1, pe_lookupswitch, pe_aload0, pe_getfield, pe_aload2, pe_lmul, pe_ladd, pe_call3, pm_af_ret, pm_af_void, pm_af_thr, pe_goto, pe_lsub, pe_lcmp, pe_if_le, pe_if_eq, pe_goto_w, pe_sipush, pe_if_ge, pe_aloadN0, pe_aloadN2, pe_aastoreN, pe_areturnN, pe_null, pm_prog_1, pm_ob_some, Nat.reduceDiv, Nat.reduceMod, Nat.reduceMul, Nat.reduceAdd, Int.reduceToNat, pm_kill_i, pm_kill_r, pm_kill_n, pm_kill_j, pm_kill_l, pm_kill_d, pm_cats_nil, pm_cats_i, pm_cats_r, pm_cats_n, pm_cats_l, pm_cats_d, sz_1, sz_2, sl_1, sl_2, lc_0, lc_lt, lc_le, li_ne, va_rf, wr_m1, we_m1, pm_kill_w, Int32.reduceOfInt, Int64.reduceOfInt, Int32.reduceOfNat, Int32.reduceLT, Int32.reduceLE, Prod.mk.injEq, Nat.reduceEqDiff, reduceCtorEq, and_true, true_and, and_false, false_and, and_self, ite_true, ite_false, ↓reduceIte, not_true_eq_false, not_false_eq_true, pe_ri, pe_rz, pe_rc, sw1476v3_0, Cp_g21_0 hP hA, Cp_g21_1 hP hA, Cp_g22_0 hP hA, Cp_g22_1 hP hA, eq_false k1, eq_false k4, eq_false k7, eq_false k10, eq_true k13, eq_true k14]
            · rw [if_neg k14] at e
              obtain ⟨⟨v9, S10⟩, k15, e⟩ := Option.bind_eq_some_iff.mp e
              try dsimp only at e
              have z15 := x1473v2 (D := D) (h := h) hP hA (by omega) k15
              dsimp only at z15
              by_cases k16 : v9 = 0
              · rw [if_pos k16] at e
                have e := Option.some.inj e; subst e
                simp -implicitDefEqProofs (disch := first | assumption | exact Nat.le_of_ble_eq_true rfl | decide) only [b1476_0, g1476_1, b1476_1, g1476_2, b1476_2, g1476_3, b1476_3, g1476_4, b1476_4, g1476_5, b1476_5, g1476_6, b1476_6, g1476_7, b1476_7, g1476_8, b1476_8, g1476_9, b1476_9, g1476_10, b1476_10, g1476_11, b1476_11, pe_iload1, pe_lookupswitch, pe_aload0, pe_getfield, pe_aload2, pe_lmul, pe_ladd, pe_call3, pm_af_ret, pm_af_void, pm_af_thr, pe_goto, pe_lsub, pe_lcmp, pe_if_le, pe_if_eq, pe_goto_w, pe_sipush, pe_if_ge, pe_aloadN0, pe_aloadN2, pe_aastoreN, pe_areturnN, pe_null, pm_prog_1, pm_ob_some, Nat.reduceDiv, Nat.reduceMod, Nat.reduceMul, Nat.reduceAdd, Int.reduceToNat, pm_kill_i, pm_kill_r, pm_kill_n, pm_kill_j, pm_kill_l, pm_kill_d, pm_cats_nil, pm_cats_i, pm_cats_r, pm_cats_n, pm_cats_l, pm_cats_d, sz_1, sz_2, sl_1, sl_2, lc_0, lc_lt, lc_le, li_ne, va_rf, wr_m1, we_m1, pm_kill_w, Int32.reduceOfInt, Int64.reduceOfInt, Int32.reduceOfNat, Int32.reduceLT, Int32.reduceLE, Prod.mk.injEq, Nat.reduceEqDiff, reduceCtorEq, and_true, true_and, and_false, false_and, and_self, ite_true, ite_false, ↓reduceIte, not_true_eq_false, not_false_eq_true, pe_ri, pe_rz, pe_rc, sw1476v3_0, Cp_g21_0 hP hA, Cp_g21_1 hP hA, Cp_g22_0 hP hA, Cp_g22_1 hP hA, eq_false k1, eq_false k4, eq_false k7, eq_false k10, eq_true k13, eq_false k14, z15, eq_true k16]
              · rw [if_neg k16] at e
                have e := Option.some.inj e; subst e
                simp -implicitDefEqProofs (disch := first | assumption | exact Nat.le_of_ble_eq_true rfl | decide) only [b1476_0, g1476_1, b1476_1, g1476_2, b1476_2, g1476_3, b1476_3, g1476_4, b1476_4, g1476_5, b1476_5, g1476_6, b1476_6, g1476_7, b1476_7, g1476_8, b1476_8, g1476_9, b1476_9, g1476_10, b1476_10, g1476_11, b1476_11, pe_iload1, pe_lookupswitch, pe_aload0, pe_getfield, pe_aload2, pe_lmul, pe_ladd, pe_call3, pm_af_ret, pm_af_void, pm_af_thr, pe_goto, pe_lsub, pe_lcmp, pe_if_le, pe_if_eq, pe_goto_w, pe_sipush, pe_if_ge, pe_aloadN0, pe_aloadN2, pe_aastoreN, pe_areturnN, pe_null, pm_prog_1, pm_ob_some, Nat.reduceDiv, Nat.reduceMod, Nat.reduceMul, Nat.reduceAdd, Int.reduceToNat, pm_kill_i, pm_kill_r, pm_kill_n, pm_kill_j, pm_kill_l, pm_kill_d, pm_cats_nil, pm_cats_i, pm_cats_r, pm_cats_n, pm_cats_l, pm_cats_d, sz_1, sz_2, sl_1, sl_2, lc_0, lc_lt, lc_le, li_ne, va_rf, wr_m1, we_m1, pm_kill_w, Int32.reduceOfInt, Int64.reduceOfInt, Int32.reduceOfNat, Int32.reduceLT, Int32.reduceLE, Prod.mk.injEq, Nat.reduceEqDiff, reduceCtorEq, and_true, true_and, and_false, false_and, and_self, ite_true, ite_false, ↓reduceIte, not_true_eq_false, not_false_eq_true, pe_ri, pe_rz, pe_rc, sw1476v3_0, Cp_g21_0 hP hA, Cp_g21_1 hP hA, Cp_g22_0 hP hA, Cp_g22_1 hP hA, eq_false k1, eq_false k4, eq_false k7, eq_false k10, eq_true k13, eq_false k14, z15, eq_false k16]
          · rw [if_neg k13] at e
            by_cases k17 : ((S.2 (22, 0, 0) 0) * (S.2 (21, 0, 0) 1)) < ((S.2 (21, 0, 0) 0) * (S.2 (22, 0, 0) 1))
            · rw [if_pos k17] at e
              obtain ⟨⟨v11, S12⟩, k18, e⟩ := Option.bind_eq_some_iff.mp e
              try dsimp only at e
              have z18 := x1473v2 (D := D) (h := h) hP hA (by omega) k18
              dsimp only at z18
              by_cases k19 : v11 = 0
              · rw [if_pos k19] at e
                have e := Option.some.inj e; subst e
                simp -implicitDefEqProofs (disch := first | assumption | exact Nat.le_of_ble_eq_true rfl | decide) only [b1476_0, g1476_1, b1476_1, g1476_2, b1476_2, g1476_3, b1476_3, g1476_4, b1476_4, g1476_5, b1476_5, g1476_6, b1476_6, g1476_7, b1476_7, g1476_8, b1476_8, g1476_9, b1476_9, g1476_10, b1476_10, g1476_11, b1476_11, pe_iload1, pe_lookupswitch, pe_aload0, pe_getfield, pe_aload2, pe_lmul, pe_ladd, pe_call3, pm_af_ret, pm_af_void, pm_af_thr, pe_goto, pe_lsub, pe_lcmp, pe_if_le, pe_if_eq, pe_goto_w, pe_sipush, pe_if_ge, pe_aloadN0, pe_aloadN2, pe_aastoreN, pe_areturnN, pe_null, pm_prog_1, pm_ob_some, Nat.reduceDiv, Nat.reduceMod, Nat.reduceMul, Nat.reduceAdd, Int.reduceToNat, pm_kill_i, pm_kill_r, pm_kill_n, pm_kill_j, pm_kill_l, pm_kill_d, pm_cats_nil, pm_cats_i, pm_cats_r, pm_cats_n, pm_cats_l, pm_cats_d, sz_1, sz_2, sl_1, sl_2, lc_0, lc_lt, lc_le, li_ne, va_rf, wr_m1, we_m1, pm_kill_w, Int32.reduceOfInt, Int64.reduceOfInt, Int32.reduceOfNat, Int32.reduceLT, Int32.reduceLE, Prod.mk.injEq, Nat.reduceEqDiff, reduceCtorEq, and_true, true_and, and_false, false_and, and_self, ite_true, ite_false, ↓reduceIte, not_true_eq_false, not_false_eq_true, pe_ri, pe_rz, pe_rc, sw1476v3_0, Cp_g21_0 hP hA, Cp_g21_1 hP hA, Cp_g22_0 hP hA, Cp_g22_1 hP hA, eq_false k1, eq_false k4, eq_false k7, eq_false k10, eq_false k13, eq_true k17, z18, eq_true k19]
              · rw [if_neg k19] at e
                have e := Option.some.inj e; subst e
                simp -implicitDefEqProofs (disch := first | assumption | exact Nat.le_of_ble_eq_true rfl | decide) only [b1476_0, g1476_1, b1476_1, g1476_2, b1476_2, g1476_3, b1476_3, g1476_4, b1476_4, g1476_5, b1476_5, g1476_6, b1476_6, g1476_7, b1476_7, g1476_8, b1476_8, g1476_9, b1476_9, g1476_10, b1476_10, g1476_11, b1476_11, pe_iload1, pe_lookupswitch, pe_aload0, pe_getfield, pe_aload2, pe_lmul, pe_ladd, pe_call3, pm_af_ret, pm_af_void, pm_af_thr, pe_goto, pe_lsub, pe_lcmp, pe_if_le, pe_if_eq, pe_goto_w, pe_sipush, pe_if_ge, pe_aloadN0, pe_aloadN2, pe_aastoreN, pe_areturnN, pe_null, pm_prog_1, pm_ob_some, Nat.reduceDiv, Nat.reduceMod, Nat.reduceMul, Nat.reduceAdd, Int.reduceToNat, pm_kill_i, pm_kill_r, pm_kill_n, pm_kill_j, pm_kill_l, pm_kill_d, pm_cats_nil, pm_cats_i, pm_cats_r, pm_cats_n, pm_cats_l, pm_cats_d, sz_1, sz_2, sl_1, sl_2, lc_0, lc_lt, lc_le, li_ne, va_rf, wr_m1, we_m1, pm_kill_w, Int32.reduceOfInt, Int64.reduceOfInt, Int32.reduceOfNat, Int32.reduceLT, Int32.reduceLE, Prod.mk.injEq, Nat.reduceEqDiff, reduceCtorEq, and_true, true_and, and_false, false_and, and_self, ite_true, ite_false, ↓reduceIte, not_true_eq_false, not_false_eq_true, pe_ri, pe_rz, pe_rc, sw1476v3_0, Cp_g21_0 hP hA, Cp_g21_1 hP hA, Cp_g22_0 hP hA, Cp_g22_1 hP hA, eq_false k1, eq_false k4, eq_false k7, eq_false k10, eq_false k13, eq_true k17, z18, eq_false k19]
            · rw [if_neg k17] at e
              have e := Option.some.inj e; subst e
              simp -implicitDefEqProofs (disch := first | assumption | exact Nat.le_of_ble_eq_true rfl | decide) only [b1476_0, g1476_1, b1476_1, g1476_2, b1476_2, g1476_3, b1476_3, g1476_4, b1476_4, g1476_5, b1476_5, g1476_6, b1476_6, g1476_7, b1476_7, g1476_8, b1476_8, g1476_9, b1476_9, g1476_10, b1476_10, g1476_11, b1476_11, pe_iload1, pe_lookupswitch, pe_aload0, pe_getfield, pe_aload2, pe_lmul, pe_ladd, pe_call3, pm_af_ret, pm_af_void, pm_af_thr, pe_goto, pe_lsub, pe_lcmp, pe_if_le, pe_if_eq, pe_goto_w, pe_sipush, pe_if_ge, pe_aloadN0, pe_aloadN2, pe_aastoreN, pe_areturnN, pe_null, pm_prog_1, pm_ob_some, Nat.reduceDiv, Nat.reduceMod, Nat.reduceMul, Nat.reduceAdd, Int.reduceToNat, pm_kill_i, pm_kill_r, pm_kill_n, pm_kill_j, pm_kill_l, pm_kill_d, pm_cats_nil, pm_cats_i, pm_cats_r, pm_cats_n, pm_cats_l, pm_cats_d, sz_1, sz_2, sl_1, sl_2, lc_0, lc_lt, lc_le, li_ne, va_rf, wr_m1, we_m1, pm_kill_w, Int32.reduceOfInt, Int64.reduceOfInt, Int32.reduceOfNat, Int32.reduceLT, Int32.reduceLE, Prod.mk.injEq, Nat.reduceEqDiff, reduceCtorEq, and_true, true_and, and_false, false_and, and_self, ite_true, ite_false, ↓reduceIte, not_true_eq_false, not_false_eq_true, pe_ri, pe_rz, pe_rc, sw1476v3_0, Cp_g21_0 hP hA, Cp_g21_1 hP hA, Cp_g22_0 hP hA, Cp_g22_1 hP hA, eq_false k1, eq_false k4, eq_false k7, eq_false k10, eq_false k13, eq_false k17]
/-- TimberHouse$PriceLines.work(LTimberHouse$PriceLines$Line;LTimberHouse$PriceLines$Fraction;)Z -/
theorem c1431 {d : Nat} {h : pm_H} {a : Nat} {r0 : Nat} {r1 : Nat} (hc : pm_cls h a = some 22) : pm_call pm_prog (d + 1) 1431 [.ref a, .ref r0, .ref r1] h = pm_ev pm_prog (pm_call pm_prog d) 1431 0 b1431_0 [.ref a, .ref r0, .ref r1, pm_junk, pm_junk, pm_junk, pm_junk] [] h := pm_cal (pm_rc1 hc rfl) rfl rfl rfl
theorem g1431_1 {cl : pm_C} {ls st : List Value} {h : pm_H} : pm_go pm_prog cl 1431 1 ls st h = pm_ev pm_prog cl 1431 1 b1431_1 ls st h := pm_go_eq pm_prog cl 1431 1 ls st h
theorem g1431_2 {cl : pm_C} {ls st : List Value} {h : pm_H} : pm_go pm_prog cl 1431 2 ls st h = pm_ev pm_prog cl 1431 2 b1431_2 ls st h := pm_go_eq pm_prog cl 1431 2 ls st h
theorem g1431_3 {cl : pm_C} {ls st : List Value} {h : pm_H} : pm_go pm_prog cl 1431 3 ls st h = pm_ev pm_prog cl 1431 3 b1431_3 ls st h := pm_go_eq pm_prog cl 1431 3 ls st h
theorem g1431_4 {cl : pm_C} {ls st : List Value} {h : pm_H} : pm_go pm_prog cl 1431 4 ls st h = pm_ev pm_prog cl 1431 4 b1431_4 ls st h := pm_go_eq pm_prog cl 1431 4 ls st h
theorem g1431_5 {cl : pm_C} {ls st : List Value} {h : pm_H} : pm_go pm_prog cl 1431 5 ls st h = pm_ev pm_prog cl 1431 5 b1431_5 ls st h := pm_go_eq pm_prog cl 1431 5 ls st h
theorem g1431_6 {cl : pm_C} {ls st : List Value} {h : pm_H} : pm_go pm_prog cl 1431 6 ls st h = pm_ev pm_prog cl 1431 6 b1431_6 ls st h := pm_go_eq pm_prog cl 1431 6 ls st h
theorem g1431_7 {cl : pm_C} {ls st : List Value} {h : pm_H} : pm_go pm_prog cl 1431 7 ls st h = pm_ev pm_prog cl 1431 7 b1431_7 ls st h := pm_go_eq pm_prog cl 1431 7 ls st h
theorem g1431_8 {cl : pm_C} {ls st : List Value} {h : pm_H} : pm_go pm_prog cl 1431 8 ls st h = pm_ev pm_prog cl 1431 8 b1431_8 ls st h := pm_go_eq pm_prog cl 1431 8 ls st h
theorem g1431_9 {cl : pm_C} {ls st : List Value} {h : pm_H} : pm_go pm_prog cl 1431 9 ls st h = pm_ev pm_prog cl 1431 9 b1431_9 ls st h := pm_go_eq pm_prog cl 1431 9 ls st h
noncomputable def f1431_b1 (lc : Int32) (fq : Int32) (ll : Int32 → Int32) : Int32 × Int32 × Int32 × Int32 × wS → Option ((Int32 × Int32 × Int32 × Int32 × wS) ⊕ ((Int32 × wS) ⊕ (Int32 × Int32 × Int32 × wS))) := fun (x1i, x2i, x3, x4, S) =>
  if 0 ≤ x1i ∧ x1i < lc then
    if 0 ≤ x2i ∧ x2i < 16 then
      if x4 < x3 then
        if 0 ≤ x4 ∧ x4 < (ll x1i) then
          (f1432 lc fq ll S (S.1 (27, x1i, 0) x4)).bind fun (v1, S2) =>
          if v1 = 0 then
            some (.inl (x1i, x2i, x3, (x4 + 1), S2))
          else
            (f1434 lc fq ll S2 v1 x4).bind fun (v3, S4) =>
            if v3 = 0 ∨ v3 = 1 then
              some (.inr (.inl (v3, S4)))
            else none
        else none
      else
        some (.inr (.inr ((x1i, x2i, x3, S))))
    else none
  else none
noncomputable def f1431_8 (lc : Int32) (fq : Int32) (ll : Int32 → Int32) (S : wS) (x3 : Int32) : Option (Int32 × wS) :=
  (f1434 lc fq ll S 3 x3).bind fun (v20, S21) =>
  if v20 = 0 ∨ v20 = 1 then
    some (v20, S21)
  else none
noncomputable def f1431_7 (lc : Int32) (fq : Int32) (ll : Int32 → Int32) (S : wS) (x2i : Int32) (x3 : Int32) (x5 : Int32) : Option (Int32 × wS) :=
  if 0 ≤ x2i ∧ x2i < 16 then
    (f1473v4 lc fq ll S x2i (S.2 (21, 0, 0) 0) (S.2 (21, 0, 0) 1)).bind fun (v18, S19) =>
    if x5 = 0 then
      f1431_8 lc fq ll S19 x3
    else
      (f1476v2 lc fq ll S19 x2i 43).bind fun (v22, S23) =>
      if v22 = 0 then
        f1431_8 lc fq ll S23 x3
      else
        (f1473 lc fq ll S23 (S23.2 (24, x2i, 0) 0) (S23.2 (24, x2i, 0) 1)).bind fun (v24, S25) =>
        (f1473v4 lc fq ll S25 x2i (S25.2 (22, 0, 0) 0) (S25.2 (22, 0, 0) 1)).bind fun (v26, S27) =>
        some (1, S27)
  else none
/-- TimberHouse$PriceLines.work(LTimberHouse$PriceLines$Line;LTimberHouse$PriceLines$Fraction;)Z -/
noncomputable def f1431 (lc : Int32) (fq : Int32) (ll : Int32 → Int32) (S : wS) (x1i : Int32) (x2i : Int32) : Option (Int32 × wS) :=
  if 0 ≤ x1i ∧ x1i < lc then
    if 0 ≤ x2i ∧ x2i < 16 then
      (lp (f1431_b1 lc fq ll) FU (x1i, x2i, (ll x1i), 0, (sz S (0, 0, 0) 12 0))).bind fun b => match b with
      | (.inl (v6, S5)) =>
        some (v6, S5)
      | (.inr ((v9i, v10i, v11, S7))) =>
        if 0 ≤ v9i ∧ v9i < lc then
          if 0 ≤ v10i ∧ v10i < 16 then
            (f1473v2 lc fq ll S7 (S7.2 (20, 0, 0) 0) (S7.2 (20, 0, 0) 1)).bind fun (v12, S13) =>
            if (S13.1 (26, v9i, 0) 1) = 37 then
              (f1473v3 lc fq ll S13 100 1).bind fun (v14, S15) =>
              (f1476v1 lc fq ll S15 47).bind fun (v16, S17) =>
              if v16 = 0 then
                f1431_7 lc fq ll S17 v10i v11 0
              else
                (f1476v3 lc fq ll S17 42).bind fun (v28, S29) =>
                if v28 = 0 then
                  f1431_7 lc fq ll S29 v10i v11 0
                else
                  f1431_7 lc fq ll S29 v10i v11 1
            else
              if (S13.1 (26, v9i, 0) 1) = 61 then
                (f1476v3 lc fq ll S13 45).bind fun (v30, S31) =>
                f1431_7 lc fq ll S31 v10i v11 v30
              else
                f1431_7 lc fq ll S13 v10i v11 v12
          else none
        else none
    else none
  else none
def go1431_1 (lc : Int32) (fq : Int32) (ll : Int32 → Int32) (A : wK → Nat) (h : pm_H) (D : Nat) (R : Outcome × pm_H) : Int32 × Int32 × Int32 × Int32 × wS → Prop := fun (x1i, x2i, x3, x4, S) => ∀ q5 q6 : Value, pm_go pm_prog (pm_call pm_prog D) 1431 1 [.ref (A (0, 0, 0)), .ref (A (26, x1i, 0)), .ref (A (24, x2i, 0)), .int x3, .int x4, q5, q6] [] (wput A (Cp_d lc fq ll) S h) = some R
def ex1431_1 (lc : Int32) (fq : Int32) (ll : Int32 → Int32) (A : wK → Nat) (h : pm_H) (D : Nat) (R : Outcome × pm_H) : (Int32 × wS) ⊕ (Int32 × Int32 × Int32 × wS) → Prop := fun b => match b with
  | (.inl (xr0, S)) => some (Outcome.returned (some (.int xr0)), (wput A (Cp_d lc fq ll) S h)) = some R
  | (.inr ((x1i, x2i, x3, S))) => ∀ q4 q5 q6 : Value, pm_go pm_prog (pm_call pm_prog D) 1431 3 [.ref (A (0, 0, 0)), .ref (A (26, x1i, 0)), .ref (A (24, x2i, 0)), .int x3, q4, q5, q6] [] (wput A (Cp_d lc fq ll) S h) = some R
theorem y1431_b1 {lc : Int32} {fq : Int32} {ll : Int32 → Int32} {A : wK → Nat} {h : pm_H} {D : Nat} {R : Outcome × pm_H} (hP : Cp_P lc fq ll) (hA : wok A (Cp_d lc fq ll) h.1) (hD : 4 ≤ D) (a : Int32 × Int32 × Int32 × Int32 × wS) (r : (Int32 × Int32 × Int32 × Int32 × wS) ⊕ ((Int32 × wS) ⊕ (Int32 × Int32 × Int32 × wS))) (e : f1431_b1 lc fq ll a = some r) (hc : Sum.elim (go1431_1 lc fq ll A h D R) (ex1431_1 lc fq ll A h D R) r) : go1431_1 lc fq ll A h D R a := by
  obtain ⟨x1i, x2i, x3, x4, S⟩ := a
  dsimp only [go1431_1]
  intro q5 q6
  simp only [f1431_b1] at e
  rw [g1431_1, b1431_1]
  by_cases k1 : 0 ≤ x1i ∧ x1i < lc
  · rw [if_pos k1] at e
    by_cases k2 : 0 ≤ x2i ∧ x2i < 16
    · rw [if_pos k2] at e
      by_cases k3 : x4 < x3
      · rw [if_pos k3] at e
        by_cases k4 : 0 ≤ x4 ∧ x4 < (ll x1i)
        · rw [if_pos k4] at e
          obtain ⟨⟨v1, S2⟩, k5, e⟩ := Option.bind_eq_some_iff.mp e
          try dsimp only at e
          have z5 := x1432 (D := D) (h := h) hP hA (by omega) k5
          dsimp only at z5
          by_cases k6 : v1 = 0
          · rw [if_pos k6] at e
            have e := Option.some.inj e; subst e
            dsimp only [Sum.elim_inl, go1431_1] at hc
            simp -implicitDefEqProofs (disch := first | assumption | exact Nat.le_of_ble_eq_true rfl | decide) only [b1431_0, g1431_2, b1431_2, g1431_3, b1431_3, g1431_4, b1431_4, g1431_5, b1431_5, g1431_6, b1431_6, g1431_9, b1431_9, pe_aload0, pe_sipush, pe_putfield, pe_aload1, pe_getfield, pe_arraylength, pe_istore3, pe_istore4, pe_goto_w, pe_iload4, pe_iload3, pe_icmp_ge, pe_iaload, pe_call2, pm_af_ret, pm_af_void, pm_af_thr, pe_istore5, pe_iload5, pe_if_eq, pe_call3, pe_iinc4, pe_goto, pe_aaload, pe_astore4, pe_aload4, pe_icmp_ne, pe_bipush, pe_aload2, pe_istore6, pe_if_ne, pe_aloadN0, pe_aloadN1, pe_astoreN4, pe_aloadN4, pe_aloadN2, pe_aastoreN, pe_areturnN, pe_null, pm_prog_1, pm_ob_some, Nat.reduceDiv, Nat.reduceMod, Nat.reduceMul, Nat.reduceAdd, Int.reduceToNat, pm_kill_i, pm_kill_r, pm_kill_n, pm_kill_j, pm_kill_l, pm_kill_d, pm_cats_nil, pm_cats_i, pm_cats_r, pm_cats_n, pm_cats_l, pm_cats_d, sz_1, sz_2, sl_1, sl_2, lc_0, lc_lt, lc_le, li_ne, va_rf, wr_m1, we_m1, pm_kill_w, Int32.reduceOfInt, Int64.reduceOfInt, Int32.reduceOfNat, Int32.reduceLT, Int32.reduceLE, Prod.mk.injEq, Nat.reduceEqDiff, reduceCtorEq, and_true, true_and, and_false, false_and, and_self, ite_true, ite_false, ↓reduceIte, not_true_eq_false, not_false_eq_true, pe_ri, pe_rz, pe_rc, Cp_g0_11 hP hA, Cp_g0_13 hP hA, Cp_g0_14 hP hA, Cp_g0_15 hP hA, Cp_g20_0 hP hA, Cp_g20_1 hP hA, Cp_g21_0 hP hA, Cp_g21_1 hP hA, Cp_g22_0 hP hA, Cp_g22_1 hP hA, Cp_g24_0 hP hA, Cp_g24_1 hP hA, Cp_g26_0 hP hA, Cp_g26_1 hP hA, Cp_l27 hP hA, Cp_p0_12 hP hA, Cp_r27 hP hA, Cp_r6 hP hA, Cp_n0 hP , eq_true k3, z5, eq_true k6, hc]
          · rw [if_neg k6] at e
            obtain ⟨⟨v3, S4⟩, k7, e⟩ := Option.bind_eq_some_iff.mp e
            try dsimp only at e
            have z7 := x1434 (D := D) (h := h) hP hA (by omega) k7
            dsimp only at z7
            by_cases k8 : v3 = 0 ∨ v3 = 1
            · rw [if_pos k8] at e
              have e := Option.some.inj e; subst e
              dsimp only [Sum.elim_inr, ex1431_1] at hc
              have hc := Option.some.inj hc; subst hc
              simp -implicitDefEqProofs (disch := first | assumption | exact Nat.le_of_ble_eq_true rfl | decide) only [b1431_0, g1431_2, b1431_2, g1431_3, b1431_3, g1431_4, b1431_4, g1431_5, b1431_5, g1431_6, b1431_6, g1431_9, b1431_9, pe_aload0, pe_sipush, pe_putfield, pe_aload1, pe_getfield, pe_arraylength, pe_istore3, pe_istore4, pe_goto_w, pe_iload4, pe_iload3, pe_icmp_ge, pe_iaload, pe_call2, pm_af_ret, pm_af_void, pm_af_thr, pe_istore5, pe_iload5, pe_if_eq, pe_call3, pe_iinc4, pe_goto, pe_aaload, pe_astore4, pe_aload4, pe_icmp_ne, pe_bipush, pe_aload2, pe_istore6, pe_if_ne, pe_aloadN0, pe_aloadN1, pe_astoreN4, pe_aloadN4, pe_aloadN2, pe_aastoreN, pe_areturnN, pe_null, pm_prog_1, pm_ob_some, Nat.reduceDiv, Nat.reduceMod, Nat.reduceMul, Nat.reduceAdd, Int.reduceToNat, pm_kill_i, pm_kill_r, pm_kill_n, pm_kill_j, pm_kill_l, pm_kill_d, pm_cats_nil, pm_cats_i, pm_cats_r, pm_cats_n, pm_cats_l, pm_cats_d, sz_1, sz_2, sl_1, sl_2, lc_0, lc_lt, lc_le, li_ne, va_rf, wr_m1, we_m1, pm_kill_w, Int32.reduceOfInt, Int64.reduceOfInt, Int32.reduceOfNat, Int32.reduceLT, Int32.reduceLE, Prod.mk.injEq, Nat.reduceEqDiff, reduceCtorEq, and_true, true_and, and_false, false_and, and_self, ite_true, ite_false, ↓reduceIte, not_true_eq_false, not_false_eq_true, pe_ri, pe_rz, pe_rc, Cp_g0_11 hP hA, Cp_g0_13 hP hA, Cp_g0_14 hP hA, Cp_g0_15 hP hA, Cp_g20_0 hP hA, Cp_g20_1 hP hA, Cp_g21_0 hP hA, Cp_g21_1 hP hA, Cp_g22_0 hP hA, Cp_g22_1 hP hA, Cp_g24_0 hP hA, Cp_g24_1 hP hA, Cp_g26_0 hP hA, Cp_g26_1 hP hA, Cp_l27 hP hA, Cp_p0_12 hP hA, Cp_r27 hP hA, Cp_r6 hP hA, Cp_n0 hP , eq_true k3, z5, eq_false k6, z7]
            · rw [if_neg k8] at e; cases e
        · rw [if_neg k4] at e; cases e
      · rw [if_neg k3] at e
        have e := Option.some.inj e; subst e
        dsimp only [Sum.elim_inr, ex1431_1] at hc
        simp -implicitDefEqProofs (disch := first | assumption | exact Nat.le_of_ble_eq_true rfl | decide) only [b1431_0, g1431_2, b1431_2, g1431_3, b1431_3, g1431_4, b1431_4, g1431_5, b1431_5, g1431_6, b1431_6, g1431_9, b1431_9, pe_aload0, pe_sipush, pe_putfield, pe_aload1, pe_getfield, pe_arraylength, pe_istore3, pe_istore4, pe_goto_w, pe_iload4, pe_iload3, pe_icmp_ge, pe_iaload, pe_call2, pm_af_ret, pm_af_void, pm_af_thr, pe_istore5, pe_iload5, pe_if_eq, pe_call3, pe_iinc4, pe_goto, pe_aaload, pe_astore4, pe_aload4, pe_icmp_ne, pe_bipush, pe_aload2, pe_istore6, pe_if_ne, pe_aloadN0, pe_aloadN1, pe_astoreN4, pe_aloadN4, pe_aloadN2, pe_aastoreN, pe_areturnN, pe_null, pm_prog_1, pm_ob_some, Nat.reduceDiv, Nat.reduceMod, Nat.reduceMul, Nat.reduceAdd, Int.reduceToNat, pm_kill_i, pm_kill_r, pm_kill_n, pm_kill_j, pm_kill_l, pm_kill_d, pm_cats_nil, pm_cats_i, pm_cats_r, pm_cats_n, pm_cats_l, pm_cats_d, sz_1, sz_2, sl_1, sl_2, lc_0, lc_lt, lc_le, li_ne, va_rf, wr_m1, we_m1, pm_kill_w, Int32.reduceOfInt, Int64.reduceOfInt, Int32.reduceOfNat, Int32.reduceLT, Int32.reduceLE, Prod.mk.injEq, Nat.reduceEqDiff, reduceCtorEq, and_true, true_and, and_false, false_and, and_self, ite_true, ite_false, ↓reduceIte, not_true_eq_false, not_false_eq_true, pe_ri, pe_rz, pe_rc, Cp_g0_11 hP hA, Cp_g0_13 hP hA, Cp_g0_14 hP hA, Cp_g0_15 hP hA, Cp_g20_0 hP hA, Cp_g20_1 hP hA, Cp_g21_0 hP hA, Cp_g21_1 hP hA, Cp_g22_0 hP hA, Cp_g22_1 hP hA, Cp_g24_0 hP hA, Cp_g24_1 hP hA, Cp_g26_0 hP hA, Cp_g26_1 hP hA, Cp_l27 hP hA, Cp_p0_12 hP hA, Cp_r27 hP hA, Cp_r6 hP hA, Cp_n0 hP , eq_false k3, hc]
    · rw [if_neg k2] at e; cases e
  · rw [if_neg k1] at e; cases e
theorem z1431_1 {lc : Int32} {fq : Int32} {ll : Int32 → Int32} {A : wK → Nat} {h : pm_H} {D : Nat} {R : Outcome × pm_H} (hP : Cp_P lc fq ll) (hA : wok A (Cp_d lc fq ll) h.1) (hD : 4 ≤ D) {n : Nat} {a : Int32 × Int32 × Int32 × Int32 × wS} {b : (Int32 × wS) ⊕ (Int32 × Int32 × Int32 × wS)} (e : lp (f1431_b1 lc fq ll) n a = some b) (hx : ex1431_1 lc fq ll A h D R b) : go1431_1 lc fq ll A h D R a := lp_run (fun a r => y1431_b1 hP hA hD a r) n a b e hx
theorem y1431_8 {lc : Int32} {fq : Int32} {ll : Int32 → Int32} {A : wK → Nat} {h : pm_H} {D : Nat} {S : wS} {x3 : Int32} {r : Int32 × wS} (hP : Cp_P lc fq ll) (hA : wok A (Cp_d lc fq ll) h.1) (hD : 4 ≤ D) (e : f1431_8 lc fq ll S x3 = some r) : ∀ q1 q2 q4 q5 q6 : Value, pm_go pm_prog (pm_call pm_prog D) 1431 8 [.ref (A (0, 0, 0)), q1, q2, .int x3, q4, q5, q6] [] (wput A (Cp_d lc fq ll) S h) = some (match (generalizing := false) r with | (w0, S1) => (Outcome.returned (some (.int w0)), (wput A (Cp_d lc fq ll) S1 h))) := by
  intro q1 q2 q4 q5 q6
  simp only [f1431_8] at e
  rw [g1431_8, b1431_8]
  obtain ⟨⟨v20, S21⟩, k1, e⟩ := Option.bind_eq_some_iff.mp e
  try dsimp only at e
  have z1 := x1434 (D := D) (h := h) hP hA (by omega) k1
  dsimp only at z1
  by_cases k2 : v20 = 0 ∨ v20 = 1
  · rw [if_pos k2] at e
    have e := Option.some.inj e; subst e
    simp -implicitDefEqProofs (disch := first | assumption | exact Nat.le_of_ble_eq_true rfl | decide) only [b1431_0, g1431_2, b1431_2, g1431_3, b1431_3, g1431_4, b1431_4, g1431_5, b1431_5, g1431_6, b1431_6, g1431_9, b1431_9, pe_aload0, pe_sipush, pe_putfield, pe_aload1, pe_getfield, pe_arraylength, pe_istore3, pe_istore4, pe_goto_w, pe_iload4, pe_iload3, pe_icmp_ge, pe_iaload, pe_call2, pm_af_ret, pm_af_void, pm_af_thr, pe_istore5, pe_iload5, pe_if_eq, pe_call3, pe_iinc4, pe_goto, pe_aaload, pe_astore4, pe_aload4, pe_icmp_ne, pe_bipush, pe_aload2, pe_istore6, pe_if_ne, pe_aloadN0, pe_aloadN1, pe_astoreN4, pe_aloadN4, pe_aloadN2, pe_aastoreN, pe_areturnN, pe_null, pm_prog_1, pm_ob_some, Nat.reduceDiv, Nat.reduceMod, Nat.reduceMul, Nat.reduceAdd, Int.reduceToNat, pm_kill_i, pm_kill_r, pm_kill_n, pm_kill_j, pm_kill_l, pm_kill_d, pm_cats_nil, pm_cats_i, pm_cats_r, pm_cats_n, pm_cats_l, pm_cats_d, sz_1, sz_2, sl_1, sl_2, lc_0, lc_lt, lc_le, li_ne, va_rf, wr_m1, we_m1, pm_kill_w, Int32.reduceOfInt, Int64.reduceOfInt, Int32.reduceOfNat, Int32.reduceLT, Int32.reduceLE, Prod.mk.injEq, Nat.reduceEqDiff, reduceCtorEq, and_true, true_and, and_false, false_and, and_self, ite_true, ite_false, ↓reduceIte, not_true_eq_false, not_false_eq_true, pe_ri, pe_rz, pe_rc, Cp_g0_11 hP hA, Cp_g0_13 hP hA, Cp_g0_14 hP hA, Cp_g0_15 hP hA, Cp_g20_0 hP hA, Cp_g20_1 hP hA, Cp_g21_0 hP hA, Cp_g21_1 hP hA, Cp_g22_0 hP hA, Cp_g22_1 hP hA, Cp_g24_0 hP hA, Cp_g24_1 hP hA, Cp_g26_0 hP hA, Cp_g26_1 hP hA, Cp_l27 hP hA, Cp_p0_12 hP hA, Cp_r27 hP hA, Cp_r6 hP hA, Cp_n0 hP , z1]
  · rw [if_neg k2] at e; cases e
theorem y1431_7 {lc : Int32} {fq : Int32} {ll : Int32 → Int32} {A : wK → Nat} {h : pm_H} {D : Nat} {S : wS} {x2i : Int32} {x3 : Int32} {x5 : Int32} {r : Int32 × wS} (hP : Cp_P lc fq ll) (hA : wok A (Cp_d lc fq ll) h.1) (hD : 4 ≤ D) (e : f1431_7 lc fq ll S x2i x3 x5 = some r) : ∀ q1 q4 q6 : Value, pm_go pm_prog (pm_call pm_prog D) 1431 7 [.ref (A (0, 0, 0)), q1, .ref (A (24, x2i, 0)), .int x3, q4, .int x5, q6] [] (wput A (Cp_d lc fq ll) S h) = some (match (generalizing := false) r with | (w0, S1) => (Outcome.returned (some (.int w0)), (wput A (Cp_d lc fq ll) S1 h))) := by
  intro q1 q4 q6
  simp only [f1431_7] at e
  rw [g1431_7, b1431_7]
  by_cases k1 : 0 ≤ x2i ∧ x2i < 16
  · rw [if_pos k1] at e
    obtain ⟨⟨v18, S19⟩, k2, e⟩ := Option.bind_eq_some_iff.mp e
    try dsimp only at e
    have z2 := x1473v4 (D := D) (h := h) hP hA (by omega) k2
    dsimp only at z2
    by_cases k3 : x5 = 0
    · rw [if_pos k3] at e
      have k4 := y1431_8 (h := h) hP hA hD e
      simp -implicitDefEqProofs (disch := first | assumption | exact Nat.le_of_ble_eq_true rfl | decide) only [b1431_0, g1431_2, b1431_2, g1431_3, b1431_3, g1431_4, b1431_4, g1431_5, b1431_5, g1431_6, b1431_6, g1431_9, b1431_9, pe_aload0, pe_sipush, pe_putfield, pe_aload1, pe_getfield, pe_arraylength, pe_istore3, pe_istore4, pe_goto_w, pe_iload4, pe_iload3, pe_icmp_ge, pe_iaload, pe_call2, pm_af_ret, pm_af_void, pm_af_thr, pe_istore5, pe_iload5, pe_if_eq, pe_call3, pe_iinc4, pe_goto, pe_aaload, pe_astore4, pe_aload4, pe_icmp_ne, pe_bipush, pe_aload2, pe_istore6, pe_if_ne, pe_aloadN0, pe_aloadN1, pe_astoreN4, pe_aloadN4, pe_aloadN2, pe_aastoreN, pe_areturnN, pe_null, pm_prog_1, pm_ob_some, Nat.reduceDiv, Nat.reduceMod, Nat.reduceMul, Nat.reduceAdd, Int.reduceToNat, pm_kill_i, pm_kill_r, pm_kill_n, pm_kill_j, pm_kill_l, pm_kill_d, pm_cats_nil, pm_cats_i, pm_cats_r, pm_cats_n, pm_cats_l, pm_cats_d, sz_1, sz_2, sl_1, sl_2, lc_0, lc_lt, lc_le, li_ne, va_rf, wr_m1, we_m1, pm_kill_w, Int32.reduceOfInt, Int64.reduceOfInt, Int32.reduceOfNat, Int32.reduceLT, Int32.reduceLE, Prod.mk.injEq, Nat.reduceEqDiff, reduceCtorEq, and_true, true_and, and_false, false_and, and_self, ite_true, ite_false, ↓reduceIte, not_true_eq_false, not_false_eq_true, pe_ri, pe_rz, pe_rc, Cp_g0_11 hP hA, Cp_g0_13 hP hA, Cp_g0_14 hP hA, Cp_g0_15 hP hA, Cp_g20_0 hP hA, Cp_g20_1 hP hA, Cp_g21_0 hP hA, Cp_g21_1 hP hA, Cp_g22_0 hP hA, Cp_g22_1 hP hA, Cp_g24_0 hP hA, Cp_g24_1 hP hA, Cp_g26_0 hP hA, Cp_g26_1 hP hA, Cp_l27 hP hA, Cp_p0_12 hP hA, Cp_r27 hP hA, Cp_r6 hP hA, Cp_n0 hP , z2, eq_true k3, k4]
    · rw [if_neg k3] at e
      obtain ⟨⟨v22, S23⟩, k5, e⟩ := Option.bind_eq_some_iff.mp e
      try dsimp only at e
      have z5 := x1476v2 (D := D) (h := h) hP hA (by omega) k5
      dsimp only at z5
      by_cases k6 : v22 = 0
      · rw [if_pos k6] at e
        have k7 := y1431_8 (h := h) hP hA hD e
        simp -implicitDefEqProofs (disch := first | assumption | exact Nat.le_of_ble_eq_true rfl | decide) only [b1431_0, g1431_2, b1431_2, g1431_3, b1431_3, g1431_4, b1431_4, g1431_5, b1431_5, g1431_6, b1431_6, g1431_9, b1431_9, pe_aload0, pe_sipush, pe_putfield, pe_aload1, pe_getfield, pe_arraylength, pe_istore3, pe_istore4, pe_goto_w, pe_iload4, pe_iload3, pe_icmp_ge, pe_iaload, pe_call2, pm_af_ret, pm_af_void, pm_af_thr, pe_istore5, pe_iload5, pe_if_eq, pe_call3, pe_iinc4, pe_goto, pe_aaload, pe_astore4, pe_aload4, pe_icmp_ne, pe_bipush, pe_aload2, pe_istore6, pe_if_ne, pe_aloadN0, pe_aloadN1, pe_astoreN4, pe_aloadN4, pe_aloadN2, pe_aastoreN, pe_areturnN, pe_null, pm_prog_1, pm_ob_some, Nat.reduceDiv, Nat.reduceMod, Nat.reduceMul, Nat.reduceAdd, Int.reduceToNat, pm_kill_i, pm_kill_r, pm_kill_n, pm_kill_j, pm_kill_l, pm_kill_d, pm_cats_nil, pm_cats_i, pm_cats_r, pm_cats_n, pm_cats_l, pm_cats_d, sz_1, sz_2, sl_1, sl_2, lc_0, lc_lt, lc_le, li_ne, va_rf, wr_m1, we_m1, pm_kill_w, Int32.reduceOfInt, Int64.reduceOfInt, Int32.reduceOfNat, Int32.reduceLT, Int32.reduceLE, Prod.mk.injEq, Nat.reduceEqDiff, reduceCtorEq, and_true, true_and, and_false, false_and, and_self, ite_true, ite_false, ↓reduceIte, not_true_eq_false, not_false_eq_true, pe_ri, pe_rz, pe_rc, Cp_g0_11 hP hA, Cp_g0_13 hP hA, Cp_g0_14 hP hA, Cp_g0_15 hP hA, Cp_g20_0 hP hA, Cp_g20_1 hP hA, Cp_g21_0 hP hA, Cp_g21_1 hP hA, Cp_g22_0 hP hA, Cp_g22_1 hP hA, Cp_g24_0 hP hA, Cp_g24_1 hP hA, Cp_g26_0 hP hA, Cp_g26_1 hP hA, Cp_l27 hP hA, Cp_p0_12 hP hA, Cp_r27 hP hA, Cp_r6 hP hA, Cp_n0 hP , z2, eq_false k3, z5, eq_true k6, k7]
      · rw [if_neg k6] at e
        obtain ⟨⟨v24, S25⟩, k8, e⟩ := Option.bind_eq_some_iff.mp e
        try dsimp only at e
        have z8 := x1473 (D := D) (h := h) hP hA (by omega) k8
        dsimp only at z8
        obtain ⟨⟨v26, S27⟩, k9, e⟩ := Option.bind_eq_some_iff.mp e
        try dsimp only at e
        have z9 := x1473v4 (D := D) (h := h) hP hA (by omega) k9
        dsimp only at z9
        have e := Option.some.inj e; subst e
        simp -implicitDefEqProofs (disch := first | assumption | exact Nat.le_of_ble_eq_true rfl | decide) only [b1431_0, g1431_2, b1431_2, g1431_3, b1431_3, g1431_4, b1431_4, g1431_5, b1431_5, g1431_6, b1431_6, g1431_9, b1431_9, pe_aload0, pe_sipush, pe_putfield, pe_aload1, pe_getfield, pe_arraylength, pe_istore3, pe_istore4, pe_goto_w, pe_iload4, pe_iload3, pe_icmp_ge, pe_iaload, pe_call2, pm_af_ret, pm_af_void, pm_af_thr, pe_istore5, pe_iload5, pe_if_eq, pe_call3, pe_iinc4, pe_goto, pe_aaload, pe_astore4, pe_aload4, pe_icmp_ne, pe_bipush, pe_aload2, pe_istore6, pe_if_ne, pe_aloadN0, pe_aloadN1, pe_astoreN4, pe_aloadN4, pe_aloadN2, pe_aastoreN, pe_areturnN, pe_null, pm_prog_1, pm_ob_some, Nat.reduceDiv, Nat.reduceMod, Nat.reduceMul, Nat.reduceAdd, Int.reduceToNat, pm_kill_i, pm_kill_r, pm_kill_n, pm_kill_j, pm_kill_l, pm_kill_d, pm_cats_nil, pm_cats_i, pm_cats_r, pm_cats_n, pm_cats_l, pm_cats_d, sz_1, sz_2, sl_1, sl_2, lc_0, lc_lt, lc_le, li_ne, va_rf, wr_m1, we_m1, pm_kill_w, Int32.reduceOfInt, Int64.reduceOfInt, Int32.reduceOfNat, Int32.reduceLT, Int32.reduceLE, Prod.mk.injEq, Nat.reduceEqDiff, reduceCtorEq, and_true, true_and, and_false, false_and, and_self, ite_true, ite_false, ↓reduceIte, not_true_eq_false, not_false_eq_true, pe_ri, pe_rz, pe_rc, Cp_g0_11 hP hA, Cp_g0_13 hP hA, Cp_g0_14 hP hA, Cp_g0_15 hP hA, Cp_g20_0 hP hA, Cp_g20_1 hP hA, Cp_g21_0 hP hA, Cp_g21_1 hP hA, Cp_g22_0 hP hA, Cp_g22_1 hP hA, Cp_g24_0 hP hA, Cp_g24_1 hP hA, Cp_g26_0 hP hA, Cp_g26_1 hP hA, Cp_l27 hP hA, Cp_p0_12 hP hA, Cp_r27 hP hA, Cp_r6 hP hA, Cp_n0 hP , z2, eq_false k3, z5, eq_false k6, z8, z9]
  · rw [if_neg k1] at e; cases e
theorem x1431 {lc : Int32} {fq : Int32} {ll : Int32 → Int32} {A : wK → Nat} {h : pm_H} {D : Nat} {S : wS} {x1i : Int32} {x2i : Int32} {r : Int32 × wS} (hP : Cp_P lc fq ll) (hA : wok A (Cp_d lc fq ll) h.1) (hD : 5 ≤ D) (e : f1431 lc fq ll S x1i x2i = some r) : pm_call pm_prog D 1431 [.ref (A (0, 0, 0)), .ref (A (26, x1i, 0)), .ref (A (24, x2i, 0))] (wput A (Cp_d lc fq ll) S h) = some (match (generalizing := false) r with | (w0, S1) => (Outcome.returned (some (.int w0)), (wput A (Cp_d lc fq ll) S1 h))) := by
  obtain ⟨D, rfl⟩ : ∃ D', D = D' + 1 := ⟨D - 1, by omega⟩
  have hD : 4 ≤ D := by omega
  simp only [f1431] at e
  have k1 : 0 ≤ x1i ∧ x1i < lc := by
    by_cases q : 0 ≤ x1i ∧ x1i < lc
    · exact q
    · rw [if_neg q] at e; cases e
  rw [if_pos k1] at e
  have k2 : 0 ≤ x2i ∧ x2i < 16 := by
    by_cases q : 0 ≤ x2i ∧ x2i < 16
    · exact q
    · rw [if_neg q] at e; cases e
  rw [if_pos k2] at e
  rw [c1431 (Cp_c0 hP hA), b1431_0]
  obtain ⟨b, k3, e⟩ := Option.bind_eq_some_iff.mp e
  rcases b with ⟨v6, S5⟩ | ⟨v9i, v10i, v11, S7⟩
  ·
    try dsimp only at e
    try simp -implicitDefEqProofs (disch := first | assumption | exact Nat.le_of_ble_eq_true rfl | decide) only [b1431_0, g1431_2, b1431_2, g1431_3, b1431_3, g1431_4, b1431_4, g1431_5, b1431_5, g1431_6, b1431_6, g1431_9, b1431_9, pe_aload0, pe_sipush, pe_putfield, pe_aload1, pe_getfield, pe_arraylength, pe_istore3, pe_istore4, pe_goto_w, pe_iload4, pe_iload3, pe_icmp_ge, pe_iaload, pe_call2, pm_af_ret, pm_af_void, pm_af_thr, pe_istore5, pe_iload5, pe_if_eq, pe_call3, pe_iinc4, pe_goto, pe_aaload, pe_astore4, pe_aload4, pe_icmp_ne, pe_bipush, pe_aload2, pe_istore6, pe_if_ne, pe_aloadN0, pe_aloadN1, pe_astoreN4, pe_aloadN4, pe_aloadN2, pe_aastoreN, pe_areturnN, pe_null, pm_prog_1, pm_ob_some, Nat.reduceDiv, Nat.reduceMod, Nat.reduceMul, Nat.reduceAdd, Int.reduceToNat, pm_kill_i, pm_kill_r, pm_kill_n, pm_kill_j, pm_kill_l, pm_kill_d, pm_cats_nil, pm_cats_i, pm_cats_r, pm_cats_n, pm_cats_l, pm_cats_d, sz_1, sz_2, sl_1, sl_2, lc_0, lc_lt, lc_le, li_ne, va_rf, wr_m1, we_m1, pm_kill_w, Int32.reduceOfInt, Int64.reduceOfInt, Int32.reduceOfNat, Int32.reduceLT, Int32.reduceLE, Prod.mk.injEq, Nat.reduceEqDiff, reduceCtorEq, and_true, true_and, and_false, false_and, and_self, ite_true, ite_false, ↓reduceIte, not_true_eq_false, not_false_eq_true, pe_ri, pe_rz, pe_rc, Cp_g0_11 hP hA, Cp_g0_13 hP hA, Cp_g0_14 hP hA, Cp_g0_15 hP hA, Cp_g20_0 hP hA, Cp_g20_1 hP hA, Cp_g21_0 hP hA, Cp_g21_1 hP hA, Cp_g22_0 hP hA, Cp_g22_1 hP hA, Cp_g24_0 hP hA, Cp_g24_1 hP hA, Cp_g26_0 hP hA, Cp_g26_1 hP hA, Cp_l27 hP hA, Cp_p0_12 hP hA, Cp_r27 hP hA, Cp_r6 hP hA, Cp_n0 hP ]
    refine z1431_1 hP hA hD k3 ?_ _ _
    dsimp only [ex1431_1]
    have e := Option.some.inj e; subst e
    simp -implicitDefEqProofs (disch := first | assumption | exact Nat.le_of_ble_eq_true rfl | decide) only [b1431_0, g1431_2, b1431_2, g1431_3, b1431_3, g1431_4, b1431_4, g1431_5, b1431_5, g1431_6, b1431_6, g1431_9, b1431_9, pe_aload0, pe_sipush, pe_putfield, pe_aload1, pe_getfield, pe_arraylength, pe_istore3, pe_istore4, pe_goto_w, pe_iload4, pe_iload3, pe_icmp_ge, pe_iaload, pe_call2, pm_af_ret, pm_af_void, pm_af_thr, pe_istore5, pe_iload5, pe_if_eq, pe_call3, pe_iinc4, pe_goto, pe_aaload, pe_astore4, pe_aload4, pe_icmp_ne, pe_bipush, pe_aload2, pe_istore6, pe_if_ne, pe_aloadN0, pe_aloadN1, pe_astoreN4, pe_aloadN4, pe_aloadN2, pe_aastoreN, pe_areturnN, pe_null, pm_prog_1, pm_ob_some, Nat.reduceDiv, Nat.reduceMod, Nat.reduceMul, Nat.reduceAdd, Int.reduceToNat, pm_kill_i, pm_kill_r, pm_kill_n, pm_kill_j, pm_kill_l, pm_kill_d, pm_cats_nil, pm_cats_i, pm_cats_r, pm_cats_n, pm_cats_l, pm_cats_d, sz_1, sz_2, sl_1, sl_2, lc_0, lc_lt, lc_le, li_ne, va_rf, wr_m1, we_m1, pm_kill_w, Int32.reduceOfInt, Int64.reduceOfInt, Int32.reduceOfNat, Int32.reduceLT, Int32.reduceLE, Prod.mk.injEq, Nat.reduceEqDiff, reduceCtorEq, and_true, true_and, and_false, false_and, and_self, ite_true, ite_false, ↓reduceIte, not_true_eq_false, not_false_eq_true, pe_ri, pe_rz, pe_rc, Cp_g0_11 hP hA, Cp_g0_13 hP hA, Cp_g0_14 hP hA, Cp_g0_15 hP hA, Cp_g20_0 hP hA, Cp_g20_1 hP hA, Cp_g21_0 hP hA, Cp_g21_1 hP hA, Cp_g22_0 hP hA, Cp_g22_1 hP hA, Cp_g24_0 hP hA, Cp_g24_1 hP hA, Cp_g26_0 hP hA, Cp_g26_1 hP hA, Cp_l27 hP hA, Cp_p0_12 hP hA, Cp_r27 hP hA, Cp_r6 hP hA, Cp_n0 hP ]
  ·
    try dsimp only at e
    try simp -implicitDefEqProofs (disch := first | assumption | exact Nat.le_of_ble_eq_true rfl | decide) only [b1431_0, g1431_2, b1431_2, g1431_3, b1431_3, g1431_4, b1431_4, g1431_5, b1431_5, g1431_6, b1431_6, g1431_9, b1431_9, pe_aload0, pe_sipush, pe_putfield, pe_aload1, pe_getfield, pe_arraylength, pe_istore3, pe_istore4, pe_goto_w, pe_iload4, pe_iload3, pe_icmp_ge, pe_iaload, pe_call2, pm_af_ret, pm_af_void, pm_af_thr, pe_istore5, pe_iload5, pe_if_eq, pe_call3, pe_iinc4, pe_goto, pe_aaload, pe_astore4, pe_aload4, pe_icmp_ne, pe_bipush, pe_aload2, pe_istore6, pe_if_ne, pe_aloadN0, pe_aloadN1, pe_astoreN4, pe_aloadN4, pe_aloadN2, pe_aastoreN, pe_areturnN, pe_null, pm_prog_1, pm_ob_some, Nat.reduceDiv, Nat.reduceMod, Nat.reduceMul, Nat.reduceAdd, Int.reduceToNat, pm_kill_i, pm_kill_r, pm_kill_n, pm_kill_j, pm_kill_l, pm_kill_d, pm_cats_nil, pm_cats_i, pm_cats_r, pm_cats_n, pm_cats_l, pm_cats_d, sz_1, sz_2, sl_1, sl_2, lc_0, lc_lt, lc_le, li_ne, va_rf, wr_m1, we_m1, pm_kill_w, Int32.reduceOfInt, Int64.reduceOfInt, Int32.reduceOfNat, Int32.reduceLT, Int32.reduceLE, Prod.mk.injEq, Nat.reduceEqDiff, reduceCtorEq, and_true, true_and, and_false, false_and, and_self, ite_true, ite_false, ↓reduceIte, not_true_eq_false, not_false_eq_true, pe_ri, pe_rz, pe_rc, Cp_g0_11 hP hA, Cp_g0_13 hP hA, Cp_g0_14 hP hA, Cp_g0_15 hP hA, Cp_g20_0 hP hA, Cp_g20_1 hP hA, Cp_g21_0 hP hA, Cp_g21_1 hP hA, Cp_g22_0 hP hA, Cp_g22_1 hP hA, Cp_g24_0 hP hA, Cp_g24_1 hP hA, Cp_g26_0 hP hA, Cp_g26_1 hP hA, Cp_l27 hP hA, Cp_p0_12 hP hA, Cp_r27 hP hA, Cp_r6 hP hA, Cp_n0 hP ]
    refine z1431_1 hP hA hD k3 ?_ _ _
    dsimp only [ex1431_1]
    intro q4 q5 q6
    by_cases k4 : 0 ≤ v9i ∧ v9i < lc
    · rw [if_pos k4] at e
      by_cases k5 : 0 ≤ v10i ∧ v10i < 16
      · rw [if_pos k5] at e
        obtain ⟨⟨v12, S13⟩, k6, e⟩ := Option.bind_eq_some_iff.mp e
        try dsimp only at e
        have z6 := x1473v2 (D := D) (h := h) hP hA (by omega) k6
        dsimp only at z6
        by_cases k7 : (S13.1 (26, v9i, 0) 1) = 37
        · rw [if_pos k7] at e
          obtain ⟨⟨v14, S15⟩, k8, e⟩ := Option.bind_eq_some_iff.mp e
          try dsimp only at e
          have z8 := x1473v3 (D := D) (h := h) hP hA (by omega) k8
          dsimp only at z8
          obtain ⟨⟨v16, S17⟩, k9, e⟩ := Option.bind_eq_some_iff.mp e
          try dsimp only at e
          have z9 := x1476v1 (D := D) (h := h) hP hA (by omega) k9
          dsimp only at z9
          by_cases k10 : v16 = 0
          · rw [if_pos k10] at e
            have k11 := y1431_7 (h := h) hP hA hD e
            simp -implicitDefEqProofs (disch := first | assumption | exact Nat.le_of_ble_eq_true rfl | decide) only [b1431_0, g1431_2, b1431_2, g1431_3, b1431_3, g1431_4, b1431_4, g1431_5, b1431_5, g1431_6, b1431_6, g1431_9, b1431_9, pe_aload0, pe_sipush, pe_putfield, pe_aload1, pe_getfield, pe_arraylength, pe_istore3, pe_istore4, pe_goto_w, pe_iload4, pe_iload3, pe_icmp_ge, pe_iaload, pe_call2, pm_af_ret, pm_af_void, pm_af_thr, pe_istore5, pe_iload5, pe_if_eq, pe_call3, pe_iinc4, pe_goto, pe_aaload, pe_astore4, pe_aload4, pe_icmp_ne, pe_bipush, pe_aload2, pe_istore6, pe_if_ne, pe_aloadN0, pe_aloadN1, pe_astoreN4, pe_aloadN4, pe_aloadN2, pe_aastoreN, pe_areturnN, pe_null, pm_prog_1, pm_ob_some, Nat.reduceDiv, Nat.reduceMod, Nat.reduceMul, Nat.reduceAdd, Int.reduceToNat, pm_kill_i, pm_kill_r, pm_kill_n, pm_kill_j, pm_kill_l, pm_kill_d, pm_cats_nil, pm_cats_i, pm_cats_r, pm_cats_n, pm_cats_l, pm_cats_d, sz_1, sz_2, sl_1, sl_2, lc_0, lc_lt, lc_le, li_ne, va_rf, wr_m1, we_m1, pm_kill_w, Int32.reduceOfInt, Int64.reduceOfInt, Int32.reduceOfNat, Int32.reduceLT, Int32.reduceLE, Prod.mk.injEq, Nat.reduceEqDiff, reduceCtorEq, and_true, true_and, and_false, false_and, and_self, ite_true, ite_false, ↓reduceIte, not_true_eq_false, not_false_eq_true, pe_ri, pe_rz, pe_rc, Cp_g0_11 hP hA, Cp_g0_13 hP hA, Cp_g0_14 hP hA, Cp_g0_15 hP hA, Cp_g20_0 hP hA, Cp_g20_1 hP hA, Cp_g21_0 hP hA, Cp_g21_1 hP hA, Cp_g22_0 hP hA, Cp_g22_1 hP hA, Cp_g24_0 hP hA, Cp_g24_1 hP hA, Cp_g26_0 hP hA, Cp_g26_1 hP hA, Cp_l27 hP hA, Cp_p0_12 hP hA, Cp_r27 hP hA, Cp_r6 hP hA, Cp_n0 hP , z6, eq_true k7, z8, z9, eq_true k10, k11]
          · rw [if_neg k10] at e
            obtain ⟨⟨v28, S29⟩, k12, e⟩ := Option.bind_eq_some_iff.mp e
            try dsimp only at e
            have z12 := x1476v3 (D := D) (h := h) hP hA (by omega) k12
            dsimp only at z12
            by_cases k13 : v28 = 0
            · rw [if_pos k13] at e
              have k14 := y1431_7 (h := h) hP hA hD e
              simp -implicitDefEqProofs (disch := first | assumption | exact Nat.le_of_ble_eq_true rfl | decide) only [b1431_0, g1431_2, b1431_2, g1431_3, b1431_3, g1431_4, b1431_4, g1431_5, b1431_5, g1431_6, b1431_6, g1431_9, b1431_9, pe_aload0, pe_sipush, pe_putfield, pe_aload1, pe_getfield, pe_arraylength, pe_istore3, pe_istore4, pe_goto_w, pe_iload4, pe_iload3, pe_icmp_ge, pe_iaload, pe_call2, pm_af_ret, pm_af_void, pm_af_thr, pe_istore5, pe_iload5, pe_if_eq, pe_call3, pe_iinc4, pe_goto, pe_aaload, pe_astore4, pe_aload4, pe_icmp_ne, pe_bipush, pe_aload2, pe_istore6, pe_if_ne, pe_aloadN0, pe_aloadN1, pe_astoreN4, pe_aloadN4, pe_aloadN2, pe_aastoreN, pe_areturnN, pe_null, pm_prog_1, pm_ob_some, Nat.reduceDiv, Nat.reduceMod, Nat.reduceMul, Nat.reduceAdd, Int.reduceToNat, pm_kill_i, pm_kill_r, pm_kill_n, pm_kill_j, pm_kill_l, pm_kill_d, pm_cats_nil, pm_cats_i, pm_cats_r, pm_cats_n, pm_cats_l, pm_cats_d, sz_1, sz_2, sl_1, sl_2, lc_0, lc_lt, lc_le, li_ne, va_rf, wr_m1, we_m1, pm_kill_w, Int32.reduceOfInt, Int64.reduceOfInt, Int32.reduceOfNat, Int32.reduceLT, Int32.reduceLE, Prod.mk.injEq, Nat.reduceEqDiff, reduceCtorEq, and_true, true_and, and_false, false_and, and_self, ite_true, ite_false, ↓reduceIte, not_true_eq_false, not_false_eq_true, pe_ri, pe_rz, pe_rc, Cp_g0_11 hP hA, Cp_g0_13 hP hA, Cp_g0_14 hP hA, Cp_g0_15 hP hA, Cp_g20_0 hP hA, Cp_g20_1 hP hA, Cp_g21_0 hP hA, Cp_g21_1 hP hA, Cp_g22_0 hP hA, Cp_g22_1 hP hA, Cp_g24_0 hP hA, Cp_g24_1 hP hA, Cp_g26_0 hP hA, Cp_g26_1 hP hA, Cp_l27 hP hA, Cp_p0_12 hP hA, Cp_r27 hP hA, Cp_r6 hP hA, Cp_n0 hP , z6, eq_true k7, z8, z9, eq_false k10, z12, eq_true k13, k14]
            · rw [if_neg k13] at e
              have k15 := y1431_7 (h := h) hP hA hD e
              simp -implicitDefEqProofs (disch := first | assumption | exact Nat.le_of_ble_eq_true rfl | decide) only [b1431_0, g1431_2, b1431_2, g1431_3, b1431_3, g1431_4, b1431_4, g1431_5, b1431_5, g1431_6, b1431_6, g1431_9, b1431_9, pe_aload0, pe_sipush, pe_putfield, pe_aload1, pe_getfield, pe_arraylength, pe_istore3, pe_istore4, pe_goto_w, pe_iload4, pe_iload3, pe_icmp_ge, pe_iaload, pe_call2, pm_af_ret, pm_af_void, pm_af_thr, pe_istore5, pe_iload5, pe_if_eq, pe_call3, pe_iinc4, pe_goto, pe_aaload, pe_astore4, pe_aload4, pe_icmp_ne, pe_bipush, pe_aload2, pe_istore6, pe_if_ne, pe_aloadN0, pe_aloadN1, pe_astoreN4, pe_aloadN4, pe_aloadN2, pe_aastoreN, pe_areturnN, pe_null, pm_prog_1, pm_ob_some, Nat.reduceDiv, Nat.reduceMod, Nat.reduceMul, Nat.reduceAdd, Int.reduceToNat, pm_kill_i, pm_kill_r, pm_kill_n, pm_kill_j, pm_kill_l, pm_kill_d, pm_cats_nil, pm_cats_i, pm_cats_r, pm_cats_n, pm_cats_l, pm_cats_d, sz_1, sz_2, sl_1, sl_2, lc_0, lc_lt, lc_le, li_ne, va_rf, wr_m1, we_m1, pm_kill_w, Int32.reduceOfInt, Int64.reduceOfInt, Int32.reduceOfNat, Int32.reduceLT, Int32.reduceLE, Prod.mk.injEq, Nat.reduceEqDiff, reduceCtorEq, and_true, true_and, and_false, false_and, and_self, ite_true, ite_false, ↓reduceIte, not_true_eq_false, not_false_eq_true, pe_ri, pe_rz, pe_rc, Cp_g0_11 hP hA, Cp_g0_13 hP hA, Cp_g0_14 hP hA, Cp_g0_15 hP hA, Cp_g20_0 hP hA, Cp_g20_1 hP hA, Cp_g21_0 hP hA, Cp_g21_1 hP hA, Cp_g22_0 hP hA, Cp_g22_1 hP hA, Cp_g24_0 hP hA, Cp_g24_1 hP hA, Cp_g26_0 hP hA, Cp_g26_1 hP hA, Cp_l27 hP hA, Cp_p0_12 hP hA, Cp_r27 hP hA, Cp_r6 hP hA, Cp_n0 hP , z6, eq_true k7, z8, z9, eq_false k10, z12, eq_false k13, k15]
        · rw [if_neg k7] at e
          by_cases k16 : (S13.1 (26, v9i, 0) 1) = 61
          · rw [if_pos k16] at e
            obtain ⟨⟨v30, S31⟩, k17, e⟩ := Option.bind_eq_some_iff.mp e
            try dsimp only at e
            have z17 := x1476v3 (D := D) (h := h) hP hA (by omega) k17
            dsimp only at z17
            have k18 := y1431_7 (h := h) hP hA hD e
            simp -implicitDefEqProofs (disch := first | assumption | exact Nat.le_of_ble_eq_true rfl | decide) only [b1431_0, g1431_2, b1431_2, g1431_3, b1431_3, g1431_4, b1431_4, g1431_5, b1431_5, g1431_6, b1431_6, g1431_9, b1431_9, pe_aload0, pe_sipush, pe_putfield, pe_aload1, pe_getfield, pe_arraylength, pe_istore3, pe_istore4, pe_goto_w, pe_iload4, pe_iload3, pe_icmp_ge, pe_iaload, pe_call2, pm_af_ret, pm_af_void, pm_af_thr, pe_istore5, pe_iload5, pe_if_eq, pe_call3, pe_iinc4, pe_goto, pe_aaload, pe_astore4, pe_aload4, pe_icmp_ne, pe_bipush, pe_aload2, pe_istore6, pe_if_ne, pe_aloadN0, pe_aloadN1, pe_astoreN4, pe_aloadN4, pe_aloadN2, pe_aastoreN, pe_areturnN, pe_null, pm_prog_1, pm_ob_some, Nat.reduceDiv, Nat.reduceMod, Nat.reduceMul, Nat.reduceAdd, Int.reduceToNat, pm_kill_i, pm_kill_r, pm_kill_n, pm_kill_j, pm_kill_l, pm_kill_d, pm_cats_nil, pm_cats_i, pm_cats_r, pm_cats_n, pm_cats_l, pm_cats_d, sz_1, sz_2, sl_1, sl_2, lc_0, lc_lt, lc_le, li_ne, va_rf, wr_m1, we_m1, pm_kill_w, Int32.reduceOfInt, Int64.reduceOfInt, Int32.reduceOfNat, Int32.reduceLT, Int32.reduceLE, Prod.mk.injEq, Nat.reduceEqDiff, reduceCtorEq, and_true, true_and, and_false, false_and, and_self, ite_true, ite_false, ↓reduceIte, not_true_eq_false, not_false_eq_true, pe_ri, pe_rz, pe_rc, Cp_g0_11 hP hA, Cp_g0_13 hP hA, Cp_g0_14 hP hA, Cp_g0_15 hP hA, Cp_g20_0 hP hA, Cp_g20_1 hP hA, Cp_g21_0 hP hA, Cp_g21_1 hP hA, Cp_g22_0 hP hA, Cp_g22_1 hP hA, Cp_g24_0 hP hA, Cp_g24_1 hP hA, Cp_g26_0 hP hA, Cp_g26_1 hP hA, Cp_l27 hP hA, Cp_p0_12 hP hA, Cp_r27 hP hA, Cp_r6 hP hA, Cp_n0 hP , z6, eq_false k7, eq_true k16, z17, k18]
          · rw [if_neg k16] at e
            have k19 := y1431_7 (h := h) hP hA hD e
            simp -implicitDefEqProofs (disch := first | assumption | exact Nat.le_of_ble_eq_true rfl | decide) only [b1431_0, g1431_2, b1431_2, g1431_3, b1431_3, g1431_4, b1431_4, g1431_5, b1431_5, g1431_6, b1431_6, g1431_9, b1431_9, pe_aload0, pe_sipush, pe_putfield, pe_aload1, pe_getfield, pe_arraylength, pe_istore3, pe_istore4, pe_goto_w, pe_iload4, pe_iload3, pe_icmp_ge, pe_iaload, pe_call2, pm_af_ret, pm_af_void, pm_af_thr, pe_istore5, pe_iload5, pe_if_eq, pe_call3, pe_iinc4, pe_goto, pe_aaload, pe_astore4, pe_aload4, pe_icmp_ne, pe_bipush, pe_aload2, pe_istore6, pe_if_ne, pe_aloadN0, pe_aloadN1, pe_astoreN4, pe_aloadN4, pe_aloadN2, pe_aastoreN, pe_areturnN, pe_null, pm_prog_1, pm_ob_some, Nat.reduceDiv, Nat.reduceMod, Nat.reduceMul, Nat.reduceAdd, Int.reduceToNat, pm_kill_i, pm_kill_r, pm_kill_n, pm_kill_j, pm_kill_l, pm_kill_d, pm_cats_nil, pm_cats_i, pm_cats_r, pm_cats_n, pm_cats_l, pm_cats_d, sz_1, sz_2, sl_1, sl_2, lc_0, lc_lt, lc_le, li_ne, va_rf, wr_m1, we_m1, pm_kill_w, Int32.reduceOfInt, Int64.reduceOfInt, Int32.reduceOfNat, Int32.reduceLT, Int32.reduceLE, Prod.mk.injEq, Nat.reduceEqDiff, reduceCtorEq, and_true, true_and, and_false, false_and, and_self, ite_true, ite_false, ↓reduceIte, not_true_eq_false, not_false_eq_true, pe_ri, pe_rz, pe_rc, Cp_g0_11 hP hA, Cp_g0_13 hP hA, Cp_g0_14 hP hA, Cp_g0_15 hP hA, Cp_g20_0 hP hA, Cp_g20_1 hP hA, Cp_g21_0 hP hA, Cp_g21_1 hP hA, Cp_g22_0 hP hA, Cp_g22_1 hP hA, Cp_g24_0 hP hA, Cp_g24_1 hP hA, Cp_g26_0 hP hA, Cp_g26_1 hP hA, Cp_l27 hP hA, Cp_p0_12 hP hA, Cp_r27 hP hA, Cp_r6 hP hA, Cp_n0 hP , z6, eq_false k7, eq_false k16, k19]
      · rw [if_neg k5] at e; cases e
    · rw [if_neg k4] at e; cases e
/-- TimberHouse$PriceLines.runAll()I -/
theorem c1430 {d : Nat} {h : pm_H} {a : Nat} (hc : pm_cls h a = some 22) : pm_call pm_prog (d + 1) 1430 [.ref a] h = pm_ev pm_prog (pm_call pm_prog d) 1430 0 b1430_0 [.ref a, pm_junk, pm_junk, pm_junk] [] h := pm_cal (pm_rc1 hc rfl) rfl rfl rfl
theorem g1430_1 {cl : pm_C} {ls st : List Value} {h : pm_H} : pm_go pm_prog cl 1430 1 ls st h = pm_ev pm_prog cl 1430 1 b1430_1 ls st h := pm_go_eq pm_prog cl 1430 1 ls st h
theorem g1430_2 {cl : pm_C} {ls st : List Value} {h : pm_H} : pm_go pm_prog cl 1430 2 ls st h = pm_ev pm_prog cl 1430 2 b1430_2 ls st h := pm_go_eq pm_prog cl 1430 2 ls st h
theorem g1430_3 {cl : pm_C} {ls st : List Value} {h : pm_H} : pm_go pm_prog cl 1430 3 ls st h = pm_ev pm_prog cl 1430 3 b1430_3 ls st h := pm_go_eq pm_prog cl 1430 3 ls st h
noncomputable def f1430_b1 (lc : Int32) (fq : Int32) (ll : Int32 → Int32) : Int32 × Int32 × wS → Option ((Int32 × Int32 × wS) ⊕ ((Int32 × wS))) := fun (x1, x3, S) =>
  if x3 < (S.1 (0, 0, 0) 8) then
    if 0 ≤ x3 ∧ x3 < 16 then
      if 0 ≤ (S.1 (3, 0, 0) x3) ∧ (S.1 (3, 0, 0) x3) < lc then
        (f1431 lc fq ll (sz (sz S (8, 0, 0) x3 0) (9, 0, 0) x3 (-1)) (S.1 (3, 0, 0) x3) x3).bind fun (v3, S4) =>
        if v3 = 0 then
          (f1473v4 lc fq ll (sz (sz S4 (8, 0, 0) x3 (S4.1 (0, 0, 0) 4)) (9, 0, 0) x3 (S4.1 (0, 0, 0) 5)) x3 0 1).bind fun (v5, S6) =>
          some (.inl ((x1 + 1), (x3 + 1), S6))
        else
          some (.inl (x1, (x3 + 1), S4))
      else none
    else none
  else
    some (.inr (x1, S))
/-- TimberHouse$PriceLines.runAll()I -/
noncomputable def f1430 (lc : Int32) (fq : Int32) (ll : Int32 → Int32) (S : wS) : Option (Int32 × wS) :=
  (f1473 lc fq ll S 0 1).bind fun (v1, S2) =>
  (lp (f1430_b1 lc fq ll) FU (0, 0, S2)).bind fun (v8, S7) =>
  some (v8, S7)
def go1430_1 (lc : Int32) (fq : Int32) (ll : Int32 → Int32) (A : wK → Nat) (h : pm_H) (D : Nat) (R : Outcome × pm_H) : Int32 × Int32 × wS → Prop := fun (x1, x3, S) => ∀ q2 : Value, pm_go pm_prog (pm_call pm_prog D) 1430 1 [.ref (A (0, 0, 0)), .int x1, q2, .int x3] [] (wput A (Cp_d lc fq ll) S h) = some R
def ex1430_1 (lc : Int32) (fq : Int32) (ll : Int32 → Int32) (A : wK → Nat) (h : pm_H) (D : Nat) (R : Outcome × pm_H) : (Int32 × wS) → Prop := fun (x1, S) => ∀ q0 q2 q3 : Value, pm_go pm_prog (pm_call pm_prog D) 1430 3 [q0, .int x1, q2, q3] [] (wput A (Cp_d lc fq ll) S h) = some R
theorem y1430_b1 {lc : Int32} {fq : Int32} {ll : Int32 → Int32} {A : wK → Nat} {h : pm_H} {D : Nat} {R : Outcome × pm_H} (hP : Cp_P lc fq ll) (hA : wok A (Cp_d lc fq ll) h.1) (hD : 5 ≤ D) (a : Int32 × Int32 × wS) (r : (Int32 × Int32 × wS) ⊕ ((Int32 × wS))) (e : f1430_b1 lc fq ll a = some r) (hc : Sum.elim (go1430_1 lc fq ll A h D R) (ex1430_1 lc fq ll A h D R) r) : go1430_1 lc fq ll A h D R a := by
  obtain ⟨x1, x3, S⟩ := a
  dsimp only [go1430_1]
  intro q2
  simp only [f1430_b1] at e
  rw [g1430_1, b1430_1]
  by_cases k1 : x3 < (S.1 (0, 0, 0) 8)
  · rw [if_pos k1] at e
    by_cases k2 : 0 ≤ x3 ∧ x3 < 16
    · rw [if_pos k2] at e
      by_cases k3 : 0 ≤ (S.1 (3, 0, 0) x3) ∧ (S.1 (3, 0, 0) x3) < lc
      · rw [if_pos k3] at e
        obtain ⟨⟨v3, S4⟩, k4, e⟩ := Option.bind_eq_some_iff.mp e
        try dsimp only at e
        have z4 := x1431 (D := D) (h := h) hP hA (by omega) k4
        dsimp only at z4
        by_cases k5 : v3 = 0
        · rw [if_pos k5] at e
          obtain ⟨⟨v5, S6⟩, k6, e⟩ := Option.bind_eq_some_iff.mp e
          try dsimp only at e
          have z6 := x1473v4 (D := D) (h := h) hP hA (by omega) k6
          dsimp only at z6
          have e := Option.some.inj e; subst e
          dsimp only [Sum.elim_inl, go1430_1] at hc
          try simp only [wr_m1, wr_p (A := A) (f := 26) (wz_lt k3)] at hc
          simp -implicitDefEqProofs (disch := first | assumption | exact Nat.le_of_ble_eq_true rfl | decide) only [b1430_0, g1430_2, b1430_2, g1430_3, b1430_3, pe_sipush, pe_istore1, pe_aload0, pe_getfield, pe_bipush, pe_call3, pm_af_ret, pm_af_void, pm_af_thr, pe_istore2, pe_istore3, pe_goto_w, pe_iload3, pe_icmp_ge, pe_iastore, pe_aaload, pe_if_ne, pe_iinc1, pe_iinc3, pe_goto, pe_iload1, pe_aloadN0, pe_aastoreN, pe_areturnN, pe_null, pm_prog_1, pm_ob_some, Nat.reduceDiv, Nat.reduceMod, Nat.reduceMul, Nat.reduceAdd, Int.reduceToNat, pm_kill_i, pm_kill_r, pm_kill_n, pm_kill_j, pm_kill_l, pm_kill_d, pm_cats_nil, pm_cats_i, pm_cats_r, pm_cats_n, pm_cats_l, pm_cats_d, sz_1, sz_2, sl_1, sl_2, lc_0, lc_lt, lc_le, li_ne, va_rf, wr_m1, we_m1, pm_kill_w, Int32.reduceOfInt, Int64.reduceOfInt, Int32.reduceOfNat, Int32.reduceLT, Int32.reduceLE, Prod.mk.injEq, Nat.reduceEqDiff, reduceCtorEq, and_true, true_and, and_false, false_and, and_self, ite_true, ite_false, ↓reduceIte, not_true_eq_false, not_false_eq_true, pe_ri, pe_rz, pe_rc, Cp_g0_13 hP hA, Cp_g0_16 hP hA, Cp_g0_17 hP hA, Cp_g0_18 hP hA, Cp_g0_4 hP hA, Cp_g0_5 hP hA, Cp_g0_7 hP hA, Cp_g0_8 hP hA, Cp_r3 hP hA, Cp_r7 hP hA, Cp_w8 hP hA, Cp_w9 hP hA, eq_true k1, wr_p (A := A) (f := 26) (wz_lt k3), we_p (A := A) (f := 26) (wz_lt k3), z4, eq_true k5, z6, hc]
        · rw [if_neg k5] at e
          have e := Option.some.inj e; subst e
          dsimp only [Sum.elim_inl, go1430_1] at hc
          try simp only [wr_m1, wr_p (A := A) (f := 26) (wz_lt k3)] at hc
          simp -implicitDefEqProofs (disch := first | assumption | exact Nat.le_of_ble_eq_true rfl | decide) only [b1430_0, g1430_2, b1430_2, g1430_3, b1430_3, pe_sipush, pe_istore1, pe_aload0, pe_getfield, pe_bipush, pe_call3, pm_af_ret, pm_af_void, pm_af_thr, pe_istore2, pe_istore3, pe_goto_w, pe_iload3, pe_icmp_ge, pe_iastore, pe_aaload, pe_if_ne, pe_iinc1, pe_iinc3, pe_goto, pe_iload1, pe_aloadN0, pe_aastoreN, pe_areturnN, pe_null, pm_prog_1, pm_ob_some, Nat.reduceDiv, Nat.reduceMod, Nat.reduceMul, Nat.reduceAdd, Int.reduceToNat, pm_kill_i, pm_kill_r, pm_kill_n, pm_kill_j, pm_kill_l, pm_kill_d, pm_cats_nil, pm_cats_i, pm_cats_r, pm_cats_n, pm_cats_l, pm_cats_d, sz_1, sz_2, sl_1, sl_2, lc_0, lc_lt, lc_le, li_ne, va_rf, wr_m1, we_m1, pm_kill_w, Int32.reduceOfInt, Int64.reduceOfInt, Int32.reduceOfNat, Int32.reduceLT, Int32.reduceLE, Prod.mk.injEq, Nat.reduceEqDiff, reduceCtorEq, and_true, true_and, and_false, false_and, and_self, ite_true, ite_false, ↓reduceIte, not_true_eq_false, not_false_eq_true, pe_ri, pe_rz, pe_rc, Cp_g0_13 hP hA, Cp_g0_16 hP hA, Cp_g0_17 hP hA, Cp_g0_18 hP hA, Cp_g0_4 hP hA, Cp_g0_5 hP hA, Cp_g0_7 hP hA, Cp_g0_8 hP hA, Cp_r3 hP hA, Cp_r7 hP hA, Cp_w8 hP hA, Cp_w9 hP hA, eq_true k1, wr_p (A := A) (f := 26) (wz_lt k3), we_p (A := A) (f := 26) (wz_lt k3), z4, eq_false k5, hc]
      · rw [if_neg k3] at e; cases e
    · rw [if_neg k2] at e; cases e
  · rw [if_neg k1] at e
    have e := Option.some.inj e; subst e
    dsimp only [Sum.elim_inr, ex1430_1] at hc
    simp -implicitDefEqProofs (disch := first | assumption | exact Nat.le_of_ble_eq_true rfl | decide) only [b1430_0, g1430_2, b1430_2, g1430_3, b1430_3, pe_sipush, pe_istore1, pe_aload0, pe_getfield, pe_bipush, pe_call3, pm_af_ret, pm_af_void, pm_af_thr, pe_istore2, pe_istore3, pe_goto_w, pe_iload3, pe_icmp_ge, pe_iastore, pe_aaload, pe_if_ne, pe_iinc1, pe_iinc3, pe_goto, pe_iload1, pe_aloadN0, pe_aastoreN, pe_areturnN, pe_null, pm_prog_1, pm_ob_some, Nat.reduceDiv, Nat.reduceMod, Nat.reduceMul, Nat.reduceAdd, Int.reduceToNat, pm_kill_i, pm_kill_r, pm_kill_n, pm_kill_j, pm_kill_l, pm_kill_d, pm_cats_nil, pm_cats_i, pm_cats_r, pm_cats_n, pm_cats_l, pm_cats_d, sz_1, sz_2, sl_1, sl_2, lc_0, lc_lt, lc_le, li_ne, va_rf, wr_m1, we_m1, pm_kill_w, Int32.reduceOfInt, Int64.reduceOfInt, Int32.reduceOfNat, Int32.reduceLT, Int32.reduceLE, Prod.mk.injEq, Nat.reduceEqDiff, reduceCtorEq, and_true, true_and, and_false, false_and, and_self, ite_true, ite_false, ↓reduceIte, not_true_eq_false, not_false_eq_true, pe_ri, pe_rz, pe_rc, Cp_g0_13 hP hA, Cp_g0_16 hP hA, Cp_g0_17 hP hA, Cp_g0_18 hP hA, Cp_g0_4 hP hA, Cp_g0_5 hP hA, Cp_g0_7 hP hA, Cp_g0_8 hP hA, Cp_r3 hP hA, Cp_r7 hP hA, Cp_w8 hP hA, Cp_w9 hP hA, eq_false k1, hc]
theorem z1430_1 {lc : Int32} {fq : Int32} {ll : Int32 → Int32} {A : wK → Nat} {h : pm_H} {D : Nat} {R : Outcome × pm_H} (hP : Cp_P lc fq ll) (hA : wok A (Cp_d lc fq ll) h.1) (hD : 5 ≤ D) {n : Nat} {a : Int32 × Int32 × wS} {b : (Int32 × wS)} (e : lp (f1430_b1 lc fq ll) n a = some b) (hx : ex1430_1 lc fq ll A h D R b) : go1430_1 lc fq ll A h D R a := lp_run (fun a r => y1430_b1 hP hA hD a r) n a b e hx
theorem x1430 {lc : Int32} {fq : Int32} {ll : Int32 → Int32} {A : wK → Nat} {h : pm_H} {D : Nat} {S : wS} {r : Int32 × wS} (hP : Cp_P lc fq ll) (hA : wok A (Cp_d lc fq ll) h.1) (hD : 6 ≤ D) (e : f1430 lc fq ll S = some r) : pm_call pm_prog D 1430 [.ref (A (0, 0, 0))] (wput A (Cp_d lc fq ll) S h) = some (match (generalizing := false) r with | (w0, S1) => (Outcome.returned (some (.int w0)), (wput A (Cp_d lc fq ll) S1 h))) := by
  obtain ⟨D, rfl⟩ : ∃ D', D = D' + 1 := ⟨D - 1, by omega⟩
  have hD : 5 ≤ D := by omega
  simp only [f1430] at e
  rw [c1430 (Cp_c0 hP hA), b1430_0]
  obtain ⟨⟨v1, S2⟩, k1, e⟩ := Option.bind_eq_some_iff.mp e
  try dsimp only at e
  have z1 := x1473 (D := D) (h := h) hP hA (by omega) k1
  dsimp only at z1
  obtain ⟨⟨v8, S7⟩, k2, e⟩ := Option.bind_eq_some_iff.mp e
  try dsimp only at e
  try simp -implicitDefEqProofs (disch := first | assumption | exact Nat.le_of_ble_eq_true rfl | decide) only [b1430_0, g1430_2, b1430_2, g1430_3, b1430_3, pe_sipush, pe_istore1, pe_aload0, pe_getfield, pe_bipush, pe_call3, pm_af_ret, pm_af_void, pm_af_thr, pe_istore2, pe_istore3, pe_goto_w, pe_iload3, pe_icmp_ge, pe_iastore, pe_aaload, pe_if_ne, pe_iinc1, pe_iinc3, pe_goto, pe_iload1, pe_aloadN0, pe_aastoreN, pe_areturnN, pe_null, pm_prog_1, pm_ob_some, Nat.reduceDiv, Nat.reduceMod, Nat.reduceMul, Nat.reduceAdd, Int.reduceToNat, pm_kill_i, pm_kill_r, pm_kill_n, pm_kill_j, pm_kill_l, pm_kill_d, pm_cats_nil, pm_cats_i, pm_cats_r, pm_cats_n, pm_cats_l, pm_cats_d, sz_1, sz_2, sl_1, sl_2, lc_0, lc_lt, lc_le, li_ne, va_rf, wr_m1, we_m1, pm_kill_w, Int32.reduceOfInt, Int64.reduceOfInt, Int32.reduceOfNat, Int32.reduceLT, Int32.reduceLE, Prod.mk.injEq, Nat.reduceEqDiff, reduceCtorEq, and_true, true_and, and_false, false_and, and_self, ite_true, ite_false, ↓reduceIte, not_true_eq_false, not_false_eq_true, pe_ri, pe_rz, pe_rc, Cp_g0_13 hP hA, Cp_g0_16 hP hA, Cp_g0_17 hP hA, Cp_g0_18 hP hA, Cp_g0_4 hP hA, Cp_g0_5 hP hA, Cp_g0_7 hP hA, Cp_g0_8 hP hA, Cp_r3 hP hA, Cp_r7 hP hA, Cp_w8 hP hA, Cp_w9 hP hA, z1]
  refine z1430_1 hP hA hD k2 ?_ _
  dsimp only [ex1430_1]
  intro q0 q2 q3
  have e := Option.some.inj e; subst e
  simp -implicitDefEqProofs (disch := first | assumption | exact Nat.le_of_ble_eq_true rfl | decide) only [b1430_0, g1430_2, b1430_2, g1430_3, b1430_3, pe_sipush, pe_istore1, pe_aload0, pe_getfield, pe_bipush, pe_call3, pm_af_ret, pm_af_void, pm_af_thr, pe_istore2, pe_istore3, pe_goto_w, pe_iload3, pe_icmp_ge, pe_iastore, pe_aaload, pe_if_ne, pe_iinc1, pe_iinc3, pe_goto, pe_iload1, pe_aloadN0, pe_aastoreN, pe_areturnN, pe_null, pm_prog_1, pm_ob_some, Nat.reduceDiv, Nat.reduceMod, Nat.reduceMul, Nat.reduceAdd, Int.reduceToNat, pm_kill_i, pm_kill_r, pm_kill_n, pm_kill_j, pm_kill_l, pm_kill_d, pm_cats_nil, pm_cats_i, pm_cats_r, pm_cats_n, pm_cats_l, pm_cats_d, sz_1, sz_2, sl_1, sl_2, lc_0, lc_lt, lc_le, li_ne, va_rf, wr_m1, we_m1, pm_kill_w, Int32.reduceOfInt, Int64.reduceOfInt, Int32.reduceOfNat, Int32.reduceLT, Int32.reduceLE, Prod.mk.injEq, Nat.reduceEqDiff, reduceCtorEq, and_true, true_and, and_false, false_and, and_self, ite_true, ite_false, ↓reduceIte, not_true_eq_false, not_false_eq_true, pe_ri, pe_rz, pe_rc, Cp_g0_13 hP hA, Cp_g0_16 hP hA, Cp_g0_17 hP hA, Cp_g0_18 hP hA, Cp_g0_4 hP hA, Cp_g0_5 hP hA, Cp_g0_7 hP hA, Cp_g0_8 hP hA, Cp_r3 hP hA, Cp_r7 hP hA, Cp_w8 hP hA, Cp_w9 hP hA, z1]
/-- TimberHouse$PriceLines.run()I -/
theorem c1429 {d : Nat} {h : pm_H} {a : Nat} (hc : pm_cls h a = some 22) : pm_call pm_prog (d + 1) 1429 [.ref a] h = pm_ev pm_prog (pm_call pm_prog d) 1429 0 b1429_0 [.ref a] [] h := pm_cal (pm_rc1 hc rfl) rfl rfl rfl
/-- TimberHouse$PriceLines.run()I -/
noncomputable def f1429 (lc : Int32) (fq : Int32) (ll : Int32 → Int32) (S : wS) : Option (Int32 × wS) :=
  (f1430 lc fq ll S).bind fun (v1, S2) =>
  some (v1, S2)
theorem x1429 {lc : Int32} {fq : Int32} {ll : Int32 → Int32} {A : wK → Nat} {h : pm_H} {D : Nat} {S : wS} {r : Int32 × wS} (hP : Cp_P lc fq ll) (hA : wok A (Cp_d lc fq ll) h.1) (hD : 7 ≤ D) (e : f1429 lc fq ll S = some r) : pm_call pm_prog D 1429 [.ref (A (0, 0, 0))] (wput A (Cp_d lc fq ll) S h) = some (match (generalizing := false) r with | (w0, S1) => (Outcome.returned (some (.int w0)), (wput A (Cp_d lc fq ll) S1 h))) := by
  obtain ⟨D, rfl⟩ : ∃ D', D = D' + 1 := ⟨D - 1, by omega⟩
  have hD : 6 ≤ D := by omega
  simp only [f1429] at e
  rw [c1429 (Cp_c0 hP hA), b1429_0]
  obtain ⟨⟨v1, S2⟩, k1, e⟩ := Option.bind_eq_some_iff.mp e
  try dsimp only at e
  have z1 := x1430 (D := D) (h := h) hP hA (by omega) k1
  dsimp only at z1
  have e := Option.some.inj e; subst e
  simp -implicitDefEqProofs (disch := first | assumption | exact Nat.le_of_ble_eq_true rfl | decide) only [b1429_0, pe_aload0, pe_call1, pm_af_ret, pm_af_void, pm_af_thr, pe_aloadN0, pe_aastoreN, pe_areturnN, pe_null, pm_prog_1, pm_ob_some, Nat.reduceDiv, Nat.reduceMod, Nat.reduceMul, Nat.reduceAdd, Int.reduceToNat, pm_kill_i, pm_kill_r, pm_kill_n, pm_kill_j, pm_kill_l, pm_kill_d, pm_cats_nil, pm_cats_i, pm_cats_r, pm_cats_n, pm_cats_l, pm_cats_d, sz_1, sz_2, sl_1, sl_2, lc_0, lc_lt, lc_le, li_ne, va_rf, wr_m1, we_m1, pm_kill_w, Int32.reduceOfInt, Int64.reduceOfInt, Int32.reduceOfNat, Int32.reduceLT, Int32.reduceLE, Prod.mk.injEq, Nat.reduceEqDiff, reduceCtorEq, and_true, true_and, and_false, false_and, and_self, ite_true, ite_false, ↓reduceIte, not_true_eq_false, not_false_eq_true, pe_ri, pe_rz, pe_rc, z1]
/-- TimberHouse$PriceLines$Fraction.rounded(J)J -/
noncomputable def f1474v1 (lc : Int32) (fq : Int32) (ll : Int32 → Int32) (S : wS) (x1 : Int64) : Option (Int64) :=
  (f3846 (((2 * (S.2 (21, 0, 0) 0)) * x1) + (S.2 (21, 0, 0) 1)) (2 * (S.2 (21, 0, 0) 1))).bind fun v1 =>
  some v1
theorem x1474v1 {lc : Int32} {fq : Int32} {ll : Int32 → Int32} {A : wK → Nat} {h : pm_H} {D : Nat} {S : wS} {x1 : Int64} {r : Int64} (hP : Cp_P lc fq ll) (hA : wok A (Cp_d lc fq ll) h.1) (hD : 2 ≤ D) (e : f1474v1 lc fq ll S x1 = some r) : pm_call pm_prog D 1474 [.ref (A (21, 0, 0)), .long x1] (wput A (Cp_d lc fq ll) S h) = some (Outcome.returned (some (.long r)), (wput A (Cp_d lc fq ll) S h)) := by
  obtain ⟨D, rfl⟩ : ∃ D', D = D' + 1 := ⟨D - 1, by omega⟩
  have hD : 1 ≤ D := by omega
  simp only [f1474v1] at e
  rw [c1474 (Cp_c21 hP hA), b1474_0]
  obtain ⟨v1, k1, e⟩ := Option.bind_eq_some_iff.mp e
  try dsimp only at e
  have z1 := fun h => x3846 (D := D) (h := h) (by omega) k1
  have e := Option.some.inj e; subst e
  simp -implicitDefEqProofs (disch := first | assumption | exact Nat.le_of_ble_eq_true rfl | decide) only [b1474_0, pe_bipush, pe_aload0, pe_getfield, pe_lmul, pe_lload1, pe_ladd, pe_call2, pm_af_ret, pm_af_void, pm_af_thr, pe_lreturn, pe_aloadN0, pe_aastoreN, pe_areturnN, pe_null, pm_prog_1, pm_ob_some, Nat.reduceDiv, Nat.reduceMod, Nat.reduceMul, Nat.reduceAdd, Int.reduceToNat, pm_kill_i, pm_kill_r, pm_kill_n, pm_kill_j, pm_kill_l, pm_kill_d, pm_cats_nil, pm_cats_i, pm_cats_r, pm_cats_n, pm_cats_l, pm_cats_d, sz_1, sz_2, sl_1, sl_2, lc_0, lc_lt, lc_le, li_ne, va_rf, wr_m1, we_m1, pm_kill_w, Int32.reduceOfInt, Int64.reduceOfInt, Int32.reduceOfNat, Int32.reduceLT, Int32.reduceLE, Prod.mk.injEq, Nat.reduceEqDiff, reduceCtorEq, and_true, true_and, and_false, false_and, and_self, ite_true, ite_false, ↓reduceIte, not_true_eq_false, not_false_eq_true, pe_ri, pe_rz, pe_rc, Cp_g21_0 hP hA, Cp_g21_1 hP hA, z1]
/-- TimberHouse$PriceLines.cents()J -/
theorem c1435 {d : Nat} {h : pm_H} {a : Nat} (hc : pm_cls h a = some 22) : pm_call pm_prog (d + 1) 1435 [.ref a] h = pm_ev pm_prog (pm_call pm_prog d) 1435 0 b1435_0 [.ref a, pm_junk] [] h := pm_cal (pm_rc1 hc rfl) rfl rfl rfl
/-- TimberHouse$PriceLines.cents()J -/
noncomputable def f1435 (lc : Int32) (fq : Int32) (ll : Int32 → Int32) (S : wS) : Option (Int64 × wS) :=
  (f1430 lc fq ll S).bind fun (v1, S2) =>
  (f1474v1 lc fq ll S2 100).bind fun v3 =>
  some (v3, S2)
theorem x1435 {lc : Int32} {fq : Int32} {ll : Int32 → Int32} {A : wK → Nat} {h : pm_H} {D : Nat} {S : wS} {r : Int64 × wS} (hP : Cp_P lc fq ll) (hA : wok A (Cp_d lc fq ll) h.1) (hD : 7 ≤ D) (e : f1435 lc fq ll S = some r) : pm_call pm_prog D 1435 [.ref (A (0, 0, 0))] (wput A (Cp_d lc fq ll) S h) = some (match (generalizing := false) r with | (w0, S1) => (Outcome.returned (some (.long w0)), (wput A (Cp_d lc fq ll) S1 h))) := by
  obtain ⟨D, rfl⟩ : ∃ D', D = D' + 1 := ⟨D - 1, by omega⟩
  have hD : 6 ≤ D := by omega
  simp only [f1435] at e
  rw [c1435 (Cp_c0 hP hA), b1435_0]
  obtain ⟨⟨v1, S2⟩, k1, e⟩ := Option.bind_eq_some_iff.mp e
  try dsimp only at e
  have z1 := x1430 (D := D) (h := h) hP hA (by omega) k1
  dsimp only at z1
  obtain ⟨v3, k2, e⟩ := Option.bind_eq_some_iff.mp e
  try dsimp only at e
  have z2 := x1474v1 (D := D) (h := h) hP hA (by omega) k2
  have e := Option.some.inj e; subst e
  simp -implicitDefEqProofs (disch := first | assumption | exact Nat.le_of_ble_eq_true rfl | decide) only [b1435_0, pe_aload0, pe_call1, pm_af_ret, pm_af_void, pm_af_thr, pe_istore1, pe_getfield, pe_bipush, pe_call2, pe_lreturn, pe_aloadN0, pe_aastoreN, pe_areturnN, pe_null, pm_prog_1, pm_ob_some, Nat.reduceDiv, Nat.reduceMod, Nat.reduceMul, Nat.reduceAdd, Int.reduceToNat, pm_kill_i, pm_kill_r, pm_kill_n, pm_kill_j, pm_kill_l, pm_kill_d, pm_cats_nil, pm_cats_i, pm_cats_r, pm_cats_n, pm_cats_l, pm_cats_d, sz_1, sz_2, sl_1, sl_2, lc_0, lc_lt, lc_le, li_ne, va_rf, wr_m1, we_m1, pm_kill_w, Int32.reduceOfInt, Int64.reduceOfInt, Int32.reduceOfNat, Int32.reduceLT, Int32.reduceLE, Prod.mk.injEq, Nat.reduceEqDiff, reduceCtorEq, and_true, true_and, and_false, false_and, and_self, ite_true, ite_false, ↓reduceIte, not_true_eq_false, not_false_eq_true, pe_ri, pe_rz, pe_rc, Cp_g0_13 hP hA, z1, z2]
/-- TimberHouse$PriceLines.line(II)J -/
theorem c1436 {d : Nat} {h : pm_H} {a : Nat} {x0 : Int32} {x1 : Int32} (hc : pm_cls h a = some 22) : pm_call pm_prog (d + 1) 1436 [.ref a, .int x0, .int x1] h = pm_ev pm_prog (pm_call pm_prog d) 1436 0 b1436_0 [.ref a, .int x0, .int x1, pm_junk] [] h := pm_cal (pm_rc1 hc rfl) rfl rfl rfl
theorem g1436_1 {cl : pm_C} {ls st : List Value} {h : pm_H} : pm_go pm_prog cl 1436 1 ls st h = pm_ev pm_prog cl 1436 1 b1436_1 ls st h := pm_go_eq pm_prog cl 1436 1 ls st h
theorem g1436_2 {cl : pm_C} {ls st : List Value} {h : pm_H} : pm_go pm_prog cl 1436 2 ls st h = pm_ev pm_prog cl 1436 2 b1436_2 ls st h := pm_go_eq pm_prog cl 1436 2 ls st h
theorem g1436_3 {cl : pm_C} {ls st : List Value} {h : pm_H} : pm_go pm_prog cl 1436 3 ls st h = pm_ev pm_prog cl 1436 3 b1436_3 ls st h := pm_go_eq pm_prog cl 1436 3 ls st h
theorem g1436_4 {cl : pm_C} {ls st : List Value} {h : pm_H} : pm_go pm_prog cl 1436 4 ls st h = pm_ev pm_prog cl 1436 4 b1436_4 ls st h := pm_go_eq pm_prog cl 1436 4 ls st h
theorem g1436_5 {cl : pm_C} {ls st : List Value} {h : pm_H} : pm_go pm_prog cl 1436 5 ls st h = pm_ev pm_prog cl 1436 5 b1436_5 ls st h := pm_go_eq pm_prog cl 1436 5 ls st h
theorem g1436_6 {cl : pm_C} {ls st : List Value} {h : pm_H} : pm_go pm_prog cl 1436 6 ls st h = pm_ev pm_prog cl 1436 6 b1436_6 ls st h := pm_go_eq pm_prog cl 1436 6 ls st h
theorem t1436 {cl : pm_C} {j : Nat} {ls : List Value} {c : Nat} {h : pm_H} : pm_thr pm_prog cl 1436 j ls c h = some (.threw c, h) := rfl
noncomputable def f1436_2 (lc : Int32) (fq : Int32) (ll : Int32 → Int32) (S : wS) (x1 : Int32) (x2 : Int32) (y0 : Int32) : Option ((Nat × wS) ⊕ (Int64 × wS)) :=
  (f1412 y0).bind fun r => match r with
  | .inl c4 =>
    some (.inl (c4, S))
  | .inr _ =>
  (f1430 lc fq ll S).bind fun (v2, S3) =>
  if x2 = 0 then
    if 0 ≤ x1 ∧ x1 < 16 then
      some (.inr ((S3.2 (24, x1, 0) 0), S3))
    else none
  else
    if x2 = 1 then
      if 0 ≤ x1 ∧ x1 < 16 then
        some (.inr ((S3.2 (24, x1, 0) 1), S3))
      else none
    else
      if x2 = 2 then
        if 0 ≤ x1 ∧ x1 < 16 then
          some (.inr ((Int32.toInt64 (S3.1 (8, 0, 0) x1)), S3))
        else none
      else
        if 0 ≤ x1 ∧ x1 < 16 then
          some (.inr ((Int32.toInt64 (S3.1 (9, 0, 0) x1)), S3))
        else none
/-- TimberHouse$PriceLines.line(II)J -/
noncomputable def f1436 (lc : Int32) (fq : Int32) (ll : Int32 → Int32) (S : wS) (x1 : Int32) (x2 : Int32) : Option ((Nat × wS) ⊕ (Int64 × wS)) :=
  (f1411 (Int32.toInt64 x1) 0 (Int32.toInt64 ((S.1 (0, 0, 0) 8) - 1))).bind fun v1 =>
  if v1 = 0 then
    f1436_2 lc fq ll S x1 x2 0
  else
    (f1411 (Int32.toInt64 x2) 0 3).bind fun v5 =>
    if v5 = 0 then
      f1436_2 lc fq ll S x1 x2 0
    else
      f1436_2 lc fq ll S x1 x2 1
theorem y1436_2 {lc : Int32} {fq : Int32} {ll : Int32 → Int32} {A : wK → Nat} {h : pm_H} {D : Nat} {S : wS} {x1 : Int32} {x2 : Int32} {y0 : Int32} {r : (Nat × wS) ⊕ (Int64 × wS)} (hP : Cp_P lc fq ll) (hA : wok A (Cp_d lc fq ll) h.1) (hD : 6 ≤ D) (e : f1436_2 lc fq ll S x1 x2 y0 = some r) : ∀ q3 : Value, pm_go pm_prog (pm_call pm_prog D) 1436 2 [.ref (A (0, 0, 0)), .int x1, .int x2, q3] [.int y0] (wput A (Cp_d lc fq ll) S h) = some (match (generalizing := false) r with | .inl (c, S1) => (Outcome.threw c, (wput A (Cp_d lc fq ll) S1 (pm_new h 6 (.inr (c, []))))) | .inr (w0, S1) => (Outcome.returned (some (.long w0)), (wput A (Cp_d lc fq ll) S1 h))) := by
  intro q3
  simp only [f1436_2] at e
  rw [g1436_2, b1436_2]
  obtain ⟨r, k1, e⟩ := Option.bind_eq_some_iff.mp e
  have z1 := fun h => x1412 (D := D) (h := h) (by omega) k1
  rcases r with c4 | _
  · dsimp only at e z1
    have e := Option.some.inj e; subst e
    simp -implicitDefEqProofs (disch := first | assumption | exact Nat.le_of_ble_eq_true rfl | decide) only [b1436_0, g1436_1, b1436_1, g1436_3, b1436_3, g1436_4, b1436_4, g1436_5, b1436_5, g1436_6, b1436_6, pe_iload1, pe_i2l, pe_bipush, pe_aload0, pe_getfield, pe_sipush, pe_isub, pe_call3, pm_af_ret, pm_af_void, pm_af_thr, pe_if_eq, pe_iload2, pe_goto, pe_goto_w, pe_call1, pe_istore3, pe_if_ne, pe_aaload, pe_icmp_ne, pe_iaload, pe_lreturn, pe_aloadN0, pe_aastoreN, pe_areturnN, pe_null, pm_prog_1, pm_ob_some, Nat.reduceDiv, Nat.reduceMod, Nat.reduceMul, Nat.reduceAdd, Int.reduceToNat, pm_kill_i, pm_kill_r, pm_kill_n, pm_kill_j, pm_kill_l, pm_kill_d, pm_cats_nil, pm_cats_i, pm_cats_r, pm_cats_n, pm_cats_l, pm_cats_d, sz_1, sz_2, sl_1, sl_2, lc_0, lc_lt, lc_le, li_ne, va_rf, wr_m1, we_m1, pm_kill_w, Int32.reduceOfInt, Int64.reduceOfInt, Int32.reduceOfNat, Int32.reduceLT, Int32.reduceLE, Prod.mk.injEq, Nat.reduceEqDiff, reduceCtorEq, and_true, true_and, and_false, false_and, and_self, ite_true, ite_false, ↓reduceIte, not_true_eq_false, not_false_eq_true, pe_ri, pe_rz, pe_rc, p_throw, t1436, w_junk hA, Cp_g0_16 hP hA, Cp_g0_17 hP hA, Cp_g0_18 hP hA, Cp_g0_8 hP hA, Cp_g24_0 hP hA, Cp_g24_1 hP hA, Cp_r7 hP hA, Cp_r8 hP hA, Cp_r9 hP hA, z1]
  · dsimp only at e z1
    obtain ⟨⟨v2, S3⟩, k2, e⟩ := Option.bind_eq_some_iff.mp e
    try dsimp only at e
    have z2 := x1430 (D := D) (h := h) hP hA (by omega) k2
    dsimp only at z2
    by_cases k3 : x2 = 0
    · rw [if_pos k3] at e
      by_cases k4 : 0 ≤ x1 ∧ x1 < 16
      · rw [if_pos k4] at e
        have e := Option.some.inj e; subst e
        simp -implicitDefEqProofs (disch := first | assumption | exact Nat.le_of_ble_eq_true rfl | decide) only [b1436_0, g1436_1, b1436_1, g1436_3, b1436_3, g1436_4, b1436_4, g1436_5, b1436_5, g1436_6, b1436_6, pe_iload1, pe_i2l, pe_bipush, pe_aload0, pe_getfield, pe_sipush, pe_isub, pe_call3, pm_af_ret, pm_af_void, pm_af_thr, pe_if_eq, pe_iload2, pe_goto, pe_goto_w, pe_call1, pe_istore3, pe_if_ne, pe_aaload, pe_icmp_ne, pe_iaload, pe_lreturn, pe_aloadN0, pe_aastoreN, pe_areturnN, pe_null, pm_prog_1, pm_ob_some, Nat.reduceDiv, Nat.reduceMod, Nat.reduceMul, Nat.reduceAdd, Int.reduceToNat, pm_kill_i, pm_kill_r, pm_kill_n, pm_kill_j, pm_kill_l, pm_kill_d, pm_cats_nil, pm_cats_i, pm_cats_r, pm_cats_n, pm_cats_l, pm_cats_d, sz_1, sz_2, sl_1, sl_2, lc_0, lc_lt, lc_le, li_ne, va_rf, wr_m1, we_m1, pm_kill_w, Int32.reduceOfInt, Int64.reduceOfInt, Int32.reduceOfNat, Int32.reduceLT, Int32.reduceLE, Prod.mk.injEq, Nat.reduceEqDiff, reduceCtorEq, and_true, true_and, and_false, false_and, and_self, ite_true, ite_false, ↓reduceIte, not_true_eq_false, not_false_eq_true, pe_ri, pe_rz, pe_rc, p_throw, t1436, w_junk hA, Cp_g0_16 hP hA, Cp_g0_17 hP hA, Cp_g0_18 hP hA, Cp_g0_8 hP hA, Cp_g24_0 hP hA, Cp_g24_1 hP hA, Cp_r7 hP hA, Cp_r8 hP hA, Cp_r9 hP hA, z1, z2, eq_true k3]
      · rw [if_neg k4] at e; cases e
    · rw [if_neg k3] at e
      by_cases k5 : x2 = 1
      · rw [if_pos k5] at e
        by_cases k6 : 0 ≤ x1 ∧ x1 < 16
        · rw [if_pos k6] at e
          have e := Option.some.inj e; subst e
          simp -implicitDefEqProofs (disch := first | assumption | exact Nat.le_of_ble_eq_true rfl | decide) only [b1436_0, g1436_1, b1436_1, g1436_3, b1436_3, g1436_4, b1436_4, g1436_5, b1436_5, g1436_6, b1436_6, pe_iload1, pe_i2l, pe_bipush, pe_aload0, pe_getfield, pe_sipush, pe_isub, pe_call3, pm_af_ret, pm_af_void, pm_af_thr, pe_if_eq, pe_iload2, pe_goto, pe_goto_w, pe_call1, pe_istore3, pe_if_ne, pe_aaload, pe_icmp_ne, pe_iaload, pe_lreturn, pe_aloadN0, pe_aastoreN, pe_areturnN, pe_null, pm_prog_1, pm_ob_some, Nat.reduceDiv, Nat.reduceMod, Nat.reduceMul, Nat.reduceAdd, Int.reduceToNat, pm_kill_i, pm_kill_r, pm_kill_n, pm_kill_j, pm_kill_l, pm_kill_d, pm_cats_nil, pm_cats_i, pm_cats_r, pm_cats_n, pm_cats_l, pm_cats_d, sz_1, sz_2, sl_1, sl_2, lc_0, lc_lt, lc_le, li_ne, va_rf, wr_m1, we_m1, pm_kill_w, Int32.reduceOfInt, Int64.reduceOfInt, Int32.reduceOfNat, Int32.reduceLT, Int32.reduceLE, Prod.mk.injEq, Nat.reduceEqDiff, reduceCtorEq, and_true, true_and, and_false, false_and, and_self, ite_true, ite_false, ↓reduceIte, not_true_eq_false, not_false_eq_true, pe_ri, pe_rz, pe_rc, p_throw, t1436, w_junk hA, Cp_g0_16 hP hA, Cp_g0_17 hP hA, Cp_g0_18 hP hA, Cp_g0_8 hP hA, Cp_g24_0 hP hA, Cp_g24_1 hP hA, Cp_r7 hP hA, Cp_r8 hP hA, Cp_r9 hP hA, z1, z2, eq_false k3, eq_true k5]
        · rw [if_neg k6] at e; cases e
      · rw [if_neg k5] at e
        by_cases k7 : x2 = 2
        · rw [if_pos k7] at e
          by_cases k8 : 0 ≤ x1 ∧ x1 < 16
          · rw [if_pos k8] at e
            have e := Option.some.inj e; subst e
            simp -implicitDefEqProofs (disch := first | assumption | exact Nat.le_of_ble_eq_true rfl | decide) only [b1436_0, g1436_1, b1436_1, g1436_3, b1436_3, g1436_4, b1436_4, g1436_5, b1436_5, g1436_6, b1436_6, pe_iload1, pe_i2l, pe_bipush, pe_aload0, pe_getfield, pe_sipush, pe_isub, pe_call3, pm_af_ret, pm_af_void, pm_af_thr, pe_if_eq, pe_iload2, pe_goto, pe_goto_w, pe_call1, pe_istore3, pe_if_ne, pe_aaload, pe_icmp_ne, pe_iaload, pe_lreturn, pe_aloadN0, pe_aastoreN, pe_areturnN, pe_null, pm_prog_1, pm_ob_some, Nat.reduceDiv, Nat.reduceMod, Nat.reduceMul, Nat.reduceAdd, Int.reduceToNat, pm_kill_i, pm_kill_r, pm_kill_n, pm_kill_j, pm_kill_l, pm_kill_d, pm_cats_nil, pm_cats_i, pm_cats_r, pm_cats_n, pm_cats_l, pm_cats_d, sz_1, sz_2, sl_1, sl_2, lc_0, lc_lt, lc_le, li_ne, va_rf, wr_m1, we_m1, pm_kill_w, Int32.reduceOfInt, Int64.reduceOfInt, Int32.reduceOfNat, Int32.reduceLT, Int32.reduceLE, Prod.mk.injEq, Nat.reduceEqDiff, reduceCtorEq, and_true, true_and, and_false, false_and, and_self, ite_true, ite_false, ↓reduceIte, not_true_eq_false, not_false_eq_true, pe_ri, pe_rz, pe_rc, p_throw, t1436, w_junk hA, Cp_g0_16 hP hA, Cp_g0_17 hP hA, Cp_g0_18 hP hA, Cp_g0_8 hP hA, Cp_g24_0 hP hA, Cp_g24_1 hP hA, Cp_r7 hP hA, Cp_r8 hP hA, Cp_r9 hP hA, z1, z2, eq_false k3, eq_false k5, eq_true k7]
          · rw [if_neg k8] at e; cases e
        · rw [if_neg k7] at e
          by_cases k9 : 0 ≤ x1 ∧ x1 < 16
          · rw [if_pos k9] at e
            have e := Option.some.inj e; subst e
            simp -implicitDefEqProofs (disch := first | assumption | exact Nat.le_of_ble_eq_true rfl | decide) only [b1436_0, g1436_1, b1436_1, g1436_3, b1436_3, g1436_4, b1436_4, g1436_5, b1436_5, g1436_6, b1436_6, pe_iload1, pe_i2l, pe_bipush, pe_aload0, pe_getfield, pe_sipush, pe_isub, pe_call3, pm_af_ret, pm_af_void, pm_af_thr, pe_if_eq, pe_iload2, pe_goto, pe_goto_w, pe_call1, pe_istore3, pe_if_ne, pe_aaload, pe_icmp_ne, pe_iaload, pe_lreturn, pe_aloadN0, pe_aastoreN, pe_areturnN, pe_null, pm_prog_1, pm_ob_some, Nat.reduceDiv, Nat.reduceMod, Nat.reduceMul, Nat.reduceAdd, Int.reduceToNat, pm_kill_i, pm_kill_r, pm_kill_n, pm_kill_j, pm_kill_l, pm_kill_d, pm_cats_nil, pm_cats_i, pm_cats_r, pm_cats_n, pm_cats_l, pm_cats_d, sz_1, sz_2, sl_1, sl_2, lc_0, lc_lt, lc_le, li_ne, va_rf, wr_m1, we_m1, pm_kill_w, Int32.reduceOfInt, Int64.reduceOfInt, Int32.reduceOfNat, Int32.reduceLT, Int32.reduceLE, Prod.mk.injEq, Nat.reduceEqDiff, reduceCtorEq, and_true, true_and, and_false, false_and, and_self, ite_true, ite_false, ↓reduceIte, not_true_eq_false, not_false_eq_true, pe_ri, pe_rz, pe_rc, p_throw, t1436, w_junk hA, Cp_g0_16 hP hA, Cp_g0_17 hP hA, Cp_g0_18 hP hA, Cp_g0_8 hP hA, Cp_g24_0 hP hA, Cp_g24_1 hP hA, Cp_r7 hP hA, Cp_r8 hP hA, Cp_r9 hP hA, z1, z2, eq_false k3, eq_false k5, eq_false k7]
          · rw [if_neg k9] at e; cases e
theorem x1436 {lc : Int32} {fq : Int32} {ll : Int32 → Int32} {A : wK → Nat} {h : pm_H} {D : Nat} {S : wS} {x1 : Int32} {x2 : Int32} {r : (Nat × wS) ⊕ (Int64 × wS)} (hP : Cp_P lc fq ll) (hA : wok A (Cp_d lc fq ll) h.1) (hD : 7 ≤ D) (e : f1436 lc fq ll S x1 x2 = some r) : pm_call pm_prog D 1436 [.ref (A (0, 0, 0)), .int x1, .int x2] (wput A (Cp_d lc fq ll) S h) = some (match (generalizing := false) r with | .inl (c, S1) => (Outcome.threw c, (wput A (Cp_d lc fq ll) S1 (pm_new h 6 (.inr (c, []))))) | .inr (w0, S1) => (Outcome.returned (some (.long w0)), (wput A (Cp_d lc fq ll) S1 h))) := by
  obtain ⟨D, rfl⟩ : ∃ D', D = D' + 1 := ⟨D - 1, by omega⟩
  have hD : 6 ≤ D := by omega
  simp only [f1436] at e
  rw [c1436 (Cp_c0 hP hA), b1436_0]
  obtain ⟨v1, k1, e⟩ := Option.bind_eq_some_iff.mp e
  try dsimp only at e
  have z1 := fun h => x1411 (D := D) (h := h) (by omega) k1
  by_cases k2 : v1 = 0
  · rw [if_pos k2] at e
    have k3 := y1436_2 (h := h) hP hA hD e
    simp -implicitDefEqProofs (disch := first | assumption | exact Nat.le_of_ble_eq_true rfl | decide) only [b1436_0, g1436_1, b1436_1, g1436_3, b1436_3, g1436_4, b1436_4, g1436_5, b1436_5, g1436_6, b1436_6, pe_iload1, pe_i2l, pe_bipush, pe_aload0, pe_getfield, pe_sipush, pe_isub, pe_call3, pm_af_ret, pm_af_void, pm_af_thr, pe_if_eq, pe_iload2, pe_goto, pe_goto_w, pe_call1, pe_istore3, pe_if_ne, pe_aaload, pe_icmp_ne, pe_iaload, pe_lreturn, pe_aloadN0, pe_aastoreN, pe_areturnN, pe_null, pm_prog_1, pm_ob_some, Nat.reduceDiv, Nat.reduceMod, Nat.reduceMul, Nat.reduceAdd, Int.reduceToNat, pm_kill_i, pm_kill_r, pm_kill_n, pm_kill_j, pm_kill_l, pm_kill_d, pm_cats_nil, pm_cats_i, pm_cats_r, pm_cats_n, pm_cats_l, pm_cats_d, sz_1, sz_2, sl_1, sl_2, lc_0, lc_lt, lc_le, li_ne, va_rf, wr_m1, we_m1, pm_kill_w, Int32.reduceOfInt, Int64.reduceOfInt, Int32.reduceOfNat, Int32.reduceLT, Int32.reduceLE, Prod.mk.injEq, Nat.reduceEqDiff, reduceCtorEq, and_true, true_and, and_false, false_and, and_self, ite_true, ite_false, ↓reduceIte, not_true_eq_false, not_false_eq_true, pe_ri, pe_rz, pe_rc, p_throw, t1436, w_junk hA, Cp_g0_16 hP hA, Cp_g0_17 hP hA, Cp_g0_18 hP hA, Cp_g0_8 hP hA, Cp_g24_0 hP hA, Cp_g24_1 hP hA, Cp_r7 hP hA, Cp_r8 hP hA, Cp_r9 hP hA, z1, eq_true k2, k3]
  · rw [if_neg k2] at e
    obtain ⟨v5, k4, e⟩ := Option.bind_eq_some_iff.mp e
    try dsimp only at e
    have z4 := fun h => x1411 (D := D) (h := h) (by omega) k4
    by_cases k5 : v5 = 0
    · rw [if_pos k5] at e
      have k6 := y1436_2 (h := h) hP hA hD e
      simp -implicitDefEqProofs (disch := first | assumption | exact Nat.le_of_ble_eq_true rfl | decide) only [b1436_0, g1436_1, b1436_1, g1436_3, b1436_3, g1436_4, b1436_4, g1436_5, b1436_5, g1436_6, b1436_6, pe_iload1, pe_i2l, pe_bipush, pe_aload0, pe_getfield, pe_sipush, pe_isub, pe_call3, pm_af_ret, pm_af_void, pm_af_thr, pe_if_eq, pe_iload2, pe_goto, pe_goto_w, pe_call1, pe_istore3, pe_if_ne, pe_aaload, pe_icmp_ne, pe_iaload, pe_lreturn, pe_aloadN0, pe_aastoreN, pe_areturnN, pe_null, pm_prog_1, pm_ob_some, Nat.reduceDiv, Nat.reduceMod, Nat.reduceMul, Nat.reduceAdd, Int.reduceToNat, pm_kill_i, pm_kill_r, pm_kill_n, pm_kill_j, pm_kill_l, pm_kill_d, pm_cats_nil, pm_cats_i, pm_cats_r, pm_cats_n, pm_cats_l, pm_cats_d, sz_1, sz_2, sl_1, sl_2, lc_0, lc_lt, lc_le, li_ne, va_rf, wr_m1, we_m1, pm_kill_w, Int32.reduceOfInt, Int64.reduceOfInt, Int32.reduceOfNat, Int32.reduceLT, Int32.reduceLE, Prod.mk.injEq, Nat.reduceEqDiff, reduceCtorEq, and_true, true_and, and_false, false_and, and_self, ite_true, ite_false, ↓reduceIte, not_true_eq_false, not_false_eq_true, pe_ri, pe_rz, pe_rc, p_throw, t1436, w_junk hA, Cp_g0_16 hP hA, Cp_g0_17 hP hA, Cp_g0_18 hP hA, Cp_g0_8 hP hA, Cp_g24_0 hP hA, Cp_g24_1 hP hA, Cp_r7 hP hA, Cp_r8 hP hA, Cp_r9 hP hA, z1, eq_false k2, z4, eq_true k5, k6]
    · rw [if_neg k5] at e
      have k7 := y1436_2 (h := h) hP hA hD e
      simp -implicitDefEqProofs (disch := first | assumption | exact Nat.le_of_ble_eq_true rfl | decide) only [b1436_0, g1436_1, b1436_1, g1436_3, b1436_3, g1436_4, b1436_4, g1436_5, b1436_5, g1436_6, b1436_6, pe_iload1, pe_i2l, pe_bipush, pe_aload0, pe_getfield, pe_sipush, pe_isub, pe_call3, pm_af_ret, pm_af_void, pm_af_thr, pe_if_eq, pe_iload2, pe_goto, pe_goto_w, pe_call1, pe_istore3, pe_if_ne, pe_aaload, pe_icmp_ne, pe_iaload, pe_lreturn, pe_aloadN0, pe_aastoreN, pe_areturnN, pe_null, pm_prog_1, pm_ob_some, Nat.reduceDiv, Nat.reduceMod, Nat.reduceMul, Nat.reduceAdd, Int.reduceToNat, pm_kill_i, pm_kill_r, pm_kill_n, pm_kill_j, pm_kill_l, pm_kill_d, pm_cats_nil, pm_cats_i, pm_cats_r, pm_cats_n, pm_cats_l, pm_cats_d, sz_1, sz_2, sl_1, sl_2, lc_0, lc_lt, lc_le, li_ne, va_rf, wr_m1, we_m1, pm_kill_w, Int32.reduceOfInt, Int64.reduceOfInt, Int32.reduceOfNat, Int32.reduceLT, Int32.reduceLE, Prod.mk.injEq, Nat.reduceEqDiff, reduceCtorEq, and_true, true_and, and_false, false_and, and_self, ite_true, ite_false, ↓reduceIte, not_true_eq_false, not_false_eq_true, pe_ri, pe_rz, pe_rc, p_throw, t1436, w_junk hA, Cp_g0_16 hP hA, Cp_g0_17 hP hA, Cp_g0_18 hP hA, Cp_g0_8 hP hA, Cp_g24_0 hP hA, Cp_g24_1 hP hA, Cp_r7 hP hA, Cp_r8 hP hA, Cp_r9 hP hA, z1, eq_false k2, z4, eq_false k5, k7]
/-- TimberHouse$PriceLines.currency(III)I -/
theorem c1438 {d : Nat} {h : pm_H} {a : Nat} {x0 : Int32} {x1 : Int32} {x2 : Int32} (hc : pm_cls h a = some 22) : pm_call pm_prog (d + 1) 1438 [.ref a, .int x0, .int x1, .int x2] h = pm_ev pm_prog (pm_call pm_prog d) 1438 0 b1438_0 [.ref a, .int x0, .int x1, .int x2, pm_junk, pm_junk] [] h := pm_cal (pm_rc1 hc rfl) rfl rfl rfl
theorem g1438_1 {cl : pm_C} {ls st : List Value} {h : pm_H} : pm_go pm_prog cl 1438 1 ls st h = pm_ev pm_prog cl 1438 1 b1438_1 ls st h := pm_go_eq pm_prog cl 1438 1 ls st h
theorem g1438_2 {cl : pm_C} {ls st : List Value} {h : pm_H} : pm_go pm_prog cl 1438 2 ls st h = pm_ev pm_prog cl 1438 2 b1438_2 ls st h := pm_go_eq pm_prog cl 1438 2 ls st h
theorem g1438_3 {cl : pm_C} {ls st : List Value} {h : pm_H} : pm_go pm_prog cl 1438 3 ls st h = pm_ev pm_prog cl 1438 3 b1438_3 ls st h := pm_go_eq pm_prog cl 1438 3 ls st h
theorem g1438_4 {cl : pm_C} {ls st : List Value} {h : pm_H} : pm_go pm_prog cl 1438 4 ls st h = pm_ev pm_prog cl 1438 4 b1438_4 ls st h := pm_go_eq pm_prog cl 1438 4 ls st h
theorem g1438_5 {cl : pm_C} {ls st : List Value} {h : pm_H} : pm_go pm_prog cl 1438 5 ls st h = pm_ev pm_prog cl 1438 5 b1438_5 ls st h := pm_go_eq pm_prog cl 1438 5 ls st h
theorem g1438_6 {cl : pm_C} {ls st : List Value} {h : pm_H} : pm_go pm_prog cl 1438 6 ls st h = pm_ev pm_prog cl 1438 6 b1438_6 ls st h := pm_go_eq pm_prog cl 1438 6 ls st h
theorem g1438_7 {cl : pm_C} {ls st : List Value} {h : pm_H} : pm_go pm_prog cl 1438 7 ls st h = pm_ev pm_prog cl 1438 7 b1438_7 ls st h := pm_go_eq pm_prog cl 1438 7 ls st h
theorem t1438 {cl : pm_C} {j : Nat} {ls : List Value} {c : Nat} {h : pm_H} : pm_thr pm_prog cl 1438 j ls c h = some (.threw c, h) := rfl
noncomputable def f1438_7 (lc : Int32) (fq : Int32) (ll : Int32 → Int32) (S : wS) (x1 : Int32) (x2 : Int32) (x3 : Int32) (y0 : Int32) : Option ((Nat × wS) ⊕ (Int32 × wS)) :=
  (f1418 y0).bind fun r => match r with
  | .inl c2 =>
    some (.inl (c2, S))
  | .inr _ =>
  if 0 ≤ (S.1 (0, 0, 0) 20) ∧ (S.1 (0, 0, 0) 20) < 8 then
    some (.inr (((S.1 (0, 0, 0) 20) + 1), (sz (sz (sz (sz S (0, 0, 0) 20 ((S.1 (0, 0, 0) 20) + 1)) (11, (S.1 (0, 0, 0) 20), 0) 0 x1) (11, (S.1 (0, 0, 0) 20), 0) 1 x2) (11, (S.1 (0, 0, 0) 20), 0) 2 x3)))
  else none
noncomputable def f1438_5 (lc : Int32) (fq : Int32) (ll : Int32 → Int32) (S : wS) (x1 : Int32) (x2 : Int32) (x3 : Int32) (y0 : Int32) : Option ((Nat × wS) ⊕ (Int32 × wS)) :=
  (f1414 y0).bind fun r => match r with
  | .inl c3 =>
    some (.inl (c3, S))
  | .inr _ =>
  if (S.1 (0, 0, 0) 20) < 8 then
    f1438_7 lc fq ll S x1 x2 x3 1
  else
    f1438_7 lc fq ll S x1 x2 x3 0
noncomputable def f1438_3 (lc : Int32) (fq : Int32) (ll : Int32 → Int32) (S : wS) (x1 : Int32) (x2 : Int32) (x3 : Int32) (y0 : Int32) : Option ((Nat × wS) ⊕ (Int32 × wS)) :=
  (f1411 (Int32.toInt64 x1) 0 10000).bind fun v1 =>
  if v1 = 0 then
    f1438_5 lc fq ll S x1 x2 x3 0
  else
    if y0 = 0 then
      f1438_5 lc fq ll S x1 x2 x3 0
    else
      (f1411 (Int32.toInt64 x2) 1 1000).bind fun v4 =>
      if v4 = 0 then
        f1438_5 lc fq ll S x1 x2 x3 0
      else
        (f1411 (Int32.toInt64 x3) 1 1000).bind fun v5 =>
        if v5 = 0 then
          f1438_5 lc fq ll S x1 x2 x3 0
        else
          f1438_5 lc fq ll S x1 x2 x3 1
/-- TimberHouse$PriceLines.currency(III)I -/
noncomputable def f1438 (lc : Int32) (fq : Int32) (ll : Int32 → Int32) (S : wS) (x1 : Int32) (x2 : Int32) (x3 : Int32) : Option ((Nat × wS) ⊕ (Int32 × wS)) :=
  if (S.1 (0, 0, 0) 20) = 0 then
    f1438_3 lc fq ll S x1 x2 x3 1
  else
    if 0 ≤ ((S.1 (0, 0, 0) 20) - 1) ∧ ((S.1 (0, 0, 0) 20) - 1) < 8 then
      if x1 ≤ (S.1 (11, ((S.1 (0, 0, 0) 20) - 1), 0) 0) then
        f1438_3 lc fq ll S x1 x2 x3 0
      else
        f1438_3 lc fq ll S x1 x2 x3 1
    else none
theorem y1438_7 {lc : Int32} {fq : Int32} {ll : Int32 → Int32} {A : wK → Nat} {h : pm_H} {D : Nat} {S : wS} {x1 : Int32} {x2 : Int32} {x3 : Int32} {y0 : Int32} {r : (Nat × wS) ⊕ (Int32 × wS)} (hP : Cp_P lc fq ll) (hA : wok A (Cp_d lc fq ll) h.1) (hD : 1 ≤ D) (e : f1438_7 lc fq ll S x1 x2 x3 y0 = some r) : ∀ q4 q5 : Value, pm_go pm_prog (pm_call pm_prog D) 1438 7 [.ref (A (0, 0, 0)), .int x1, .int x2, .int x3, q4, q5] [.int y0] (wput A (Cp_d lc fq ll) S h) = some (match (generalizing := false) r with | .inl (c, S1) => (Outcome.threw c, (wput A (Cp_d lc fq ll) S1 (pm_new h 6 (.inr (c, []))))) | .inr (w0, S1) => (Outcome.returned (some (.int w0)), (wput A (Cp_d lc fq ll) S1 h))) := by
  intro q4 q5
  simp only [f1438_7] at e
  rw [g1438_7, b1438_7]
  obtain ⟨r, k1, e⟩ := Option.bind_eq_some_iff.mp e
  have z1 := fun h => x1418 (D := D) (h := h) (by omega) k1
  rcases r with c2 | _
  · dsimp only at e z1
    have e := Option.some.inj e; subst e
    simp -implicitDefEqProofs (disch := first | assumption | exact Nat.le_of_ble_eq_true rfl | decide) only [b1438_0, g1438_1, b1438_1, g1438_2, b1438_2, g1438_4, b1438_4, g1438_6, b1438_6, pe_aload0, pe_getfield, pe_if_eq, pe_iload1, pe_sipush, pe_isub, pe_aaload, pe_iaload, pe_icmp_le, pe_goto_w, pe_goto, pe_istore4, pe_i2l, pe_bipush, pe_call3, pm_af_ret, pm_af_void, pm_af_thr, pe_iload4, pe_iload2, pe_iload3, pe_call1, pe_icmp_ge, pe_dup_i, pe_dup_r, pe_dup_x1_ii, pe_dup_x1_ir, pe_dup_x1_ri, pe_dup_x1_rr, pe_iadd, pe_putfield, pe_astore5, pe_aload5, pe_iastore, pe_aloadN0, pe_astoreN5, pe_aloadN5, pe_aastoreN, pe_areturnN, pe_null, pm_prog_1, pm_ob_some, Nat.reduceDiv, Nat.reduceMod, Nat.reduceMul, Nat.reduceAdd, Int.reduceToNat, pm_kill_i, pm_kill_r, pm_kill_n, pm_kill_j, pm_kill_l, pm_kill_d, pm_cats_nil, pm_cats_i, pm_cats_r, pm_cats_n, pm_cats_l, pm_cats_d, sz_1, sz_2, sl_1, sl_2, lc_0, lc_lt, lc_le, li_ne, va_rf, wr_m1, we_m1, pm_kill_w, Int32.reduceOfInt, Int64.reduceOfInt, Int32.reduceOfNat, Int32.reduceLT, Int32.reduceLE, Prod.mk.injEq, Nat.reduceEqDiff, reduceCtorEq, and_true, true_and, and_false, false_and, and_self, ite_true, ite_false, ↓reduceIte, not_true_eq_false, not_false_eq_true, pe_ri, pe_rz, pe_rc, p_throw, t1438, w_junk hA, Cp_g0_19 hP hA, Cp_g0_20 hP hA, Cp_p0_20 hP hA, Cp_r10 hP hA, Cp_r11 hP hA, Cp_w11 hP hA, z1]
  · dsimp only at e z1
    by_cases k2 : 0 ≤ (S.1 (0, 0, 0) 20) ∧ (S.1 (0, 0, 0) 20) < 8
    · rw [if_pos k2] at e
      have e := Option.some.inj e; subst e
      simp -implicitDefEqProofs (disch := first | assumption | exact Nat.le_of_ble_eq_true rfl | decide) only [b1438_0, g1438_1, b1438_1, g1438_2, b1438_2, g1438_4, b1438_4, g1438_6, b1438_6, pe_aload0, pe_getfield, pe_if_eq, pe_iload1, pe_sipush, pe_isub, pe_aaload, pe_iaload, pe_icmp_le, pe_goto_w, pe_goto, pe_istore4, pe_i2l, pe_bipush, pe_call3, pm_af_ret, pm_af_void, pm_af_thr, pe_iload4, pe_iload2, pe_iload3, pe_call1, pe_icmp_ge, pe_dup_i, pe_dup_r, pe_dup_x1_ii, pe_dup_x1_ir, pe_dup_x1_ri, pe_dup_x1_rr, pe_iadd, pe_putfield, pe_astore5, pe_aload5, pe_iastore, pe_aloadN0, pe_astoreN5, pe_aloadN5, pe_aastoreN, pe_areturnN, pe_null, pm_prog_1, pm_ob_some, Nat.reduceDiv, Nat.reduceMod, Nat.reduceMul, Nat.reduceAdd, Int.reduceToNat, pm_kill_i, pm_kill_r, pm_kill_n, pm_kill_j, pm_kill_l, pm_kill_d, pm_cats_nil, pm_cats_i, pm_cats_r, pm_cats_n, pm_cats_l, pm_cats_d, sz_1, sz_2, sl_1, sl_2, lc_0, lc_lt, lc_le, li_ne, va_rf, wr_m1, we_m1, pm_kill_w, Int32.reduceOfInt, Int64.reduceOfInt, Int32.reduceOfNat, Int32.reduceLT, Int32.reduceLE, Prod.mk.injEq, Nat.reduceEqDiff, reduceCtorEq, and_true, true_and, and_false, false_and, and_self, ite_true, ite_false, ↓reduceIte, not_true_eq_false, not_false_eq_true, pe_ri, pe_rz, pe_rc, p_throw, t1438, w_junk hA, Cp_g0_19 hP hA, Cp_g0_20 hP hA, Cp_p0_20 hP hA, Cp_r10 hP hA, Cp_r11 hP hA, Cp_w11 hP hA, z1]
    · rw [if_neg k2] at e; cases e
theorem y1438_5 {lc : Int32} {fq : Int32} {ll : Int32 → Int32} {A : wK → Nat} {h : pm_H} {D : Nat} {S : wS} {x1 : Int32} {x2 : Int32} {x3 : Int32} {y0 : Int32} {r : (Nat × wS) ⊕ (Int32 × wS)} (hP : Cp_P lc fq ll) (hA : wok A (Cp_d lc fq ll) h.1) (hD : 1 ≤ D) (e : f1438_5 lc fq ll S x1 x2 x3 y0 = some r) : ∀ q4 q5 : Value, pm_go pm_prog (pm_call pm_prog D) 1438 5 [.ref (A (0, 0, 0)), .int x1, .int x2, .int x3, q4, q5] [.int y0] (wput A (Cp_d lc fq ll) S h) = some (match (generalizing := false) r with | .inl (c, S1) => (Outcome.threw c, (wput A (Cp_d lc fq ll) S1 (pm_new h 6 (.inr (c, []))))) | .inr (w0, S1) => (Outcome.returned (some (.int w0)), (wput A (Cp_d lc fq ll) S1 h))) := by
  intro q4 q5
  simp only [f1438_5] at e
  rw [g1438_5, b1438_5]
  obtain ⟨r, k1, e⟩ := Option.bind_eq_some_iff.mp e
  have z1 := fun h => x1414 (D := D) (h := h) (by omega) k1
  rcases r with c3 | _
  · dsimp only at e z1
    have e := Option.some.inj e; subst e
    simp -implicitDefEqProofs (disch := first | assumption | exact Nat.le_of_ble_eq_true rfl | decide) only [b1438_0, g1438_1, b1438_1, g1438_2, b1438_2, g1438_4, b1438_4, g1438_6, b1438_6, pe_aload0, pe_getfield, pe_if_eq, pe_iload1, pe_sipush, pe_isub, pe_aaload, pe_iaload, pe_icmp_le, pe_goto_w, pe_goto, pe_istore4, pe_i2l, pe_bipush, pe_call3, pm_af_ret, pm_af_void, pm_af_thr, pe_iload4, pe_iload2, pe_iload3, pe_call1, pe_icmp_ge, pe_dup_i, pe_dup_r, pe_dup_x1_ii, pe_dup_x1_ir, pe_dup_x1_ri, pe_dup_x1_rr, pe_iadd, pe_putfield, pe_astore5, pe_aload5, pe_iastore, pe_aloadN0, pe_astoreN5, pe_aloadN5, pe_aastoreN, pe_areturnN, pe_null, pm_prog_1, pm_ob_some, Nat.reduceDiv, Nat.reduceMod, Nat.reduceMul, Nat.reduceAdd, Int.reduceToNat, pm_kill_i, pm_kill_r, pm_kill_n, pm_kill_j, pm_kill_l, pm_kill_d, pm_cats_nil, pm_cats_i, pm_cats_r, pm_cats_n, pm_cats_l, pm_cats_d, sz_1, sz_2, sl_1, sl_2, lc_0, lc_lt, lc_le, li_ne, va_rf, wr_m1, we_m1, pm_kill_w, Int32.reduceOfInt, Int64.reduceOfInt, Int32.reduceOfNat, Int32.reduceLT, Int32.reduceLE, Prod.mk.injEq, Nat.reduceEqDiff, reduceCtorEq, and_true, true_and, and_false, false_and, and_self, ite_true, ite_false, ↓reduceIte, not_true_eq_false, not_false_eq_true, pe_ri, pe_rz, pe_rc, p_throw, t1438, w_junk hA, Cp_g0_19 hP hA, Cp_g0_20 hP hA, Cp_p0_20 hP hA, Cp_r10 hP hA, Cp_r11 hP hA, Cp_w11 hP hA, z1]
  · dsimp only at e z1
    by_cases k2 : (S.1 (0, 0, 0) 20) < 8
    · rw [if_pos k2] at e
      have k3 := y1438_7 (h := h) hP hA hD e
      simp -implicitDefEqProofs (disch := first | assumption | exact Nat.le_of_ble_eq_true rfl | decide) only [b1438_0, g1438_1, b1438_1, g1438_2, b1438_2, g1438_4, b1438_4, g1438_6, b1438_6, pe_aload0, pe_getfield, pe_if_eq, pe_iload1, pe_sipush, pe_isub, pe_aaload, pe_iaload, pe_icmp_le, pe_goto_w, pe_goto, pe_istore4, pe_i2l, pe_bipush, pe_call3, pm_af_ret, pm_af_void, pm_af_thr, pe_iload4, pe_iload2, pe_iload3, pe_call1, pe_icmp_ge, pe_dup_i, pe_dup_r, pe_dup_x1_ii, pe_dup_x1_ir, pe_dup_x1_ri, pe_dup_x1_rr, pe_iadd, pe_putfield, pe_astore5, pe_aload5, pe_iastore, pe_aloadN0, pe_astoreN5, pe_aloadN5, pe_aastoreN, pe_areturnN, pe_null, pm_prog_1, pm_ob_some, Nat.reduceDiv, Nat.reduceMod, Nat.reduceMul, Nat.reduceAdd, Int.reduceToNat, pm_kill_i, pm_kill_r, pm_kill_n, pm_kill_j, pm_kill_l, pm_kill_d, pm_cats_nil, pm_cats_i, pm_cats_r, pm_cats_n, pm_cats_l, pm_cats_d, sz_1, sz_2, sl_1, sl_2, lc_0, lc_lt, lc_le, li_ne, va_rf, wr_m1, we_m1, pm_kill_w, Int32.reduceOfInt, Int64.reduceOfInt, Int32.reduceOfNat, Int32.reduceLT, Int32.reduceLE, Prod.mk.injEq, Nat.reduceEqDiff, reduceCtorEq, and_true, true_and, and_false, false_and, and_self, ite_true, ite_false, ↓reduceIte, not_true_eq_false, not_false_eq_true, pe_ri, pe_rz, pe_rc, p_throw, t1438, w_junk hA, Cp_g0_19 hP hA, Cp_g0_20 hP hA, Cp_p0_20 hP hA, Cp_r10 hP hA, Cp_r11 hP hA, Cp_w11 hP hA, z1, eq_true k2, k3]
    · rw [if_neg k2] at e
      have k4 := y1438_7 (h := h) hP hA hD e
      simp -implicitDefEqProofs (disch := first | assumption | exact Nat.le_of_ble_eq_true rfl | decide) only [b1438_0, g1438_1, b1438_1, g1438_2, b1438_2, g1438_4, b1438_4, g1438_6, b1438_6, pe_aload0, pe_getfield, pe_if_eq, pe_iload1, pe_sipush, pe_isub, pe_aaload, pe_iaload, pe_icmp_le, pe_goto_w, pe_goto, pe_istore4, pe_i2l, pe_bipush, pe_call3, pm_af_ret, pm_af_void, pm_af_thr, pe_iload4, pe_iload2, pe_iload3, pe_call1, pe_icmp_ge, pe_dup_i, pe_dup_r, pe_dup_x1_ii, pe_dup_x1_ir, pe_dup_x1_ri, pe_dup_x1_rr, pe_iadd, pe_putfield, pe_astore5, pe_aload5, pe_iastore, pe_aloadN0, pe_astoreN5, pe_aloadN5, pe_aastoreN, pe_areturnN, pe_null, pm_prog_1, pm_ob_some, Nat.reduceDiv, Nat.reduceMod, Nat.reduceMul, Nat.reduceAdd, Int.reduceToNat, pm_kill_i, pm_kill_r, pm_kill_n, pm_kill_j, pm_kill_l, pm_kill_d, pm_cats_nil, pm_cats_i, pm_cats_r, pm_cats_n, pm_cats_l, pm_cats_d, sz_1, sz_2, sl_1, sl_2, lc_0, lc_lt, lc_le, li_ne, va_rf, wr_m1, we_m1, pm_kill_w, Int32.reduceOfInt, Int64.reduceOfInt, Int32.reduceOfNat, Int32.reduceLT, Int32.reduceLE, Prod.mk.injEq, Nat.reduceEqDiff, reduceCtorEq, and_true, true_and, and_false, false_and, and_self, ite_true, ite_false, ↓reduceIte, not_true_eq_false, not_false_eq_true, pe_ri, pe_rz, pe_rc, p_throw, t1438, w_junk hA, Cp_g0_19 hP hA, Cp_g0_20 hP hA, Cp_p0_20 hP hA, Cp_r10 hP hA, Cp_r11 hP hA, Cp_w11 hP hA, z1, eq_false k2, k4]
theorem y1438_3 {lc : Int32} {fq : Int32} {ll : Int32 → Int32} {A : wK → Nat} {h : pm_H} {D : Nat} {S : wS} {x1 : Int32} {x2 : Int32} {x3 : Int32} {y0 : Int32} {r : (Nat × wS) ⊕ (Int32 × wS)} (hP : Cp_P lc fq ll) (hA : wok A (Cp_d lc fq ll) h.1) (hD : 1 ≤ D) (e : f1438_3 lc fq ll S x1 x2 x3 y0 = some r) : ∀ q4 q5 : Value, pm_go pm_prog (pm_call pm_prog D) 1438 3 [.ref (A (0, 0, 0)), .int x1, .int x2, .int x3, q4, q5] [.int y0] (wput A (Cp_d lc fq ll) S h) = some (match (generalizing := false) r with | .inl (c, S1) => (Outcome.threw c, (wput A (Cp_d lc fq ll) S1 (pm_new h 6 (.inr (c, []))))) | .inr (w0, S1) => (Outcome.returned (some (.int w0)), (wput A (Cp_d lc fq ll) S1 h))) := by
  intro q4 q5
  simp only [f1438_3] at e
  rw [g1438_3, b1438_3]
  obtain ⟨v1, k1, e⟩ := Option.bind_eq_some_iff.mp e
  try dsimp only at e
  have z1 := fun h => x1411 (D := D) (h := h) (by omega) k1
  by_cases k2 : v1 = 0
  · rw [if_pos k2] at e
    have k3 := y1438_5 (h := h) hP hA hD e
    simp -implicitDefEqProofs (disch := first | assumption | exact Nat.le_of_ble_eq_true rfl | decide) only [b1438_0, g1438_1, b1438_1, g1438_2, b1438_2, g1438_4, b1438_4, g1438_6, b1438_6, pe_aload0, pe_getfield, pe_if_eq, pe_iload1, pe_sipush, pe_isub, pe_aaload, pe_iaload, pe_icmp_le, pe_goto_w, pe_goto, pe_istore4, pe_i2l, pe_bipush, pe_call3, pm_af_ret, pm_af_void, pm_af_thr, pe_iload4, pe_iload2, pe_iload3, pe_call1, pe_icmp_ge, pe_dup_i, pe_dup_r, pe_dup_x1_ii, pe_dup_x1_ir, pe_dup_x1_ri, pe_dup_x1_rr, pe_iadd, pe_putfield, pe_astore5, pe_aload5, pe_iastore, pe_aloadN0, pe_astoreN5, pe_aloadN5, pe_aastoreN, pe_areturnN, pe_null, pm_prog_1, pm_ob_some, Nat.reduceDiv, Nat.reduceMod, Nat.reduceMul, Nat.reduceAdd, Int.reduceToNat, pm_kill_i, pm_kill_r, pm_kill_n, pm_kill_j, pm_kill_l, pm_kill_d, pm_cats_nil, pm_cats_i, pm_cats_r, pm_cats_n, pm_cats_l, pm_cats_d, sz_1, sz_2, sl_1, sl_2, lc_0, lc_lt, lc_le, li_ne, va_rf, wr_m1, we_m1, pm_kill_w, Int32.reduceOfInt, Int64.reduceOfInt, Int32.reduceOfNat, Int32.reduceLT, Int32.reduceLE, Prod.mk.injEq, Nat.reduceEqDiff, reduceCtorEq, and_true, true_and, and_false, false_and, and_self, ite_true, ite_false, ↓reduceIte, not_true_eq_false, not_false_eq_true, pe_ri, pe_rz, pe_rc, p_throw, t1438, w_junk hA, Cp_g0_19 hP hA, Cp_g0_20 hP hA, Cp_p0_20 hP hA, Cp_r10 hP hA, Cp_r11 hP hA, Cp_w11 hP hA, z1, eq_true k2, k3]
  · rw [if_neg k2] at e
    by_cases k4 : y0 = 0
    · rw [if_pos k4] at e
      have k5 := y1438_5 (h := h) hP hA hD e
      simp -implicitDefEqProofs (disch := first | assumption | exact Nat.le_of_ble_eq_true rfl | decide) only [b1438_0, g1438_1, b1438_1, g1438_2, b1438_2, g1438_4, b1438_4, g1438_6, b1438_6, pe_aload0, pe_getfield, pe_if_eq, pe_iload1, pe_sipush, pe_isub, pe_aaload, pe_iaload, pe_icmp_le, pe_goto_w, pe_goto, pe_istore4, pe_i2l, pe_bipush, pe_call3, pm_af_ret, pm_af_void, pm_af_thr, pe_iload4, pe_iload2, pe_iload3, pe_call1, pe_icmp_ge, pe_dup_i, pe_dup_r, pe_dup_x1_ii, pe_dup_x1_ir, pe_dup_x1_ri, pe_dup_x1_rr, pe_iadd, pe_putfield, pe_astore5, pe_aload5, pe_iastore, pe_aloadN0, pe_astoreN5, pe_aloadN5, pe_aastoreN, pe_areturnN, pe_null, pm_prog_1, pm_ob_some, Nat.reduceDiv, Nat.reduceMod, Nat.reduceMul, Nat.reduceAdd, Int.reduceToNat, pm_kill_i, pm_kill_r, pm_kill_n, pm_kill_j, pm_kill_l, pm_kill_d, pm_cats_nil, pm_cats_i, pm_cats_r, pm_cats_n, pm_cats_l, pm_cats_d, sz_1, sz_2, sl_1, sl_2, lc_0, lc_lt, lc_le, li_ne, va_rf, wr_m1, we_m1, pm_kill_w, Int32.reduceOfInt, Int64.reduceOfInt, Int32.reduceOfNat, Int32.reduceLT, Int32.reduceLE, Prod.mk.injEq, Nat.reduceEqDiff, reduceCtorEq, and_true, true_and, and_false, false_and, and_self, ite_true, ite_false, ↓reduceIte, not_true_eq_false, not_false_eq_true, pe_ri, pe_rz, pe_rc, p_throw, t1438, w_junk hA, Cp_g0_19 hP hA, Cp_g0_20 hP hA, Cp_p0_20 hP hA, Cp_r10 hP hA, Cp_r11 hP hA, Cp_w11 hP hA, z1, eq_false k2, eq_true k4, k5]
    · rw [if_neg k4] at e
      obtain ⟨v4, k6, e⟩ := Option.bind_eq_some_iff.mp e
      try dsimp only at e
      have z6 := fun h => x1411 (D := D) (h := h) (by omega) k6
      by_cases k7 : v4 = 0
      · rw [if_pos k7] at e
        have k8 := y1438_5 (h := h) hP hA hD e
        simp -implicitDefEqProofs (disch := first | assumption | exact Nat.le_of_ble_eq_true rfl | decide) only [b1438_0, g1438_1, b1438_1, g1438_2, b1438_2, g1438_4, b1438_4, g1438_6, b1438_6, pe_aload0, pe_getfield, pe_if_eq, pe_iload1, pe_sipush, pe_isub, pe_aaload, pe_iaload, pe_icmp_le, pe_goto_w, pe_goto, pe_istore4, pe_i2l, pe_bipush, pe_call3, pm_af_ret, pm_af_void, pm_af_thr, pe_iload4, pe_iload2, pe_iload3, pe_call1, pe_icmp_ge, pe_dup_i, pe_dup_r, pe_dup_x1_ii, pe_dup_x1_ir, pe_dup_x1_ri, pe_dup_x1_rr, pe_iadd, pe_putfield, pe_astore5, pe_aload5, pe_iastore, pe_aloadN0, pe_astoreN5, pe_aloadN5, pe_aastoreN, pe_areturnN, pe_null, pm_prog_1, pm_ob_some, Nat.reduceDiv, Nat.reduceMod, Nat.reduceMul, Nat.reduceAdd, Int.reduceToNat, pm_kill_i, pm_kill_r, pm_kill_n, pm_kill_j, pm_kill_l, pm_kill_d, pm_cats_nil, pm_cats_i, pm_cats_r, pm_cats_n, pm_cats_l, pm_cats_d, sz_1, sz_2, sl_1, sl_2, lc_0, lc_lt, lc_le, li_ne, va_rf, wr_m1, we_m1, pm_kill_w, Int32.reduceOfInt, Int64.reduceOfInt, Int32.reduceOfNat, Int32.reduceLT, Int32.reduceLE, Prod.mk.injEq, Nat.reduceEqDiff, reduceCtorEq, and_true, true_and, and_false, false_and, and_self, ite_true, ite_false, ↓reduceIte, not_true_eq_false, not_false_eq_true, pe_ri, pe_rz, pe_rc, p_throw, t1438, w_junk hA, Cp_g0_19 hP hA, Cp_g0_20 hP hA, Cp_p0_20 hP hA, Cp_r10 hP hA, Cp_r11 hP hA, Cp_w11 hP hA, z1, eq_false k2, eq_false k4, z6, eq_true k7, k8]
      · rw [if_neg k7] at e
        obtain ⟨v5, k9, e⟩ := Option.bind_eq_some_iff.mp e
        try dsimp only at e
        have z9 := fun h => x1411 (D := D) (h := h) (by omega) k9
        by_cases k10 : v5 = 0
        · rw [if_pos k10] at e
          have k11 := y1438_5 (h := h) hP hA hD e
          simp -implicitDefEqProofs (disch := first | assumption | exact Nat.le_of_ble_eq_true rfl | decide) only [b1438_0, g1438_1, b1438_1, g1438_2, b1438_2, g1438_4, b1438_4, g1438_6, b1438_6, pe_aload0, pe_getfield, pe_if_eq, pe_iload1, pe_sipush, pe_isub, pe_aaload, pe_iaload, pe_icmp_le, pe_goto_w, pe_goto, pe_istore4, pe_i2l, pe_bipush, pe_call3, pm_af_ret, pm_af_void, pm_af_thr, pe_iload4, pe_iload2, pe_iload3, pe_call1, pe_icmp_ge, pe_dup_i, pe_dup_r, pe_dup_x1_ii, pe_dup_x1_ir, pe_dup_x1_ri, pe_dup_x1_rr, pe_iadd, pe_putfield, pe_astore5, pe_aload5, pe_iastore, pe_aloadN0, pe_astoreN5, pe_aloadN5, pe_aastoreN, pe_areturnN, pe_null, pm_prog_1, pm_ob_some, Nat.reduceDiv, Nat.reduceMod, Nat.reduceMul, Nat.reduceAdd, Int.reduceToNat, pm_kill_i, pm_kill_r, pm_kill_n, pm_kill_j, pm_kill_l, pm_kill_d, pm_cats_nil, pm_cats_i, pm_cats_r, pm_cats_n, pm_cats_l, pm_cats_d, sz_1, sz_2, sl_1, sl_2, lc_0, lc_lt, lc_le, li_ne, va_rf, wr_m1, we_m1, pm_kill_w, Int32.reduceOfInt, Int64.reduceOfInt, Int32.reduceOfNat, Int32.reduceLT, Int32.reduceLE, Prod.mk.injEq, Nat.reduceEqDiff, reduceCtorEq, and_true, true_and, and_false, false_and, and_self, ite_true, ite_false, ↓reduceIte, not_true_eq_false, not_false_eq_true, pe_ri, pe_rz, pe_rc, p_throw, t1438, w_junk hA, Cp_g0_19 hP hA, Cp_g0_20 hP hA, Cp_p0_20 hP hA, Cp_r10 hP hA, Cp_r11 hP hA, Cp_w11 hP hA, z1, eq_false k2, eq_false k4, z6, eq_false k7, z9, eq_true k10, k11]
        · rw [if_neg k10] at e
          have k12 := y1438_5 (h := h) hP hA hD e
          simp -implicitDefEqProofs (disch := first | assumption | exact Nat.le_of_ble_eq_true rfl | decide) only [b1438_0, g1438_1, b1438_1, g1438_2, b1438_2, g1438_4, b1438_4, g1438_6, b1438_6, pe_aload0, pe_getfield, pe_if_eq, pe_iload1, pe_sipush, pe_isub, pe_aaload, pe_iaload, pe_icmp_le, pe_goto_w, pe_goto, pe_istore4, pe_i2l, pe_bipush, pe_call3, pm_af_ret, pm_af_void, pm_af_thr, pe_iload4, pe_iload2, pe_iload3, pe_call1, pe_icmp_ge, pe_dup_i, pe_dup_r, pe_dup_x1_ii, pe_dup_x1_ir, pe_dup_x1_ri, pe_dup_x1_rr, pe_iadd, pe_putfield, pe_astore5, pe_aload5, pe_iastore, pe_aloadN0, pe_astoreN5, pe_aloadN5, pe_aastoreN, pe_areturnN, pe_null, pm_prog_1, pm_ob_some, Nat.reduceDiv, Nat.reduceMod, Nat.reduceMul, Nat.reduceAdd, Int.reduceToNat, pm_kill_i, pm_kill_r, pm_kill_n, pm_kill_j, pm_kill_l, pm_kill_d, pm_cats_nil, pm_cats_i, pm_cats_r, pm_cats_n, pm_cats_l, pm_cats_d, sz_1, sz_2, sl_1, sl_2, lc_0, lc_lt, lc_le, li_ne, va_rf, wr_m1, we_m1, pm_kill_w, Int32.reduceOfInt, Int64.reduceOfInt, Int32.reduceOfNat, Int32.reduceLT, Int32.reduceLE, Prod.mk.injEq, Nat.reduceEqDiff, reduceCtorEq, and_true, true_and, and_false, false_and, and_self, ite_true, ite_false, ↓reduceIte, not_true_eq_false, not_false_eq_true, pe_ri, pe_rz, pe_rc, p_throw, t1438, w_junk hA, Cp_g0_19 hP hA, Cp_g0_20 hP hA, Cp_p0_20 hP hA, Cp_r10 hP hA, Cp_r11 hP hA, Cp_w11 hP hA, z1, eq_false k2, eq_false k4, z6, eq_false k7, z9, eq_false k10, k12]
theorem x1438 {lc : Int32} {fq : Int32} {ll : Int32 → Int32} {A : wK → Nat} {h : pm_H} {D : Nat} {S : wS} {x1 : Int32} {x2 : Int32} {x3 : Int32} {r : (Nat × wS) ⊕ (Int32 × wS)} (hP : Cp_P lc fq ll) (hA : wok A (Cp_d lc fq ll) h.1) (hD : 2 ≤ D) (e : f1438 lc fq ll S x1 x2 x3 = some r) : pm_call pm_prog D 1438 [.ref (A (0, 0, 0)), .int x1, .int x2, .int x3] (wput A (Cp_d lc fq ll) S h) = some (match (generalizing := false) r with | .inl (c, S1) => (Outcome.threw c, (wput A (Cp_d lc fq ll) S1 (pm_new h 6 (.inr (c, []))))) | .inr (w0, S1) => (Outcome.returned (some (.int w0)), (wput A (Cp_d lc fq ll) S1 h))) := by
  obtain ⟨D, rfl⟩ : ∃ D', D = D' + 1 := ⟨D - 1, by omega⟩
  have hD : 1 ≤ D := by omega
  simp only [f1438] at e
  rw [c1438 (Cp_c0 hP hA), b1438_0]
  by_cases k1 : (S.1 (0, 0, 0) 20) = 0
  · rw [if_pos k1] at e
    have k2 := y1438_3 (h := h) hP hA hD e
    simp -implicitDefEqProofs (disch := first | assumption | exact Nat.le_of_ble_eq_true rfl | decide) only [b1438_0, g1438_1, b1438_1, g1438_2, b1438_2, g1438_4, b1438_4, g1438_6, b1438_6, pe_aload0, pe_getfield, pe_if_eq, pe_iload1, pe_sipush, pe_isub, pe_aaload, pe_iaload, pe_icmp_le, pe_goto_w, pe_goto, pe_istore4, pe_i2l, pe_bipush, pe_call3, pm_af_ret, pm_af_void, pm_af_thr, pe_iload4, pe_iload2, pe_iload3, pe_call1, pe_icmp_ge, pe_dup_i, pe_dup_r, pe_dup_x1_ii, pe_dup_x1_ir, pe_dup_x1_ri, pe_dup_x1_rr, pe_iadd, pe_putfield, pe_astore5, pe_aload5, pe_iastore, pe_aloadN0, pe_astoreN5, pe_aloadN5, pe_aastoreN, pe_areturnN, pe_null, pm_prog_1, pm_ob_some, Nat.reduceDiv, Nat.reduceMod, Nat.reduceMul, Nat.reduceAdd, Int.reduceToNat, pm_kill_i, pm_kill_r, pm_kill_n, pm_kill_j, pm_kill_l, pm_kill_d, pm_cats_nil, pm_cats_i, pm_cats_r, pm_cats_n, pm_cats_l, pm_cats_d, sz_1, sz_2, sl_1, sl_2, lc_0, lc_lt, lc_le, li_ne, va_rf, wr_m1, we_m1, pm_kill_w, Int32.reduceOfInt, Int64.reduceOfInt, Int32.reduceOfNat, Int32.reduceLT, Int32.reduceLE, Prod.mk.injEq, Nat.reduceEqDiff, reduceCtorEq, and_true, true_and, and_false, false_and, and_self, ite_true, ite_false, ↓reduceIte, not_true_eq_false, not_false_eq_true, pe_ri, pe_rz, pe_rc, p_throw, t1438, w_junk hA, Cp_g0_19 hP hA, Cp_g0_20 hP hA, Cp_p0_20 hP hA, Cp_r10 hP hA, Cp_r11 hP hA, Cp_w11 hP hA, eq_true k1, k2]
  · rw [if_neg k1] at e
    by_cases k3 : 0 ≤ ((S.1 (0, 0, 0) 20) - 1) ∧ ((S.1 (0, 0, 0) 20) - 1) < 8
    · rw [if_pos k3] at e
      by_cases k4 : x1 ≤ (S.1 (11, ((S.1 (0, 0, 0) 20) - 1), 0) 0)
      · rw [if_pos k4] at e
        have k5 := y1438_3 (h := h) hP hA hD e
        simp -implicitDefEqProofs (disch := first | assumption | exact Nat.le_of_ble_eq_true rfl | decide) only [b1438_0, g1438_1, b1438_1, g1438_2, b1438_2, g1438_4, b1438_4, g1438_6, b1438_6, pe_aload0, pe_getfield, pe_if_eq, pe_iload1, pe_sipush, pe_isub, pe_aaload, pe_iaload, pe_icmp_le, pe_goto_w, pe_goto, pe_istore4, pe_i2l, pe_bipush, pe_call3, pm_af_ret, pm_af_void, pm_af_thr, pe_iload4, pe_iload2, pe_iload3, pe_call1, pe_icmp_ge, pe_dup_i, pe_dup_r, pe_dup_x1_ii, pe_dup_x1_ir, pe_dup_x1_ri, pe_dup_x1_rr, pe_iadd, pe_putfield, pe_astore5, pe_aload5, pe_iastore, pe_aloadN0, pe_astoreN5, pe_aloadN5, pe_aastoreN, pe_areturnN, pe_null, pm_prog_1, pm_ob_some, Nat.reduceDiv, Nat.reduceMod, Nat.reduceMul, Nat.reduceAdd, Int.reduceToNat, pm_kill_i, pm_kill_r, pm_kill_n, pm_kill_j, pm_kill_l, pm_kill_d, pm_cats_nil, pm_cats_i, pm_cats_r, pm_cats_n, pm_cats_l, pm_cats_d, sz_1, sz_2, sl_1, sl_2, lc_0, lc_lt, lc_le, li_ne, va_rf, wr_m1, we_m1, pm_kill_w, Int32.reduceOfInt, Int64.reduceOfInt, Int32.reduceOfNat, Int32.reduceLT, Int32.reduceLE, Prod.mk.injEq, Nat.reduceEqDiff, reduceCtorEq, and_true, true_and, and_false, false_and, and_self, ite_true, ite_false, ↓reduceIte, not_true_eq_false, not_false_eq_true, pe_ri, pe_rz, pe_rc, p_throw, t1438, w_junk hA, Cp_g0_19 hP hA, Cp_g0_20 hP hA, Cp_p0_20 hP hA, Cp_r10 hP hA, Cp_r11 hP hA, Cp_w11 hP hA, eq_false k1, eq_true k4, k5]
      · rw [if_neg k4] at e
        have k6 := y1438_3 (h := h) hP hA hD e
        simp -implicitDefEqProofs (disch := first | assumption | exact Nat.le_of_ble_eq_true rfl | decide) only [b1438_0, g1438_1, b1438_1, g1438_2, b1438_2, g1438_4, b1438_4, g1438_6, b1438_6, pe_aload0, pe_getfield, pe_if_eq, pe_iload1, pe_sipush, pe_isub, pe_aaload, pe_iaload, pe_icmp_le, pe_goto_w, pe_goto, pe_istore4, pe_i2l, pe_bipush, pe_call3, pm_af_ret, pm_af_void, pm_af_thr, pe_iload4, pe_iload2, pe_iload3, pe_call1, pe_icmp_ge, pe_dup_i, pe_dup_r, pe_dup_x1_ii, pe_dup_x1_ir, pe_dup_x1_ri, pe_dup_x1_rr, pe_iadd, pe_putfield, pe_astore5, pe_aload5, pe_iastore, pe_aloadN0, pe_astoreN5, pe_aloadN5, pe_aastoreN, pe_areturnN, pe_null, pm_prog_1, pm_ob_some, Nat.reduceDiv, Nat.reduceMod, Nat.reduceMul, Nat.reduceAdd, Int.reduceToNat, pm_kill_i, pm_kill_r, pm_kill_n, pm_kill_j, pm_kill_l, pm_kill_d, pm_cats_nil, pm_cats_i, pm_cats_r, pm_cats_n, pm_cats_l, pm_cats_d, sz_1, sz_2, sl_1, sl_2, lc_0, lc_lt, lc_le, li_ne, va_rf, wr_m1, we_m1, pm_kill_w, Int32.reduceOfInt, Int64.reduceOfInt, Int32.reduceOfNat, Int32.reduceLT, Int32.reduceLE, Prod.mk.injEq, Nat.reduceEqDiff, reduceCtorEq, and_true, true_and, and_false, false_and, and_self, ite_true, ite_false, ↓reduceIte, not_true_eq_false, not_false_eq_true, pe_ri, pe_rz, pe_rc, p_throw, t1438, w_junk hA, Cp_g0_19 hP hA, Cp_g0_20 hP hA, Cp_p0_20 hP hA, Cp_r10 hP hA, Cp_r11 hP hA, Cp_w11 hP hA, eq_false k1, eq_false k4, k6]
    · rw [if_neg k3] at e; cases e
/-- TimberHouse$PriceLines.at(JI)J -/
theorem c1440 {d : Nat} {h : pm_H} {a : Nat} {x0 : Int64} {x1 : Int32} (hc : pm_cls h a = some 22) : pm_call pm_prog (d + 1) 1440 [.ref a, .long x0, .int x1] h = pm_ev pm_prog (pm_call pm_prog d) 1440 0 b1440_0 [.ref a, .long x0, pm_junk, .int x1, pm_junk, pm_junk, pm_junk] [] h := pm_cal (pm_rc1 hc rfl) rfl rfl rfl
theorem g1440_1 {cl : pm_C} {ls st : List Value} {h : pm_H} : pm_go pm_prog cl 1440 1 ls st h = pm_ev pm_prog cl 1440 1 b1440_1 ls st h := pm_go_eq pm_prog cl 1440 1 ls st h
theorem g1440_2 {cl : pm_C} {ls st : List Value} {h : pm_H} : pm_go pm_prog cl 1440 2 ls st h = pm_ev pm_prog cl 1440 2 b1440_2 ls st h := pm_go_eq pm_prog cl 1440 2 ls st h
noncomputable def f1440_b1 (lc : Int32) (fq : Int32) (ll : Int32 → Int32) (S : wS) : Int64 × Int32 × Int64 × Int32 → Option ((Int64 × Int32 × Int64 × Int32) ⊕ ((Int64))) := fun (x1, x3, x4, x6) =>
  if x6 < (S.1 (0, 0, 0) 20) then
    if 0 ≤ x6 ∧ x6 < 8 then
      if (S.1 (11, x6, 0) 0) ≤ x3 then
        (f3846 (x1 * (Int32.toInt64 (S.1 (11, x6, 0) 1))) (Int32.toInt64 (S.1 (11, x6, 0) 2))).bind fun v1 =>
        some (.inl (x1, x3, v1, (x6 + 1)))
      else
        some (.inr x4)
    else none
  else
    some (.inr x4)
/-- TimberHouse$PriceLines.at(JI)J -/
noncomputable def f1440 (lc : Int32) (fq : Int32) (ll : Int32 → Int32) (S : wS) (x1 : Int64) (x3 : Int32) : Option (Int64) :=
  (lp (f1440_b1 lc fq ll S) FU (x1, x3, x1, 0)).bind fun v2 =>
  some v2
def go1440_1 (lc : Int32) (fq : Int32) (ll : Int32 → Int32) (A : wK → Nat) (h : pm_H) (D : Nat) (R : Outcome × pm_H) (S : wS) : Int64 × Int32 × Int64 × Int32 → Prop := fun (x1, x3, x4, x6) => pm_go pm_prog (pm_call pm_prog D) 1440 1 [.ref (A (0, 0, 0)), .long x1, pm_junk, .int x3, .long x4, pm_junk, .int x6] [] (wput A (Cp_d lc fq ll) S h) = some R
def ex1440_1 (lc : Int32) (fq : Int32) (ll : Int32 → Int32) (A : wK → Nat) (h : pm_H) (D : Nat) (R : Outcome × pm_H) (S : wS) : (Int64) → Prop := fun x4 => ∀ q0 q1 q2 q3 q6 : Value, pm_go pm_prog (pm_call pm_prog D) 1440 2 [q0, q1, q2, q3, .long x4, pm_junk, q6] [] (wput A (Cp_d lc fq ll) S h) = some R
theorem y1440_b1 {lc : Int32} {fq : Int32} {ll : Int32 → Int32} {A : wK → Nat} {h : pm_H} {D : Nat} {R : Outcome × pm_H} {S : wS} (hP : Cp_P lc fq ll) (hA : wok A (Cp_d lc fq ll) h.1) (hD : 1 ≤ D) (a : Int64 × Int32 × Int64 × Int32) (r : (Int64 × Int32 × Int64 × Int32) ⊕ ((Int64))) (e : f1440_b1 lc fq ll S a = some r) (hc : Sum.elim (go1440_1 lc fq ll A h D R S) (ex1440_1 lc fq ll A h D R S) r) : go1440_1 lc fq ll A h D R S a := by
  obtain ⟨x1, x3, x4, x6⟩ := a
  dsimp only [go1440_1]
  simp only [f1440_b1] at e
  rw [g1440_1, b1440_1]
  by_cases k1 : x6 < (S.1 (0, 0, 0) 20)
  · rw [if_pos k1] at e
    by_cases k2 : 0 ≤ x6 ∧ x6 < 8
    · rw [if_pos k2] at e
      by_cases k3 : (S.1 (11, x6, 0) 0) ≤ x3
      · rw [if_pos k3] at e
        obtain ⟨v1, k4, e⟩ := Option.bind_eq_some_iff.mp e
        try dsimp only at e
        have z4 := fun h => x3846 (D := D) (h := h) (by omega) k4
        have e := Option.some.inj e; subst e
        dsimp only [Sum.elim_inl, go1440_1] at hc
        simp -implicitDefEqProofs (disch := first | assumption | exact Nat.le_of_ble_eq_true rfl | decide) only [b1440_0, g1440_2, b1440_2, pe_lload1, pe_lstore4, pe_sipush, pe_istore6, pe_goto_w, pe_iload6, pe_aload0, pe_getfield, pe_icmp_ge, pe_aaload, pe_iaload, pe_iload3, pe_icmp_gt, pe_i2l, pe_lmul, pe_call2, pm_af_ret, pm_af_void, pm_af_thr, pe_iinc6, pe_goto, pe_lload4, pe_lreturn, pe_aloadN0, pe_aastoreN, pe_areturnN, pe_null, pm_prog_1, pm_ob_some, Nat.reduceDiv, Nat.reduceMod, Nat.reduceMul, Nat.reduceAdd, Int.reduceToNat, pm_kill_i, pm_kill_r, pm_kill_n, pm_kill_j, pm_kill_l, pm_kill_d, pm_cats_nil, pm_cats_i, pm_cats_r, pm_cats_n, pm_cats_l, pm_cats_d, sz_1, sz_2, sl_1, sl_2, lc_0, lc_lt, lc_le, li_ne, va_rf, wr_m1, we_m1, pm_kill_w, Int32.reduceOfInt, Int64.reduceOfInt, Int32.reduceOfNat, Int32.reduceLT, Int32.reduceLE, Prod.mk.injEq, Nat.reduceEqDiff, reduceCtorEq, and_true, true_and, and_false, false_and, and_self, ite_true, ite_false, ↓reduceIte, not_true_eq_false, not_false_eq_true, pe_ri, pe_rz, pe_rc, Cp_g0_19 hP hA, Cp_g0_20 hP hA, Cp_r10 hP hA, Cp_r11 hP hA, eq_true k1, eq_true k3, z4, hc]
      · rw [if_neg k3] at e
        have e := Option.some.inj e; subst e
        dsimp only [Sum.elim_inr, ex1440_1] at hc
        simp -implicitDefEqProofs (disch := first | assumption | exact Nat.le_of_ble_eq_true rfl | decide) only [b1440_0, g1440_2, b1440_2, pe_lload1, pe_lstore4, pe_sipush, pe_istore6, pe_goto_w, pe_iload6, pe_aload0, pe_getfield, pe_icmp_ge, pe_aaload, pe_iaload, pe_iload3, pe_icmp_gt, pe_i2l, pe_lmul, pe_call2, pm_af_ret, pm_af_void, pm_af_thr, pe_iinc6, pe_goto, pe_lload4, pe_lreturn, pe_aloadN0, pe_aastoreN, pe_areturnN, pe_null, pm_prog_1, pm_ob_some, Nat.reduceDiv, Nat.reduceMod, Nat.reduceMul, Nat.reduceAdd, Int.reduceToNat, pm_kill_i, pm_kill_r, pm_kill_n, pm_kill_j, pm_kill_l, pm_kill_d, pm_cats_nil, pm_cats_i, pm_cats_r, pm_cats_n, pm_cats_l, pm_cats_d, sz_1, sz_2, sl_1, sl_2, lc_0, lc_lt, lc_le, li_ne, va_rf, wr_m1, we_m1, pm_kill_w, Int32.reduceOfInt, Int64.reduceOfInt, Int32.reduceOfNat, Int32.reduceLT, Int32.reduceLE, Prod.mk.injEq, Nat.reduceEqDiff, reduceCtorEq, and_true, true_and, and_false, false_and, and_self, ite_true, ite_false, ↓reduceIte, not_true_eq_false, not_false_eq_true, pe_ri, pe_rz, pe_rc, Cp_g0_19 hP hA, Cp_g0_20 hP hA, Cp_r10 hP hA, Cp_r11 hP hA, eq_true k1, eq_false k3, hc]
    · rw [if_neg k2] at e; cases e
  · rw [if_neg k1] at e
    have e := Option.some.inj e; subst e
    dsimp only [Sum.elim_inr, ex1440_1] at hc
    simp -implicitDefEqProofs (disch := first | assumption | exact Nat.le_of_ble_eq_true rfl | decide) only [b1440_0, g1440_2, b1440_2, pe_lload1, pe_lstore4, pe_sipush, pe_istore6, pe_goto_w, pe_iload6, pe_aload0, pe_getfield, pe_icmp_ge, pe_aaload, pe_iaload, pe_iload3, pe_icmp_gt, pe_i2l, pe_lmul, pe_call2, pm_af_ret, pm_af_void, pm_af_thr, pe_iinc6, pe_goto, pe_lload4, pe_lreturn, pe_aloadN0, pe_aastoreN, pe_areturnN, pe_null, pm_prog_1, pm_ob_some, Nat.reduceDiv, Nat.reduceMod, Nat.reduceMul, Nat.reduceAdd, Int.reduceToNat, pm_kill_i, pm_kill_r, pm_kill_n, pm_kill_j, pm_kill_l, pm_kill_d, pm_cats_nil, pm_cats_i, pm_cats_r, pm_cats_n, pm_cats_l, pm_cats_d, sz_1, sz_2, sl_1, sl_2, lc_0, lc_lt, lc_le, li_ne, va_rf, wr_m1, we_m1, pm_kill_w, Int32.reduceOfInt, Int64.reduceOfInt, Int32.reduceOfNat, Int32.reduceLT, Int32.reduceLE, Prod.mk.injEq, Nat.reduceEqDiff, reduceCtorEq, and_true, true_and, and_false, false_and, and_self, ite_true, ite_false, ↓reduceIte, not_true_eq_false, not_false_eq_true, pe_ri, pe_rz, pe_rc, Cp_g0_19 hP hA, Cp_g0_20 hP hA, Cp_r10 hP hA, Cp_r11 hP hA, eq_false k1, hc]
theorem z1440_1 {lc : Int32} {fq : Int32} {ll : Int32 → Int32} {A : wK → Nat} {h : pm_H} {D : Nat} {R : Outcome × pm_H} {S : wS} (hP : Cp_P lc fq ll) (hA : wok A (Cp_d lc fq ll) h.1) (hD : 1 ≤ D) {n : Nat} {a : Int64 × Int32 × Int64 × Int32} {b : (Int64)} (e : lp (f1440_b1 lc fq ll S) n a = some b) (hx : ex1440_1 lc fq ll A h D R S b) : go1440_1 lc fq ll A h D R S a := lp_run (fun a r => y1440_b1 hP hA hD a r) n a b e hx
theorem x1440 {lc : Int32} {fq : Int32} {ll : Int32 → Int32} {A : wK → Nat} {h : pm_H} {D : Nat} {S : wS} {x1 : Int64} {x3 : Int32} {r : Int64} (hP : Cp_P lc fq ll) (hA : wok A (Cp_d lc fq ll) h.1) (hD : 2 ≤ D) (e : f1440 lc fq ll S x1 x3 = some r) : pm_call pm_prog D 1440 [.ref (A (0, 0, 0)), .long x1, .int x3] (wput A (Cp_d lc fq ll) S h) = some (Outcome.returned (some (.long r)), (wput A (Cp_d lc fq ll) S h)) := by
  obtain ⟨D, rfl⟩ : ∃ D', D = D' + 1 := ⟨D - 1, by omega⟩
  have hD : 1 ≤ D := by omega
  simp only [f1440] at e
  rw [c1440 (Cp_c0 hP hA), b1440_0]
  obtain ⟨v2, k1, e⟩ := Option.bind_eq_some_iff.mp e
  try dsimp only at e
  try simp -implicitDefEqProofs (disch := first | assumption | exact Nat.le_of_ble_eq_true rfl | decide) only [b1440_0, g1440_2, b1440_2, pe_lload1, pe_lstore4, pe_sipush, pe_istore6, pe_goto_w, pe_iload6, pe_aload0, pe_getfield, pe_icmp_ge, pe_aaload, pe_iaload, pe_iload3, pe_icmp_gt, pe_i2l, pe_lmul, pe_call2, pm_af_ret, pm_af_void, pm_af_thr, pe_iinc6, pe_goto, pe_lload4, pe_lreturn, pe_aloadN0, pe_aastoreN, pe_areturnN, pe_null, pm_prog_1, pm_ob_some, Nat.reduceDiv, Nat.reduceMod, Nat.reduceMul, Nat.reduceAdd, Int.reduceToNat, pm_kill_i, pm_kill_r, pm_kill_n, pm_kill_j, pm_kill_l, pm_kill_d, pm_cats_nil, pm_cats_i, pm_cats_r, pm_cats_n, pm_cats_l, pm_cats_d, sz_1, sz_2, sl_1, sl_2, lc_0, lc_lt, lc_le, li_ne, va_rf, wr_m1, we_m1, pm_kill_w, Int32.reduceOfInt, Int64.reduceOfInt, Int32.reduceOfNat, Int32.reduceLT, Int32.reduceLE, Prod.mk.injEq, Nat.reduceEqDiff, reduceCtorEq, and_true, true_and, and_false, false_and, and_self, ite_true, ite_false, ↓reduceIte, not_true_eq_false, not_false_eq_true, pe_ri, pe_rz, pe_rc, Cp_g0_19 hP hA, Cp_g0_20 hP hA, Cp_r10 hP hA, Cp_r11 hP hA]
  refine z1440_1 hP hA hD k1 ?_
  dsimp only [ex1440_1]
  intro q0 q1 q2 q3 q6
  have e := Option.some.inj e; subst e
  simp -implicitDefEqProofs (disch := first | assumption | exact Nat.le_of_ble_eq_true rfl | decide) only [b1440_0, g1440_2, b1440_2, pe_lload1, pe_lstore4, pe_sipush, pe_istore6, pe_goto_w, pe_iload6, pe_aload0, pe_getfield, pe_icmp_ge, pe_aaload, pe_iaload, pe_iload3, pe_icmp_gt, pe_i2l, pe_lmul, pe_call2, pm_af_ret, pm_af_void, pm_af_thr, pe_iinc6, pe_goto, pe_lload4, pe_lreturn, pe_aloadN0, pe_aastoreN, pe_areturnN, pe_null, pm_prog_1, pm_ob_some, Nat.reduceDiv, Nat.reduceMod, Nat.reduceMul, Nat.reduceAdd, Int.reduceToNat, pm_kill_i, pm_kill_r, pm_kill_n, pm_kill_j, pm_kill_l, pm_kill_d, pm_cats_nil, pm_cats_i, pm_cats_r, pm_cats_n, pm_cats_l, pm_cats_d, sz_1, sz_2, sl_1, sl_2, lc_0, lc_lt, lc_le, li_ne, va_rf, wr_m1, we_m1, pm_kill_w, Int32.reduceOfInt, Int64.reduceOfInt, Int32.reduceOfNat, Int32.reduceLT, Int32.reduceLE, Prod.mk.injEq, Nat.reduceEqDiff, reduceCtorEq, and_true, true_and, and_false, false_and, and_self, ite_true, ite_false, ↓reduceIte, not_true_eq_false, not_false_eq_true, pe_ri, pe_rz, pe_rc, Cp_g0_19 hP hA, Cp_g0_20 hP hA, Cp_r10 hP hA, Cp_r11 hP hA]
/-- TimberHouse$PriceLines.centsAt(I)J -/
theorem c1439 {d : Nat} {h : pm_H} {a : Nat} {x0 : Int32} (hc : pm_cls h a = some 22) : pm_call pm_prog (d + 1) 1439 [.ref a, .int x0] h = pm_ev pm_prog (pm_call pm_prog d) 1439 0 b1439_0 [.ref a, .int x0] [] h := pm_cal (pm_rc1 hc rfl) rfl rfl rfl
theorem t1439 {cl : pm_C} {j : Nat} {ls : List Value} {c : Nat} {h : pm_H} : pm_thr pm_prog cl 1439 j ls c h = some (.threw c, h) := rfl
/-- TimberHouse$PriceLines.centsAt(I)J -/
noncomputable def f1439 (lc : Int32) (fq : Int32) (ll : Int32 → Int32) (S : wS) (x1 : Int32) : Option ((Nat × wS) ⊕ (Int64 × wS)) :=
  (f1411 (Int32.toInt64 x1) 0 10000).bind fun v1 =>
  (f1414 v1).bind fun r => match r with
  | .inl c5 =>
    some (.inl (c5, S))
  | .inr _ =>
  (f1435 lc fq ll S).bind fun (v2, S3) =>
  (f1440 lc fq ll S3 v2 x1).bind fun v4 =>
  some (.inr (v4, S3))
theorem x1439 {lc : Int32} {fq : Int32} {ll : Int32 → Int32} {A : wK → Nat} {h : pm_H} {D : Nat} {S : wS} {x1 : Int32} {r : (Nat × wS) ⊕ (Int64 × wS)} (hP : Cp_P lc fq ll) (hA : wok A (Cp_d lc fq ll) h.1) (hD : 8 ≤ D) (e : f1439 lc fq ll S x1 = some r) : pm_call pm_prog D 1439 [.ref (A (0, 0, 0)), .int x1] (wput A (Cp_d lc fq ll) S h) = some (match (generalizing := false) r with | .inl (c, S1) => (Outcome.threw c, (wput A (Cp_d lc fq ll) S1 (pm_new h 6 (.inr (c, []))))) | .inr (w0, S1) => (Outcome.returned (some (.long w0)), (wput A (Cp_d lc fq ll) S1 h))) := by
  obtain ⟨D, rfl⟩ : ∃ D', D = D' + 1 := ⟨D - 1, by omega⟩
  have hD : 7 ≤ D := by omega
  simp only [f1439] at e
  rw [c1439 (Cp_c0 hP hA), b1439_0]
  obtain ⟨v1, k1, e⟩ := Option.bind_eq_some_iff.mp e
  try dsimp only at e
  have z1 := fun h => x1411 (D := D) (h := h) (by omega) k1
  obtain ⟨r, k2, e⟩ := Option.bind_eq_some_iff.mp e
  have z2 := fun h => x1414 (D := D) (h := h) (by omega) k2
  rcases r with c5 | _
  · dsimp only at e z2
    have e := Option.some.inj e; subst e
    simp -implicitDefEqProofs (disch := first | assumption | exact Nat.le_of_ble_eq_true rfl | decide) only [b1439_0, pe_iload1, pe_i2l, pe_bipush, pe_call3, pm_af_ret, pm_af_void, pm_af_thr, pe_call1, pe_aload0, pe_lreturn, pe_aloadN0, pe_aastoreN, pe_areturnN, pe_null, pm_prog_1, pm_ob_some, Nat.reduceDiv, Nat.reduceMod, Nat.reduceMul, Nat.reduceAdd, Int.reduceToNat, pm_kill_i, pm_kill_r, pm_kill_n, pm_kill_j, pm_kill_l, pm_kill_d, pm_cats_nil, pm_cats_i, pm_cats_r, pm_cats_n, pm_cats_l, pm_cats_d, sz_1, sz_2, sl_1, sl_2, lc_0, lc_lt, lc_le, li_ne, va_rf, wr_m1, we_m1, pm_kill_w, Int32.reduceOfInt, Int64.reduceOfInt, Int32.reduceOfNat, Int32.reduceLT, Int32.reduceLE, Prod.mk.injEq, Nat.reduceEqDiff, reduceCtorEq, and_true, true_and, and_false, false_and, and_self, ite_true, ite_false, ↓reduceIte, not_true_eq_false, not_false_eq_true, pe_ri, pe_rz, pe_rc, p_throw, t1439, w_junk hA, z1, z2]
  · dsimp only at e z2
    obtain ⟨⟨v2, S3⟩, k3, e⟩ := Option.bind_eq_some_iff.mp e
    try dsimp only at e
    have z3 := x1435 (D := D) (h := h) hP hA (by omega) k3
    dsimp only at z3
    obtain ⟨v4, k4, e⟩ := Option.bind_eq_some_iff.mp e
    try dsimp only at e
    have z4 := x1440 (D := D) (h := h) hP hA (by omega) k4
    have e := Option.some.inj e; subst e
    simp -implicitDefEqProofs (disch := first | assumption | exact Nat.le_of_ble_eq_true rfl | decide) only [b1439_0, pe_iload1, pe_i2l, pe_bipush, pe_call3, pm_af_ret, pm_af_void, pm_af_thr, pe_call1, pe_aload0, pe_lreturn, pe_aloadN0, pe_aastoreN, pe_areturnN, pe_null, pm_prog_1, pm_ob_some, Nat.reduceDiv, Nat.reduceMod, Nat.reduceMul, Nat.reduceAdd, Int.reduceToNat, pm_kill_i, pm_kill_r, pm_kill_n, pm_kill_j, pm_kill_l, pm_kill_d, pm_cats_nil, pm_cats_i, pm_cats_r, pm_cats_n, pm_cats_l, pm_cats_d, sz_1, sz_2, sl_1, sl_2, lc_0, lc_lt, lc_le, li_ne, va_rf, wr_m1, we_m1, pm_kill_w, Int32.reduceOfInt, Int64.reduceOfInt, Int32.reduceOfNat, Int32.reduceLT, Int32.reduceLE, Prod.mk.injEq, Nat.reduceEqDiff, reduceCtorEq, and_true, true_and, and_false, false_and, and_self, ite_true, ite_false, ↓reduceIte, not_true_eq_false, not_false_eq_true, pe_ri, pe_rz, pe_rc, p_throw, t1439, w_junk hA, z1, z2, z3, z4]
/-- TimberHouse$PriceLines.offer(I)I -/
theorem c1441 {d : Nat} {h : pm_H} {a : Nat} {x0 : Int32} (hc : pm_cls h a = some 22) : pm_call pm_prog (d + 1) 1441 [.ref a, .int x0] h = pm_ev pm_prog (pm_call pm_prog d) 1441 0 b1441_0 [.ref a, .int x0] [] h := pm_cal (pm_rc1 hc rfl) rfl rfl rfl
theorem g1441_1 {cl : pm_C} {ls st : List Value} {h : pm_H} : pm_go pm_prog cl 1441 1 ls st h = pm_ev pm_prog cl 1441 1 b1441_1 ls st h := pm_go_eq pm_prog cl 1441 1 ls st h
theorem g1441_2 {cl : pm_C} {ls st : List Value} {h : pm_H} : pm_go pm_prog cl 1441 2 ls st h = pm_ev pm_prog cl 1441 2 b1441_2 ls st h := pm_go_eq pm_prog cl 1441 2 ls st h
theorem t1441 {cl : pm_C} {j : Nat} {ls : List Value} {c : Nat} {h : pm_H} : pm_thr pm_prog cl 1441 j ls c h = some (.threw c, h) := rfl
noncomputable def f1441_2 (lc : Int32) (fq : Int32) (ll : Int32 → Int32) (S : wS) (x1 : Int32) (y0 : Int32) : Option ((Nat × wS) ⊕ (Int32 × wS)) :=
  (f1418 y0).bind fun r => match r with
  | .inl c5 =>
    some (.inl (c5, S))
  | .inr _ =>
  (f1474v1 lc fq ll S 100).bind fun v4 =>
  if 0 ≤ (S.1 (0, 0, 0) 23) ∧ (S.1 (0, 0, 0) 23) < 8 then
    some (.inr ((S.1 (0, 0, 0) 23), (sz (sz (sl S (12, 0, 0) (S.1 (0, 0, 0) 23) v4) (13, 0, 0) (S.1 (0, 0, 0) 23) x1) (0, 0, 0) 23 ((S.1 (0, 0, 0) 23) + 1))))
  else none
/-- TimberHouse$PriceLines.offer(I)I -/
noncomputable def f1441 (lc : Int32) (fq : Int32) (ll : Int32 → Int32) (S : wS) (x1 : Int32) : Option ((Nat × wS) ⊕ (Int32 × wS)) :=
  (f1411 (Int32.toInt64 x1) 0 10000).bind fun v1 =>
  (f1414 v1).bind fun r => match r with
  | .inl c6 =>
    some (.inl (c6, S))
  | .inr _ =>
  if (S.1 (0, 0, 0) 23) < 8 then
    (f1430 lc fq ll S).bind fun (v2, S3) =>
    if v2 = 0 then
      f1441_2 lc fq ll S3 x1 1
    else
      f1441_2 lc fq ll S3 x1 0
  else
    f1441_2 lc fq ll S x1 0
theorem y1441_2 {lc : Int32} {fq : Int32} {ll : Int32 → Int32} {A : wK → Nat} {h : pm_H} {D : Nat} {S : wS} {x1 : Int32} {y0 : Int32} {r : (Nat × wS) ⊕ (Int32 × wS)} (hP : Cp_P lc fq ll) (hA : wok A (Cp_d lc fq ll) h.1) (hD : 6 ≤ D) (e : f1441_2 lc fq ll S x1 y0 = some r) : pm_go pm_prog (pm_call pm_prog D) 1441 2 [.ref (A (0, 0, 0)), .int x1] [.int y0] (wput A (Cp_d lc fq ll) S h) = some (match (generalizing := false) r with | .inl (c, S1) => (Outcome.threw c, (wput A (Cp_d lc fq ll) S1 (pm_new h 6 (.inr (c, []))))) | .inr (w0, S1) => (Outcome.returned (some (.int w0)), (wput A (Cp_d lc fq ll) S1 h))) := by
  simp only [f1441_2] at e
  rw [g1441_2, b1441_2]
  obtain ⟨r, k1, e⟩ := Option.bind_eq_some_iff.mp e
  have z1 := fun h => x1418 (D := D) (h := h) (by omega) k1
  rcases r with c5 | _
  · dsimp only at e z1
    have e := Option.some.inj e; subst e
    simp -implicitDefEqProofs (disch := first | assumption | exact Nat.le_of_ble_eq_true rfl | decide) only [b1441_0, g1441_1, b1441_1, pe_iload1, pe_i2l, pe_bipush, pe_call3, pm_af_ret, pm_af_void, pm_af_thr, pe_call1, pe_aload0, pe_getfield, pe_sipush, pe_icmp_ge, pe_if_ne, pe_goto, pe_goto_w, pe_call2, pe_lastore, pe_iastore, pe_dup_i, pe_dup_r, pe_dup_x1_ii, pe_dup_x1_ir, pe_dup_x1_ri, pe_dup_x1_rr, pe_iadd, pe_putfield, pe_aloadN0, pe_aastoreN, pe_areturnN, pe_null, pm_prog_1, pm_ob_some, Nat.reduceDiv, Nat.reduceMod, Nat.reduceMul, Nat.reduceAdd, Int.reduceToNat, pm_kill_i, pm_kill_r, pm_kill_n, pm_kill_j, pm_kill_l, pm_kill_d, pm_cats_nil, pm_cats_i, pm_cats_r, pm_cats_n, pm_cats_l, pm_cats_d, sz_1, sz_2, sl_1, sl_2, lc_0, lc_lt, lc_le, li_ne, va_rf, wr_m1, we_m1, pm_kill_w, Int32.reduceOfInt, Int64.reduceOfInt, Int32.reduceOfNat, Int32.reduceLT, Int32.reduceLE, Prod.mk.injEq, Nat.reduceEqDiff, reduceCtorEq, and_true, true_and, and_false, false_and, and_self, ite_true, ite_false, ↓reduceIte, not_true_eq_false, not_false_eq_true, pe_ri, pe_rz, pe_rc, p_throw, t1441, w_junk hA, Cp_g0_13 hP hA, Cp_g0_21 hP hA, Cp_g0_22 hP hA, Cp_g0_23 hP hA, Cp_p0_23 hP hA, Cp_w12 hP hA, Cp_w13 hP hA, z1]
  · dsimp only at e z1
    obtain ⟨v4, k2, e⟩ := Option.bind_eq_some_iff.mp e
    try dsimp only at e
    have z2 := x1474v1 (D := D) (h := h) hP hA (by omega) k2
    by_cases k3 : 0 ≤ (S.1 (0, 0, 0) 23) ∧ (S.1 (0, 0, 0) 23) < 8
    · rw [if_pos k3] at e
      have e := Option.some.inj e; subst e
      simp -implicitDefEqProofs (disch := first | assumption | exact Nat.le_of_ble_eq_true rfl | decide) only [b1441_0, g1441_1, b1441_1, pe_iload1, pe_i2l, pe_bipush, pe_call3, pm_af_ret, pm_af_void, pm_af_thr, pe_call1, pe_aload0, pe_getfield, pe_sipush, pe_icmp_ge, pe_if_ne, pe_goto, pe_goto_w, pe_call2, pe_lastore, pe_iastore, pe_dup_i, pe_dup_r, pe_dup_x1_ii, pe_dup_x1_ir, pe_dup_x1_ri, pe_dup_x1_rr, pe_iadd, pe_putfield, pe_aloadN0, pe_aastoreN, pe_areturnN, pe_null, pm_prog_1, pm_ob_some, Nat.reduceDiv, Nat.reduceMod, Nat.reduceMul, Nat.reduceAdd, Int.reduceToNat, pm_kill_i, pm_kill_r, pm_kill_n, pm_kill_j, pm_kill_l, pm_kill_d, pm_cats_nil, pm_cats_i, pm_cats_r, pm_cats_n, pm_cats_l, pm_cats_d, sz_1, sz_2, sl_1, sl_2, lc_0, lc_lt, lc_le, li_ne, va_rf, wr_m1, we_m1, pm_kill_w, Int32.reduceOfInt, Int64.reduceOfInt, Int32.reduceOfNat, Int32.reduceLT, Int32.reduceLE, Prod.mk.injEq, Nat.reduceEqDiff, reduceCtorEq, and_true, true_and, and_false, false_and, and_self, ite_true, ite_false, ↓reduceIte, not_true_eq_false, not_false_eq_true, pe_ri, pe_rz, pe_rc, p_throw, t1441, w_junk hA, Cp_g0_13 hP hA, Cp_g0_21 hP hA, Cp_g0_22 hP hA, Cp_g0_23 hP hA, Cp_p0_23 hP hA, Cp_w12 hP hA, Cp_w13 hP hA, z1, z2]
    · rw [if_neg k3] at e; cases e
theorem x1441 {lc : Int32} {fq : Int32} {ll : Int32 → Int32} {A : wK → Nat} {h : pm_H} {D : Nat} {S : wS} {x1 : Int32} {r : (Nat × wS) ⊕ (Int32 × wS)} (hP : Cp_P lc fq ll) (hA : wok A (Cp_d lc fq ll) h.1) (hD : 7 ≤ D) (e : f1441 lc fq ll S x1 = some r) : pm_call pm_prog D 1441 [.ref (A (0, 0, 0)), .int x1] (wput A (Cp_d lc fq ll) S h) = some (match (generalizing := false) r with | .inl (c, S1) => (Outcome.threw c, (wput A (Cp_d lc fq ll) S1 (pm_new h 6 (.inr (c, []))))) | .inr (w0, S1) => (Outcome.returned (some (.int w0)), (wput A (Cp_d lc fq ll) S1 h))) := by
  obtain ⟨D, rfl⟩ : ∃ D', D = D' + 1 := ⟨D - 1, by omega⟩
  have hD : 6 ≤ D := by omega
  simp only [f1441] at e
  rw [c1441 (Cp_c0 hP hA), b1441_0]
  obtain ⟨v1, k1, e⟩ := Option.bind_eq_some_iff.mp e
  try dsimp only at e
  have z1 := fun h => x1411 (D := D) (h := h) (by omega) k1
  obtain ⟨r, k2, e⟩ := Option.bind_eq_some_iff.mp e
  have z2 := fun h => x1414 (D := D) (h := h) (by omega) k2
  rcases r with c6 | _
  · dsimp only at e z2
    have e := Option.some.inj e; subst e
    simp -implicitDefEqProofs (disch := first | assumption | exact Nat.le_of_ble_eq_true rfl | decide) only [b1441_0, g1441_1, b1441_1, pe_iload1, pe_i2l, pe_bipush, pe_call3, pm_af_ret, pm_af_void, pm_af_thr, pe_call1, pe_aload0, pe_getfield, pe_sipush, pe_icmp_ge, pe_if_ne, pe_goto, pe_goto_w, pe_call2, pe_lastore, pe_iastore, pe_dup_i, pe_dup_r, pe_dup_x1_ii, pe_dup_x1_ir, pe_dup_x1_ri, pe_dup_x1_rr, pe_iadd, pe_putfield, pe_aloadN0, pe_aastoreN, pe_areturnN, pe_null, pm_prog_1, pm_ob_some, Nat.reduceDiv, Nat.reduceMod, Nat.reduceMul, Nat.reduceAdd, Int.reduceToNat, pm_kill_i, pm_kill_r, pm_kill_n, pm_kill_j, pm_kill_l, pm_kill_d, pm_cats_nil, pm_cats_i, pm_cats_r, pm_cats_n, pm_cats_l, pm_cats_d, sz_1, sz_2, sl_1, sl_2, lc_0, lc_lt, lc_le, li_ne, va_rf, wr_m1, we_m1, pm_kill_w, Int32.reduceOfInt, Int64.reduceOfInt, Int32.reduceOfNat, Int32.reduceLT, Int32.reduceLE, Prod.mk.injEq, Nat.reduceEqDiff, reduceCtorEq, and_true, true_and, and_false, false_and, and_self, ite_true, ite_false, ↓reduceIte, not_true_eq_false, not_false_eq_true, pe_ri, pe_rz, pe_rc, p_throw, t1441, w_junk hA, Cp_g0_13 hP hA, Cp_g0_21 hP hA, Cp_g0_22 hP hA, Cp_g0_23 hP hA, Cp_p0_23 hP hA, Cp_w12 hP hA, Cp_w13 hP hA, z1, z2]
  · dsimp only at e z2
    by_cases k3 : (S.1 (0, 0, 0) 23) < 8
    · rw [if_pos k3] at e
      obtain ⟨⟨v2, S3⟩, k4, e⟩ := Option.bind_eq_some_iff.mp e
      try dsimp only at e
      have z4 := x1430 (D := D) (h := h) hP hA (by omega) k4
      dsimp only at z4
      by_cases k5 : v2 = 0
      · rw [if_pos k5] at e
        have k6 := y1441_2 (h := h) hP hA hD e
        simp -implicitDefEqProofs (disch := first | assumption | exact Nat.le_of_ble_eq_true rfl | decide) only [b1441_0, g1441_1, b1441_1, pe_iload1, pe_i2l, pe_bipush, pe_call3, pm_af_ret, pm_af_void, pm_af_thr, pe_call1, pe_aload0, pe_getfield, pe_sipush, pe_icmp_ge, pe_if_ne, pe_goto, pe_goto_w, pe_call2, pe_lastore, pe_iastore, pe_dup_i, pe_dup_r, pe_dup_x1_ii, pe_dup_x1_ir, pe_dup_x1_ri, pe_dup_x1_rr, pe_iadd, pe_putfield, pe_aloadN0, pe_aastoreN, pe_areturnN, pe_null, pm_prog_1, pm_ob_some, Nat.reduceDiv, Nat.reduceMod, Nat.reduceMul, Nat.reduceAdd, Int.reduceToNat, pm_kill_i, pm_kill_r, pm_kill_n, pm_kill_j, pm_kill_l, pm_kill_d, pm_cats_nil, pm_cats_i, pm_cats_r, pm_cats_n, pm_cats_l, pm_cats_d, sz_1, sz_2, sl_1, sl_2, lc_0, lc_lt, lc_le, li_ne, va_rf, wr_m1, we_m1, pm_kill_w, Int32.reduceOfInt, Int64.reduceOfInt, Int32.reduceOfNat, Int32.reduceLT, Int32.reduceLE, Prod.mk.injEq, Nat.reduceEqDiff, reduceCtorEq, and_true, true_and, and_false, false_and, and_self, ite_true, ite_false, ↓reduceIte, not_true_eq_false, not_false_eq_true, pe_ri, pe_rz, pe_rc, p_throw, t1441, w_junk hA, Cp_g0_13 hP hA, Cp_g0_21 hP hA, Cp_g0_22 hP hA, Cp_g0_23 hP hA, Cp_p0_23 hP hA, Cp_w12 hP hA, Cp_w13 hP hA, z1, z2, eq_true k3, z4, eq_true k5, k6]
      · rw [if_neg k5] at e
        have k7 := y1441_2 (h := h) hP hA hD e
        simp -implicitDefEqProofs (disch := first | assumption | exact Nat.le_of_ble_eq_true rfl | decide) only [b1441_0, g1441_1, b1441_1, pe_iload1, pe_i2l, pe_bipush, pe_call3, pm_af_ret, pm_af_void, pm_af_thr, pe_call1, pe_aload0, pe_getfield, pe_sipush, pe_icmp_ge, pe_if_ne, pe_goto, pe_goto_w, pe_call2, pe_lastore, pe_iastore, pe_dup_i, pe_dup_r, pe_dup_x1_ii, pe_dup_x1_ir, pe_dup_x1_ri, pe_dup_x1_rr, pe_iadd, pe_putfield, pe_aloadN0, pe_aastoreN, pe_areturnN, pe_null, pm_prog_1, pm_ob_some, Nat.reduceDiv, Nat.reduceMod, Nat.reduceMul, Nat.reduceAdd, Int.reduceToNat, pm_kill_i, pm_kill_r, pm_kill_n, pm_kill_j, pm_kill_l, pm_kill_d, pm_cats_nil, pm_cats_i, pm_cats_r, pm_cats_n, pm_cats_l, pm_cats_d, sz_1, sz_2, sl_1, sl_2, lc_0, lc_lt, lc_le, li_ne, va_rf, wr_m1, we_m1, pm_kill_w, Int32.reduceOfInt, Int64.reduceOfInt, Int32.reduceOfNat, Int32.reduceLT, Int32.reduceLE, Prod.mk.injEq, Nat.reduceEqDiff, reduceCtorEq, and_true, true_and, and_false, false_and, and_self, ite_true, ite_false, ↓reduceIte, not_true_eq_false, not_false_eq_true, pe_ri, pe_rz, pe_rc, p_throw, t1441, w_junk hA, Cp_g0_13 hP hA, Cp_g0_21 hP hA, Cp_g0_22 hP hA, Cp_g0_23 hP hA, Cp_p0_23 hP hA, Cp_w12 hP hA, Cp_w13 hP hA, z1, z2, eq_true k3, z4, eq_false k5, k7]
    · rw [if_neg k3] at e
      have k8 := y1441_2 (h := h) hP hA hD e
      simp -implicitDefEqProofs (disch := first | assumption | exact Nat.le_of_ble_eq_true rfl | decide) only [b1441_0, g1441_1, b1441_1, pe_iload1, pe_i2l, pe_bipush, pe_call3, pm_af_ret, pm_af_void, pm_af_thr, pe_call1, pe_aload0, pe_getfield, pe_sipush, pe_icmp_ge, pe_if_ne, pe_goto, pe_goto_w, pe_call2, pe_lastore, pe_iastore, pe_dup_i, pe_dup_r, pe_dup_x1_ii, pe_dup_x1_ir, pe_dup_x1_ri, pe_dup_x1_rr, pe_iadd, pe_putfield, pe_aloadN0, pe_aastoreN, pe_areturnN, pe_null, pm_prog_1, pm_ob_some, Nat.reduceDiv, Nat.reduceMod, Nat.reduceMul, Nat.reduceAdd, Int.reduceToNat, pm_kill_i, pm_kill_r, pm_kill_n, pm_kill_j, pm_kill_l, pm_kill_d, pm_cats_nil, pm_cats_i, pm_cats_r, pm_cats_n, pm_cats_l, pm_cats_d, sz_1, sz_2, sl_1, sl_2, lc_0, lc_lt, lc_le, li_ne, va_rf, wr_m1, we_m1, pm_kill_w, Int32.reduceOfInt, Int64.reduceOfInt, Int32.reduceOfNat, Int32.reduceLT, Int32.reduceLE, Prod.mk.injEq, Nat.reduceEqDiff, reduceCtorEq, and_true, true_and, and_false, false_and, and_self, ite_true, ite_false, ↓reduceIte, not_true_eq_false, not_false_eq_true, pe_ri, pe_rz, pe_rc, p_throw, t1441, w_junk hA, Cp_g0_13 hP hA, Cp_g0_21 hP hA, Cp_g0_22 hP hA, Cp_g0_23 hP hA, Cp_p0_23 hP hA, Cp_w12 hP hA, Cp_w13 hP hA, z1, z2, eq_false k3, k8]
/-- TimberHouse$PriceLines.differs(II)J -/
theorem c1442 {d : Nat} {h : pm_H} {a : Nat} {x0 : Int32} {x1 : Int32} (hc : pm_cls h a = some 22) : pm_call pm_prog (d + 1) 1442 [.ref a, .int x0, .int x1] h = pm_ev pm_prog (pm_call pm_prog d) 1442 0 b1442_0 [.ref a, .int x0, .int x1] [] h := pm_cal (pm_rc1 hc rfl) rfl rfl rfl
theorem g1442_1 {cl : pm_C} {ls st : List Value} {h : pm_H} : pm_go pm_prog cl 1442 1 ls st h = pm_ev pm_prog cl 1442 1 b1442_1 ls st h := pm_go_eq pm_prog cl 1442 1 ls st h
theorem g1442_2 {cl : pm_C} {ls st : List Value} {h : pm_H} : pm_go pm_prog cl 1442 2 ls st h = pm_ev pm_prog cl 1442 2 b1442_2 ls st h := pm_go_eq pm_prog cl 1442 2 ls st h
theorem t1442 {cl : pm_C} {j : Nat} {ls : List Value} {c : Nat} {h : pm_H} : pm_thr pm_prog cl 1442 j ls c h = some (.threw c, h) := rfl
noncomputable def f1442_2 (lc : Int32) (fq : Int32) (ll : Int32 → Int32) (S : wS) (x1 : Int32) (x2 : Int32) (y0 : Int32) : Option (Nat ⊕ (Int64)) :=
  (f1412 y0).bind fun r => match r with
  | .inl c2 =>
    some (.inl c2)
  | .inr _ =>
  if 0 ≤ x1 ∧ x1 < 8 then
    if 0 ≤ x2 ∧ x2 < 8 then
      some (.inr ((S.2 (12, 0, 0) x1) - (S.2 (12, 0, 0) x2)))
    else none
  else none
/-- TimberHouse$PriceLines.differs(II)J -/
noncomputable def f1442 (lc : Int32) (fq : Int32) (ll : Int32 → Int32) (S : wS) (x1 : Int32) (x2 : Int32) : Option (Nat ⊕ (Int64)) :=
  (f1411 (Int32.toInt64 x1) 0 (Int32.toInt64 ((S.1 (0, 0, 0) 23) - 1))).bind fun v1 =>
  if v1 = 0 then
    f1442_2 lc fq ll S x1 x2 0
  else
    (f1411 (Int32.toInt64 x2) 0 (Int32.toInt64 ((S.1 (0, 0, 0) 23) - 1))).bind fun v3 =>
    if v3 = 0 then
      f1442_2 lc fq ll S x1 x2 0
    else
      f1442_2 lc fq ll S x1 x2 1
theorem y1442_2 {lc : Int32} {fq : Int32} {ll : Int32 → Int32} {A : wK → Nat} {h : pm_H} {D : Nat} {S : wS} {x1 : Int32} {x2 : Int32} {y0 : Int32} {r : Nat ⊕ (Int64)} (hP : Cp_P lc fq ll) (hA : wok A (Cp_d lc fq ll) h.1) (hD : 1 ≤ D) (e : f1442_2 lc fq ll S x1 x2 y0 = some r) : pm_go pm_prog (pm_call pm_prog D) 1442 2 [.ref (A (0, 0, 0)), .int x1, .int x2] [.int y0] (wput A (Cp_d lc fq ll) S h) = some (match (generalizing := false) r with | .inl c => (Outcome.threw c, (wput A (Cp_d lc fq ll) S (pm_new h 6 (.inr (c, []))))) | .inr w0 => (Outcome.returned (some (.long w0)), (wput A (Cp_d lc fq ll) S h))) := by
  simp only [f1442_2] at e
  rw [g1442_2, b1442_2]
  obtain ⟨r, k1, e⟩ := Option.bind_eq_some_iff.mp e
  have z1 := fun h => x1412 (D := D) (h := h) (by omega) k1
  rcases r with c2 | _
  · dsimp only at e z1
    have e := Option.some.inj e; subst e
    simp -implicitDefEqProofs (disch := first | assumption | exact Nat.le_of_ble_eq_true rfl | decide) only [b1442_0, g1442_1, b1442_1, pe_iload1, pe_i2l, pe_bipush, pe_aload0, pe_getfield, pe_sipush, pe_isub, pe_call3, pm_af_ret, pm_af_void, pm_af_thr, pe_if_eq, pe_iload2, pe_goto, pe_goto_w, pe_call1, pe_laload, pe_lsub, pe_lreturn, pe_aloadN0, pe_aastoreN, pe_areturnN, pe_null, pm_prog_1, pm_ob_some, Nat.reduceDiv, Nat.reduceMod, Nat.reduceMul, Nat.reduceAdd, Int.reduceToNat, pm_kill_i, pm_kill_r, pm_kill_n, pm_kill_j, pm_kill_l, pm_kill_d, pm_cats_nil, pm_cats_i, pm_cats_r, pm_cats_n, pm_cats_l, pm_cats_d, sz_1, sz_2, sl_1, sl_2, lc_0, lc_lt, lc_le, li_ne, va_rf, wr_m1, we_m1, pm_kill_w, Int32.reduceOfInt, Int64.reduceOfInt, Int32.reduceOfNat, Int32.reduceLT, Int32.reduceLE, Prod.mk.injEq, Nat.reduceEqDiff, reduceCtorEq, and_true, true_and, and_false, false_and, and_self, ite_true, ite_false, ↓reduceIte, not_true_eq_false, not_false_eq_true, pe_ri, pe_rz, pe_rc, p_throw, t1442, w_junk hA, Cp_g0_21 hP hA, Cp_g0_23 hP hA, Cp_r12 hP hA, z1]
  · dsimp only at e z1
    by_cases k2 : 0 ≤ x1 ∧ x1 < 8
    · rw [if_pos k2] at e
      by_cases k3 : 0 ≤ x2 ∧ x2 < 8
      · rw [if_pos k3] at e
        have e := Option.some.inj e; subst e
        simp -implicitDefEqProofs (disch := first | assumption | exact Nat.le_of_ble_eq_true rfl | decide) only [b1442_0, g1442_1, b1442_1, pe_iload1, pe_i2l, pe_bipush, pe_aload0, pe_getfield, pe_sipush, pe_isub, pe_call3, pm_af_ret, pm_af_void, pm_af_thr, pe_if_eq, pe_iload2, pe_goto, pe_goto_w, pe_call1, pe_laload, pe_lsub, pe_lreturn, pe_aloadN0, pe_aastoreN, pe_areturnN, pe_null, pm_prog_1, pm_ob_some, Nat.reduceDiv, Nat.reduceMod, Nat.reduceMul, Nat.reduceAdd, Int.reduceToNat, pm_kill_i, pm_kill_r, pm_kill_n, pm_kill_j, pm_kill_l, pm_kill_d, pm_cats_nil, pm_cats_i, pm_cats_r, pm_cats_n, pm_cats_l, pm_cats_d, sz_1, sz_2, sl_1, sl_2, lc_0, lc_lt, lc_le, li_ne, va_rf, wr_m1, we_m1, pm_kill_w, Int32.reduceOfInt, Int64.reduceOfInt, Int32.reduceOfNat, Int32.reduceLT, Int32.reduceLE, Prod.mk.injEq, Nat.reduceEqDiff, reduceCtorEq, and_true, true_and, and_false, false_and, and_self, ite_true, ite_false, ↓reduceIte, not_true_eq_false, not_false_eq_true, pe_ri, pe_rz, pe_rc, p_throw, t1442, w_junk hA, Cp_g0_21 hP hA, Cp_g0_23 hP hA, Cp_r12 hP hA, z1]
      · rw [if_neg k3] at e; cases e
    · rw [if_neg k2] at e; cases e
theorem x1442 {lc : Int32} {fq : Int32} {ll : Int32 → Int32} {A : wK → Nat} {h : pm_H} {D : Nat} {S : wS} {x1 : Int32} {x2 : Int32} {r : Nat ⊕ (Int64)} (hP : Cp_P lc fq ll) (hA : wok A (Cp_d lc fq ll) h.1) (hD : 2 ≤ D) (e : f1442 lc fq ll S x1 x2 = some r) : pm_call pm_prog D 1442 [.ref (A (0, 0, 0)), .int x1, .int x2] (wput A (Cp_d lc fq ll) S h) = some (match (generalizing := false) r with | .inl c => (Outcome.threw c, (wput A (Cp_d lc fq ll) S (pm_new h 6 (.inr (c, []))))) | .inr w0 => (Outcome.returned (some (.long w0)), (wput A (Cp_d lc fq ll) S h))) := by
  obtain ⟨D, rfl⟩ : ∃ D', D = D' + 1 := ⟨D - 1, by omega⟩
  have hD : 1 ≤ D := by omega
  simp only [f1442] at e
  rw [c1442 (Cp_c0 hP hA), b1442_0]
  obtain ⟨v1, k1, e⟩ := Option.bind_eq_some_iff.mp e
  try dsimp only at e
  have z1 := fun h => x1411 (D := D) (h := h) (by omega) k1
  by_cases k2 : v1 = 0
  · rw [if_pos k2] at e
    have k3 := y1442_2 (h := h) hP hA hD e
    simp -implicitDefEqProofs (disch := first | assumption | exact Nat.le_of_ble_eq_true rfl | decide) only [b1442_0, g1442_1, b1442_1, pe_iload1, pe_i2l, pe_bipush, pe_aload0, pe_getfield, pe_sipush, pe_isub, pe_call3, pm_af_ret, pm_af_void, pm_af_thr, pe_if_eq, pe_iload2, pe_goto, pe_goto_w, pe_call1, pe_laload, pe_lsub, pe_lreturn, pe_aloadN0, pe_aastoreN, pe_areturnN, pe_null, pm_prog_1, pm_ob_some, Nat.reduceDiv, Nat.reduceMod, Nat.reduceMul, Nat.reduceAdd, Int.reduceToNat, pm_kill_i, pm_kill_r, pm_kill_n, pm_kill_j, pm_kill_l, pm_kill_d, pm_cats_nil, pm_cats_i, pm_cats_r, pm_cats_n, pm_cats_l, pm_cats_d, sz_1, sz_2, sl_1, sl_2, lc_0, lc_lt, lc_le, li_ne, va_rf, wr_m1, we_m1, pm_kill_w, Int32.reduceOfInt, Int64.reduceOfInt, Int32.reduceOfNat, Int32.reduceLT, Int32.reduceLE, Prod.mk.injEq, Nat.reduceEqDiff, reduceCtorEq, and_true, true_and, and_false, false_and, and_self, ite_true, ite_false, ↓reduceIte, not_true_eq_false, not_false_eq_true, pe_ri, pe_rz, pe_rc, p_throw, t1442, w_junk hA, Cp_g0_21 hP hA, Cp_g0_23 hP hA, Cp_r12 hP hA, z1, eq_true k2, k3]
  · rw [if_neg k2] at e
    obtain ⟨v3, k4, e⟩ := Option.bind_eq_some_iff.mp e
    try dsimp only at e
    have z4 := fun h => x1411 (D := D) (h := h) (by omega) k4
    by_cases k5 : v3 = 0
    · rw [if_pos k5] at e
      have k6 := y1442_2 (h := h) hP hA hD e
      simp -implicitDefEqProofs (disch := first | assumption | exact Nat.le_of_ble_eq_true rfl | decide) only [b1442_0, g1442_1, b1442_1, pe_iload1, pe_i2l, pe_bipush, pe_aload0, pe_getfield, pe_sipush, pe_isub, pe_call3, pm_af_ret, pm_af_void, pm_af_thr, pe_if_eq, pe_iload2, pe_goto, pe_goto_w, pe_call1, pe_laload, pe_lsub, pe_lreturn, pe_aloadN0, pe_aastoreN, pe_areturnN, pe_null, pm_prog_1, pm_ob_some, Nat.reduceDiv, Nat.reduceMod, Nat.reduceMul, Nat.reduceAdd, Int.reduceToNat, pm_kill_i, pm_kill_r, pm_kill_n, pm_kill_j, pm_kill_l, pm_kill_d, pm_cats_nil, pm_cats_i, pm_cats_r, pm_cats_n, pm_cats_l, pm_cats_d, sz_1, sz_2, sl_1, sl_2, lc_0, lc_lt, lc_le, li_ne, va_rf, wr_m1, we_m1, pm_kill_w, Int32.reduceOfInt, Int64.reduceOfInt, Int32.reduceOfNat, Int32.reduceLT, Int32.reduceLE, Prod.mk.injEq, Nat.reduceEqDiff, reduceCtorEq, and_true, true_and, and_false, false_and, and_self, ite_true, ite_false, ↓reduceIte, not_true_eq_false, not_false_eq_true, pe_ri, pe_rz, pe_rc, p_throw, t1442, w_junk hA, Cp_g0_21 hP hA, Cp_g0_23 hP hA, Cp_r12 hP hA, z1, eq_false k2, z4, eq_true k5, k6]
    · rw [if_neg k5] at e
      have k7 := y1442_2 (h := h) hP hA hD e
      simp -implicitDefEqProofs (disch := first | assumption | exact Nat.le_of_ble_eq_true rfl | decide) only [b1442_0, g1442_1, b1442_1, pe_iload1, pe_i2l, pe_bipush, pe_aload0, pe_getfield, pe_sipush, pe_isub, pe_call3, pm_af_ret, pm_af_void, pm_af_thr, pe_if_eq, pe_iload2, pe_goto, pe_goto_w, pe_call1, pe_laload, pe_lsub, pe_lreturn, pe_aloadN0, pe_aastoreN, pe_areturnN, pe_null, pm_prog_1, pm_ob_some, Nat.reduceDiv, Nat.reduceMod, Nat.reduceMul, Nat.reduceAdd, Int.reduceToNat, pm_kill_i, pm_kill_r, pm_kill_n, pm_kill_j, pm_kill_l, pm_kill_d, pm_cats_nil, pm_cats_i, pm_cats_r, pm_cats_n, pm_cats_l, pm_cats_d, sz_1, sz_2, sl_1, sl_2, lc_0, lc_lt, lc_le, li_ne, va_rf, wr_m1, we_m1, pm_kill_w, Int32.reduceOfInt, Int64.reduceOfInt, Int32.reduceOfNat, Int32.reduceLT, Int32.reduceLE, Prod.mk.injEq, Nat.reduceEqDiff, reduceCtorEq, and_true, true_and, and_false, false_and, and_self, ite_true, ite_false, ↓reduceIte, not_true_eq_false, not_false_eq_true, pe_ri, pe_rz, pe_rc, p_throw, t1442, w_junk hA, Cp_g0_21 hP hA, Cp_g0_23 hP hA, Cp_r12 hP hA, z1, eq_false k2, z4, eq_false k5, k7]
/-- TimberHouse$PriceLines.invoice(II)I -/
theorem c1443 {d : Nat} {h : pm_H} {a : Nat} {x0 : Int32} {x1 : Int32} (hc : pm_cls h a = some 22) : pm_call pm_prog (d + 1) 1443 [.ref a, .int x0, .int x1] h = pm_ev pm_prog (pm_call pm_prog d) 1443 0 b1443_0 [.ref a, .int x0, .int x1] [] h := pm_cal (pm_rc1 hc rfl) rfl rfl rfl
theorem g1443_1 {cl : pm_C} {ls st : List Value} {h : pm_H} : pm_go pm_prog cl 1443 1 ls st h = pm_ev pm_prog cl 1443 1 b1443_1 ls st h := pm_go_eq pm_prog cl 1443 1 ls st h
theorem g1443_2 {cl : pm_C} {ls st : List Value} {h : pm_H} : pm_go pm_prog cl 1443 2 ls st h = pm_ev pm_prog cl 1443 2 b1443_2 ls st h := pm_go_eq pm_prog cl 1443 2 ls st h
theorem t1443 {cl : pm_C} {j : Nat} {ls : List Value} {c : Nat} {h : pm_H} : pm_thr pm_prog cl 1443 j ls c h = some (.threw c, h) := rfl
noncomputable def f1443_2 (lc : Int32) (fq : Int32) (ll : Int32 → Int32) (S : wS) (x1 : Int32) (x2 : Int32) (y0 : Int32) : Option ((Nat × wS) ⊕ (Int32 × wS)) :=
  (f1418 y0).bind fun r => match r with
  | .inl c4 =>
    some (.inl (c4, S))
  | .inr _ =>
  if 0 ≤ x1 ∧ x1 < 8 then
    (f1440 lc fq ll S (S.2 (12, 0, 0) x1) x2).bind fun v3 =>
    if 0 ≤ (S.1 (0, 0, 0) 25) ∧ (S.1 (0, 0, 0) 25) < 8 then
      some (.inr ((S.1 (0, 0, 0) 25), (sz (sl S (14, 0, 0) (S.1 (0, 0, 0) 25) v3) (0, 0, 0) 25 ((S.1 (0, 0, 0) 25) + 1))))
    else none
  else none
/-- TimberHouse$PriceLines.invoice(II)I -/
noncomputable def f1443 (lc : Int32) (fq : Int32) (ll : Int32 → Int32) (S : wS) (x1 : Int32) (x2 : Int32) : Option ((Nat × wS) ⊕ (Int32 × wS)) :=
  (f1411 (Int32.toInt64 x1) 0 (Int32.toInt64 ((S.1 (0, 0, 0) 23) - 1))).bind fun v1 =>
  (f1412 v1).bind fun r => match r with
  | .inl c6 =>
    some (.inl (c6, S))
  | .inr _ =>
  (f1411 (Int32.toInt64 x2) 0 10000).bind fun v2 =>
  (f1414 v2).bind fun r => match r with
  | .inl c5 =>
    some (.inl (c5, S))
  | .inr _ =>
  if (S.1 (0, 0, 0) 25) < 8 then
    if 0 ≤ x1 ∧ x1 < 8 then
      if x2 ≤ (S.1 (13, 0, 0) x1) then
        if (S.2 (12, 0, 0) x1) < 0 then
          f1443_2 lc fq ll S x1 x2 0
        else
          f1443_2 lc fq ll S x1 x2 1
      else
        f1443_2 lc fq ll S x1 x2 0
    else none
  else
    f1443_2 lc fq ll S x1 x2 0
theorem y1443_2 {lc : Int32} {fq : Int32} {ll : Int32 → Int32} {A : wK → Nat} {h : pm_H} {D : Nat} {S : wS} {x1 : Int32} {x2 : Int32} {y0 : Int32} {r : (Nat × wS) ⊕ (Int32 × wS)} (hP : Cp_P lc fq ll) (hA : wok A (Cp_d lc fq ll) h.1) (hD : 2 ≤ D) (e : f1443_2 lc fq ll S x1 x2 y0 = some r) : pm_go pm_prog (pm_call pm_prog D) 1443 2 [.ref (A (0, 0, 0)), .int x1, .int x2] [.int y0] (wput A (Cp_d lc fq ll) S h) = some (match (generalizing := false) r with | .inl (c, S1) => (Outcome.threw c, (wput A (Cp_d lc fq ll) S1 (pm_new h 6 (.inr (c, []))))) | .inr (w0, S1) => (Outcome.returned (some (.int w0)), (wput A (Cp_d lc fq ll) S1 h))) := by
  simp only [f1443_2] at e
  rw [g1443_2, b1443_2]
  obtain ⟨r, k1, e⟩ := Option.bind_eq_some_iff.mp e
  have z1 := fun h => x1418 (D := D) (h := h) (by omega) k1
  rcases r with c4 | _
  · dsimp only at e z1
    have e := Option.some.inj e; subst e
    simp -implicitDefEqProofs (disch := first | assumption | exact Nat.le_of_ble_eq_true rfl | decide) only [b1443_0, g1443_1, b1443_1, pe_iload1, pe_i2l, pe_bipush, pe_aload0, pe_getfield, pe_sipush, pe_isub, pe_call3, pm_af_ret, pm_af_void, pm_af_thr, pe_call1, pe_iload2, pe_icmp_ge, pe_iaload, pe_icmp_gt, pe_laload, pe_lcmp, pe_if_lt, pe_goto, pe_goto_w, pe_lastore, pe_dup_i, pe_dup_r, pe_dup_x1_ii, pe_dup_x1_ir, pe_dup_x1_ri, pe_dup_x1_rr, pe_iadd, pe_putfield, pe_aloadN0, pe_aastoreN, pe_areturnN, pe_null, pm_prog_1, pm_ob_some, Nat.reduceDiv, Nat.reduceMod, Nat.reduceMul, Nat.reduceAdd, Int.reduceToNat, pm_kill_i, pm_kill_r, pm_kill_n, pm_kill_j, pm_kill_l, pm_kill_d, pm_cats_nil, pm_cats_i, pm_cats_r, pm_cats_n, pm_cats_l, pm_cats_d, sz_1, sz_2, sl_1, sl_2, lc_0, lc_lt, lc_le, li_ne, va_rf, wr_m1, we_m1, pm_kill_w, Int32.reduceOfInt, Int64.reduceOfInt, Int32.reduceOfNat, Int32.reduceLT, Int32.reduceLE, Prod.mk.injEq, Nat.reduceEqDiff, reduceCtorEq, and_true, true_and, and_false, false_and, and_self, ite_true, ite_false, ↓reduceIte, not_true_eq_false, not_false_eq_true, pe_ri, pe_rz, pe_rc, p_throw, t1443, w_junk hA, Cp_g0_21 hP hA, Cp_g0_22 hP hA, Cp_g0_23 hP hA, Cp_g0_24 hP hA, Cp_g0_25 hP hA, Cp_p0_25 hP hA, Cp_r12 hP hA, Cp_r13 hP hA, Cp_w14 hP hA, z1]
  · dsimp only at e z1
    by_cases k2 : 0 ≤ x1 ∧ x1 < 8
    · rw [if_pos k2] at e
      obtain ⟨v3, k3, e⟩ := Option.bind_eq_some_iff.mp e
      try dsimp only at e
      have z3 := x1440 (D := D) (h := h) hP hA (by omega) k3
      by_cases k4 : 0 ≤ (S.1 (0, 0, 0) 25) ∧ (S.1 (0, 0, 0) 25) < 8
      · rw [if_pos k4] at e
        have e := Option.some.inj e; subst e
        simp -implicitDefEqProofs (disch := first | assumption | exact Nat.le_of_ble_eq_true rfl | decide) only [b1443_0, g1443_1, b1443_1, pe_iload1, pe_i2l, pe_bipush, pe_aload0, pe_getfield, pe_sipush, pe_isub, pe_call3, pm_af_ret, pm_af_void, pm_af_thr, pe_call1, pe_iload2, pe_icmp_ge, pe_iaload, pe_icmp_gt, pe_laload, pe_lcmp, pe_if_lt, pe_goto, pe_goto_w, pe_lastore, pe_dup_i, pe_dup_r, pe_dup_x1_ii, pe_dup_x1_ir, pe_dup_x1_ri, pe_dup_x1_rr, pe_iadd, pe_putfield, pe_aloadN0, pe_aastoreN, pe_areturnN, pe_null, pm_prog_1, pm_ob_some, Nat.reduceDiv, Nat.reduceMod, Nat.reduceMul, Nat.reduceAdd, Int.reduceToNat, pm_kill_i, pm_kill_r, pm_kill_n, pm_kill_j, pm_kill_l, pm_kill_d, pm_cats_nil, pm_cats_i, pm_cats_r, pm_cats_n, pm_cats_l, pm_cats_d, sz_1, sz_2, sl_1, sl_2, lc_0, lc_lt, lc_le, li_ne, va_rf, wr_m1, we_m1, pm_kill_w, Int32.reduceOfInt, Int64.reduceOfInt, Int32.reduceOfNat, Int32.reduceLT, Int32.reduceLE, Prod.mk.injEq, Nat.reduceEqDiff, reduceCtorEq, and_true, true_and, and_false, false_and, and_self, ite_true, ite_false, ↓reduceIte, not_true_eq_false, not_false_eq_true, pe_ri, pe_rz, pe_rc, p_throw, t1443, w_junk hA, Cp_g0_21 hP hA, Cp_g0_22 hP hA, Cp_g0_23 hP hA, Cp_g0_24 hP hA, Cp_g0_25 hP hA, Cp_p0_25 hP hA, Cp_r12 hP hA, Cp_r13 hP hA, Cp_w14 hP hA, z1, z3]
      · rw [if_neg k4] at e; cases e
    · rw [if_neg k2] at e; cases e
theorem x1443 {lc : Int32} {fq : Int32} {ll : Int32 → Int32} {A : wK → Nat} {h : pm_H} {D : Nat} {S : wS} {x1 : Int32} {x2 : Int32} {r : (Nat × wS) ⊕ (Int32 × wS)} (hP : Cp_P lc fq ll) (hA : wok A (Cp_d lc fq ll) h.1) (hD : 3 ≤ D) (e : f1443 lc fq ll S x1 x2 = some r) : pm_call pm_prog D 1443 [.ref (A (0, 0, 0)), .int x1, .int x2] (wput A (Cp_d lc fq ll) S h) = some (match (generalizing := false) r with | .inl (c, S1) => (Outcome.threw c, (wput A (Cp_d lc fq ll) S1 (pm_new h 6 (.inr (c, []))))) | .inr (w0, S1) => (Outcome.returned (some (.int w0)), (wput A (Cp_d lc fq ll) S1 h))) := by
  obtain ⟨D, rfl⟩ : ∃ D', D = D' + 1 := ⟨D - 1, by omega⟩
  have hD : 2 ≤ D := by omega
  simp only [f1443] at e
  rw [c1443 (Cp_c0 hP hA), b1443_0]
  obtain ⟨v1, k1, e⟩ := Option.bind_eq_some_iff.mp e
  try dsimp only at e
  have z1 := fun h => x1411 (D := D) (h := h) (by omega) k1
  obtain ⟨r, k2, e⟩ := Option.bind_eq_some_iff.mp e
  have z2 := fun h => x1412 (D := D) (h := h) (by omega) k2
  rcases r with c6 | _
  · dsimp only at e z2
    have e := Option.some.inj e; subst e
    simp -implicitDefEqProofs (disch := first | assumption | exact Nat.le_of_ble_eq_true rfl | decide) only [b1443_0, g1443_1, b1443_1, pe_iload1, pe_i2l, pe_bipush, pe_aload0, pe_getfield, pe_sipush, pe_isub, pe_call3, pm_af_ret, pm_af_void, pm_af_thr, pe_call1, pe_iload2, pe_icmp_ge, pe_iaload, pe_icmp_gt, pe_laload, pe_lcmp, pe_if_lt, pe_goto, pe_goto_w, pe_lastore, pe_dup_i, pe_dup_r, pe_dup_x1_ii, pe_dup_x1_ir, pe_dup_x1_ri, pe_dup_x1_rr, pe_iadd, pe_putfield, pe_aloadN0, pe_aastoreN, pe_areturnN, pe_null, pm_prog_1, pm_ob_some, Nat.reduceDiv, Nat.reduceMod, Nat.reduceMul, Nat.reduceAdd, Int.reduceToNat, pm_kill_i, pm_kill_r, pm_kill_n, pm_kill_j, pm_kill_l, pm_kill_d, pm_cats_nil, pm_cats_i, pm_cats_r, pm_cats_n, pm_cats_l, pm_cats_d, sz_1, sz_2, sl_1, sl_2, lc_0, lc_lt, lc_le, li_ne, va_rf, wr_m1, we_m1, pm_kill_w, Int32.reduceOfInt, Int64.reduceOfInt, Int32.reduceOfNat, Int32.reduceLT, Int32.reduceLE, Prod.mk.injEq, Nat.reduceEqDiff, reduceCtorEq, and_true, true_and, and_false, false_and, and_self, ite_true, ite_false, ↓reduceIte, not_true_eq_false, not_false_eq_true, pe_ri, pe_rz, pe_rc, p_throw, t1443, w_junk hA, Cp_g0_21 hP hA, Cp_g0_22 hP hA, Cp_g0_23 hP hA, Cp_g0_24 hP hA, Cp_g0_25 hP hA, Cp_p0_25 hP hA, Cp_r12 hP hA, Cp_r13 hP hA, Cp_w14 hP hA, z1, z2]
  · dsimp only at e z2
    obtain ⟨v2, k3, e⟩ := Option.bind_eq_some_iff.mp e
    try dsimp only at e
    have z3 := fun h => x1411 (D := D) (h := h) (by omega) k3
    obtain ⟨r, k4, e⟩ := Option.bind_eq_some_iff.mp e
    have z4 := fun h => x1414 (D := D) (h := h) (by omega) k4
    rcases r with c5 | _
    · dsimp only at e z4
      have e := Option.some.inj e; subst e
      simp -implicitDefEqProofs (disch := first | assumption | exact Nat.le_of_ble_eq_true rfl | decide) only [b1443_0, g1443_1, b1443_1, pe_iload1, pe_i2l, pe_bipush, pe_aload0, pe_getfield, pe_sipush, pe_isub, pe_call3, pm_af_ret, pm_af_void, pm_af_thr, pe_call1, pe_iload2, pe_icmp_ge, pe_iaload, pe_icmp_gt, pe_laload, pe_lcmp, pe_if_lt, pe_goto, pe_goto_w, pe_lastore, pe_dup_i, pe_dup_r, pe_dup_x1_ii, pe_dup_x1_ir, pe_dup_x1_ri, pe_dup_x1_rr, pe_iadd, pe_putfield, pe_aloadN0, pe_aastoreN, pe_areturnN, pe_null, pm_prog_1, pm_ob_some, Nat.reduceDiv, Nat.reduceMod, Nat.reduceMul, Nat.reduceAdd, Int.reduceToNat, pm_kill_i, pm_kill_r, pm_kill_n, pm_kill_j, pm_kill_l, pm_kill_d, pm_cats_nil, pm_cats_i, pm_cats_r, pm_cats_n, pm_cats_l, pm_cats_d, sz_1, sz_2, sl_1, sl_2, lc_0, lc_lt, lc_le, li_ne, va_rf, wr_m1, we_m1, pm_kill_w, Int32.reduceOfInt, Int64.reduceOfInt, Int32.reduceOfNat, Int32.reduceLT, Int32.reduceLE, Prod.mk.injEq, Nat.reduceEqDiff, reduceCtorEq, and_true, true_and, and_false, false_and, and_self, ite_true, ite_false, ↓reduceIte, not_true_eq_false, not_false_eq_true, pe_ri, pe_rz, pe_rc, p_throw, t1443, w_junk hA, Cp_g0_21 hP hA, Cp_g0_22 hP hA, Cp_g0_23 hP hA, Cp_g0_24 hP hA, Cp_g0_25 hP hA, Cp_p0_25 hP hA, Cp_r12 hP hA, Cp_r13 hP hA, Cp_w14 hP hA, z1, z2, z3, z4]
    · dsimp only at e z4
      by_cases k5 : (S.1 (0, 0, 0) 25) < 8
      · rw [if_pos k5] at e
        by_cases k6 : 0 ≤ x1 ∧ x1 < 8
        · rw [if_pos k6] at e
          by_cases k7 : x2 ≤ (S.1 (13, 0, 0) x1)
          · rw [if_pos k7] at e
            by_cases k8 : (S.2 (12, 0, 0) x1) < 0
            · rw [if_pos k8] at e
              have k9 := y1443_2 (h := h) hP hA hD e
              simp -implicitDefEqProofs (disch := first | assumption | exact Nat.le_of_ble_eq_true rfl | decide) only [b1443_0, g1443_1, b1443_1, pe_iload1, pe_i2l, pe_bipush, pe_aload0, pe_getfield, pe_sipush, pe_isub, pe_call3, pm_af_ret, pm_af_void, pm_af_thr, pe_call1, pe_iload2, pe_icmp_ge, pe_iaload, pe_icmp_gt, pe_laload, pe_lcmp, pe_if_lt, pe_goto, pe_goto_w, pe_lastore, pe_dup_i, pe_dup_r, pe_dup_x1_ii, pe_dup_x1_ir, pe_dup_x1_ri, pe_dup_x1_rr, pe_iadd, pe_putfield, pe_aloadN0, pe_aastoreN, pe_areturnN, pe_null, pm_prog_1, pm_ob_some, Nat.reduceDiv, Nat.reduceMod, Nat.reduceMul, Nat.reduceAdd, Int.reduceToNat, pm_kill_i, pm_kill_r, pm_kill_n, pm_kill_j, pm_kill_l, pm_kill_d, pm_cats_nil, pm_cats_i, pm_cats_r, pm_cats_n, pm_cats_l, pm_cats_d, sz_1, sz_2, sl_1, sl_2, lc_0, lc_lt, lc_le, li_ne, va_rf, wr_m1, we_m1, pm_kill_w, Int32.reduceOfInt, Int64.reduceOfInt, Int32.reduceOfNat, Int32.reduceLT, Int32.reduceLE, Prod.mk.injEq, Nat.reduceEqDiff, reduceCtorEq, and_true, true_and, and_false, false_and, and_self, ite_true, ite_false, ↓reduceIte, not_true_eq_false, not_false_eq_true, pe_ri, pe_rz, pe_rc, p_throw, t1443, w_junk hA, Cp_g0_21 hP hA, Cp_g0_22 hP hA, Cp_g0_23 hP hA, Cp_g0_24 hP hA, Cp_g0_25 hP hA, Cp_p0_25 hP hA, Cp_r12 hP hA, Cp_r13 hP hA, Cp_w14 hP hA, z1, z2, z3, z4, eq_true k5, eq_true k7, eq_true k8, k9]
            · rw [if_neg k8] at e
              have k10 := y1443_2 (h := h) hP hA hD e
              simp -implicitDefEqProofs (disch := first | assumption | exact Nat.le_of_ble_eq_true rfl | decide) only [b1443_0, g1443_1, b1443_1, pe_iload1, pe_i2l, pe_bipush, pe_aload0, pe_getfield, pe_sipush, pe_isub, pe_call3, pm_af_ret, pm_af_void, pm_af_thr, pe_call1, pe_iload2, pe_icmp_ge, pe_iaload, pe_icmp_gt, pe_laload, pe_lcmp, pe_if_lt, pe_goto, pe_goto_w, pe_lastore, pe_dup_i, pe_dup_r, pe_dup_x1_ii, pe_dup_x1_ir, pe_dup_x1_ri, pe_dup_x1_rr, pe_iadd, pe_putfield, pe_aloadN0, pe_aastoreN, pe_areturnN, pe_null, pm_prog_1, pm_ob_some, Nat.reduceDiv, Nat.reduceMod, Nat.reduceMul, Nat.reduceAdd, Int.reduceToNat, pm_kill_i, pm_kill_r, pm_kill_n, pm_kill_j, pm_kill_l, pm_kill_d, pm_cats_nil, pm_cats_i, pm_cats_r, pm_cats_n, pm_cats_l, pm_cats_d, sz_1, sz_2, sl_1, sl_2, lc_0, lc_lt, lc_le, li_ne, va_rf, wr_m1, we_m1, pm_kill_w, Int32.reduceOfInt, Int64.reduceOfInt, Int32.reduceOfNat, Int32.reduceLT, Int32.reduceLE, Prod.mk.injEq, Nat.reduceEqDiff, reduceCtorEq, and_true, true_and, and_false, false_and, and_self, ite_true, ite_false, ↓reduceIte, not_true_eq_false, not_false_eq_true, pe_ri, pe_rz, pe_rc, p_throw, t1443, w_junk hA, Cp_g0_21 hP hA, Cp_g0_22 hP hA, Cp_g0_23 hP hA, Cp_g0_24 hP hA, Cp_g0_25 hP hA, Cp_p0_25 hP hA, Cp_r12 hP hA, Cp_r13 hP hA, Cp_w14 hP hA, z1, z2, z3, z4, eq_true k5, eq_true k7, eq_false k8, k10]
          · rw [if_neg k7] at e
            have k11 := y1443_2 (h := h) hP hA hD e
            simp -implicitDefEqProofs (disch := first | assumption | exact Nat.le_of_ble_eq_true rfl | decide) only [b1443_0, g1443_1, b1443_1, pe_iload1, pe_i2l, pe_bipush, pe_aload0, pe_getfield, pe_sipush, pe_isub, pe_call3, pm_af_ret, pm_af_void, pm_af_thr, pe_call1, pe_iload2, pe_icmp_ge, pe_iaload, pe_icmp_gt, pe_laload, pe_lcmp, pe_if_lt, pe_goto, pe_goto_w, pe_lastore, pe_dup_i, pe_dup_r, pe_dup_x1_ii, pe_dup_x1_ir, pe_dup_x1_ri, pe_dup_x1_rr, pe_iadd, pe_putfield, pe_aloadN0, pe_aastoreN, pe_areturnN, pe_null, pm_prog_1, pm_ob_some, Nat.reduceDiv, Nat.reduceMod, Nat.reduceMul, Nat.reduceAdd, Int.reduceToNat, pm_kill_i, pm_kill_r, pm_kill_n, pm_kill_j, pm_kill_l, pm_kill_d, pm_cats_nil, pm_cats_i, pm_cats_r, pm_cats_n, pm_cats_l, pm_cats_d, sz_1, sz_2, sl_1, sl_2, lc_0, lc_lt, lc_le, li_ne, va_rf, wr_m1, we_m1, pm_kill_w, Int32.reduceOfInt, Int64.reduceOfInt, Int32.reduceOfNat, Int32.reduceLT, Int32.reduceLE, Prod.mk.injEq, Nat.reduceEqDiff, reduceCtorEq, and_true, true_and, and_false, false_and, and_self, ite_true, ite_false, ↓reduceIte, not_true_eq_false, not_false_eq_true, pe_ri, pe_rz, pe_rc, p_throw, t1443, w_junk hA, Cp_g0_21 hP hA, Cp_g0_22 hP hA, Cp_g0_23 hP hA, Cp_g0_24 hP hA, Cp_g0_25 hP hA, Cp_p0_25 hP hA, Cp_r12 hP hA, Cp_r13 hP hA, Cp_w14 hP hA, z1, z2, z3, z4, eq_true k5, eq_false k7, k11]
        · rw [if_neg k6] at e; cases e
      · rw [if_neg k5] at e
        have k12 := y1443_2 (h := h) hP hA hD e
        simp -implicitDefEqProofs (disch := first | assumption | exact Nat.le_of_ble_eq_true rfl | decide) only [b1443_0, g1443_1, b1443_1, pe_iload1, pe_i2l, pe_bipush, pe_aload0, pe_getfield, pe_sipush, pe_isub, pe_call3, pm_af_ret, pm_af_void, pm_af_thr, pe_call1, pe_iload2, pe_icmp_ge, pe_iaload, pe_icmp_gt, pe_laload, pe_lcmp, pe_if_lt, pe_goto, pe_goto_w, pe_lastore, pe_dup_i, pe_dup_r, pe_dup_x1_ii, pe_dup_x1_ir, pe_dup_x1_ri, pe_dup_x1_rr, pe_iadd, pe_putfield, pe_aloadN0, pe_aastoreN, pe_areturnN, pe_null, pm_prog_1, pm_ob_some, Nat.reduceDiv, Nat.reduceMod, Nat.reduceMul, Nat.reduceAdd, Int.reduceToNat, pm_kill_i, pm_kill_r, pm_kill_n, pm_kill_j, pm_kill_l, pm_kill_d, pm_cats_nil, pm_cats_i, pm_cats_r, pm_cats_n, pm_cats_l, pm_cats_d, sz_1, sz_2, sl_1, sl_2, lc_0, lc_lt, lc_le, li_ne, va_rf, wr_m1, we_m1, pm_kill_w, Int32.reduceOfInt, Int64.reduceOfInt, Int32.reduceOfNat, Int32.reduceLT, Int32.reduceLE, Prod.mk.injEq, Nat.reduceEqDiff, reduceCtorEq, and_true, true_and, and_false, false_and, and_self, ite_true, ite_false, ↓reduceIte, not_true_eq_false, not_false_eq_true, pe_ri, pe_rz, pe_rc, p_throw, t1443, w_junk hA, Cp_g0_21 hP hA, Cp_g0_22 hP hA, Cp_g0_23 hP hA, Cp_g0_24 hP hA, Cp_g0_25 hP hA, Cp_p0_25 hP hA, Cp_r12 hP hA, Cp_r13 hP hA, Cp_w14 hP hA, z1, z2, z3, z4, eq_false k5, k12]
/-- TimberHouse$PriceLines.left(I)J -/
theorem c1444 {d : Nat} {h : pm_H} {a : Nat} {x0 : Int32} (hc : pm_cls h a = some 22) : pm_call pm_prog (d + 1) 1444 [.ref a, .int x0] h = pm_ev pm_prog (pm_call pm_prog d) 1444 0 b1444_0 [.ref a, .int x0] [] h := pm_cal (pm_rc1 hc rfl) rfl rfl rfl
theorem t1444 {cl : pm_C} {j : Nat} {ls : List Value} {c : Nat} {h : pm_H} : pm_thr pm_prog cl 1444 j ls c h = some (.threw c, h) := rfl
/-- TimberHouse$PriceLines.left(I)J -/
noncomputable def f1444 (lc : Int32) (fq : Int32) (ll : Int32 → Int32) (S : wS) (x1 : Int32) : Option (Nat ⊕ (Int64)) :=
  (f1411 (Int32.toInt64 x1) 0 (Int32.toInt64 ((S.1 (0, 0, 0) 25) - 1))).bind fun v1 =>
  (f1412 v1).bind fun r => match r with
  | .inl c2 =>
    some (.inl c2)
  | .inr _ =>
  if 0 ≤ x1 ∧ x1 < 8 then
    some (.inr (S.2 (14, 0, 0) x1))
  else none
theorem x1444 {lc : Int32} {fq : Int32} {ll : Int32 → Int32} {A : wK → Nat} {h : pm_H} {D : Nat} {S : wS} {x1 : Int32} {r : Nat ⊕ (Int64)} (hP : Cp_P lc fq ll) (hA : wok A (Cp_d lc fq ll) h.1) (hD : 2 ≤ D) (e : f1444 lc fq ll S x1 = some r) : pm_call pm_prog D 1444 [.ref (A (0, 0, 0)), .int x1] (wput A (Cp_d lc fq ll) S h) = some (match (generalizing := false) r with | .inl c => (Outcome.threw c, (wput A (Cp_d lc fq ll) S (pm_new h 6 (.inr (c, []))))) | .inr w0 => (Outcome.returned (some (.long w0)), (wput A (Cp_d lc fq ll) S h))) := by
  obtain ⟨D, rfl⟩ : ∃ D', D = D' + 1 := ⟨D - 1, by omega⟩
  have hD : 1 ≤ D := by omega
  simp only [f1444] at e
  rw [c1444 (Cp_c0 hP hA), b1444_0]
  obtain ⟨v1, k1, e⟩ := Option.bind_eq_some_iff.mp e
  try dsimp only at e
  have z1 := fun h => x1411 (D := D) (h := h) (by omega) k1
  obtain ⟨r, k2, e⟩ := Option.bind_eq_some_iff.mp e
  have z2 := fun h => x1412 (D := D) (h := h) (by omega) k2
  rcases r with c2 | _
  · dsimp only at e z2
    have e := Option.some.inj e; subst e
    simp -implicitDefEqProofs (disch := first | assumption | exact Nat.le_of_ble_eq_true rfl | decide) only [b1444_0, pe_iload1, pe_i2l, pe_bipush, pe_aload0, pe_getfield, pe_sipush, pe_isub, pe_call3, pm_af_ret, pm_af_void, pm_af_thr, pe_call1, pe_laload, pe_lreturn, pe_aloadN0, pe_aastoreN, pe_areturnN, pe_null, pm_prog_1, pm_ob_some, Nat.reduceDiv, Nat.reduceMod, Nat.reduceMul, Nat.reduceAdd, Int.reduceToNat, pm_kill_i, pm_kill_r, pm_kill_n, pm_kill_j, pm_kill_l, pm_kill_d, pm_cats_nil, pm_cats_i, pm_cats_r, pm_cats_n, pm_cats_l, pm_cats_d, sz_1, sz_2, sl_1, sl_2, lc_0, lc_lt, lc_le, li_ne, va_rf, wr_m1, we_m1, pm_kill_w, Int32.reduceOfInt, Int64.reduceOfInt, Int32.reduceOfNat, Int32.reduceLT, Int32.reduceLE, Prod.mk.injEq, Nat.reduceEqDiff, reduceCtorEq, and_true, true_and, and_false, false_and, and_self, ite_true, ite_false, ↓reduceIte, not_true_eq_false, not_false_eq_true, pe_ri, pe_rz, pe_rc, p_throw, t1444, w_junk hA, Cp_g0_24 hP hA, Cp_g0_25 hP hA, Cp_r14 hP hA, z1, z2]
  · dsimp only at e z2
    by_cases k3 : 0 ≤ x1 ∧ x1 < 8
    · rw [if_pos k3] at e
      have e := Option.some.inj e; subst e
      simp -implicitDefEqProofs (disch := first | assumption | exact Nat.le_of_ble_eq_true rfl | decide) only [b1444_0, pe_iload1, pe_i2l, pe_bipush, pe_aload0, pe_getfield, pe_sipush, pe_isub, pe_call3, pm_af_ret, pm_af_void, pm_af_thr, pe_call1, pe_laload, pe_lreturn, pe_aloadN0, pe_aastoreN, pe_areturnN, pe_null, pm_prog_1, pm_ob_some, Nat.reduceDiv, Nat.reduceMod, Nat.reduceMul, Nat.reduceAdd, Int.reduceToNat, pm_kill_i, pm_kill_r, pm_kill_n, pm_kill_j, pm_kill_l, pm_kill_d, pm_cats_nil, pm_cats_i, pm_cats_r, pm_cats_n, pm_cats_l, pm_cats_d, sz_1, sz_2, sl_1, sl_2, lc_0, lc_lt, lc_le, li_ne, va_rf, wr_m1, we_m1, pm_kill_w, Int32.reduceOfInt, Int64.reduceOfInt, Int32.reduceOfNat, Int32.reduceLT, Int32.reduceLE, Prod.mk.injEq, Nat.reduceEqDiff, reduceCtorEq, and_true, true_and, and_false, false_and, and_self, ite_true, ite_false, ↓reduceIte, not_true_eq_false, not_false_eq_true, pe_ri, pe_rz, pe_rc, p_throw, t1444, w_junk hA, Cp_g0_24 hP hA, Cp_g0_25 hP hA, Cp_r14 hP hA, z1, z2]
    · rw [if_neg k3] at e; cases e
/-- TimberHouse$PriceLines.refund(II)Z -/
theorem c1445 {d : Nat} {h : pm_H} {a : Nat} {x0 : Int32} {x1 : Int32} (hc : pm_cls h a = some 22) : pm_call pm_prog (d + 1) 1445 [.ref a, .int x0, .int x1] h = pm_ev pm_prog (pm_call pm_prog d) 1445 0 b1445_0 [.ref a, .int x0, .int x1] [] h := pm_cal (pm_rc1 hc rfl) rfl rfl rfl
theorem g1445_1 {cl : pm_C} {ls st : List Value} {h : pm_H} : pm_go pm_prog cl 1445 1 ls st h = pm_ev pm_prog cl 1445 1 b1445_1 ls st h := pm_go_eq pm_prog cl 1445 1 ls st h
theorem g1445_2 {cl : pm_C} {ls st : List Value} {h : pm_H} : pm_go pm_prog cl 1445 2 ls st h = pm_ev pm_prog cl 1445 2 b1445_2 ls st h := pm_go_eq pm_prog cl 1445 2 ls st h
theorem g1445_3 {cl : pm_C} {ls st : List Value} {h : pm_H} : pm_go pm_prog cl 1445 3 ls st h = pm_ev pm_prog cl 1445 3 b1445_3 ls st h := pm_go_eq pm_prog cl 1445 3 ls st h
theorem t1445 {cl : pm_C} {j : Nat} {ls : List Value} {c : Nat} {h : pm_H} : pm_thr pm_prog cl 1445 j ls c h = some (.threw c, h) := rfl
noncomputable def f1445_2 (lc : Int32) (fq : Int32) (ll : Int32 → Int32) (S : wS) (x1 : Int32) (x2 : Int32) (y0 : Int32) : Option ((Nat × wS) ⊕ (Int32 × wS)) :=
  (f1414 y0).bind fun r => match r with
  | .inl c2 =>
    some (.inl (c2, S))
  | .inr _ =>
  if 0 ≤ x1 ∧ x1 < 8 then
    if (Int32.toInt64 x2) ≤ (S.2 (14, 0, 0) x1) then
      some (.inr (1, (sl S (14, 0, 0) x1 ((S.2 (14, 0, 0) x1) - (Int32.toInt64 x2)))))
    else
      some (.inr (0, S))
  else none
/-- TimberHouse$PriceLines.refund(II)Z -/
noncomputable def f1445 (lc : Int32) (fq : Int32) (ll : Int32 → Int32) (S : wS) (x1 : Int32) (x2 : Int32) : Option ((Nat × wS) ⊕ (Int32 × wS)) :=
  (f1411 (Int32.toInt64 x1) 0 (Int32.toInt64 ((S.1 (0, 0, 0) 25) - 1))).bind fun v1 =>
  (f1412 v1).bind fun r => match r with
  | .inl c3 =>
    some (.inl (c3, S))
  | .inr _ =>
  if x2 < 0 then
    f1445_2 lc fq ll S x1 x2 0
  else
    f1445_2 lc fq ll S x1 x2 1
theorem y1445_2 {lc : Int32} {fq : Int32} {ll : Int32 → Int32} {A : wK → Nat} {h : pm_H} {D : Nat} {S : wS} {x1 : Int32} {x2 : Int32} {y0 : Int32} {r : (Nat × wS) ⊕ (Int32 × wS)} (hP : Cp_P lc fq ll) (hA : wok A (Cp_d lc fq ll) h.1) (hD : 1 ≤ D) (e : f1445_2 lc fq ll S x1 x2 y0 = some r) : pm_go pm_prog (pm_call pm_prog D) 1445 2 [.ref (A (0, 0, 0)), .int x1, .int x2] [.int y0] (wput A (Cp_d lc fq ll) S h) = some (match (generalizing := false) r with | .inl (c, S1) => (Outcome.threw c, (wput A (Cp_d lc fq ll) S1 (pm_new h 6 (.inr (c, []))))) | .inr (w0, S1) => (Outcome.returned (some (.int w0)), (wput A (Cp_d lc fq ll) S1 h))) := by
  simp only [f1445_2] at e
  rw [g1445_2, b1445_2]
  obtain ⟨r, k1, e⟩ := Option.bind_eq_some_iff.mp e
  have z1 := fun h => x1414 (D := D) (h := h) (by omega) k1
  rcases r with c2 | _
  · dsimp only at e z1
    have e := Option.some.inj e; subst e
    simp -implicitDefEqProofs (disch := first | assumption | exact Nat.le_of_ble_eq_true rfl | decide) only [b1445_0, g1445_1, b1445_1, g1445_3, b1445_3, pe_iload1, pe_i2l, pe_bipush, pe_aload0, pe_getfield, pe_sipush, pe_isub, pe_call3, pm_af_ret, pm_af_void, pm_af_thr, pe_call1, pe_iload2, pe_if_lt, pe_goto, pe_goto_w, pe_laload, pe_lcmp, pe_if_le, pe_dup2_ii, pe_dup2_ir, pe_dup2_l, pe_lsub, pe_lastore, pe_aloadN0, pe_aastoreN, pe_areturnN, pe_null, pm_prog_1, pm_ob_some, Nat.reduceDiv, Nat.reduceMod, Nat.reduceMul, Nat.reduceAdd, Int.reduceToNat, pm_kill_i, pm_kill_r, pm_kill_n, pm_kill_j, pm_kill_l, pm_kill_d, pm_cats_nil, pm_cats_i, pm_cats_r, pm_cats_n, pm_cats_l, pm_cats_d, sz_1, sz_2, sl_1, sl_2, lc_0, lc_lt, lc_le, li_ne, va_rf, wr_m1, we_m1, pm_kill_w, Int32.reduceOfInt, Int64.reduceOfInt, Int32.reduceOfNat, Int32.reduceLT, Int32.reduceLE, Prod.mk.injEq, Nat.reduceEqDiff, reduceCtorEq, and_true, true_and, and_false, false_and, and_self, ite_true, ite_false, ↓reduceIte, not_true_eq_false, not_false_eq_true, pe_ri, pe_rz, pe_rc, p_throw, t1445, w_junk hA, Cp_g0_24 hP hA, Cp_g0_25 hP hA, Cp_r14 hP hA, Cp_w14 hP hA, z1]
  · dsimp only at e z1
    by_cases k2 : 0 ≤ x1 ∧ x1 < 8
    · rw [if_pos k2] at e
      by_cases k3 : (Int32.toInt64 x2) ≤ (S.2 (14, 0, 0) x1)
      · rw [if_pos k3] at e
        have e := Option.some.inj e; subst e
        simp -implicitDefEqProofs (disch := first | assumption | exact Nat.le_of_ble_eq_true rfl | decide) only [b1445_0, g1445_1, b1445_1, g1445_3, b1445_3, pe_iload1, pe_i2l, pe_bipush, pe_aload0, pe_getfield, pe_sipush, pe_isub, pe_call3, pm_af_ret, pm_af_void, pm_af_thr, pe_call1, pe_iload2, pe_if_lt, pe_goto, pe_goto_w, pe_laload, pe_lcmp, pe_if_le, pe_dup2_ii, pe_dup2_ir, pe_dup2_l, pe_lsub, pe_lastore, pe_aloadN0, pe_aastoreN, pe_areturnN, pe_null, pm_prog_1, pm_ob_some, Nat.reduceDiv, Nat.reduceMod, Nat.reduceMul, Nat.reduceAdd, Int.reduceToNat, pm_kill_i, pm_kill_r, pm_kill_n, pm_kill_j, pm_kill_l, pm_kill_d, pm_cats_nil, pm_cats_i, pm_cats_r, pm_cats_n, pm_cats_l, pm_cats_d, sz_1, sz_2, sl_1, sl_2, lc_0, lc_lt, lc_le, li_ne, va_rf, wr_m1, we_m1, pm_kill_w, Int32.reduceOfInt, Int64.reduceOfInt, Int32.reduceOfNat, Int32.reduceLT, Int32.reduceLE, Prod.mk.injEq, Nat.reduceEqDiff, reduceCtorEq, and_true, true_and, and_false, false_and, and_self, ite_true, ite_false, ↓reduceIte, not_true_eq_false, not_false_eq_true, pe_ri, pe_rz, pe_rc, p_throw, t1445, w_junk hA, Cp_g0_24 hP hA, Cp_g0_25 hP hA, Cp_r14 hP hA, Cp_w14 hP hA, z1, eq_true k3]
      · rw [if_neg k3] at e
        have e := Option.some.inj e; subst e
        simp -implicitDefEqProofs (disch := first | assumption | exact Nat.le_of_ble_eq_true rfl | decide) only [b1445_0, g1445_1, b1445_1, g1445_3, b1445_3, pe_iload1, pe_i2l, pe_bipush, pe_aload0, pe_getfield, pe_sipush, pe_isub, pe_call3, pm_af_ret, pm_af_void, pm_af_thr, pe_call1, pe_iload2, pe_if_lt, pe_goto, pe_goto_w, pe_laload, pe_lcmp, pe_if_le, pe_dup2_ii, pe_dup2_ir, pe_dup2_l, pe_lsub, pe_lastore, pe_aloadN0, pe_aastoreN, pe_areturnN, pe_null, pm_prog_1, pm_ob_some, Nat.reduceDiv, Nat.reduceMod, Nat.reduceMul, Nat.reduceAdd, Int.reduceToNat, pm_kill_i, pm_kill_r, pm_kill_n, pm_kill_j, pm_kill_l, pm_kill_d, pm_cats_nil, pm_cats_i, pm_cats_r, pm_cats_n, pm_cats_l, pm_cats_d, sz_1, sz_2, sl_1, sl_2, lc_0, lc_lt, lc_le, li_ne, va_rf, wr_m1, we_m1, pm_kill_w, Int32.reduceOfInt, Int64.reduceOfInt, Int32.reduceOfNat, Int32.reduceLT, Int32.reduceLE, Prod.mk.injEq, Nat.reduceEqDiff, reduceCtorEq, and_true, true_and, and_false, false_and, and_self, ite_true, ite_false, ↓reduceIte, not_true_eq_false, not_false_eq_true, pe_ri, pe_rz, pe_rc, p_throw, t1445, w_junk hA, Cp_g0_24 hP hA, Cp_g0_25 hP hA, Cp_r14 hP hA, Cp_w14 hP hA, z1, eq_false k3]
    · rw [if_neg k2] at e; cases e
theorem x1445 {lc : Int32} {fq : Int32} {ll : Int32 → Int32} {A : wK → Nat} {h : pm_H} {D : Nat} {S : wS} {x1 : Int32} {x2 : Int32} {r : (Nat × wS) ⊕ (Int32 × wS)} (hP : Cp_P lc fq ll) (hA : wok A (Cp_d lc fq ll) h.1) (hD : 2 ≤ D) (e : f1445 lc fq ll S x1 x2 = some r) : pm_call pm_prog D 1445 [.ref (A (0, 0, 0)), .int x1, .int x2] (wput A (Cp_d lc fq ll) S h) = some (match (generalizing := false) r with | .inl (c, S1) => (Outcome.threw c, (wput A (Cp_d lc fq ll) S1 (pm_new h 6 (.inr (c, []))))) | .inr (w0, S1) => (Outcome.returned (some (.int w0)), (wput A (Cp_d lc fq ll) S1 h))) := by
  obtain ⟨D, rfl⟩ : ∃ D', D = D' + 1 := ⟨D - 1, by omega⟩
  have hD : 1 ≤ D := by omega
  simp only [f1445] at e
  rw [c1445 (Cp_c0 hP hA), b1445_0]
  obtain ⟨v1, k1, e⟩ := Option.bind_eq_some_iff.mp e
  try dsimp only at e
  have z1 := fun h => x1411 (D := D) (h := h) (by omega) k1
  obtain ⟨r, k2, e⟩ := Option.bind_eq_some_iff.mp e
  have z2 := fun h => x1412 (D := D) (h := h) (by omega) k2
  rcases r with c3 | _
  · dsimp only at e z2
    have e := Option.some.inj e; subst e
    simp -implicitDefEqProofs (disch := first | assumption | exact Nat.le_of_ble_eq_true rfl | decide) only [b1445_0, g1445_1, b1445_1, g1445_3, b1445_3, pe_iload1, pe_i2l, pe_bipush, pe_aload0, pe_getfield, pe_sipush, pe_isub, pe_call3, pm_af_ret, pm_af_void, pm_af_thr, pe_call1, pe_iload2, pe_if_lt, pe_goto, pe_goto_w, pe_laload, pe_lcmp, pe_if_le, pe_dup2_ii, pe_dup2_ir, pe_dup2_l, pe_lsub, pe_lastore, pe_aloadN0, pe_aastoreN, pe_areturnN, pe_null, pm_prog_1, pm_ob_some, Nat.reduceDiv, Nat.reduceMod, Nat.reduceMul, Nat.reduceAdd, Int.reduceToNat, pm_kill_i, pm_kill_r, pm_kill_n, pm_kill_j, pm_kill_l, pm_kill_d, pm_cats_nil, pm_cats_i, pm_cats_r, pm_cats_n, pm_cats_l, pm_cats_d, sz_1, sz_2, sl_1, sl_2, lc_0, lc_lt, lc_le, li_ne, va_rf, wr_m1, we_m1, pm_kill_w, Int32.reduceOfInt, Int64.reduceOfInt, Int32.reduceOfNat, Int32.reduceLT, Int32.reduceLE, Prod.mk.injEq, Nat.reduceEqDiff, reduceCtorEq, and_true, true_and, and_false, false_and, and_self, ite_true, ite_false, ↓reduceIte, not_true_eq_false, not_false_eq_true, pe_ri, pe_rz, pe_rc, p_throw, t1445, w_junk hA, Cp_g0_24 hP hA, Cp_g0_25 hP hA, Cp_r14 hP hA, Cp_w14 hP hA, z1, z2]
  · dsimp only at e z2
    by_cases k3 : x2 < 0
    · rw [if_pos k3] at e
      have k4 := y1445_2 (h := h) hP hA hD e
      simp -implicitDefEqProofs (disch := first | assumption | exact Nat.le_of_ble_eq_true rfl | decide) only [b1445_0, g1445_1, b1445_1, g1445_3, b1445_3, pe_iload1, pe_i2l, pe_bipush, pe_aload0, pe_getfield, pe_sipush, pe_isub, pe_call3, pm_af_ret, pm_af_void, pm_af_thr, pe_call1, pe_iload2, pe_if_lt, pe_goto, pe_goto_w, pe_laload, pe_lcmp, pe_if_le, pe_dup2_ii, pe_dup2_ir, pe_dup2_l, pe_lsub, pe_lastore, pe_aloadN0, pe_aastoreN, pe_areturnN, pe_null, pm_prog_1, pm_ob_some, Nat.reduceDiv, Nat.reduceMod, Nat.reduceMul, Nat.reduceAdd, Int.reduceToNat, pm_kill_i, pm_kill_r, pm_kill_n, pm_kill_j, pm_kill_l, pm_kill_d, pm_cats_nil, pm_cats_i, pm_cats_r, pm_cats_n, pm_cats_l, pm_cats_d, sz_1, sz_2, sl_1, sl_2, lc_0, lc_lt, lc_le, li_ne, va_rf, wr_m1, we_m1, pm_kill_w, Int32.reduceOfInt, Int64.reduceOfInt, Int32.reduceOfNat, Int32.reduceLT, Int32.reduceLE, Prod.mk.injEq, Nat.reduceEqDiff, reduceCtorEq, and_true, true_and, and_false, false_and, and_self, ite_true, ite_false, ↓reduceIte, not_true_eq_false, not_false_eq_true, pe_ri, pe_rz, pe_rc, p_throw, t1445, w_junk hA, Cp_g0_24 hP hA, Cp_g0_25 hP hA, Cp_r14 hP hA, Cp_w14 hP hA, z1, z2, eq_true k3, k4]
    · rw [if_neg k3] at e
      have k5 := y1445_2 (h := h) hP hA hD e
      simp -implicitDefEqProofs (disch := first | assumption | exact Nat.le_of_ble_eq_true rfl | decide) only [b1445_0, g1445_1, b1445_1, g1445_3, b1445_3, pe_iload1, pe_i2l, pe_bipush, pe_aload0, pe_getfield, pe_sipush, pe_isub, pe_call3, pm_af_ret, pm_af_void, pm_af_thr, pe_call1, pe_iload2, pe_if_lt, pe_goto, pe_goto_w, pe_laload, pe_lcmp, pe_if_le, pe_dup2_ii, pe_dup2_ir, pe_dup2_l, pe_lsub, pe_lastore, pe_aloadN0, pe_aastoreN, pe_areturnN, pe_null, pm_prog_1, pm_ob_some, Nat.reduceDiv, Nat.reduceMod, Nat.reduceMul, Nat.reduceAdd, Int.reduceToNat, pm_kill_i, pm_kill_r, pm_kill_n, pm_kill_j, pm_kill_l, pm_kill_d, pm_cats_nil, pm_cats_i, pm_cats_r, pm_cats_n, pm_cats_l, pm_cats_d, sz_1, sz_2, sl_1, sl_2, lc_0, lc_lt, lc_le, li_ne, va_rf, wr_m1, we_m1, pm_kill_w, Int32.reduceOfInt, Int64.reduceOfInt, Int32.reduceOfNat, Int32.reduceLT, Int32.reduceLE, Prod.mk.injEq, Nat.reduceEqDiff, reduceCtorEq, and_true, true_and, and_false, false_and, and_self, ite_true, ite_false, ↓reduceIte, not_true_eq_false, not_false_eq_true, pe_ri, pe_rz, pe_rc, p_throw, t1445, w_junk hA, Cp_g0_24 hP hA, Cp_g0_25 hP hA, Cp_r14 hP hA, Cp_w14 hP hA, z1, z2, eq_false k3, k5]
/-- TimberHouse$PriceLines.learn(II)I -/
theorem c1446 {d : Nat} {h : pm_H} {a : Nat} {x0 : Int32} {x1 : Int32} (hc : pm_cls h a = some 22) : pm_call pm_prog (d + 1) 1446 [.ref a, .int x0, .int x1] h = pm_ev pm_prog (pm_call pm_prog d) 1446 0 b1446_0 [.ref a, .int x0, .int x1] [] h := pm_cal (pm_rc1 hc rfl) rfl rfl rfl
theorem t1446 {cl : pm_C} {j : Nat} {ls : List Value} {c : Nat} {h : pm_H} : pm_thr pm_prog cl 1446 j ls c h = some (.threw c, h) := rfl
/-- TimberHouse$PriceLines.learn(II)I -/
noncomputable def f1446 (lc : Int32) (fq : Int32) (ll : Int32 → Int32) (S : wS) (x1 : Int32) (x2 : Int32) : Option ((Nat × wS) ⊕ (Int32 × wS)) :=
  (f1411 (Int32.toInt64 x1) 0 7).bind fun v1 =>
  (f1412 v1).bind fun r => match r with
  | .inl c4 =>
    some (.inl (c4, S))
  | .inr _ =>
  (f1411 (Int32.toInt64 x2) 0 100000).bind fun v2 =>
  (f1414 v2).bind fun r => match r with
  | .inl c3 =>
    some (.inl (c3, S))
  | .inr _ =>
  if 0 ≤ x1 ∧ x1 < 8 then
    if ¬ (Int32.toInt64 ((S.1 (16, 0, 0) x1) + 1)) = 0 then
      some (.inr ((Int64.toInt32 (((S.2 (15, 0, 0) x1) + (Int32.toInt64 x2)) / (Int32.toInt64 ((S.1 (16, 0, 0) x1) + 1)))), (sz (sl S (15, 0, 0) x1 ((S.2 (15, 0, 0) x1) + (Int32.toInt64 x2))) (16, 0, 0) x1 ((S.1 (16, 0, 0) x1) + 1))))
    else none
  else none
theorem x1446 {lc : Int32} {fq : Int32} {ll : Int32 → Int32} {A : wK → Nat} {h : pm_H} {D : Nat} {S : wS} {x1 : Int32} {x2 : Int32} {r : (Nat × wS) ⊕ (Int32 × wS)} (hP : Cp_P lc fq ll) (hA : wok A (Cp_d lc fq ll) h.1) (hD : 2 ≤ D) (e : f1446 lc fq ll S x1 x2 = some r) : pm_call pm_prog D 1446 [.ref (A (0, 0, 0)), .int x1, .int x2] (wput A (Cp_d lc fq ll) S h) = some (match (generalizing := false) r with | .inl (c, S1) => (Outcome.threw c, (wput A (Cp_d lc fq ll) S1 (pm_new h 6 (.inr (c, []))))) | .inr (w0, S1) => (Outcome.returned (some (.int w0)), (wput A (Cp_d lc fq ll) S1 h))) := by
  obtain ⟨D, rfl⟩ : ∃ D', D = D' + 1 := ⟨D - 1, by omega⟩
  have hD : 1 ≤ D := by omega
  simp only [f1446] at e
  rw [c1446 (Cp_c0 hP hA), b1446_0]
  obtain ⟨v1, k1, e⟩ := Option.bind_eq_some_iff.mp e
  try dsimp only at e
  have z1 := fun h => x1411 (D := D) (h := h) (by omega) k1
  obtain ⟨r, k2, e⟩ := Option.bind_eq_some_iff.mp e
  have z2 := fun h => x1412 (D := D) (h := h) (by omega) k2
  rcases r with c4 | _
  · dsimp only at e z2
    have e := Option.some.inj e; subst e
    simp -implicitDefEqProofs (disch := first | assumption | exact Nat.le_of_ble_eq_true rfl | decide) only [b1446_0, pe_iload1, pe_i2l, pe_bipush, pe_call3, pm_af_ret, pm_af_void, pm_af_thr, pe_call1, pe_iload2, pe_aload0, pe_getfield, pe_dup2_ii, pe_dup2_ir, pe_dup2_l, pe_laload, pe_ladd, pe_lastore, pe_iaload, pe_sipush, pe_iadd, pe_iastore, pe_ldiv, pe_l2i, pe_aloadN0, pe_aastoreN, pe_areturnN, pe_null, pm_prog_1, pm_ob_some, Nat.reduceDiv, Nat.reduceMod, Nat.reduceMul, Nat.reduceAdd, Int.reduceToNat, pm_kill_i, pm_kill_r, pm_kill_n, pm_kill_j, pm_kill_l, pm_kill_d, pm_cats_nil, pm_cats_i, pm_cats_r, pm_cats_n, pm_cats_l, pm_cats_d, sz_1, sz_2, sl_1, sl_2, lc_0, lc_lt, lc_le, li_ne, va_rf, wr_m1, we_m1, pm_kill_w, Int32.reduceOfInt, Int64.reduceOfInt, Int32.reduceOfNat, Int32.reduceLT, Int32.reduceLE, Prod.mk.injEq, Nat.reduceEqDiff, reduceCtorEq, and_true, true_and, and_false, false_and, and_self, ite_true, ite_false, ↓reduceIte, not_true_eq_false, not_false_eq_true, pe_ri, pe_rz, pe_rc, p_throw, t1446, w_junk hA, Cp_g0_26 hP hA, Cp_g0_27 hP hA, Cp_r15 hP hA, Cp_r16 hP hA, Cp_w15 hP hA, Cp_w16 hP hA, z1, z2]
  · dsimp only at e z2
    obtain ⟨v2, k3, e⟩ := Option.bind_eq_some_iff.mp e
    try dsimp only at e
    have z3 := fun h => x1411 (D := D) (h := h) (by omega) k3
    obtain ⟨r, k4, e⟩ := Option.bind_eq_some_iff.mp e
    have z4 := fun h => x1414 (D := D) (h := h) (by omega) k4
    rcases r with c3 | _
    · dsimp only at e z4
      have e := Option.some.inj e; subst e
      simp -implicitDefEqProofs (disch := first | assumption | exact Nat.le_of_ble_eq_true rfl | decide) only [b1446_0, pe_iload1, pe_i2l, pe_bipush, pe_call3, pm_af_ret, pm_af_void, pm_af_thr, pe_call1, pe_iload2, pe_aload0, pe_getfield, pe_dup2_ii, pe_dup2_ir, pe_dup2_l, pe_laload, pe_ladd, pe_lastore, pe_iaload, pe_sipush, pe_iadd, pe_iastore, pe_ldiv, pe_l2i, pe_aloadN0, pe_aastoreN, pe_areturnN, pe_null, pm_prog_1, pm_ob_some, Nat.reduceDiv, Nat.reduceMod, Nat.reduceMul, Nat.reduceAdd, Int.reduceToNat, pm_kill_i, pm_kill_r, pm_kill_n, pm_kill_j, pm_kill_l, pm_kill_d, pm_cats_nil, pm_cats_i, pm_cats_r, pm_cats_n, pm_cats_l, pm_cats_d, sz_1, sz_2, sl_1, sl_2, lc_0, lc_lt, lc_le, li_ne, va_rf, wr_m1, we_m1, pm_kill_w, Int32.reduceOfInt, Int64.reduceOfInt, Int32.reduceOfNat, Int32.reduceLT, Int32.reduceLE, Prod.mk.injEq, Nat.reduceEqDiff, reduceCtorEq, and_true, true_and, and_false, false_and, and_self, ite_true, ite_false, ↓reduceIte, not_true_eq_false, not_false_eq_true, pe_ri, pe_rz, pe_rc, p_throw, t1446, w_junk hA, Cp_g0_26 hP hA, Cp_g0_27 hP hA, Cp_r15 hP hA, Cp_r16 hP hA, Cp_w15 hP hA, Cp_w16 hP hA, z1, z2, z3, z4]
    · dsimp only at e z4
      by_cases k5 : 0 ≤ x1 ∧ x1 < 8
      · rw [if_pos k5] at e
        by_cases k6 : ¬ (Int32.toInt64 ((S.1 (16, 0, 0) x1) + 1)) = 0
        · rw [if_pos k6] at e
          have e := Option.some.inj e; subst e
          simp -implicitDefEqProofs (disch := first | assumption | exact Nat.le_of_ble_eq_true rfl | decide) only [b1446_0, pe_iload1, pe_i2l, pe_bipush, pe_call3, pm_af_ret, pm_af_void, pm_af_thr, pe_call1, pe_iload2, pe_aload0, pe_getfield, pe_dup2_ii, pe_dup2_ir, pe_dup2_l, pe_laload, pe_ladd, pe_lastore, pe_iaload, pe_sipush, pe_iadd, pe_iastore, pe_ldiv, pe_l2i, pe_aloadN0, pe_aastoreN, pe_areturnN, pe_null, pm_prog_1, pm_ob_some, Nat.reduceDiv, Nat.reduceMod, Nat.reduceMul, Nat.reduceAdd, Int.reduceToNat, pm_kill_i, pm_kill_r, pm_kill_n, pm_kill_j, pm_kill_l, pm_kill_d, pm_cats_nil, pm_cats_i, pm_cats_r, pm_cats_n, pm_cats_l, pm_cats_d, sz_1, sz_2, sl_1, sl_2, lc_0, lc_lt, lc_le, li_ne, va_rf, wr_m1, we_m1, pm_kill_w, Int32.reduceOfInt, Int64.reduceOfInt, Int32.reduceOfNat, Int32.reduceLT, Int32.reduceLE, Prod.mk.injEq, Nat.reduceEqDiff, reduceCtorEq, and_true, true_and, and_false, false_and, and_self, ite_true, ite_false, ↓reduceIte, not_true_eq_false, not_false_eq_true, pe_ri, pe_rz, pe_rc, p_throw, t1446, w_junk hA, Cp_g0_26 hP hA, Cp_g0_27 hP hA, Cp_r15 hP hA, Cp_r16 hP hA, Cp_w15 hP hA, Cp_w16 hP hA, z1, z2, z3, z4]
        · rw [if_neg k6] at e; cases e
      · rw [if_neg k5] at e; cases e
