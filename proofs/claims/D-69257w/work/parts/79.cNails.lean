set_option maxRecDepth 100000
/-! TimberHouse$NailRules -/
def Cn_nl (i : Int32) : Int32 := if i = 0 then 4 else if i = 1 then 5 else if i = 2 then 4 else if i = 3 then 3 else if i = 4 then 4 else if i = 5 then 3 else 4
theorem Cn_nl0 {i : Int32} : 0 ≤ Cn_nl i := by unfold Cn_nl; grind
def Cn_P (mc : Int32) : Prop := 0 ≤ mc ∧ mc ≤ 6
def Cn_d (mc : Int32) : wK → Option wD := fun k => match k.1 with
  | 0 => if k.2.1 = 0 ∧ k.2.2 = 0 then some (.inl (11, [(2, (1, 0, 0)), (2, (3, 0, 0)), (0, (0, 0, 0)), (0, (0, 0, 0)), (0, (0, 0, 0)), (2, (4, 0, 0)), (2, (7, 0, 0)), (0, (0, 0, 0)), (0, (0, 0, 0)), (0, (0, 0, 0)), (2, (8, 0, 0)), (2, (9, 0, 0)), (0, (0, 0, 0)), (2, (11, 0, 0)), (0, (0, 0, 0))])) else none
  | 1 => if k.2.1 = 0 ∧ k.2.2 = 0 then some (.inr (.inr ((.array .char), 7, .inr (fun x => some (2, x, 0))))) else none
  | 2 => if (0 ≤ k.2.1 ∧ k.2.1 < 7) ∧ k.2.2 = 0 then some (.inr (.inl (.char, wn (Cn_nl k.2.1)))) else none
  | 3 => if k.2.1 = 0 ∧ k.2.2 = 0 then some (.inr (.inl (.byte, 200))) else none
  | 4 => if k.2.1 = 0 ∧ k.2.2 = 0 then some (.inr (.inr ((.object "TimberHouse$NailRules$Rule"), 4, .inr (fun x => some (5, x, 0))))) else none
  | 5 => if (0 ≤ k.2.1 ∧ k.2.1 < 4) ∧ k.2.2 = 0 then some (.inl (12, [(2, (6, k.2.1, 0))])) else none
  | 6 => if (0 ≤ k.2.1 ∧ k.2.1 < 4) ∧ k.2.2 = 0 then some (.inr (.inl (.int, 7))) else none
  | 7 => if k.2.1 = 0 ∧ k.2.2 = 0 then some (.inr (.inl (.int, 2))) else none
  | 8 => if k.2.1 = 0 ∧ k.2.2 = 0 then some (.inr (.inl (.int, 4))) else none
  | 9 => if k.2.1 = 0 ∧ k.2.2 = 0 then some (.inr (.inr ((.array .int), 32, .inr (fun x => some (10, x, 0))))) else none
  | 10 => if (0 ≤ k.2.1 ∧ k.2.1 < 32) ∧ k.2.2 = 0 then some (.inr (.inl (.int, 2))) else none
  | 11 => if k.2.1 = 0 ∧ k.2.2 = 0 then some (.inr (.inr ((.object "TimberHouse$NailRules$Member"), 6, .inr (fun x => if x < mc then some (12, x, 0) else none)))) else none
  | 12 => if (0 ≤ k.2.1 ∧ k.2.1 < mc) ∧ k.2.2 = 0 then some (.inl (46, [(1, (0, 0, 0)), (1, (0, 0, 0)), (1, (0, 0, 0)), (1, (0, 0, 0)), (1, (0, 0, 0))])) else none
  | 90 => if k.2.1 = 0 ∧ k.2.2 = 0 then some (.inr (.inl (.char, 4))) else none
  | _ => none
section
variable {A : wK → Nat} {S : wS} {h : pm_H} {m : Nat} {i j x v : Int32} {u : Int64} {mc : Int32}
theorem Cn_n0 (hP : Cn_P mc) : Int32.ofNat (wn (Cn_nl i)) = (Cn_nl i) := wn_of (Cn_nl0)
theorem Cn_d0 {mc : Int32} : (Cn_d mc) (0, 0, 0) = some (.inl (11, [(2, (1, 0, 0)), (2, (3, 0, 0)), (0, (0, 0, 0)), (0, (0, 0, 0)), (0, (0, 0, 0)), (2, (4, 0, 0)), (2, (7, 0, 0)), (0, (0, 0, 0)), (0, (0, 0, 0)), (0, (0, 0, 0)), (2, (8, 0, 0)), (2, (9, 0, 0)), (0, (0, 0, 0)), (2, (11, 0, 0)), (0, (0, 0, 0))])) := rfl
theorem Cn_d1 {mc : Int32} : (Cn_d mc) (1, 0, 0) = some (.inr (.inr ((.array .char), 7, .inr (fun x => some (2, x, 0))))) := rfl
theorem Cn_d2 {mc : Int32} (h0 : 0 ≤ i ∧ i < 7) : (Cn_d mc) (2, i, 0) = some (.inr (.inl (.char, wn (Cn_nl i)))) := if_pos ⟨h0, rfl⟩
theorem Cn_d3 {mc : Int32} : (Cn_d mc) (3, 0, 0) = some (.inr (.inl (.byte, 200))) := rfl
theorem Cn_d4 {mc : Int32} : (Cn_d mc) (4, 0, 0) = some (.inr (.inr ((.object "TimberHouse$NailRules$Rule"), 4, .inr (fun x => some (5, x, 0))))) := rfl
theorem Cn_d5 {mc : Int32} (h0 : 0 ≤ i ∧ i < 4) : (Cn_d mc) (5, i, 0) = some (.inl (12, [(2, (6, i, 0))])) := if_pos ⟨h0, rfl⟩
theorem Cn_d6 {mc : Int32} (h0 : 0 ≤ i ∧ i < 4) : (Cn_d mc) (6, i, 0) = some (.inr (.inl (.int, 7))) := if_pos ⟨h0, rfl⟩
theorem Cn_d7 {mc : Int32} : (Cn_d mc) (7, 0, 0) = some (.inr (.inl (.int, 2))) := rfl
theorem Cn_d8 {mc : Int32} : (Cn_d mc) (8, 0, 0) = some (.inr (.inl (.int, 4))) := rfl
theorem Cn_d9 {mc : Int32} : (Cn_d mc) (9, 0, 0) = some (.inr (.inr ((.array .int), 32, .inr (fun x => some (10, x, 0))))) := rfl
theorem Cn_d10 {mc : Int32} (h0 : 0 ≤ i ∧ i < 32) : (Cn_d mc) (10, i, 0) = some (.inr (.inl (.int, 2))) := if_pos ⟨h0, rfl⟩
theorem Cn_d11 {mc : Int32} : (Cn_d mc) (11, 0, 0) = some (.inr (.inr ((.object "TimberHouse$NailRules$Member"), 6, .inr (fun x => if x < mc then some (12, x, 0) else none)))) := rfl
theorem Cn_d12 {mc : Int32} (h0 : 0 ≤ i ∧ i < mc) : (Cn_d mc) (12, i, 0) = some (.inl (46, [(1, (0, 0, 0)), (1, (0, 0, 0)), (1, (0, 0, 0)), (1, (0, 0, 0)), (1, (0, 0, 0))])) := if_pos ⟨h0, rfl⟩
theorem Cn_d90 {mc : Int32} : (Cn_d mc) (90, 0, 0) = some (.inr (.inl (.char, 4))) := rfl
theorem Cn_c0 (hP : Cn_P mc) (hA : wok A (Cn_d mc) m) : pm_cls (wput A (Cn_d mc) S h) (A (0, 0, 0)) = some 11 := w_cls hA (Cn_d0)
theorem Cn_k0 {cl : pm_C} {k b c : Nat} {r : List Instr} {ls s : List Value} (hP : Cn_P mc) (hA : wok A (Cn_d mc) m) (h2 : pm_sub 11 c = true) : pm_ev pm_prog cl k b (.checkcast c :: r) ls (.ref (A (0, 0, 0)) :: s) (wput A (Cn_d mc) S h) = pm_ev pm_prog cl k b r ls (.ref (A (0, 0, 0)) :: s) (wput A (Cn_d mc) S h) := pe_checkcast (w_cls hA (Cn_d0)) h2
theorem Cn_g0_0 (hP : Cn_P mc) (hA : wok A (Cn_d mc) m) : pm_gf pm_tab (wput A (Cn_d mc) S h) (A (0, 0, 0)) 11 0 = some (.ref (A (1, 0, 0))) := w_g (f := (2, (1, 0, 0))) hA (Cn_d0) rfl rfl
theorem Cn_g0_1 (hP : Cn_P mc) (hA : wok A (Cn_d mc) m) : pm_gf pm_tab (wput A (Cn_d mc) S h) (A (0, 0, 0)) 11 1 = some (.ref (A (3, 0, 0))) := w_g (f := (2, (3, 0, 0))) hA (Cn_d0) rfl rfl
theorem Cn_g0_2 (hP : Cn_P mc) (hA : wok A (Cn_d mc) m) : pm_gf pm_tab (wput A (Cn_d mc) S h) (A (0, 0, 0)) 11 2 = some (.int (S.1 (0, 0, 0) 2)) := w_g (f := (0, (0, 0, 0))) hA (Cn_d0) rfl rfl
theorem Cn_p0_2 (hP : Cn_P mc) (hA : wok A (Cn_d mc) m) : pm_pf pm_tab (wput A (Cn_d mc) S h) (A (0, 0, 0)) 11 2 0 (.int v) = some (wput A (Cn_d mc) (sz S (0, 0, 0) 2 v) h) := w_p0 (q := (0, 0, 0)) (t := 0) hA (Cn_d0) rfl rfl (Nat.le_of_ble_eq_true rfl)
theorem Cn_g0_3 (hP : Cn_P mc) (hA : wok A (Cn_d mc) m) : pm_gf pm_tab (wput A (Cn_d mc) S h) (A (0, 0, 0)) 11 3 = some (.int (S.1 (0, 0, 0) 3)) := w_g (f := (0, (0, 0, 0))) hA (Cn_d0) rfl rfl
theorem Cn_p0_3 (hP : Cn_P mc) (hA : wok A (Cn_d mc) m) : pm_pf pm_tab (wput A (Cn_d mc) S h) (A (0, 0, 0)) 11 3 0 (.int v) = some (wput A (Cn_d mc) (sz S (0, 0, 0) 3 v) h) := w_p0 (q := (0, 0, 0)) (t := 0) hA (Cn_d0) rfl rfl (Nat.le_of_ble_eq_true rfl)
theorem Cn_g0_4 (hP : Cn_P mc) (hA : wok A (Cn_d mc) m) : pm_gf pm_tab (wput A (Cn_d mc) S h) (A (0, 0, 0)) 11 4 = some (.int (S.1 (0, 0, 0) 4)) := w_g (f := (0, (0, 0, 0))) hA (Cn_d0) rfl rfl
theorem Cn_p0_4 (hP : Cn_P mc) (hA : wok A (Cn_d mc) m) : pm_pf pm_tab (wput A (Cn_d mc) S h) (A (0, 0, 0)) 11 4 0 (.int v) = some (wput A (Cn_d mc) (sz S (0, 0, 0) 4 v) h) := w_p0 (q := (0, 0, 0)) (t := 0) hA (Cn_d0) rfl rfl (Nat.le_of_ble_eq_true rfl)
theorem Cn_g0_5 (hP : Cn_P mc) (hA : wok A (Cn_d mc) m) : pm_gf pm_tab (wput A (Cn_d mc) S h) (A (0, 0, 0)) 11 5 = some (.ref (A (4, 0, 0))) := w_g (f := (2, (4, 0, 0))) hA (Cn_d0) rfl rfl
theorem Cn_g0_6 (hP : Cn_P mc) (hA : wok A (Cn_d mc) m) : pm_gf pm_tab (wput A (Cn_d mc) S h) (A (0, 0, 0)) 11 6 = some (.ref (A (7, 0, 0))) := w_g (f := (2, (7, 0, 0))) hA (Cn_d0) rfl rfl
theorem Cn_g0_7 (hP : Cn_P mc) (hA : wok A (Cn_d mc) m) : pm_gf pm_tab (wput A (Cn_d mc) S h) (A (0, 0, 0)) 11 7 = some (.int (S.1 (0, 0, 0) 7)) := w_g (f := (0, (0, 0, 0))) hA (Cn_d0) rfl rfl
theorem Cn_p0_7 (hP : Cn_P mc) (hA : wok A (Cn_d mc) m) : pm_pf pm_tab (wput A (Cn_d mc) S h) (A (0, 0, 0)) 11 7 0 (.int v) = some (wput A (Cn_d mc) (sz S (0, 0, 0) 7 v) h) := w_p0 (q := (0, 0, 0)) (t := 0) hA (Cn_d0) rfl rfl (Nat.le_of_ble_eq_true rfl)
theorem Cn_g0_8 (hP : Cn_P mc) (hA : wok A (Cn_d mc) m) : pm_gf pm_tab (wput A (Cn_d mc) S h) (A (0, 0, 0)) 11 8 = some (.int (S.1 (0, 0, 0) 8)) := w_g (f := (0, (0, 0, 0))) hA (Cn_d0) rfl rfl
theorem Cn_p0_8 (hP : Cn_P mc) (hA : wok A (Cn_d mc) m) : pm_pf pm_tab (wput A (Cn_d mc) S h) (A (0, 0, 0)) 11 8 0 (.int v) = some (wput A (Cn_d mc) (sz S (0, 0, 0) 8 v) h) := w_p0 (q := (0, 0, 0)) (t := 0) hA (Cn_d0) rfl rfl (Nat.le_of_ble_eq_true rfl)
theorem Cn_g0_9 (hP : Cn_P mc) (hA : wok A (Cn_d mc) m) : pm_gf pm_tab (wput A (Cn_d mc) S h) (A (0, 0, 0)) 11 9 = some (.int (S.1 (0, 0, 0) 9)) := w_g (f := (0, (0, 0, 0))) hA (Cn_d0) rfl rfl
theorem Cn_p0_9 (hP : Cn_P mc) (hA : wok A (Cn_d mc) m) : pm_pf pm_tab (wput A (Cn_d mc) S h) (A (0, 0, 0)) 11 9 0 (.int v) = some (wput A (Cn_d mc) (sz S (0, 0, 0) 9 v) h) := w_p0 (q := (0, 0, 0)) (t := 0) hA (Cn_d0) rfl rfl (Nat.le_of_ble_eq_true rfl)
theorem Cn_g0_10 (hP : Cn_P mc) (hA : wok A (Cn_d mc) m) : pm_gf pm_tab (wput A (Cn_d mc) S h) (A (0, 0, 0)) 11 10 = some (.ref (A (8, 0, 0))) := w_g (f := (2, (8, 0, 0))) hA (Cn_d0) rfl rfl
theorem Cn_g0_11 (hP : Cn_P mc) (hA : wok A (Cn_d mc) m) : pm_gf pm_tab (wput A (Cn_d mc) S h) (A (0, 0, 0)) 11 11 = some (.ref (A (9, 0, 0))) := w_g (f := (2, (9, 0, 0))) hA (Cn_d0) rfl rfl
theorem Cn_g0_12 (hP : Cn_P mc) (hA : wok A (Cn_d mc) m) : pm_gf pm_tab (wput A (Cn_d mc) S h) (A (0, 0, 0)) 11 12 = some (.int (S.1 (0, 0, 0) 12)) := w_g (f := (0, (0, 0, 0))) hA (Cn_d0) rfl rfl
theorem Cn_p0_12 (hP : Cn_P mc) (hA : wok A (Cn_d mc) m) : pm_pf pm_tab (wput A (Cn_d mc) S h) (A (0, 0, 0)) 11 12 0 (.int v) = some (wput A (Cn_d mc) (sz S (0, 0, 0) 12 v) h) := w_p0 (q := (0, 0, 0)) (t := 0) hA (Cn_d0) rfl rfl (Nat.le_of_ble_eq_true rfl)
theorem Cn_g0_13 (hP : Cn_P mc) (hA : wok A (Cn_d mc) m) : pm_gf pm_tab (wput A (Cn_d mc) S h) (A (0, 0, 0)) 11 13 = some (.ref (A (11, 0, 0))) := w_g (f := (2, (11, 0, 0))) hA (Cn_d0) rfl rfl
theorem Cn_g0_14 (hP : Cn_P mc) (hA : wok A (Cn_d mc) m) : pm_gf pm_tab (wput A (Cn_d mc) S h) (A (0, 0, 0)) 11 14 = some (.int (S.1 (0, 0, 0) 14)) := w_g (f := (0, (0, 0, 0))) hA (Cn_d0) rfl rfl
theorem Cn_p0_14 (hP : Cn_P mc) (hA : wok A (Cn_d mc) m) : pm_pf pm_tab (wput A (Cn_d mc) S h) (A (0, 0, 0)) 11 14 0 (.int v) = some (wput A (Cn_d mc) (sz S (0, 0, 0) 14 v) h) := w_p0 (q := (0, 0, 0)) (t := 0) hA (Cn_d0) rfl rfl (Nat.le_of_ble_eq_true rfl)
theorem Cn_l1 (hP : Cn_P mc) (hA : wok A (Cn_d mc) m) : pm_len (wput A (Cn_d mc) S h) (A (1, 0, 0)) = some 7 := w_lenR hA (Cn_d1) (by decide)
theorem Cn_r1 (hP : Cn_P mc) (hA : wok A (Cn_d mc) m) (hx : 0 ≤ x ∧ x < 7) : pm_rdR (wput A (Cn_d mc) S h) (A (1, 0, 0)) x = some (some (A (2, x, 0))) := ((w_rdR hA (Cn_d1) rfl (by decide)).trans (if_pos hx)).trans rfl
theorem Cn_l2 (hP : Cn_P mc) (hA : wok A (Cn_d mc) m) (h0 : 0 ≤ i ∧ i < 7) : pm_len (wput A (Cn_d mc) S h) (A (2, i, 0)) = some (wn (Cn_nl i)) := w_len hA (Cn_d2 h0) (by decide)
theorem Cn_r2 (hP : Cn_P mc) (hA : wok A (Cn_d mc) m) (h0 : 0 ≤ i ∧ i < 7) (hx : 0 ≤ x ∧ x < (Cn_nl i)) : pm_rd pm_isC (wput A (Cn_d mc) S h) (A (2, i, 0)) x = some (S.1 (2, i, 0) x) := (w_rd (t := .char) hA (Cn_d2 h0) rfl (by decide) (wn_le _)).trans (if_pos (wn_in (Cn_nl0) hx))
theorem Cn_w2 (hP : Cn_P mc) (hA : wok A (Cn_d mc) m) (h0 : 0 ≤ i ∧ i < 7) (hx : 0 ≤ x ∧ x < (Cn_nl i)) : pm_wr pm_wC (wput A (Cn_d mc) S h) (A (2, i, 0)) x v = some (wput A (Cn_d mc) (sz S (2, i, 0) x (vp_nar .char v)) h) := (w_wr (t := .char) hA (Cn_d2 h0) rfl (by decide) (wn_le _)).trans (if_pos (wn_in (Cn_nl0) hx))
theorem Cn_l3 (hP : Cn_P mc) (hA : wok A (Cn_d mc) m) : pm_len (wput A (Cn_d mc) S h) (A (3, 0, 0)) = some 200 := w_len hA (Cn_d3) (by decide)
theorem Cn_r3 (hP : Cn_P mc) (hA : wok A (Cn_d mc) m) (hx : 0 ≤ x ∧ x < 200) : pm_rd pm_isB (wput A (Cn_d mc) S h) (A (3, 0, 0)) x = some (S.1 (3, 0, 0) x) := (w_rd (t := .byte) hA (Cn_d3) rfl (by decide) (by decide)).trans (if_pos hx)
theorem Cn_w3 (hP : Cn_P mc) (hA : wok A (Cn_d mc) m) (hx : 0 ≤ x ∧ x < 200) : pm_wr pm_wB (wput A (Cn_d mc) S h) (A (3, 0, 0)) x v = some (wput A (Cn_d mc) (sz S (3, 0, 0) x (vp_nar .byte v)) h) := (w_wr (t := .byte) hA (Cn_d3) rfl (by decide) (by decide)).trans (if_pos hx)
theorem Cn_l4 (hP : Cn_P mc) (hA : wok A (Cn_d mc) m) : pm_len (wput A (Cn_d mc) S h) (A (4, 0, 0)) = some 4 := w_lenR hA (Cn_d4) (by decide)
theorem Cn_r4 (hP : Cn_P mc) (hA : wok A (Cn_d mc) m) (hx : 0 ≤ x ∧ x < 4) : pm_rdR (wput A (Cn_d mc) S h) (A (4, 0, 0)) x = some (some (A (5, x, 0))) := ((w_rdR hA (Cn_d4) rfl (by decide)).trans (if_pos hx)).trans rfl
theorem Cn_c5 (hP : Cn_P mc) (hA : wok A (Cn_d mc) m) (h0 : 0 ≤ i ∧ i < 4) : pm_cls (wput A (Cn_d mc) S h) (A (5, i, 0)) = some 12 := w_cls hA (Cn_d5 h0)
theorem Cn_k5 {cl : pm_C} {k b c : Nat} {r : List Instr} {ls s : List Value} (hP : Cn_P mc) (hA : wok A (Cn_d mc) m) (h0 : 0 ≤ i ∧ i < 4) (h2 : pm_sub 12 c = true) : pm_ev pm_prog cl k b (.checkcast c :: r) ls (.ref (A (5, i, 0)) :: s) (wput A (Cn_d mc) S h) = pm_ev pm_prog cl k b r ls (.ref (A (5, i, 0)) :: s) (wput A (Cn_d mc) S h) := pe_checkcast (w_cls hA (Cn_d5 h0)) h2
theorem Cn_g5_0 (hP : Cn_P mc) (hA : wok A (Cn_d mc) m) (h0 : 0 ≤ i ∧ i < 4) : pm_gf pm_tab (wput A (Cn_d mc) S h) (A (5, i, 0)) 12 0 = some (.ref (A (6, i, 0))) := w_g (f := (2, (6, i, 0))) hA (Cn_d5 h0) rfl rfl
theorem Cn_l6 (hP : Cn_P mc) (hA : wok A (Cn_d mc) m) (h0 : 0 ≤ i ∧ i < 4) : pm_len (wput A (Cn_d mc) S h) (A (6, i, 0)) = some 7 := w_len hA (Cn_d6 h0) (by decide)
theorem Cn_r6 (hP : Cn_P mc) (hA : wok A (Cn_d mc) m) (h0 : 0 ≤ i ∧ i < 4) (hx : 0 ≤ x ∧ x < 7) : pm_rd pm_isI (wput A (Cn_d mc) S h) (A (6, i, 0)) x = some (S.1 (6, i, 0) x) := (w_rd (t := .int) hA (Cn_d6 h0) rfl (by decide) (by decide)).trans (if_pos hx)
theorem Cn_w6 (hP : Cn_P mc) (hA : wok A (Cn_d mc) m) (h0 : 0 ≤ i ∧ i < 4) (hx : 0 ≤ x ∧ x < 7) : pm_wr pm_wI (wput A (Cn_d mc) S h) (A (6, i, 0)) x v = some (wput A (Cn_d mc) (sz S (6, i, 0) x v) h) := (w_wr (t := .int) hA (Cn_d6 h0) rfl (by decide) (by decide)).trans (if_pos hx)
theorem Cn_l7 (hP : Cn_P mc) (hA : wok A (Cn_d mc) m) : pm_len (wput A (Cn_d mc) S h) (A (7, 0, 0)) = some 2 := w_len hA (Cn_d7) (by decide)
theorem Cn_r7 (hP : Cn_P mc) (hA : wok A (Cn_d mc) m) (hx : 0 ≤ x ∧ x < 2) : pm_rd pm_isI (wput A (Cn_d mc) S h) (A (7, 0, 0)) x = some (S.1 (7, 0, 0) x) := (w_rd (t := .int) hA (Cn_d7) rfl (by decide) (by decide)).trans (if_pos hx)
theorem Cn_w7 (hP : Cn_P mc) (hA : wok A (Cn_d mc) m) (hx : 0 ≤ x ∧ x < 2) : pm_wr pm_wI (wput A (Cn_d mc) S h) (A (7, 0, 0)) x v = some (wput A (Cn_d mc) (sz S (7, 0, 0) x v) h) := (w_wr (t := .int) hA (Cn_d7) rfl (by decide) (by decide)).trans (if_pos hx)
theorem Cn_l8 (hP : Cn_P mc) (hA : wok A (Cn_d mc) m) : pm_len (wput A (Cn_d mc) S h) (A (8, 0, 0)) = some 4 := w_len hA (Cn_d8) (by decide)
theorem Cn_r8 (hP : Cn_P mc) (hA : wok A (Cn_d mc) m) (hx : 0 ≤ x ∧ x < 4) : pm_rd pm_isI (wput A (Cn_d mc) S h) (A (8, 0, 0)) x = some (S.1 (8, 0, 0) x) := (w_rd (t := .int) hA (Cn_d8) rfl (by decide) (by decide)).trans (if_pos hx)
theorem Cn_w8 (hP : Cn_P mc) (hA : wok A (Cn_d mc) m) (hx : 0 ≤ x ∧ x < 4) : pm_wr pm_wI (wput A (Cn_d mc) S h) (A (8, 0, 0)) x v = some (wput A (Cn_d mc) (sz S (8, 0, 0) x v) h) := (w_wr (t := .int) hA (Cn_d8) rfl (by decide) (by decide)).trans (if_pos hx)
theorem Cn_l9 (hP : Cn_P mc) (hA : wok A (Cn_d mc) m) : pm_len (wput A (Cn_d mc) S h) (A (9, 0, 0)) = some 32 := w_lenR hA (Cn_d9) (by decide)
theorem Cn_r9 (hP : Cn_P mc) (hA : wok A (Cn_d mc) m) (hx : 0 ≤ x ∧ x < 32) : pm_rdR (wput A (Cn_d mc) S h) (A (9, 0, 0)) x = some (some (A (10, x, 0))) := ((w_rdR hA (Cn_d9) rfl (by decide)).trans (if_pos hx)).trans rfl
theorem Cn_l10 (hP : Cn_P mc) (hA : wok A (Cn_d mc) m) (h0 : 0 ≤ i ∧ i < 32) : pm_len (wput A (Cn_d mc) S h) (A (10, i, 0)) = some 2 := w_len hA (Cn_d10 h0) (by decide)
theorem Cn_r10 (hP : Cn_P mc) (hA : wok A (Cn_d mc) m) (h0 : 0 ≤ i ∧ i < 32) (hx : 0 ≤ x ∧ x < 2) : pm_rd pm_isI (wput A (Cn_d mc) S h) (A (10, i, 0)) x = some (S.1 (10, i, 0) x) := (w_rd (t := .int) hA (Cn_d10 h0) rfl (by decide) (by decide)).trans (if_pos hx)
theorem Cn_w10 (hP : Cn_P mc) (hA : wok A (Cn_d mc) m) (h0 : 0 ≤ i ∧ i < 32) (hx : 0 ≤ x ∧ x < 2) : pm_wr pm_wI (wput A (Cn_d mc) S h) (A (10, i, 0)) x v = some (wput A (Cn_d mc) (sz S (10, i, 0) x v) h) := (w_wr (t := .int) hA (Cn_d10 h0) rfl (by decide) (by decide)).trans (if_pos hx)
theorem Cn_l11 (hP : Cn_P mc) (hA : wok A (Cn_d mc) m) : pm_len (wput A (Cn_d mc) S h) (A (11, 0, 0)) = some 6 := w_lenR hA (Cn_d11) (by decide)
theorem Cn_r11 (hP : Cn_P mc) (hA : wok A (Cn_d mc) m) (hx : 0 ≤ x ∧ x < 6) (hn : x < mc) : pm_rdR (wput A (Cn_d mc) S h) (A (11, 0, 0)) x = some (some (A (12, x, 0))) := ((w_rdR hA (Cn_d11) rfl (by decide)).trans (if_pos hx)).trans (congrArg some (congrArg (Option.map A) (if_pos hn)))
theorem Cn_c12 (hP : Cn_P mc) (hA : wok A (Cn_d mc) m) (h0 : 0 ≤ i ∧ i < mc) : pm_cls (wput A (Cn_d mc) S h) (A (12, i, 0)) = some 46 := w_cls hA (Cn_d12 h0)
theorem Cn_k12 {cl : pm_C} {k b c : Nat} {r : List Instr} {ls s : List Value} (hP : Cn_P mc) (hA : wok A (Cn_d mc) m) (h0 : 0 ≤ i ∧ i < mc) (h2 : pm_sub 46 c = true) : pm_ev pm_prog cl k b (.checkcast c :: r) ls (.ref (A (12, i, 0)) :: s) (wput A (Cn_d mc) S h) = pm_ev pm_prog cl k b r ls (.ref (A (12, i, 0)) :: s) (wput A (Cn_d mc) S h) := pe_checkcast (w_cls hA (Cn_d12 h0)) h2
theorem Cn_g12_0 (hP : Cn_P mc) (hA : wok A (Cn_d mc) m) (h0 : 0 ≤ i ∧ i < mc) : pm_gf pm_tab (wput A (Cn_d mc) S h) (A (12, i, 0)) 46 0 = some (.long (S.2 (12, i, 0) 0)) := w_g (f := (1, (0, 0, 0))) hA (Cn_d12 h0) rfl rfl
theorem Cn_p12_0 (hP : Cn_P mc) (hA : wok A (Cn_d mc) m) (h0 : 0 ≤ i ∧ i < mc) : pm_pf pm_tab (wput A (Cn_d mc) S h) (A (12, i, 0)) 46 0 1 (.long u) = some (wput A (Cn_d mc) (sl S (12, i, 0) 0 u) h) := w_p1 (q := (0, 0, 0)) hA (Cn_d12 h0) rfl rfl (Nat.le_of_ble_eq_true rfl)
theorem Cn_g12_1 (hP : Cn_P mc) (hA : wok A (Cn_d mc) m) (h0 : 0 ≤ i ∧ i < mc) : pm_gf pm_tab (wput A (Cn_d mc) S h) (A (12, i, 0)) 46 1 = some (.long (S.2 (12, i, 0) 1)) := w_g (f := (1, (0, 0, 0))) hA (Cn_d12 h0) rfl rfl
theorem Cn_p12_1 (hP : Cn_P mc) (hA : wok A (Cn_d mc) m) (h0 : 0 ≤ i ∧ i < mc) : pm_pf pm_tab (wput A (Cn_d mc) S h) (A (12, i, 0)) 46 1 1 (.long u) = some (wput A (Cn_d mc) (sl S (12, i, 0) 1 u) h) := w_p1 (q := (0, 0, 0)) hA (Cn_d12 h0) rfl rfl (Nat.le_of_ble_eq_true rfl)
theorem Cn_g12_2 (hP : Cn_P mc) (hA : wok A (Cn_d mc) m) (h0 : 0 ≤ i ∧ i < mc) : pm_gf pm_tab (wput A (Cn_d mc) S h) (A (12, i, 0)) 46 2 = some (.long (S.2 (12, i, 0) 2)) := w_g (f := (1, (0, 0, 0))) hA (Cn_d12 h0) rfl rfl
theorem Cn_p12_2 (hP : Cn_P mc) (hA : wok A (Cn_d mc) m) (h0 : 0 ≤ i ∧ i < mc) : pm_pf pm_tab (wput A (Cn_d mc) S h) (A (12, i, 0)) 46 2 1 (.long u) = some (wput A (Cn_d mc) (sl S (12, i, 0) 2 u) h) := w_p1 (q := (0, 0, 0)) hA (Cn_d12 h0) rfl rfl (Nat.le_of_ble_eq_true rfl)
theorem Cn_g12_3 (hP : Cn_P mc) (hA : wok A (Cn_d mc) m) (h0 : 0 ≤ i ∧ i < mc) : pm_gf pm_tab (wput A (Cn_d mc) S h) (A (12, i, 0)) 46 3 = some (.long (S.2 (12, i, 0) 3)) := w_g (f := (1, (0, 0, 0))) hA (Cn_d12 h0) rfl rfl
theorem Cn_p12_3 (hP : Cn_P mc) (hA : wok A (Cn_d mc) m) (h0 : 0 ≤ i ∧ i < mc) : pm_pf pm_tab (wput A (Cn_d mc) S h) (A (12, i, 0)) 46 3 1 (.long u) = some (wput A (Cn_d mc) (sl S (12, i, 0) 3 u) h) := w_p1 (q := (0, 0, 0)) hA (Cn_d12 h0) rfl rfl (Nat.le_of_ble_eq_true rfl)
theorem Cn_g12_4 (hP : Cn_P mc) (hA : wok A (Cn_d mc) m) (h0 : 0 ≤ i ∧ i < mc) : pm_gf pm_tab (wput A (Cn_d mc) S h) (A (12, i, 0)) 46 4 = some (.long (S.2 (12, i, 0) 4)) := w_g (f := (1, (0, 0, 0))) hA (Cn_d12 h0) rfl rfl
theorem Cn_p12_4 (hP : Cn_P mc) (hA : wok A (Cn_d mc) m) (h0 : 0 ≤ i ∧ i < mc) : pm_pf pm_tab (wput A (Cn_d mc) S h) (A (12, i, 0)) 46 4 1 (.long u) = some (wput A (Cn_d mc) (sl S (12, i, 0) 4 u) h) := w_p1 (q := (0, 0, 0)) hA (Cn_d12 h0) rfl rfl (Nat.le_of_ble_eq_true rfl)
theorem Cn_l90 (hP : Cn_P mc) (hA : wok A (Cn_d mc) m) : pm_len (wput A (Cn_d mc) S h) (A (90, 0, 0)) = some 4 := w_len hA (Cn_d90) (by decide)
theorem Cn_r90 (hP : Cn_P mc) (hA : wok A (Cn_d mc) m) (hx : 0 ≤ x ∧ x < 4) : pm_rd pm_isC (wput A (Cn_d mc) S h) (A (90, 0, 0)) x = some (S.1 (90, 0, 0) x) := (w_rd (t := .char) hA (Cn_d90) rfl (by decide) (by decide)).trans (if_pos hx)
theorem Cn_w90 (hP : Cn_P mc) (hA : wok A (Cn_d mc) m) (hx : 0 ≤ x ∧ x < 4) : pm_wr pm_wC (wput A (Cn_d mc) S h) (A (90, 0, 0)) x v = some (wput A (Cn_d mc) (sz S (90, 0, 0) x (vp_nar .char v)) h) := (w_wr (t := .char) hA (Cn_d90) rfl (by decide) (by decide)).trans (if_pos hx)
end
/-- TimberHouse$NailRules.wrong(I)Ljava/lang/IllegalStateException; -/
theorem c710 {d : Nat} {h : pm_H} {a : Nat} {x0 : Int32} (hc : pm_cls h a = some 11) : pm_call pm_prog (d + 1) 710 [.ref a, .int x0] h = pm_ev pm_prog (pm_call pm_prog d) 710 0 b710_0 [.ref a, .int x0] [] h := pm_cal (pm_rc1 hc rfl) rfl rfl rfl
/-- TimberHouse$NailRules.isIn(JJJ)Z -/
theorem c706 {d : Nat} {h : pm_H} {x0 : Int64} {x1 : Int64} {x2 : Int64} : pm_call pm_prog (d + 1) 706 [.long x0, .long x1, .long x2] h = pm_ev pm_prog (pm_call pm_prog d) 706 0 b706_0 [.long x0, pm_junk, .long x1, pm_junk, .long x2, pm_junk] [] h := pm_cal (pm_rc0 rfl) rfl rfl rfl
theorem g706_1 {cl : pm_C} {ls st : List Value} {h : pm_H} : pm_go pm_prog cl 706 1 ls st h = pm_ev pm_prog cl 706 1 b706_1 ls st h := pm_go_eq pm_prog cl 706 1 ls st h
theorem g706_2 {cl : pm_C} {ls st : List Value} {h : pm_H} : pm_go pm_prog cl 706 2 ls st h = pm_ev pm_prog cl 706 2 b706_2 ls st h := pm_go_eq pm_prog cl 706 2 ls st h
/-- TimberHouse$NailRules.isIn(JJJ)Z -/
noncomputable def f706 (x0 : Int64) (x2 : Int64) (x4 : Int64) : Option (Int32) :=
  if x0 < x2 then
    some 0
  else
    if x0 ≤ x4 then
      some 1
    else
      some 0
theorem x706 {h : pm_H} {D : Nat} {x0 : Int64} {x2 : Int64} {x4 : Int64} {r : Int32} (hD : 1 ≤ D) (e : f706 x0 x2 x4 = some r) : pm_call pm_prog D 706 [.long x0, .long x2, .long x4] h = some (Outcome.returned (some (.int r)), h) := by
  obtain ⟨D, rfl⟩ : ∃ D', D = D' + 1 := ⟨D - 1, by omega⟩
  have hD : 0 ≤ D := by omega
  simp only [f706] at e
  rw [c706, b706_0]
  by_cases k1 : x0 < x2
  · rw [if_pos k1] at e
    have e := Option.some.inj e; subst e
    simp -implicitDefEqProofs (disch := first | assumption | exact Nat.le_of_ble_eq_true rfl | decide) only [b706_0, g706_1, b706_1, g706_2, b706_2, pe_lload0, pe_lload2, pe_lcmp, pe_if_lt, pe_lload4, pe_if_gt, pe_sipush, pe_goto, pe_goto_w, pm_prog_1, pm_ob_some, Nat.reduceDiv, Nat.reduceMod, Nat.reduceMul, Nat.reduceAdd, Int.reduceToNat, pm_kill_i, pm_kill_r, pm_kill_n, pm_kill_j, pm_kill_l, pm_kill_d, pm_cats_nil, pm_cats_i, pm_cats_r, pm_cats_n, pm_cats_l, pm_cats_d, sz_1, sz_2, sl_1, sl_2, lc_0, lc_lt, lc_le, li_ne, va_rf, wr_m1, we_m1, pm_kill_w, Int32.reduceOfInt, Int64.reduceOfInt, Int32.reduceOfNat, Int32.reduceLT, Int32.reduceLE, Prod.mk.injEq, Nat.reduceEqDiff, reduceCtorEq, and_true, true_and, and_false, false_and, and_self, ite_true, ite_false, ↓reduceIte, not_true_eq_false, not_false_eq_true, pe_ri, pe_rz, pe_rc, eq_true k1]
  · rw [if_neg k1] at e
    by_cases k2 : x0 ≤ x4
    · rw [if_pos k2] at e
      have e := Option.some.inj e; subst e
      simp -implicitDefEqProofs (disch := first | assumption | exact Nat.le_of_ble_eq_true rfl | decide) only [b706_0, g706_1, b706_1, g706_2, b706_2, pe_lload0, pe_lload2, pe_lcmp, pe_if_lt, pe_lload4, pe_if_gt, pe_sipush, pe_goto, pe_goto_w, pm_prog_1, pm_ob_some, Nat.reduceDiv, Nat.reduceMod, Nat.reduceMul, Nat.reduceAdd, Int.reduceToNat, pm_kill_i, pm_kill_r, pm_kill_n, pm_kill_j, pm_kill_l, pm_kill_d, pm_cats_nil, pm_cats_i, pm_cats_r, pm_cats_n, pm_cats_l, pm_cats_d, sz_1, sz_2, sl_1, sl_2, lc_0, lc_lt, lc_le, li_ne, va_rf, wr_m1, we_m1, pm_kill_w, Int32.reduceOfInt, Int64.reduceOfInt, Int32.reduceOfNat, Int32.reduceLT, Int32.reduceLE, Prod.mk.injEq, Nat.reduceEqDiff, reduceCtorEq, and_true, true_and, and_false, false_and, and_self, ite_true, ite_false, ↓reduceIte, not_true_eq_false, not_false_eq_true, pe_ri, pe_rz, pe_rc, eq_false k1, eq_true k2]
    · rw [if_neg k2] at e
      have e := Option.some.inj e; subst e
      simp -implicitDefEqProofs (disch := first | assumption | exact Nat.le_of_ble_eq_true rfl | decide) only [b706_0, g706_1, b706_1, g706_2, b706_2, pe_lload0, pe_lload2, pe_lcmp, pe_if_lt, pe_lload4, pe_if_gt, pe_sipush, pe_goto, pe_goto_w, pm_prog_1, pm_ob_some, Nat.reduceDiv, Nat.reduceMod, Nat.reduceMul, Nat.reduceAdd, Int.reduceToNat, pm_kill_i, pm_kill_r, pm_kill_n, pm_kill_j, pm_kill_l, pm_kill_d, pm_cats_nil, pm_cats_i, pm_cats_r, pm_cats_n, pm_cats_l, pm_cats_d, sz_1, sz_2, sl_1, sl_2, lc_0, lc_lt, lc_le, li_ne, va_rf, wr_m1, we_m1, pm_kill_w, Int32.reduceOfInt, Int64.reduceOfInt, Int32.reduceOfNat, Int32.reduceLT, Int32.reduceLE, Prod.mk.injEq, Nat.reduceEqDiff, reduceCtorEq, and_true, true_and, and_false, false_and, and_self, ite_true, ite_false, ↓reduceIte, not_true_eq_false, not_false_eq_true, pe_ri, pe_rz, pe_rc, eq_false k1, eq_false k2]
/-- TimberHouse$NailRules.unit(I)Z -/
theorem c705 {d : Nat} {h : pm_H} {a : Nat} {x0 : Int32} (hc : pm_cls h a = some 11) : pm_call pm_prog (d + 1) 705 [.ref a, .int x0] h = pm_ev pm_prog (pm_call pm_prog d) 705 0 b705_0 [.ref a, .int x0] [] h := pm_cal (pm_rc1 hc rfl) rfl rfl rfl
theorem g705_1 {cl : pm_C} {ls st : List Value} {h : pm_H} : pm_go pm_prog cl 705 1 ls st h = pm_ev pm_prog cl 705 1 b705_1 ls st h := pm_go_eq pm_prog cl 705 1 ls st h
theorem g705_2 {cl : pm_C} {ls st : List Value} {h : pm_H} : pm_go pm_prog cl 705 2 ls st h = pm_ev pm_prog cl 705 2 b705_2 ls st h := pm_go_eq pm_prog cl 705 2 ls st h
/-- TimberHouse$NailRules.unit(I)Z -/
noncomputable def f705 (mc : Int32) (S : wS) (x1 : Int32) : Option (Int32 × wS) :=
  (f706 (Int32.toInt64 x1) 32 126).bind fun v1 =>
  if v1 = 0 then
    some (0, S)
  else
    if (S.1 (0, 0, 0) 2) = 200 then
      some (0, S)
    else
      if 0 ≤ (S.1 (0, 0, 0) 2) ∧ (S.1 (0, 0, 0) 2) < 200 then
        some (1, (sz (sz S (0, 0, 0) 2 ((S.1 (0, 0, 0) 2) + 1)) (3, 0, 0) (S.1 (0, 0, 0) 2) (vp_nar .byte (Int8.toInt32 (Int32.toInt8 x1)))))
      else none
theorem x705 {mc : Int32} {A : wK → Nat} {h : pm_H} {D : Nat} {S : wS} {x1 : Int32} {r : Int32 × wS} (hP : Cn_P mc) (hA : wok A (Cn_d mc) h.1) (hL : A (90, 0, 0) = 1) (hD : 2 ≤ D) (e : f705 mc S x1 = some r) : pm_call pm_prog D 705 [.ref (A (0, 0, 0)), .int x1] (wput A (Cn_d mc) S h) = some (match (generalizing := false) r with | (w0, S1) => (Outcome.returned (some (.int w0)), (wput A (Cn_d mc) S1 h))) := by
  obtain ⟨D, rfl⟩ : ∃ D', D = D' + 1 := ⟨D - 1, by omega⟩
  have hD : 1 ≤ D := by omega
  simp only [f705] at e
  rw [c705 (Cn_c0 hP hA), b705_0]
  obtain ⟨v1, k1, e⟩ := Option.bind_eq_some_iff.mp e
  try dsimp only at e
  have z1 := fun h => x706 (D := D) (h := h) (by omega) k1
  by_cases k2 : v1 = 0
  · rw [if_pos k2] at e
    have e := Option.some.inj e; subst e
    simp -implicitDefEqProofs (disch := first | assumption | exact Nat.le_of_ble_eq_true rfl | decide) only [b705_0, g705_1, b705_1, g705_2, b705_2, pe_iload1, pe_i2l, pe_bipush, pe_call3, pm_af_ret, pm_af_void, pm_af_thr, pe_if_eq, pe_aload0, pe_getfield, pe_sipush, pe_icmp_ne, pe_goto_w, pe_dup_i, pe_dup_r, pe_dup_x1_ii, pe_dup_x1_ir, pe_dup_x1_ri, pe_dup_x1_rr, pe_iadd, pe_putfield, pe_i2b, pe_bastore, pm_prog_1, pm_ob_some, Nat.reduceDiv, Nat.reduceMod, Nat.reduceMul, Nat.reduceAdd, Int.reduceToNat, pm_kill_i, pm_kill_r, pm_kill_n, pm_kill_j, pm_kill_l, pm_kill_d, pm_cats_nil, pm_cats_i, pm_cats_r, pm_cats_n, pm_cats_l, pm_cats_d, sz_1, sz_2, sl_1, sl_2, lc_0, lc_lt, lc_le, li_ne, va_rf, wr_m1, we_m1, pm_kill_w, Int32.reduceOfInt, Int64.reduceOfInt, Int32.reduceOfNat, Int32.reduceLT, Int32.reduceLE, Prod.mk.injEq, Nat.reduceEqDiff, reduceCtorEq, and_true, true_and, and_false, false_and, and_self, ite_true, ite_false, ↓reduceIte, not_true_eq_false, not_false_eq_true, pe_ri, pe_rz, pe_rc, Cn_g0_1 hP hA, Cn_g0_2 hP hA, Cn_p0_2 hP hA, Cn_w3 hP hA, z1, eq_true k2]
  · rw [if_neg k2] at e
    by_cases k3 : (S.1 (0, 0, 0) 2) = 200
    · rw [if_pos k3] at e
      have e := Option.some.inj e; subst e
      simp -implicitDefEqProofs (disch := first | assumption | exact Nat.le_of_ble_eq_true rfl | decide) only [b705_0, g705_1, b705_1, g705_2, b705_2, pe_iload1, pe_i2l, pe_bipush, pe_call3, pm_af_ret, pm_af_void, pm_af_thr, pe_if_eq, pe_aload0, pe_getfield, pe_sipush, pe_icmp_ne, pe_goto_w, pe_dup_i, pe_dup_r, pe_dup_x1_ii, pe_dup_x1_ir, pe_dup_x1_ri, pe_dup_x1_rr, pe_iadd, pe_putfield, pe_i2b, pe_bastore, pm_prog_1, pm_ob_some, Nat.reduceDiv, Nat.reduceMod, Nat.reduceMul, Nat.reduceAdd, Int.reduceToNat, pm_kill_i, pm_kill_r, pm_kill_n, pm_kill_j, pm_kill_l, pm_kill_d, pm_cats_nil, pm_cats_i, pm_cats_r, pm_cats_n, pm_cats_l, pm_cats_d, sz_1, sz_2, sl_1, sl_2, lc_0, lc_lt, lc_le, li_ne, va_rf, wr_m1, we_m1, pm_kill_w, Int32.reduceOfInt, Int64.reduceOfInt, Int32.reduceOfNat, Int32.reduceLT, Int32.reduceLE, Prod.mk.injEq, Nat.reduceEqDiff, reduceCtorEq, and_true, true_and, and_false, false_and, and_self, ite_true, ite_false, ↓reduceIte, not_true_eq_false, not_false_eq_true, pe_ri, pe_rz, pe_rc, Cn_g0_1 hP hA, Cn_g0_2 hP hA, Cn_p0_2 hP hA, Cn_w3 hP hA, z1, eq_false k2, eq_true k3]
    · rw [if_neg k3] at e
      by_cases k4 : 0 ≤ (S.1 (0, 0, 0) 2) ∧ (S.1 (0, 0, 0) 2) < 200
      · rw [if_pos k4] at e
        have e := Option.some.inj e; subst e
        simp -implicitDefEqProofs (disch := first | assumption | exact Nat.le_of_ble_eq_true rfl | decide) only [b705_0, g705_1, b705_1, g705_2, b705_2, pe_iload1, pe_i2l, pe_bipush, pe_call3, pm_af_ret, pm_af_void, pm_af_thr, pe_if_eq, pe_aload0, pe_getfield, pe_sipush, pe_icmp_ne, pe_goto_w, pe_dup_i, pe_dup_r, pe_dup_x1_ii, pe_dup_x1_ir, pe_dup_x1_ri, pe_dup_x1_rr, pe_iadd, pe_putfield, pe_i2b, pe_bastore, pm_prog_1, pm_ob_some, Nat.reduceDiv, Nat.reduceMod, Nat.reduceMul, Nat.reduceAdd, Int.reduceToNat, pm_kill_i, pm_kill_r, pm_kill_n, pm_kill_j, pm_kill_l, pm_kill_d, pm_cats_nil, pm_cats_i, pm_cats_r, pm_cats_n, pm_cats_l, pm_cats_d, sz_1, sz_2, sl_1, sl_2, lc_0, lc_lt, lc_le, li_ne, va_rf, wr_m1, we_m1, pm_kill_w, Int32.reduceOfInt, Int64.reduceOfInt, Int32.reduceOfNat, Int32.reduceLT, Int32.reduceLE, Prod.mk.injEq, Nat.reduceEqDiff, reduceCtorEq, and_true, true_and, and_false, false_and, and_self, ite_true, ite_false, ↓reduceIte, not_true_eq_false, not_false_eq_true, pe_ri, pe_rz, pe_rc, Cn_g0_1 hP hA, Cn_g0_2 hP hA, Cn_p0_2 hP hA, Cn_w3 hP hA, z1, eq_false k2, eq_false k3]
      · rw [if_neg k4] at e; cases e
/-- TimberHouse$NailRules.look()C -/
theorem c709 {d : Nat} {h : pm_H} {a : Nat} (hc : pm_cls h a = some 11) : pm_call pm_prog (d + 1) 709 [.ref a] h = pm_ev pm_prog (pm_call pm_prog d) 709 0 b709_0 [.ref a] [] h := pm_cal (pm_rc1 hc rfl) rfl rfl rfl
theorem g709_1 {cl : pm_C} {ls st : List Value} {h : pm_H} : pm_go pm_prog cl 709 1 ls st h = pm_ev pm_prog cl 709 1 b709_1 ls st h := pm_go_eq pm_prog cl 709 1 ls st h
theorem g709_2 {cl : pm_C} {ls st : List Value} {h : pm_H} : pm_go pm_prog cl 709 2 ls st h = pm_ev pm_prog cl 709 2 b709_2 ls st h := pm_go_eq pm_prog cl 709 2 ls st h
/-- TimberHouse$NailRules.look()C -/
noncomputable def f709 (mc : Int32) (S : wS) : Option (Int32) :=
  if (S.1 (0, 0, 0) 3) < (S.1 (0, 0, 0) 2) then
    if 0 ≤ (S.1 (0, 0, 0) 3) ∧ (S.1 (0, 0, 0) 3) < 200 then
      if 0 ≤ (UInt32.toInt32 (Int32.toUInt32 (S.1 (3, 0, 0) (S.1 (0, 0, 0) 3)) % 65536)) ∧ (UInt32.toInt32 (Int32.toUInt32 (S.1 (3, 0, 0) (S.1 (0, 0, 0) 3)) % 65536)) ≤ 65535 then
        some (UInt32.toInt32 (Int32.toUInt32 (S.1 (3, 0, 0) (S.1 (0, 0, 0) 3)) % 65536))
      else none
    else none
  else
    some 0
theorem x709 {mc : Int32} {A : wK → Nat} {h : pm_H} {D : Nat} {S : wS} {r : Int32} (hP : Cn_P mc) (hA : wok A (Cn_d mc) h.1) (hL : A (90, 0, 0) = 1) (hD : 1 ≤ D) (e : f709 mc S = some r) : pm_call pm_prog D 709 [.ref (A (0, 0, 0))] (wput A (Cn_d mc) S h) = some (Outcome.returned (some (.int r)), (wput A (Cn_d mc) S h)) := by
  obtain ⟨D, rfl⟩ : ∃ D', D = D' + 1 := ⟨D - 1, by omega⟩
  have hD : 0 ≤ D := by omega
  simp only [f709] at e
  rw [c709 (Cn_c0 hP hA), b709_0]
  by_cases k1 : (S.1 (0, 0, 0) 3) < (S.1 (0, 0, 0) 2)
  · rw [if_pos k1] at e
    by_cases k2 : 0 ≤ (S.1 (0, 0, 0) 3) ∧ (S.1 (0, 0, 0) 3) < 200
    · rw [if_pos k2] at e
      by_cases k3 : 0 ≤ (UInt32.toInt32 (Int32.toUInt32 (S.1 (3, 0, 0) (S.1 (0, 0, 0) 3)) % 65536)) ∧ (UInt32.toInt32 (Int32.toUInt32 (S.1 (3, 0, 0) (S.1 (0, 0, 0) 3)) % 65536)) ≤ 65535
      · rw [if_pos k3] at e
        have e := Option.some.inj e; subst e
        simp -implicitDefEqProofs (disch := first | assumption | exact Nat.le_of_ble_eq_true rfl | decide) only [b709_0, g709_1, b709_1, g709_2, b709_2, pe_aload0, pe_getfield, pe_icmp_ge, pe_baload, pe_i2c, pe_goto, pe_sipush, pe_goto_w, pm_prog_1, pm_ob_some, Nat.reduceDiv, Nat.reduceMod, Nat.reduceMul, Nat.reduceAdd, Int.reduceToNat, pm_kill_i, pm_kill_r, pm_kill_n, pm_kill_j, pm_kill_l, pm_kill_d, pm_cats_nil, pm_cats_i, pm_cats_r, pm_cats_n, pm_cats_l, pm_cats_d, sz_1, sz_2, sl_1, sl_2, lc_0, lc_lt, lc_le, li_ne, va_rf, wr_m1, we_m1, pm_kill_w, Int32.reduceOfInt, Int64.reduceOfInt, Int32.reduceOfNat, Int32.reduceLT, Int32.reduceLE, Prod.mk.injEq, Nat.reduceEqDiff, reduceCtorEq, and_true, true_and, and_false, false_and, and_self, ite_true, ite_false, ↓reduceIte, not_true_eq_false, not_false_eq_true, pe_ri, pe_rz, pe_rc, Cn_g0_1 hP hA, Cn_g0_2 hP hA, Cn_g0_3 hP hA, Cn_r3 hP hA, eq_true k1]
      · rw [if_neg k3] at e; cases e
    · rw [if_neg k2] at e; cases e
  · rw [if_neg k1] at e
    have e := Option.some.inj e; subst e
    simp -implicitDefEqProofs (disch := first | assumption | exact Nat.le_of_ble_eq_true rfl | decide) only [b709_0, g709_1, b709_1, g709_2, b709_2, pe_aload0, pe_getfield, pe_icmp_ge, pe_baload, pe_i2c, pe_goto, pe_sipush, pe_goto_w, pm_prog_1, pm_ob_some, Nat.reduceDiv, Nat.reduceMod, Nat.reduceMul, Nat.reduceAdd, Int.reduceToNat, pm_kill_i, pm_kill_r, pm_kill_n, pm_kill_j, pm_kill_l, pm_kill_d, pm_cats_nil, pm_cats_i, pm_cats_r, pm_cats_n, pm_cats_l, pm_cats_d, sz_1, sz_2, sl_1, sl_2, lc_0, lc_lt, lc_le, li_ne, va_rf, wr_m1, we_m1, pm_kill_w, Int32.reduceOfInt, Int64.reduceOfInt, Int32.reduceOfNat, Int32.reduceLT, Int32.reduceLE, Prod.mk.injEq, Nat.reduceEqDiff, reduceCtorEq, and_true, true_and, and_false, false_and, and_self, ite_true, ite_false, ↓reduceIte, not_true_eq_false, not_false_eq_true, pe_ri, pe_rz, pe_rc, Cn_g0_1 hP hA, Cn_g0_2 hP hA, Cn_g0_3 hP hA, Cn_r3 hP hA, eq_false k1]
/-- TimberHouse$NailRules.letter()I -/
theorem c708 {d : Nat} {h : pm_H} {a : Nat} (hc : pm_cls h a = some 11) : pm_call pm_prog (d + 1) 708 [.ref a] h = pm_ev pm_prog (pm_call pm_prog d) 708 0 b708_0 [.ref a, pm_junk] [] h := pm_cal (pm_rc1 hc rfl) rfl rfl rfl
theorem g708_1 {cl : pm_C} {ls st : List Value} {h : pm_H} : pm_go pm_prog cl 708 1 ls st h = pm_ev pm_prog cl 708 1 b708_1 ls st h := pm_go_eq pm_prog cl 708 1 ls st h
theorem g708_2 {cl : pm_C} {ls st : List Value} {h : pm_H} : pm_go pm_prog cl 708 2 ls st h = pm_ev pm_prog cl 708 2 b708_2 ls st h := pm_go_eq pm_prog cl 708 2 ls st h
theorem g708_3 {cl : pm_C} {ls st : List Value} {h : pm_H} : pm_go pm_prog cl 708 3 ls st h = pm_ev pm_prog cl 708 3 b708_3 ls st h := pm_go_eq pm_prog cl 708 3 ls st h
theorem t708 {cl : pm_C} {j : Nat} {ls : List Value} {c : Nat} {h : pm_H} : pm_thr pm_prog cl 708 j ls c h = some (.threw c, h) := rfl
noncomputable def f708_b1 (mc : Int32) : Int32 × wS → Option ((Int32 × wS) ⊕ ((Int32 × wS) ⊕ (wS))) := fun (x1, S) =>
  if x1 < 4 then
    (f709 mc S).bind fun v1 =>
    if 0 ≤ x1 ∧ x1 < 4 then
      if v1 = (S.1 (90, 0, 0) x1) then
        some (.inr (.inl (x1, (sz S (0, 0, 0) 3 ((S.1 (0, 0, 0) 3) + 1)))))
      else
        some (.inl ((x1 + 1), S))
    else none
  else
    some (.inr (.inr (S)))
/-- TimberHouse$NailRules.letter()I -/
noncomputable def f708 (mc : Int32) (S : wS) : Option ((Nat × wS) ⊕ (Int32 × wS)) :=
  (lp (f708_b1 mc) FU (0, S)).bind fun b => match b with
  | (.inl (v3, S2)) =>
    some (.inr (v3, S2))
  | (.inr (S4)) =>
    some (.inl (71, (sz S4 (0, 0, 0) 4 (S4.1 (0, 0, 0) 3))))
def go708_1 (mc : Int32) (A : wK → Nat) (h : pm_H) (D : Nat) (R : Outcome × pm_H) : Int32 × wS → Prop := fun (x1, S) => pm_go pm_prog (pm_call pm_prog D) 708 1 [.ref (A (0, 0, 0)), .int x1] [] (wput A (Cn_d mc) S h) = some R
def ex708_1 (mc : Int32) (A : wK → Nat) (h : pm_H) (D : Nat) (R : Outcome × pm_H) : (Int32 × wS) ⊕ (wS) → Prop := fun b => match b with
  | (.inl (xr0, S)) => some (Outcome.returned (some (.int xr0)), (wput A (Cn_d mc) S h)) = some R
  | (.inr (S)) => ∀ q1 : Value, pm_go pm_prog (pm_call pm_prog D) 708 3 [.ref (A (0, 0, 0)), q1] [] (wput A (Cn_d mc) S h) = some R
theorem y708_b1 {mc : Int32} {A : wK → Nat} {h : pm_H} {D : Nat} {R : Outcome × pm_H} (hP : Cn_P mc) (hA : wok A (Cn_d mc) h.1) (hL : A (90, 0, 0) = 1) (hD : 1 ≤ D) (a : Int32 × wS) (r : (Int32 × wS) ⊕ ((Int32 × wS) ⊕ (wS))) (e : f708_b1 mc a = some r) (hc : Sum.elim (go708_1 mc A h D R) (ex708_1 mc A h D R) r) : go708_1 mc A h D R a := by
  obtain ⟨x1, S⟩ := a
  dsimp only [go708_1]
  obtain ⟨D, rfl⟩ : ∃ D', D = D' + 1 := ⟨D - 1, by omega⟩
  simp only [f708_b1] at e
  rw [g708_1, b708_1]
  by_cases k1 : x1 < 4
  · rw [if_pos k1] at e
    obtain ⟨v1, k2, e⟩ := Option.bind_eq_some_iff.mp e
    try dsimp only at e
    have z2 := x709 (D := D + 1) (h := h) hP hA hL (by omega) k2
    by_cases k3 : 0 ≤ x1 ∧ x1 < 4
    · rw [if_pos k3] at e
      by_cases k4 : v1 = (S.1 (90, 0, 0) x1)
      · rw [if_pos k4] at e
        have e := Option.some.inj e; subst e
        dsimp only [Sum.elim_inr, ex708_1] at hc
        have hc := Option.some.inj hc; subst hc
        simp -implicitDefEqProofs (disch := first | assumption | exact Nat.le_of_ble_eq_true rfl | decide) only [b708_0, g708_2, b708_2, g708_3, b708_3, pe_sipush, pe_istore1, pe_goto_w, pe_iload1, pe_icmp_ge, pe_aload0, pe_call1, pm_af_ret, pm_af_void, pm_af_thr, pe_caload, pe_icmp_ne, pe_dup_i, pe_dup_r, pe_getfield, pe_iadd, pe_putfield, pe_iinc1, pe_goto, pe_call2, pm_prog_1, pm_ob_some, Nat.reduceDiv, Nat.reduceMod, Nat.reduceMul, Nat.reduceAdd, Int.reduceToNat, pm_kill_i, pm_kill_r, pm_kill_n, pm_kill_j, pm_kill_l, pm_kill_d, pm_cats_nil, pm_cats_i, pm_cats_r, pm_cats_n, pm_cats_l, pm_cats_d, sz_1, sz_2, sl_1, sl_2, lc_0, lc_lt, lc_le, li_ne, va_rf, wr_m1, we_m1, pm_kill_w, Int32.reduceOfInt, Int64.reduceOfInt, Int32.reduceOfNat, Int32.reduceLT, Int32.reduceLE, Prod.mk.injEq, Nat.reduceEqDiff, reduceCtorEq, and_true, true_and, and_false, false_and, and_self, ite_true, ite_false, ↓reduceIte, not_true_eq_false, not_false_eq_true, pe_ri, pe_rz, pe_rc, w_gs (q := 1) hL rfl, b710_0, pe_mkx, pe_areturn, w_junk hA, w_athrow hA, w_1, c710 (Cn_c0 hP hA), p_throw, t708, Cn_g0_3 hP hA, Cn_p0_3 hP hA, Cn_p0_4 hP hA, Cn_r90 hP hA, eq_true k1, z2, eq_true k4]
      · rw [if_neg k4] at e
        have e := Option.some.inj e; subst e
        dsimp only [Sum.elim_inl, go708_1] at hc
        simp -implicitDefEqProofs (disch := first | assumption | exact Nat.le_of_ble_eq_true rfl | decide) only [b708_0, g708_2, b708_2, g708_3, b708_3, pe_sipush, pe_istore1, pe_goto_w, pe_iload1, pe_icmp_ge, pe_aload0, pe_call1, pm_af_ret, pm_af_void, pm_af_thr, pe_caload, pe_icmp_ne, pe_dup_i, pe_dup_r, pe_getfield, pe_iadd, pe_putfield, pe_iinc1, pe_goto, pe_call2, pm_prog_1, pm_ob_some, Nat.reduceDiv, Nat.reduceMod, Nat.reduceMul, Nat.reduceAdd, Int.reduceToNat, pm_kill_i, pm_kill_r, pm_kill_n, pm_kill_j, pm_kill_l, pm_kill_d, pm_cats_nil, pm_cats_i, pm_cats_r, pm_cats_n, pm_cats_l, pm_cats_d, sz_1, sz_2, sl_1, sl_2, lc_0, lc_lt, lc_le, li_ne, va_rf, wr_m1, we_m1, pm_kill_w, Int32.reduceOfInt, Int64.reduceOfInt, Int32.reduceOfNat, Int32.reduceLT, Int32.reduceLE, Prod.mk.injEq, Nat.reduceEqDiff, reduceCtorEq, and_true, true_and, and_false, false_and, and_self, ite_true, ite_false, ↓reduceIte, not_true_eq_false, not_false_eq_true, pe_ri, pe_rz, pe_rc, w_gs (q := 1) hL rfl, b710_0, pe_mkx, pe_areturn, w_junk hA, w_athrow hA, w_1, c710 (Cn_c0 hP hA), p_throw, t708, Cn_g0_3 hP hA, Cn_p0_3 hP hA, Cn_p0_4 hP hA, Cn_r90 hP hA, eq_true k1, z2, eq_false k4, hc]
    · rw [if_neg k3] at e; cases e
  · rw [if_neg k1] at e
    have e := Option.some.inj e; subst e
    dsimp only [Sum.elim_inr, ex708_1] at hc
    simp -implicitDefEqProofs (disch := first | assumption | exact Nat.le_of_ble_eq_true rfl | decide) only [b708_0, g708_2, b708_2, g708_3, b708_3, pe_sipush, pe_istore1, pe_goto_w, pe_iload1, pe_icmp_ge, pe_aload0, pe_call1, pm_af_ret, pm_af_void, pm_af_thr, pe_caload, pe_icmp_ne, pe_dup_i, pe_dup_r, pe_getfield, pe_iadd, pe_putfield, pe_iinc1, pe_goto, pe_call2, pm_prog_1, pm_ob_some, Nat.reduceDiv, Nat.reduceMod, Nat.reduceMul, Nat.reduceAdd, Int.reduceToNat, pm_kill_i, pm_kill_r, pm_kill_n, pm_kill_j, pm_kill_l, pm_kill_d, pm_cats_nil, pm_cats_i, pm_cats_r, pm_cats_n, pm_cats_l, pm_cats_d, sz_1, sz_2, sl_1, sl_2, lc_0, lc_lt, lc_le, li_ne, va_rf, wr_m1, we_m1, pm_kill_w, Int32.reduceOfInt, Int64.reduceOfInt, Int32.reduceOfNat, Int32.reduceLT, Int32.reduceLE, Prod.mk.injEq, Nat.reduceEqDiff, reduceCtorEq, and_true, true_and, and_false, false_and, and_self, ite_true, ite_false, ↓reduceIte, not_true_eq_false, not_false_eq_true, pe_ri, pe_rz, pe_rc, w_gs (q := 1) hL rfl, b710_0, pe_mkx, pe_areturn, w_junk hA, w_athrow hA, w_1, c710 (Cn_c0 hP hA), p_throw, t708, Cn_g0_3 hP hA, Cn_p0_3 hP hA, Cn_p0_4 hP hA, Cn_r90 hP hA, eq_false k1, hc]
theorem z708_1 {mc : Int32} {A : wK → Nat} {h : pm_H} {D : Nat} {R : Outcome × pm_H} (hP : Cn_P mc) (hA : wok A (Cn_d mc) h.1) (hL : A (90, 0, 0) = 1) (hD : 1 ≤ D) {n : Nat} {a : Int32 × wS} {b : (Int32 × wS) ⊕ (wS)} (e : lp (f708_b1 mc) n a = some b) (hx : ex708_1 mc A h D R b) : go708_1 mc A h D R a := lp_run (fun a r => y708_b1 hP hA hL hD a r) n a b e hx
theorem x708 {mc : Int32} {A : wK → Nat} {h : pm_H} {D : Nat} {S : wS} {r : (Nat × wS) ⊕ (Int32 × wS)} (hP : Cn_P mc) (hA : wok A (Cn_d mc) h.1) (hL : A (90, 0, 0) = 1) (hD : 2 ≤ D) (e : f708 mc S = some r) : pm_call pm_prog D 708 [.ref (A (0, 0, 0))] (wput A (Cn_d mc) S h) = some (match (generalizing := false) r with | .inl (c, S1) => (Outcome.threw c, (wput A (Cn_d mc) S1 (pm_new h 6 (.inr (c, []))))) | .inr (w0, S1) => (Outcome.returned (some (.int w0)), (wput A (Cn_d mc) S1 h))) := by
  obtain ⟨D, rfl⟩ : ∃ D', D = D' + 1 := ⟨D - 1, by omega⟩
  have hD : 1 ≤ D := by omega
  obtain ⟨D, rfl⟩ : ∃ D', D = D' + 1 := ⟨D - 1, by omega⟩
  simp only [f708] at e
  rw [c708 (Cn_c0 hP hA), b708_0]
  obtain ⟨b, k1, e⟩ := Option.bind_eq_some_iff.mp e
  rcases b with ⟨v3, S2⟩ | S4
  ·
    try dsimp only at e
    try simp -implicitDefEqProofs (disch := first | assumption | exact Nat.le_of_ble_eq_true rfl | decide) only [b708_0, g708_2, b708_2, g708_3, b708_3, pe_sipush, pe_istore1, pe_goto_w, pe_iload1, pe_icmp_ge, pe_aload0, pe_call1, pm_af_ret, pm_af_void, pm_af_thr, pe_caload, pe_icmp_ne, pe_dup_i, pe_dup_r, pe_getfield, pe_iadd, pe_putfield, pe_iinc1, pe_goto, pe_call2, pm_prog_1, pm_ob_some, Nat.reduceDiv, Nat.reduceMod, Nat.reduceMul, Nat.reduceAdd, Int.reduceToNat, pm_kill_i, pm_kill_r, pm_kill_n, pm_kill_j, pm_kill_l, pm_kill_d, pm_cats_nil, pm_cats_i, pm_cats_r, pm_cats_n, pm_cats_l, pm_cats_d, sz_1, sz_2, sl_1, sl_2, lc_0, lc_lt, lc_le, li_ne, va_rf, wr_m1, we_m1, pm_kill_w, Int32.reduceOfInt, Int64.reduceOfInt, Int32.reduceOfNat, Int32.reduceLT, Int32.reduceLE, Prod.mk.injEq, Nat.reduceEqDiff, reduceCtorEq, and_true, true_and, and_false, false_and, and_self, ite_true, ite_false, ↓reduceIte, not_true_eq_false, not_false_eq_true, pe_ri, pe_rz, pe_rc, w_gs (q := 1) hL rfl, b710_0, pe_mkx, pe_areturn, w_junk hA, w_athrow hA, w_1, c710 (Cn_c0 hP hA), p_throw, t708, Cn_g0_3 hP hA, Cn_p0_3 hP hA, Cn_p0_4 hP hA, Cn_r90 hP hA]
    refine z708_1 hP hA hL hD k1 ?_
    dsimp only [ex708_1]
    have e := Option.some.inj e; subst e
    simp -implicitDefEqProofs (disch := first | assumption | exact Nat.le_of_ble_eq_true rfl | decide) only [b708_0, g708_2, b708_2, g708_3, b708_3, pe_sipush, pe_istore1, pe_goto_w, pe_iload1, pe_icmp_ge, pe_aload0, pe_call1, pm_af_ret, pm_af_void, pm_af_thr, pe_caload, pe_icmp_ne, pe_dup_i, pe_dup_r, pe_getfield, pe_iadd, pe_putfield, pe_iinc1, pe_goto, pe_call2, pm_prog_1, pm_ob_some, Nat.reduceDiv, Nat.reduceMod, Nat.reduceMul, Nat.reduceAdd, Int.reduceToNat, pm_kill_i, pm_kill_r, pm_kill_n, pm_kill_j, pm_kill_l, pm_kill_d, pm_cats_nil, pm_cats_i, pm_cats_r, pm_cats_n, pm_cats_l, pm_cats_d, sz_1, sz_2, sl_1, sl_2, lc_0, lc_lt, lc_le, li_ne, va_rf, wr_m1, we_m1, pm_kill_w, Int32.reduceOfInt, Int64.reduceOfInt, Int32.reduceOfNat, Int32.reduceLT, Int32.reduceLE, Prod.mk.injEq, Nat.reduceEqDiff, reduceCtorEq, and_true, true_and, and_false, false_and, and_self, ite_true, ite_false, ↓reduceIte, not_true_eq_false, not_false_eq_true, pe_ri, pe_rz, pe_rc, w_gs (q := 1) hL rfl, b710_0, pe_mkx, pe_areturn, w_junk hA, w_athrow hA, w_1, c710 (Cn_c0 hP hA), p_throw, t708, Cn_g0_3 hP hA, Cn_p0_3 hP hA, Cn_p0_4 hP hA, Cn_r90 hP hA]
  ·
    try dsimp only at e
    try simp -implicitDefEqProofs (disch := first | assumption | exact Nat.le_of_ble_eq_true rfl | decide) only [b708_0, g708_2, b708_2, g708_3, b708_3, pe_sipush, pe_istore1, pe_goto_w, pe_iload1, pe_icmp_ge, pe_aload0, pe_call1, pm_af_ret, pm_af_void, pm_af_thr, pe_caload, pe_icmp_ne, pe_dup_i, pe_dup_r, pe_getfield, pe_iadd, pe_putfield, pe_iinc1, pe_goto, pe_call2, pm_prog_1, pm_ob_some, Nat.reduceDiv, Nat.reduceMod, Nat.reduceMul, Nat.reduceAdd, Int.reduceToNat, pm_kill_i, pm_kill_r, pm_kill_n, pm_kill_j, pm_kill_l, pm_kill_d, pm_cats_nil, pm_cats_i, pm_cats_r, pm_cats_n, pm_cats_l, pm_cats_d, sz_1, sz_2, sl_1, sl_2, lc_0, lc_lt, lc_le, li_ne, va_rf, wr_m1, we_m1, pm_kill_w, Int32.reduceOfInt, Int64.reduceOfInt, Int32.reduceOfNat, Int32.reduceLT, Int32.reduceLE, Prod.mk.injEq, Nat.reduceEqDiff, reduceCtorEq, and_true, true_and, and_false, false_and, and_self, ite_true, ite_false, ↓reduceIte, not_true_eq_false, not_false_eq_true, pe_ri, pe_rz, pe_rc, w_gs (q := 1) hL rfl, b710_0, pe_mkx, pe_areturn, w_junk hA, w_athrow hA, w_1, c710 (Cn_c0 hP hA), p_throw, t708, Cn_g0_3 hP hA, Cn_p0_3 hP hA, Cn_p0_4 hP hA, Cn_r90 hP hA]
    refine z708_1 hP hA hL hD k1 ?_
    dsimp only [ex708_1]
    intro q1
    have e := Option.some.inj e; subst e
    simp -implicitDefEqProofs (disch := first | assumption | exact Nat.le_of_ble_eq_true rfl | decide) only [b708_0, g708_2, b708_2, g708_3, b708_3, pe_sipush, pe_istore1, pe_goto_w, pe_iload1, pe_icmp_ge, pe_aload0, pe_call1, pm_af_ret, pm_af_void, pm_af_thr, pe_caload, pe_icmp_ne, pe_dup_i, pe_dup_r, pe_getfield, pe_iadd, pe_putfield, pe_iinc1, pe_goto, pe_call2, pm_prog_1, pm_ob_some, Nat.reduceDiv, Nat.reduceMod, Nat.reduceMul, Nat.reduceAdd, Int.reduceToNat, pm_kill_i, pm_kill_r, pm_kill_n, pm_kill_j, pm_kill_l, pm_kill_d, pm_cats_nil, pm_cats_i, pm_cats_r, pm_cats_n, pm_cats_l, pm_cats_d, sz_1, sz_2, sl_1, sl_2, lc_0, lc_lt, lc_le, li_ne, va_rf, wr_m1, we_m1, pm_kill_w, Int32.reduceOfInt, Int64.reduceOfInt, Int32.reduceOfNat, Int32.reduceLT, Int32.reduceLE, Prod.mk.injEq, Nat.reduceEqDiff, reduceCtorEq, and_true, true_and, and_false, false_and, and_self, ite_true, ite_false, ↓reduceIte, not_true_eq_false, not_false_eq_true, pe_ri, pe_rz, pe_rc, w_gs (q := 1) hL rfl, b710_0, pe_mkx, pe_areturn, w_junk hA, w_athrow hA, w_1, c710 (Cn_c0 hP hA), p_throw, t708, Cn_g0_3 hP hA, Cn_p0_3 hP hA, Cn_p0_4 hP hA, Cn_r90 hP hA]
/-- TimberHouse$NailRules.take(C)V -/
theorem c711 {d : Nat} {h : pm_H} {a : Nat} {x0 : Int32} (hc : pm_cls h a = some 11) : pm_call pm_prog (d + 1) 711 [.ref a, .int x0] h = pm_ev pm_prog (pm_call pm_prog d) 711 0 b711_0 [.ref a, .int x0] [] h := pm_cal (pm_rc1 hc rfl) rfl rfl rfl
theorem g711_1 {cl : pm_C} {ls st : List Value} {h : pm_H} : pm_go pm_prog cl 711 1 ls st h = pm_ev pm_prog cl 711 1 b711_1 ls st h := pm_go_eq pm_prog cl 711 1 ls st h
theorem t711 {cl : pm_C} {j : Nat} {ls : List Value} {c : Nat} {h : pm_H} : pm_thr pm_prog cl 711 j ls c h = some (.threw c, h) := rfl
/-- TimberHouse$NailRules.take(C)V -/
noncomputable def f711 (mc : Int32) (S : wS) (x1 : Int32) : Option ((Nat × wS) ⊕ (wS)) :=
  (f709 mc S).bind fun v1 =>
  if v1 = x1 then
    some (.inr (sz S (0, 0, 0) 3 ((S.1 (0, 0, 0) 3) + 1)))
  else
    some (.inl (71, (sz S (0, 0, 0) 4 (S.1 (0, 0, 0) 3))))
theorem x711 {mc : Int32} {A : wK → Nat} {h : pm_H} {D : Nat} {S : wS} {x1 : Int32} {r : (Nat × wS) ⊕ (wS)} (hP : Cn_P mc) (hA : wok A (Cn_d mc) h.1) (hL : A (90, 0, 0) = 1) (hD : 2 ≤ D) (e : f711 mc S x1 = some r) : pm_call pm_prog D 711 [.ref (A (0, 0, 0)), .int x1] (wput A (Cn_d mc) S h) = some (match (generalizing := false) r with | .inl (c, S1) => (Outcome.threw c, (wput A (Cn_d mc) S1 (pm_new h 6 (.inr (c, []))))) | .inr S1 => (Outcome.returned none, (wput A (Cn_d mc) S1 h))) := by
  obtain ⟨D, rfl⟩ : ∃ D', D = D' + 1 := ⟨D - 1, by omega⟩
  have hD : 1 ≤ D := by omega
  obtain ⟨D, rfl⟩ : ∃ D', D = D' + 1 := ⟨D - 1, by omega⟩
  simp only [f711] at e
  rw [c711 (Cn_c0 hP hA), b711_0]
  obtain ⟨v1, k1, e⟩ := Option.bind_eq_some_iff.mp e
  try dsimp only at e
  have z1 := x709 (D := D + 1) (h := h) hP hA hL (by omega) k1
  by_cases k2 : v1 = x1
  · rw [if_pos k2] at e
    have e := Option.some.inj e; subst e
    simp -implicitDefEqProofs (disch := first | assumption | exact Nat.le_of_ble_eq_true rfl | decide) only [b711_0, g711_1, b711_1, pe_aload0, pe_call1, pm_af_ret, pm_af_void, pm_af_thr, pe_iload1, pe_icmp_eq, pe_getfield, pe_call2, pe_dup_i, pe_dup_r, pe_sipush, pe_iadd, pe_putfield, pe_return, pm_prog_1, pm_ob_some, Nat.reduceDiv, Nat.reduceMod, Nat.reduceMul, Nat.reduceAdd, Int.reduceToNat, pm_kill_i, pm_kill_r, pm_kill_n, pm_kill_j, pm_kill_l, pm_kill_d, pm_cats_nil, pm_cats_i, pm_cats_r, pm_cats_n, pm_cats_l, pm_cats_d, sz_1, sz_2, sl_1, sl_2, lc_0, lc_lt, lc_le, li_ne, va_rf, wr_m1, we_m1, pm_kill_w, Int32.reduceOfInt, Int64.reduceOfInt, Int32.reduceOfNat, Int32.reduceLT, Int32.reduceLE, Prod.mk.injEq, Nat.reduceEqDiff, reduceCtorEq, and_true, true_and, and_false, false_and, and_self, ite_true, ite_false, ↓reduceIte, not_true_eq_false, not_false_eq_true, pe_ri, pe_rz, pe_rc, b710_0, pe_mkx, pe_areturn, w_junk hA, w_athrow hA, w_1, c710 (Cn_c0 hP hA), p_throw, t711, Cn_g0_3 hP hA, Cn_p0_3 hP hA, Cn_p0_4 hP hA, z1, eq_true k2]
  · rw [if_neg k2] at e
    have e := Option.some.inj e; subst e
    simp -implicitDefEqProofs (disch := first | assumption | exact Nat.le_of_ble_eq_true rfl | decide) only [b711_0, g711_1, b711_1, pe_aload0, pe_call1, pm_af_ret, pm_af_void, pm_af_thr, pe_iload1, pe_icmp_eq, pe_getfield, pe_call2, pe_dup_i, pe_dup_r, pe_sipush, pe_iadd, pe_putfield, pe_return, pm_prog_1, pm_ob_some, Nat.reduceDiv, Nat.reduceMod, Nat.reduceMul, Nat.reduceAdd, Int.reduceToNat, pm_kill_i, pm_kill_r, pm_kill_n, pm_kill_j, pm_kill_l, pm_kill_d, pm_cats_nil, pm_cats_i, pm_cats_r, pm_cats_n, pm_cats_l, pm_cats_d, sz_1, sz_2, sl_1, sl_2, lc_0, lc_lt, lc_le, li_ne, va_rf, wr_m1, we_m1, pm_kill_w, Int32.reduceOfInt, Int64.reduceOfInt, Int32.reduceOfNat, Int32.reduceLT, Int32.reduceLE, Prod.mk.injEq, Nat.reduceEqDiff, reduceCtorEq, and_true, true_and, and_false, false_and, and_self, ite_true, ite_false, ↓reduceIte, not_true_eq_false, not_false_eq_true, pe_ri, pe_rz, pe_rc, b710_0, pe_mkx, pe_areturn, w_junk hA, w_athrow hA, w_1, c710 (Cn_c0 hP hA), p_throw, t711, Cn_g0_3 hP hA, Cn_p0_3 hP hA, Cn_p0_4 hP hA, z1, eq_false k2]
/-- TimberHouse$NailRules.word()I -/
theorem c712 {d : Nat} {h : pm_H} {a : Nat} (hc : pm_cls h a = some 11) : pm_call pm_prog (d + 1) 712 [.ref a] h = pm_ev pm_prog (pm_call pm_prog d) 712 0 b712_0 [.ref a, pm_junk, pm_junk, pm_junk, pm_junk] [] h := pm_cal (pm_rc1 hc rfl) rfl rfl rfl
theorem g712_1 {cl : pm_C} {ls st : List Value} {h : pm_H} : pm_go pm_prog cl 712 1 ls st h = pm_ev pm_prog cl 712 1 b712_1 ls st h := pm_go_eq pm_prog cl 712 1 ls st h
theorem g712_2 {cl : pm_C} {ls st : List Value} {h : pm_H} : pm_go pm_prog cl 712 2 ls st h = pm_ev pm_prog cl 712 2 b712_2 ls st h := pm_go_eq pm_prog cl 712 2 ls st h
theorem g712_3 {cl : pm_C} {ls st : List Value} {h : pm_H} : pm_go pm_prog cl 712 3 ls st h = pm_ev pm_prog cl 712 3 b712_3 ls st h := pm_go_eq pm_prog cl 712 3 ls st h
theorem g712_4 {cl : pm_C} {ls st : List Value} {h : pm_H} : pm_go pm_prog cl 712 4 ls st h = pm_ev pm_prog cl 712 4 b712_4 ls st h := pm_go_eq pm_prog cl 712 4 ls st h
theorem g712_5 {cl : pm_C} {ls st : List Value} {h : pm_H} : pm_go pm_prog cl 712 5 ls st h = pm_ev pm_prog cl 712 5 b712_5 ls st h := pm_go_eq pm_prog cl 712 5 ls st h
theorem t712 {cl : pm_C} {j : Nat} {ls : List Value} {c : Nat} {h : pm_H} : pm_thr pm_prog cl 712 j ls c h = some (.threw c, h) := rfl
noncomputable def f712_b2 (mc : Int32) (S : wS) : Int32 × Int32 × Int32 × Int32 → Option ((Int32 × Int32 × Int32 × Int32) ⊕ ((Int32 × Int32 × Int32 × Int32))) := fun (x1, x2, x3, x4) =>
  if 0 ≤ x3 ∧ x3 < 7 then
    if x4 < (Cn_nl x3) then
      if (x1 + x4) < (S.1 (0, 0, 0) 2) then
        if 0 ≤ (x1 + x4) ∧ (x1 + x4) < 200 then
          if 0 ≤ x4 ∧ x4 < (Cn_nl x3) then
            if (S.1 (3, 0, 0) (x1 + x4)) = (S.1 (2, x3, 0) x4) then
              some (.inl (x1, x2, x3, (x4 + 1)))
            else
              some (.inr (x1, x2, x3, x4))
          else none
        else none
      else
        some (.inr (x1, x2, x3, x4))
    else
      some (.inr (x1, x2, x3, x4))
  else none
noncomputable def f712_3_1 (mc : Int32) (S : wS) (x1 : Int32) (x2 : Int32) (x3 : Int32) (x4 : Int32) : Option ((Int32 × Int32 × Int32 × wS) ⊕ ((Int32 × wS) ⊕ (Int32 × wS))) :=
  (f3841 x2 (x1 + x4)).bind fun v6 =>
  if 0 ≤ x3 ∧ x3 < 7 then
    if x4 = (Cn_nl x3) then
      some (.inr (.inl (x3, (sz S (0, 0, 0) 3 (x1 + x4)))))
    else
      some (.inl (x1, v6, (x3 + 1), S))
  else none
noncomputable def f712_b1 (mc : Int32) : Int32 × Int32 × Int32 × wS → Option ((Int32 × Int32 × Int32 × wS) ⊕ ((Int32 × wS) ⊕ (Int32 × wS))) := fun (x1, x2, x3, S) =>
  if x3 < 7 then
    (lp (f712_b2 mc S) FU (x1, x2, x3, 0)).bind fun (v2, v3, v4, v5) =>
    f712_3_1 mc S v2 v3 v4 v5
  else
    some (.inr (.inr ((x2, S))))
/-- TimberHouse$NailRules.word()I -/
noncomputable def f712 (mc : Int32) (S : wS) : Option ((Nat × wS) ⊕ (Int32 × wS)) :=
  (lp (f712_b1 mc) FU ((S.1 (0, 0, 0) 3), (S.1 (0, 0, 0) 3), 0, S)).bind fun b => match b with
  | (.inl (v8, S7)) =>
    some (.inr (v8, S7))
  | (.inr ((v11, S9))) =>
    some (.inl (71, (sz S9 (0, 0, 0) 4 v11)))
def go712_2 (mc : Int32) (A : wK → Nat) (h : pm_H) (D : Nat) (R : Outcome × pm_H) (S : wS) : Int32 × Int32 × Int32 × Int32 → Prop := fun (x1, x2, x3, x4) => pm_go pm_prog (pm_call pm_prog D) 712 2 [.ref (A (0, 0, 0)), .int x1, .int x2, .int x3, .int x4] [] (wput A (Cn_d mc) S h) = some R
def ex712_2 (mc : Int32) (A : wK → Nat) (h : pm_H) (D : Nat) (R : Outcome × pm_H) (S : wS) : (Int32 × Int32 × Int32 × Int32) → Prop := fun (x1, x2, x3, x4) => pm_go pm_prog (pm_call pm_prog D) 712 3 [.ref (A (0, 0, 0)), .int x1, .int x2, .int x3, .int x4] [] (wput A (Cn_d mc) S h) = some R
theorem y712_b2 {mc : Int32} {A : wK → Nat} {h : pm_H} {D : Nat} {R : Outcome × pm_H} {S : wS} (hP : Cn_P mc) (hA : wok A (Cn_d mc) h.1) (hL : A (90, 0, 0) = 1) (hD : 1 ≤ D) (a : Int32 × Int32 × Int32 × Int32) (r : (Int32 × Int32 × Int32 × Int32) ⊕ ((Int32 × Int32 × Int32 × Int32))) (e : f712_b2 mc S a = some r) (hc : Sum.elim (go712_2 mc A h D R S) (ex712_2 mc A h D R S) r) : go712_2 mc A h D R S a := by
  obtain ⟨x1, x2, x3, x4⟩ := a
  dsimp only [go712_2]
  obtain ⟨D, rfl⟩ : ∃ D', D = D' + 1 := ⟨D - 1, by omega⟩
  simp only [f712_b2] at e
  rw [g712_2, b712_2]
  by_cases k1 : 0 ≤ x3 ∧ x3 < 7
  · rw [if_pos k1] at e
    by_cases k2 : x4 < (Cn_nl x3)
    · rw [if_pos k2] at e
      by_cases k3 : (x1 + x4) < (S.1 (0, 0, 0) 2)
      · rw [if_pos k3] at e
        by_cases k4 : 0 ≤ (x1 + x4) ∧ (x1 + x4) < 200
        · rw [if_pos k4] at e
          by_cases k5 : 0 ≤ x4 ∧ x4 < (Cn_nl x3)
          · rw [if_pos k5] at e
            by_cases k6 : (S.1 (3, 0, 0) (x1 + x4)) = (S.1 (2, x3, 0) x4)
            · rw [if_pos k6] at e
              have e := Option.some.inj e; subst e
              dsimp only [Sum.elim_inl, go712_2] at hc
              simp -implicitDefEqProofs (disch := first | assumption | exact Nat.le_of_ble_eq_true rfl | decide) only [b712_0, g712_4, b712_4, g712_5, b712_5, pe_aload0, pe_getfield, pe_istore1, pe_istore2, pe_sipush, pe_istore3, pe_goto_w, pe_iload3, pe_arraylength, pe_icmp_ge, pe_istore4, pe_iload4, pe_aaload, pe_iload1, pe_iadd, pe_baload, pe_caload, pe_icmp_ne, pe_iinc4, pe_goto, pe_iload2, pe_call2, pm_af_ret, pm_af_void, pm_af_thr, pe_putfield, pe_iinc3, pm_prog_1, pm_ob_some, Nat.reduceDiv, Nat.reduceMod, Nat.reduceMul, Nat.reduceAdd, Int.reduceToNat, pm_kill_i, pm_kill_r, pm_kill_n, pm_kill_j, pm_kill_l, pm_kill_d, pm_cats_nil, pm_cats_i, pm_cats_r, pm_cats_n, pm_cats_l, pm_cats_d, sz_1, sz_2, sl_1, sl_2, lc_0, lc_lt, lc_le, li_ne, va_rf, wr_m1, we_m1, pm_kill_w, Int32.reduceOfInt, Int64.reduceOfInt, Int32.reduceOfNat, Int32.reduceLT, Int32.reduceLE, Prod.mk.injEq, Nat.reduceEqDiff, reduceCtorEq, and_true, true_and, and_false, false_and, and_self, ite_true, ite_false, ↓reduceIte, not_true_eq_false, not_false_eq_true, pe_ri, pe_rz, pe_rc, b710_0, pe_mkx, pe_areturn, w_junk hA, w_athrow hA, w_1, c710 (Cn_c0 hP hA), p_throw, t712, Cn_g0_0 hP hA, Cn_g0_1 hP hA, Cn_g0_2 hP hA, Cn_g0_3 hP hA, Cn_l1 hP hA, Cn_l2 hP hA, Cn_p0_3 hP hA, Cn_p0_4 hP hA, Cn_r1 hP hA, Cn_r2 hP hA, Cn_r3 hP hA, Cn_n0 hP , eq_true k2, eq_true k3, eq_true k6, hc]
            · rw [if_neg k6] at e
              have e := Option.some.inj e; subst e
              dsimp only [Sum.elim_inr, ex712_2] at hc
              simp -implicitDefEqProofs (disch := first | assumption | exact Nat.le_of_ble_eq_true rfl | decide) only [b712_0, g712_4, b712_4, g712_5, b712_5, pe_aload0, pe_getfield, pe_istore1, pe_istore2, pe_sipush, pe_istore3, pe_goto_w, pe_iload3, pe_arraylength, pe_icmp_ge, pe_istore4, pe_iload4, pe_aaload, pe_iload1, pe_iadd, pe_baload, pe_caload, pe_icmp_ne, pe_iinc4, pe_goto, pe_iload2, pe_call2, pm_af_ret, pm_af_void, pm_af_thr, pe_putfield, pe_iinc3, pm_prog_1, pm_ob_some, Nat.reduceDiv, Nat.reduceMod, Nat.reduceMul, Nat.reduceAdd, Int.reduceToNat, pm_kill_i, pm_kill_r, pm_kill_n, pm_kill_j, pm_kill_l, pm_kill_d, pm_cats_nil, pm_cats_i, pm_cats_r, pm_cats_n, pm_cats_l, pm_cats_d, sz_1, sz_2, sl_1, sl_2, lc_0, lc_lt, lc_le, li_ne, va_rf, wr_m1, we_m1, pm_kill_w, Int32.reduceOfInt, Int64.reduceOfInt, Int32.reduceOfNat, Int32.reduceLT, Int32.reduceLE, Prod.mk.injEq, Nat.reduceEqDiff, reduceCtorEq, and_true, true_and, and_false, false_and, and_self, ite_true, ite_false, ↓reduceIte, not_true_eq_false, not_false_eq_true, pe_ri, pe_rz, pe_rc, b710_0, pe_mkx, pe_areturn, w_junk hA, w_athrow hA, w_1, c710 (Cn_c0 hP hA), p_throw, t712, Cn_g0_0 hP hA, Cn_g0_1 hP hA, Cn_g0_2 hP hA, Cn_g0_3 hP hA, Cn_l1 hP hA, Cn_l2 hP hA, Cn_p0_3 hP hA, Cn_p0_4 hP hA, Cn_r1 hP hA, Cn_r2 hP hA, Cn_r3 hP hA, Cn_n0 hP , eq_true k2, eq_true k3, eq_false k6, hc]
          · rw [if_neg k5] at e; cases e
        · rw [if_neg k4] at e; cases e
      · rw [if_neg k3] at e
        have e := Option.some.inj e; subst e
        dsimp only [Sum.elim_inr, ex712_2] at hc
        simp -implicitDefEqProofs (disch := first | assumption | exact Nat.le_of_ble_eq_true rfl | decide) only [b712_0, g712_4, b712_4, g712_5, b712_5, pe_aload0, pe_getfield, pe_istore1, pe_istore2, pe_sipush, pe_istore3, pe_goto_w, pe_iload3, pe_arraylength, pe_icmp_ge, pe_istore4, pe_iload4, pe_aaload, pe_iload1, pe_iadd, pe_baload, pe_caload, pe_icmp_ne, pe_iinc4, pe_goto, pe_iload2, pe_call2, pm_af_ret, pm_af_void, pm_af_thr, pe_putfield, pe_iinc3, pm_prog_1, pm_ob_some, Nat.reduceDiv, Nat.reduceMod, Nat.reduceMul, Nat.reduceAdd, Int.reduceToNat, pm_kill_i, pm_kill_r, pm_kill_n, pm_kill_j, pm_kill_l, pm_kill_d, pm_cats_nil, pm_cats_i, pm_cats_r, pm_cats_n, pm_cats_l, pm_cats_d, sz_1, sz_2, sl_1, sl_2, lc_0, lc_lt, lc_le, li_ne, va_rf, wr_m1, we_m1, pm_kill_w, Int32.reduceOfInt, Int64.reduceOfInt, Int32.reduceOfNat, Int32.reduceLT, Int32.reduceLE, Prod.mk.injEq, Nat.reduceEqDiff, reduceCtorEq, and_true, true_and, and_false, false_and, and_self, ite_true, ite_false, ↓reduceIte, not_true_eq_false, not_false_eq_true, pe_ri, pe_rz, pe_rc, b710_0, pe_mkx, pe_areturn, w_junk hA, w_athrow hA, w_1, c710 (Cn_c0 hP hA), p_throw, t712, Cn_g0_0 hP hA, Cn_g0_1 hP hA, Cn_g0_2 hP hA, Cn_g0_3 hP hA, Cn_l1 hP hA, Cn_l2 hP hA, Cn_p0_3 hP hA, Cn_p0_4 hP hA, Cn_r1 hP hA, Cn_r2 hP hA, Cn_r3 hP hA, Cn_n0 hP , eq_true k2, eq_false k3, hc]
    · rw [if_neg k2] at e
      have e := Option.some.inj e; subst e
      dsimp only [Sum.elim_inr, ex712_2] at hc
      simp -implicitDefEqProofs (disch := first | assumption | exact Nat.le_of_ble_eq_true rfl | decide) only [b712_0, g712_4, b712_4, g712_5, b712_5, pe_aload0, pe_getfield, pe_istore1, pe_istore2, pe_sipush, pe_istore3, pe_goto_w, pe_iload3, pe_arraylength, pe_icmp_ge, pe_istore4, pe_iload4, pe_aaload, pe_iload1, pe_iadd, pe_baload, pe_caload, pe_icmp_ne, pe_iinc4, pe_goto, pe_iload2, pe_call2, pm_af_ret, pm_af_void, pm_af_thr, pe_putfield, pe_iinc3, pm_prog_1, pm_ob_some, Nat.reduceDiv, Nat.reduceMod, Nat.reduceMul, Nat.reduceAdd, Int.reduceToNat, pm_kill_i, pm_kill_r, pm_kill_n, pm_kill_j, pm_kill_l, pm_kill_d, pm_cats_nil, pm_cats_i, pm_cats_r, pm_cats_n, pm_cats_l, pm_cats_d, sz_1, sz_2, sl_1, sl_2, lc_0, lc_lt, lc_le, li_ne, va_rf, wr_m1, we_m1, pm_kill_w, Int32.reduceOfInt, Int64.reduceOfInt, Int32.reduceOfNat, Int32.reduceLT, Int32.reduceLE, Prod.mk.injEq, Nat.reduceEqDiff, reduceCtorEq, and_true, true_and, and_false, false_and, and_self, ite_true, ite_false, ↓reduceIte, not_true_eq_false, not_false_eq_true, pe_ri, pe_rz, pe_rc, b710_0, pe_mkx, pe_areturn, w_junk hA, w_athrow hA, w_1, c710 (Cn_c0 hP hA), p_throw, t712, Cn_g0_0 hP hA, Cn_g0_1 hP hA, Cn_g0_2 hP hA, Cn_g0_3 hP hA, Cn_l1 hP hA, Cn_l2 hP hA, Cn_p0_3 hP hA, Cn_p0_4 hP hA, Cn_r1 hP hA, Cn_r2 hP hA, Cn_r3 hP hA, Cn_n0 hP , eq_false k2, hc]
  · rw [if_neg k1] at e; cases e
theorem z712_2 {mc : Int32} {A : wK → Nat} {h : pm_H} {D : Nat} {R : Outcome × pm_H} {S : wS} (hP : Cn_P mc) (hA : wok A (Cn_d mc) h.1) (hL : A (90, 0, 0) = 1) (hD : 1 ≤ D) {n : Nat} {a : Int32 × Int32 × Int32 × Int32} {b : (Int32 × Int32 × Int32 × Int32)} (e : lp (f712_b2 mc S) n a = some b) (hx : ex712_2 mc A h D R S b) : go712_2 mc A h D R S a := lp_run (fun a r => y712_b2 hP hA hL hD a r) n a b e hx
def go712_1 (mc : Int32) (A : wK → Nat) (h : pm_H) (D : Nat) (R : Outcome × pm_H) : Int32 × Int32 × Int32 × wS → Prop := fun (x1, x2, x3, S) => ∀ q4 : Value, pm_go pm_prog (pm_call pm_prog D) 712 1 [.ref (A (0, 0, 0)), .int x1, .int x2, .int x3, q4] [] (wput A (Cn_d mc) S h) = some R
def ex712_1 (mc : Int32) (A : wK → Nat) (h : pm_H) (D : Nat) (R : Outcome × pm_H) : (Int32 × wS) ⊕ (Int32 × wS) → Prop := fun b => match b with
  | (.inl (xr0, S)) => some (Outcome.returned (some (.int xr0)), (wput A (Cn_d mc) S h)) = some R
  | (.inr ((x2, S))) => ∀ q1 q3 q4 : Value, pm_go pm_prog (pm_call pm_prog D) 712 5 [.ref (A (0, 0, 0)), q1, .int x2, q3, q4] [] (wput A (Cn_d mc) S h) = some R
theorem y712_3_1 {mc : Int32} {A : wK → Nat} {h : pm_H} {D : Nat} {R : Outcome × pm_H} {S : wS} {x1 : Int32} {x2 : Int32} {x3 : Int32} {x4 : Int32} {r : (Int32 × Int32 × Int32 × wS) ⊕ ((Int32 × wS) ⊕ (Int32 × wS))} (hP : Cn_P mc) (hA : wok A (Cn_d mc) h.1) (hL : A (90, 0, 0) = 1) (hD : 1 ≤ D) (e : f712_3_1 mc S x1 x2 x3 x4 = some r) (hc : Sum.elim (go712_1 mc A h D R) (ex712_1 mc A h D R) r) : pm_go pm_prog (pm_call pm_prog D) 712 3 [.ref (A (0, 0, 0)), .int x1, .int x2, .int x3, .int x4] [] (wput A (Cn_d mc) S h) = some R := by
  obtain ⟨D, rfl⟩ : ∃ D', D = D' + 1 := ⟨D - 1, by omega⟩
  simp only [f712_3_1] at e
  rw [g712_3, b712_3]
  obtain ⟨v6, k1, e⟩ := Option.bind_eq_some_iff.mp e
  try dsimp only at e
  have z1 := fun h => x3841 (D := D + 1) (h := h) (by omega) k1
  by_cases k2 : 0 ≤ x3 ∧ x3 < 7
  · rw [if_pos k2] at e
    by_cases k3 : x4 = (Cn_nl x3)
    · rw [if_pos k3] at e
      have e := Option.some.inj e; subst e
      dsimp only [Sum.elim_inr, ex712_1] at hc
      have hc := Option.some.inj hc; subst hc
      simp -implicitDefEqProofs (disch := first | assumption | exact Nat.le_of_ble_eq_true rfl | decide) only [b712_0, g712_4, b712_4, g712_5, b712_5, pe_aload0, pe_getfield, pe_istore1, pe_istore2, pe_sipush, pe_istore3, pe_goto_w, pe_iload3, pe_arraylength, pe_icmp_ge, pe_istore4, pe_iload4, pe_aaload, pe_iload1, pe_iadd, pe_baload, pe_caload, pe_icmp_ne, pe_iinc4, pe_goto, pe_iload2, pe_call2, pm_af_ret, pm_af_void, pm_af_thr, pe_putfield, pe_iinc3, pm_prog_1, pm_ob_some, Nat.reduceDiv, Nat.reduceMod, Nat.reduceMul, Nat.reduceAdd, Int.reduceToNat, pm_kill_i, pm_kill_r, pm_kill_n, pm_kill_j, pm_kill_l, pm_kill_d, pm_cats_nil, pm_cats_i, pm_cats_r, pm_cats_n, pm_cats_l, pm_cats_d, sz_1, sz_2, sl_1, sl_2, lc_0, lc_lt, lc_le, li_ne, va_rf, wr_m1, we_m1, pm_kill_w, Int32.reduceOfInt, Int64.reduceOfInt, Int32.reduceOfNat, Int32.reduceLT, Int32.reduceLE, Prod.mk.injEq, Nat.reduceEqDiff, reduceCtorEq, and_true, true_and, and_false, false_and, and_self, ite_true, ite_false, ↓reduceIte, not_true_eq_false, not_false_eq_true, pe_ri, pe_rz, pe_rc, b710_0, pe_mkx, pe_areturn, w_junk hA, w_athrow hA, w_1, c710 (Cn_c0 hP hA), p_throw, t712, Cn_g0_0 hP hA, Cn_g0_1 hP hA, Cn_g0_2 hP hA, Cn_g0_3 hP hA, Cn_l1 hP hA, Cn_l2 hP hA, Cn_p0_3 hP hA, Cn_p0_4 hP hA, Cn_r1 hP hA, Cn_r2 hP hA, Cn_r3 hP hA, Cn_n0 hP , z1, eq_true k3]
    · rw [if_neg k3] at e
      have e := Option.some.inj e; subst e
      dsimp only [Sum.elim_inl, go712_1] at hc
      simp -implicitDefEqProofs (disch := first | assumption | exact Nat.le_of_ble_eq_true rfl | decide) only [b712_0, g712_4, b712_4, g712_5, b712_5, pe_aload0, pe_getfield, pe_istore1, pe_istore2, pe_sipush, pe_istore3, pe_goto_w, pe_iload3, pe_arraylength, pe_icmp_ge, pe_istore4, pe_iload4, pe_aaload, pe_iload1, pe_iadd, pe_baload, pe_caload, pe_icmp_ne, pe_iinc4, pe_goto, pe_iload2, pe_call2, pm_af_ret, pm_af_void, pm_af_thr, pe_putfield, pe_iinc3, pm_prog_1, pm_ob_some, Nat.reduceDiv, Nat.reduceMod, Nat.reduceMul, Nat.reduceAdd, Int.reduceToNat, pm_kill_i, pm_kill_r, pm_kill_n, pm_kill_j, pm_kill_l, pm_kill_d, pm_cats_nil, pm_cats_i, pm_cats_r, pm_cats_n, pm_cats_l, pm_cats_d, sz_1, sz_2, sl_1, sl_2, lc_0, lc_lt, lc_le, li_ne, va_rf, wr_m1, we_m1, pm_kill_w, Int32.reduceOfInt, Int64.reduceOfInt, Int32.reduceOfNat, Int32.reduceLT, Int32.reduceLE, Prod.mk.injEq, Nat.reduceEqDiff, reduceCtorEq, and_true, true_and, and_false, false_and, and_self, ite_true, ite_false, ↓reduceIte, not_true_eq_false, not_false_eq_true, pe_ri, pe_rz, pe_rc, b710_0, pe_mkx, pe_areturn, w_junk hA, w_athrow hA, w_1, c710 (Cn_c0 hP hA), p_throw, t712, Cn_g0_0 hP hA, Cn_g0_1 hP hA, Cn_g0_2 hP hA, Cn_g0_3 hP hA, Cn_l1 hP hA, Cn_l2 hP hA, Cn_p0_3 hP hA, Cn_p0_4 hP hA, Cn_r1 hP hA, Cn_r2 hP hA, Cn_r3 hP hA, Cn_n0 hP , z1, eq_false k3, hc]
  · rw [if_neg k2] at e; cases e
theorem y712_b1 {mc : Int32} {A : wK → Nat} {h : pm_H} {D : Nat} {R : Outcome × pm_H} (hP : Cn_P mc) (hA : wok A (Cn_d mc) h.1) (hL : A (90, 0, 0) = 1) (hD : 1 ≤ D) (a : Int32 × Int32 × Int32 × wS) (r : (Int32 × Int32 × Int32 × wS) ⊕ ((Int32 × wS) ⊕ (Int32 × wS))) (e : f712_b1 mc a = some r) (hc : Sum.elim (go712_1 mc A h D R) (ex712_1 mc A h D R) r) : go712_1 mc A h D R a := by
  obtain ⟨x1, x2, x3, S⟩ := a
  dsimp only [go712_1]
  intro q4
  obtain ⟨D, rfl⟩ : ∃ D', D = D' + 1 := ⟨D - 1, by omega⟩
  simp only [f712_b1] at e
  rw [g712_1, b712_1]
  by_cases k1 : x3 < 7
  · rw [if_pos k1] at e
    obtain ⟨⟨v2, v3, v4, v5⟩, k2, e⟩ := Option.bind_eq_some_iff.mp e
    try dsimp only at e
    try simp -implicitDefEqProofs (disch := first | assumption | exact Nat.le_of_ble_eq_true rfl | decide) only [b712_0, g712_4, b712_4, g712_5, b712_5, pe_aload0, pe_getfield, pe_istore1, pe_istore2, pe_sipush, pe_istore3, pe_goto_w, pe_iload3, pe_arraylength, pe_icmp_ge, pe_istore4, pe_iload4, pe_aaload, pe_iload1, pe_iadd, pe_baload, pe_caload, pe_icmp_ne, pe_iinc4, pe_goto, pe_iload2, pe_call2, pm_af_ret, pm_af_void, pm_af_thr, pe_putfield, pe_iinc3, pm_prog_1, pm_ob_some, Nat.reduceDiv, Nat.reduceMod, Nat.reduceMul, Nat.reduceAdd, Int.reduceToNat, pm_kill_i, pm_kill_r, pm_kill_n, pm_kill_j, pm_kill_l, pm_kill_d, pm_cats_nil, pm_cats_i, pm_cats_r, pm_cats_n, pm_cats_l, pm_cats_d, sz_1, sz_2, sl_1, sl_2, lc_0, lc_lt, lc_le, li_ne, va_rf, wr_m1, we_m1, pm_kill_w, Int32.reduceOfInt, Int64.reduceOfInt, Int32.reduceOfNat, Int32.reduceLT, Int32.reduceLE, Prod.mk.injEq, Nat.reduceEqDiff, reduceCtorEq, and_true, true_and, and_false, false_and, and_self, ite_true, ite_false, ↓reduceIte, not_true_eq_false, not_false_eq_true, pe_ri, pe_rz, pe_rc, b710_0, pe_mkx, pe_areturn, w_junk hA, w_athrow hA, w_1, c710 (Cn_c0 hP hA), p_throw, t712, Cn_g0_0 hP hA, Cn_g0_1 hP hA, Cn_g0_2 hP hA, Cn_g0_3 hP hA, Cn_l1 hP hA, Cn_l2 hP hA, Cn_p0_3 hP hA, Cn_p0_4 hP hA, Cn_r1 hP hA, Cn_r2 hP hA, Cn_r3 hP hA, Cn_n0 hP , eq_true k1]
    refine z712_2 hP hA hL hD k2 ?_
    dsimp only [ex712_2]
    have k3 := y712_3_1 (h := h) hP hA hL hD e hc
    simp -implicitDefEqProofs (disch := first | assumption | exact Nat.le_of_ble_eq_true rfl | decide) only [b712_0, g712_4, b712_4, g712_5, b712_5, pe_aload0, pe_getfield, pe_istore1, pe_istore2, pe_sipush, pe_istore3, pe_goto_w, pe_iload3, pe_arraylength, pe_icmp_ge, pe_istore4, pe_iload4, pe_aaload, pe_iload1, pe_iadd, pe_baload, pe_caload, pe_icmp_ne, pe_iinc4, pe_goto, pe_iload2, pe_call2, pm_af_ret, pm_af_void, pm_af_thr, pe_putfield, pe_iinc3, pm_prog_1, pm_ob_some, Nat.reduceDiv, Nat.reduceMod, Nat.reduceMul, Nat.reduceAdd, Int.reduceToNat, pm_kill_i, pm_kill_r, pm_kill_n, pm_kill_j, pm_kill_l, pm_kill_d, pm_cats_nil, pm_cats_i, pm_cats_r, pm_cats_n, pm_cats_l, pm_cats_d, sz_1, sz_2, sl_1, sl_2, lc_0, lc_lt, lc_le, li_ne, va_rf, wr_m1, we_m1, pm_kill_w, Int32.reduceOfInt, Int64.reduceOfInt, Int32.reduceOfNat, Int32.reduceLT, Int32.reduceLE, Prod.mk.injEq, Nat.reduceEqDiff, reduceCtorEq, and_true, true_and, and_false, false_and, and_self, ite_true, ite_false, ↓reduceIte, not_true_eq_false, not_false_eq_true, pe_ri, pe_rz, pe_rc, b710_0, pe_mkx, pe_areturn, w_junk hA, w_athrow hA, w_1, c710 (Cn_c0 hP hA), p_throw, t712, Cn_g0_0 hP hA, Cn_g0_1 hP hA, Cn_g0_2 hP hA, Cn_g0_3 hP hA, Cn_l1 hP hA, Cn_l2 hP hA, Cn_p0_3 hP hA, Cn_p0_4 hP hA, Cn_r1 hP hA, Cn_r2 hP hA, Cn_r3 hP hA, Cn_n0 hP , eq_true k1, k3]
  · rw [if_neg k1] at e
    have e := Option.some.inj e; subst e
    dsimp only [Sum.elim_inr, ex712_1] at hc
    simp -implicitDefEqProofs (disch := first | assumption | exact Nat.le_of_ble_eq_true rfl | decide) only [b712_0, g712_4, b712_4, g712_5, b712_5, pe_aload0, pe_getfield, pe_istore1, pe_istore2, pe_sipush, pe_istore3, pe_goto_w, pe_iload3, pe_arraylength, pe_icmp_ge, pe_istore4, pe_iload4, pe_aaload, pe_iload1, pe_iadd, pe_baload, pe_caload, pe_icmp_ne, pe_iinc4, pe_goto, pe_iload2, pe_call2, pm_af_ret, pm_af_void, pm_af_thr, pe_putfield, pe_iinc3, pm_prog_1, pm_ob_some, Nat.reduceDiv, Nat.reduceMod, Nat.reduceMul, Nat.reduceAdd, Int.reduceToNat, pm_kill_i, pm_kill_r, pm_kill_n, pm_kill_j, pm_kill_l, pm_kill_d, pm_cats_nil, pm_cats_i, pm_cats_r, pm_cats_n, pm_cats_l, pm_cats_d, sz_1, sz_2, sl_1, sl_2, lc_0, lc_lt, lc_le, li_ne, va_rf, wr_m1, we_m1, pm_kill_w, Int32.reduceOfInt, Int64.reduceOfInt, Int32.reduceOfNat, Int32.reduceLT, Int32.reduceLE, Prod.mk.injEq, Nat.reduceEqDiff, reduceCtorEq, and_true, true_and, and_false, false_and, and_self, ite_true, ite_false, ↓reduceIte, not_true_eq_false, not_false_eq_true, pe_ri, pe_rz, pe_rc, b710_0, pe_mkx, pe_areturn, w_junk hA, w_athrow hA, w_1, c710 (Cn_c0 hP hA), p_throw, t712, Cn_g0_0 hP hA, Cn_g0_1 hP hA, Cn_g0_2 hP hA, Cn_g0_3 hP hA, Cn_l1 hP hA, Cn_l2 hP hA, Cn_p0_3 hP hA, Cn_p0_4 hP hA, Cn_r1 hP hA, Cn_r2 hP hA, Cn_r3 hP hA, Cn_n0 hP , eq_false k1, hc]
theorem z712_1 {mc : Int32} {A : wK → Nat} {h : pm_H} {D : Nat} {R : Outcome × pm_H} (hP : Cn_P mc) (hA : wok A (Cn_d mc) h.1) (hL : A (90, 0, 0) = 1) (hD : 1 ≤ D) {n : Nat} {a : Int32 × Int32 × Int32 × wS} {b : (Int32 × wS) ⊕ (Int32 × wS)} (e : lp (f712_b1 mc) n a = some b) (hx : ex712_1 mc A h D R b) : go712_1 mc A h D R a := lp_run (fun a r => y712_b1 hP hA hL hD a r) n a b e hx
theorem x712 {mc : Int32} {A : wK → Nat} {h : pm_H} {D : Nat} {S : wS} {r : (Nat × wS) ⊕ (Int32 × wS)} (hP : Cn_P mc) (hA : wok A (Cn_d mc) h.1) (hL : A (90, 0, 0) = 1) (hD : 2 ≤ D) (e : f712 mc S = some r) : pm_call pm_prog D 712 [.ref (A (0, 0, 0))] (wput A (Cn_d mc) S h) = some (match (generalizing := false) r with | .inl (c, S1) => (Outcome.threw c, (wput A (Cn_d mc) S1 (pm_new h 6 (.inr (c, []))))) | .inr (w0, S1) => (Outcome.returned (some (.int w0)), (wput A (Cn_d mc) S1 h))) := by
  obtain ⟨D, rfl⟩ : ∃ D', D = D' + 1 := ⟨D - 1, by omega⟩
  have hD : 1 ≤ D := by omega
  obtain ⟨D, rfl⟩ : ∃ D', D = D' + 1 := ⟨D - 1, by omega⟩
  simp only [f712] at e
  rw [c712 (Cn_c0 hP hA), b712_0]
  obtain ⟨b, k1, e⟩ := Option.bind_eq_some_iff.mp e
  rcases b with ⟨v8, S7⟩ | ⟨v11, S9⟩
  ·
    try dsimp only at e
    try simp -implicitDefEqProofs (disch := first | assumption | exact Nat.le_of_ble_eq_true rfl | decide) only [b712_0, g712_4, b712_4, g712_5, b712_5, pe_aload0, pe_getfield, pe_istore1, pe_istore2, pe_sipush, pe_istore3, pe_goto_w, pe_iload3, pe_arraylength, pe_icmp_ge, pe_istore4, pe_iload4, pe_aaload, pe_iload1, pe_iadd, pe_baload, pe_caload, pe_icmp_ne, pe_iinc4, pe_goto, pe_iload2, pe_call2, pm_af_ret, pm_af_void, pm_af_thr, pe_putfield, pe_iinc3, pm_prog_1, pm_ob_some, Nat.reduceDiv, Nat.reduceMod, Nat.reduceMul, Nat.reduceAdd, Int.reduceToNat, pm_kill_i, pm_kill_r, pm_kill_n, pm_kill_j, pm_kill_l, pm_kill_d, pm_cats_nil, pm_cats_i, pm_cats_r, pm_cats_n, pm_cats_l, pm_cats_d, sz_1, sz_2, sl_1, sl_2, lc_0, lc_lt, lc_le, li_ne, va_rf, wr_m1, we_m1, pm_kill_w, Int32.reduceOfInt, Int64.reduceOfInt, Int32.reduceOfNat, Int32.reduceLT, Int32.reduceLE, Prod.mk.injEq, Nat.reduceEqDiff, reduceCtorEq, and_true, true_and, and_false, false_and, and_self, ite_true, ite_false, ↓reduceIte, not_true_eq_false, not_false_eq_true, pe_ri, pe_rz, pe_rc, b710_0, pe_mkx, pe_areturn, w_junk hA, w_athrow hA, w_1, c710 (Cn_c0 hP hA), p_throw, t712, Cn_g0_0 hP hA, Cn_g0_1 hP hA, Cn_g0_2 hP hA, Cn_g0_3 hP hA, Cn_l1 hP hA, Cn_l2 hP hA, Cn_p0_3 hP hA, Cn_p0_4 hP hA, Cn_r1 hP hA, Cn_r2 hP hA, Cn_r3 hP hA, Cn_n0 hP ]
    refine z712_1 hP hA hL hD k1 ?_ _
    dsimp only [ex712_1]
    have e := Option.some.inj e; subst e
    simp -implicitDefEqProofs (disch := first | assumption | exact Nat.le_of_ble_eq_true rfl | decide) only [b712_0, g712_4, b712_4, g712_5, b712_5, pe_aload0, pe_getfield, pe_istore1, pe_istore2, pe_sipush, pe_istore3, pe_goto_w, pe_iload3, pe_arraylength, pe_icmp_ge, pe_istore4, pe_iload4, pe_aaload, pe_iload1, pe_iadd, pe_baload, pe_caload, pe_icmp_ne, pe_iinc4, pe_goto, pe_iload2, pe_call2, pm_af_ret, pm_af_void, pm_af_thr, pe_putfield, pe_iinc3, pm_prog_1, pm_ob_some, Nat.reduceDiv, Nat.reduceMod, Nat.reduceMul, Nat.reduceAdd, Int.reduceToNat, pm_kill_i, pm_kill_r, pm_kill_n, pm_kill_j, pm_kill_l, pm_kill_d, pm_cats_nil, pm_cats_i, pm_cats_r, pm_cats_n, pm_cats_l, pm_cats_d, sz_1, sz_2, sl_1, sl_2, lc_0, lc_lt, lc_le, li_ne, va_rf, wr_m1, we_m1, pm_kill_w, Int32.reduceOfInt, Int64.reduceOfInt, Int32.reduceOfNat, Int32.reduceLT, Int32.reduceLE, Prod.mk.injEq, Nat.reduceEqDiff, reduceCtorEq, and_true, true_and, and_false, false_and, and_self, ite_true, ite_false, ↓reduceIte, not_true_eq_false, not_false_eq_true, pe_ri, pe_rz, pe_rc, b710_0, pe_mkx, pe_areturn, w_junk hA, w_athrow hA, w_1, c710 (Cn_c0 hP hA), p_throw, t712, Cn_g0_0 hP hA, Cn_g0_1 hP hA, Cn_g0_2 hP hA, Cn_g0_3 hP hA, Cn_l1 hP hA, Cn_l2 hP hA, Cn_p0_3 hP hA, Cn_p0_4 hP hA, Cn_r1 hP hA, Cn_r2 hP hA, Cn_r3 hP hA, Cn_n0 hP ]
  ·
    try dsimp only at e
    try simp -implicitDefEqProofs (disch := first | assumption | exact Nat.le_of_ble_eq_true rfl | decide) only [b712_0, g712_4, b712_4, g712_5, b712_5, pe_aload0, pe_getfield, pe_istore1, pe_istore2, pe_sipush, pe_istore3, pe_goto_w, pe_iload3, pe_arraylength, pe_icmp_ge, pe_istore4, pe_iload4, pe_aaload, pe_iload1, pe_iadd, pe_baload, pe_caload, pe_icmp_ne, pe_iinc4, pe_goto, pe_iload2, pe_call2, pm_af_ret, pm_af_void, pm_af_thr, pe_putfield, pe_iinc3, pm_prog_1, pm_ob_some, Nat.reduceDiv, Nat.reduceMod, Nat.reduceMul, Nat.reduceAdd, Int.reduceToNat, pm_kill_i, pm_kill_r, pm_kill_n, pm_kill_j, pm_kill_l, pm_kill_d, pm_cats_nil, pm_cats_i, pm_cats_r, pm_cats_n, pm_cats_l, pm_cats_d, sz_1, sz_2, sl_1, sl_2, lc_0, lc_lt, lc_le, li_ne, va_rf, wr_m1, we_m1, pm_kill_w, Int32.reduceOfInt, Int64.reduceOfInt, Int32.reduceOfNat, Int32.reduceLT, Int32.reduceLE, Prod.mk.injEq, Nat.reduceEqDiff, reduceCtorEq, and_true, true_and, and_false, false_and, and_self, ite_true, ite_false, ↓reduceIte, not_true_eq_false, not_false_eq_true, pe_ri, pe_rz, pe_rc, b710_0, pe_mkx, pe_areturn, w_junk hA, w_athrow hA, w_1, c710 (Cn_c0 hP hA), p_throw, t712, Cn_g0_0 hP hA, Cn_g0_1 hP hA, Cn_g0_2 hP hA, Cn_g0_3 hP hA, Cn_l1 hP hA, Cn_l2 hP hA, Cn_p0_3 hP hA, Cn_p0_4 hP hA, Cn_r1 hP hA, Cn_r2 hP hA, Cn_r3 hP hA, Cn_n0 hP ]
    refine z712_1 hP hA hL hD k1 ?_ _
    dsimp only [ex712_1]
    intro q1 q3 q4
    have e := Option.some.inj e; subst e
    simp -implicitDefEqProofs (disch := first | assumption | exact Nat.le_of_ble_eq_true rfl | decide) only [b712_0, g712_4, b712_4, g712_5, b712_5, pe_aload0, pe_getfield, pe_istore1, pe_istore2, pe_sipush, pe_istore3, pe_goto_w, pe_iload3, pe_arraylength, pe_icmp_ge, pe_istore4, pe_iload4, pe_aaload, pe_iload1, pe_iadd, pe_baload, pe_caload, pe_icmp_ne, pe_iinc4, pe_goto, pe_iload2, pe_call2, pm_af_ret, pm_af_void, pm_af_thr, pe_putfield, pe_iinc3, pm_prog_1, pm_ob_some, Nat.reduceDiv, Nat.reduceMod, Nat.reduceMul, Nat.reduceAdd, Int.reduceToNat, pm_kill_i, pm_kill_r, pm_kill_n, pm_kill_j, pm_kill_l, pm_kill_d, pm_cats_nil, pm_cats_i, pm_cats_r, pm_cats_n, pm_cats_l, pm_cats_d, sz_1, sz_2, sl_1, sl_2, lc_0, lc_lt, lc_le, li_ne, va_rf, wr_m1, we_m1, pm_kill_w, Int32.reduceOfInt, Int64.reduceOfInt, Int32.reduceOfNat, Int32.reduceLT, Int32.reduceLE, Prod.mk.injEq, Nat.reduceEqDiff, reduceCtorEq, and_true, true_and, and_false, false_and, and_self, ite_true, ite_false, ↓reduceIte, not_true_eq_false, not_false_eq_true, pe_ri, pe_rz, pe_rc, b710_0, pe_mkx, pe_areturn, w_junk hA, w_athrow hA, w_1, c710 (Cn_c0 hP hA), p_throw, t712, Cn_g0_0 hP hA, Cn_g0_1 hP hA, Cn_g0_2 hP hA, Cn_g0_3 hP hA, Cn_l1 hP hA, Cn_l2 hP hA, Cn_p0_3 hP hA, Cn_p0_4 hP hA, Cn_r1 hP hA, Cn_r2 hP hA, Cn_r3 hP hA, Cn_n0 hP ]
/-- TimberHouse$NailRules.number()I -/
theorem c713 {d : Nat} {h : pm_H} {a : Nat} (hc : pm_cls h a = some 11) : pm_call pm_prog (d + 1) 713 [.ref a] h = pm_ev pm_prog (pm_call pm_prog d) 713 0 b713_0 [.ref a, pm_junk, pm_junk] [] h := pm_cal (pm_rc1 hc rfl) rfl rfl rfl
theorem g713_1 {cl : pm_C} {ls st : List Value} {h : pm_H} : pm_go pm_prog cl 713 1 ls st h = pm_ev pm_prog cl 713 1 b713_1 ls st h := pm_go_eq pm_prog cl 713 1 ls st h
theorem g713_2 {cl : pm_C} {ls st : List Value} {h : pm_H} : pm_go pm_prog cl 713 2 ls st h = pm_ev pm_prog cl 713 2 b713_2 ls st h := pm_go_eq pm_prog cl 713 2 ls st h
theorem g713_3 {cl : pm_C} {ls st : List Value} {h : pm_H} : pm_go pm_prog cl 713 3 ls st h = pm_ev pm_prog cl 713 3 b713_3 ls st h := pm_go_eq pm_prog cl 713 3 ls st h
theorem g713_4 {cl : pm_C} {ls st : List Value} {h : pm_H} : pm_go pm_prog cl 713 4 ls st h = pm_ev pm_prog cl 713 4 b713_4 ls st h := pm_go_eq pm_prog cl 713 4 ls st h
theorem t713 {cl : pm_C} {j : Nat} {ls : List Value} {c : Nat} {h : pm_H} : pm_thr pm_prog cl 713 j ls c h = some (.threw c, h) := rfl
noncomputable def f713_b1 (mc : Int32) : Int32 × Int32 × wS → Option ((Int32 × Int32 × wS) ⊕ ((Int32 × Int32 × wS))) := fun (x1, x2, S) =>
  if (S.1 (0, 0, 0) 3) < (x1 + 4) then
    (f709 mc S).bind fun v1 =>
    if v1 < 48 then
      some (.inr (x1, x2, S))
    else
      if v1 ≤ 57 then
        some (.inl (x1, (((10 * x2) + v1) - 48), (sz S (0, 0, 0) 3 ((S.1 (0, 0, 0) 3) + 1))))
      else
        some (.inr (x1, x2, S))
  else
    some (.inr (x1, x2, S))
noncomputable def f713_3 (mc : Int32) (S : wS) (x1 : Int32) : Option ((Nat × wS) ⊕ (Int32 × wS)) :=
  some (.inl (71, (sz S (0, 0, 0) 4 x1)))
noncomputable def f713_2 (mc : Int32) (S : wS) (x1 : Int32) (x2 : Int32) : Option ((Nat × wS) ⊕ (Int32 × wS)) :=
  if (S.1 (0, 0, 0) 3) = x1 then
    f713_3 mc S x1
  else
    if x2 = 0 then
      f713_3 mc S x1
    else
      some (.inr (x2, S))
/-- TimberHouse$NailRules.number()I -/
noncomputable def f713 (mc : Int32) (S : wS) : Option ((Nat × wS) ⊕ (Int32 × wS)) :=
  (lp (f713_b1 mc) FU ((S.1 (0, 0, 0) 3), 0, S)).bind fun (v4, v5, S2) =>
  f713_2 mc S2 v4 v5
def go713_1 (mc : Int32) (A : wK → Nat) (h : pm_H) (D : Nat) (R : Outcome × pm_H) : Int32 × Int32 × wS → Prop := fun (x1, x2, S) => pm_go pm_prog (pm_call pm_prog D) 713 1 [.ref (A (0, 0, 0)), .int x1, .int x2] [] (wput A (Cn_d mc) S h) = some R
def ex713_1 (mc : Int32) (A : wK → Nat) (h : pm_H) (D : Nat) (R : Outcome × pm_H) : (Int32 × Int32 × wS) → Prop := fun (x1, x2, S) => pm_go pm_prog (pm_call pm_prog D) 713 2 [.ref (A (0, 0, 0)), .int x1, .int x2] [] (wput A (Cn_d mc) S h) = some R
theorem y713_b1 {mc : Int32} {A : wK → Nat} {h : pm_H} {D : Nat} {R : Outcome × pm_H} (hP : Cn_P mc) (hA : wok A (Cn_d mc) h.1) (hL : A (90, 0, 0) = 1) (hD : 1 ≤ D) (a : Int32 × Int32 × wS) (r : (Int32 × Int32 × wS) ⊕ ((Int32 × Int32 × wS))) (e : f713_b1 mc a = some r) (hc : Sum.elim (go713_1 mc A h D R) (ex713_1 mc A h D R) r) : go713_1 mc A h D R a := by
  obtain ⟨x1, x2, S⟩ := a
  dsimp only [go713_1]
  obtain ⟨D, rfl⟩ : ∃ D', D = D' + 1 := ⟨D - 1, by omega⟩
  simp only [f713_b1] at e
  rw [g713_1, b713_1]
  by_cases k1 : (S.1 (0, 0, 0) 3) < (x1 + 4)
  · rw [if_pos k1] at e
    obtain ⟨v1, k2, e⟩ := Option.bind_eq_some_iff.mp e
    try dsimp only at e
    have z2 := x709 (D := D + 1) (h := h) hP hA hL (by omega) k2
    by_cases k3 : v1 < 48
    · rw [if_pos k3] at e
      have e := Option.some.inj e; subst e
      dsimp only [Sum.elim_inr, ex713_1] at hc
      simp -implicitDefEqProofs (disch := first | assumption | exact Nat.le_of_ble_eq_true rfl | decide) only [b713_0, g713_4, b713_4, pe_aload0, pe_getfield, pe_istore1, pe_sipush, pe_istore2, pe_goto_w, pe_iload1, pe_iadd, pe_icmp_ge, pe_call1, pm_af_ret, pm_af_void, pm_af_thr, pe_icmp_lt, pe_icmp_gt, pe_iload2, pe_imul, pe_isub, pe_dup_i, pe_dup_r, pe_putfield, pe_goto, pe_icmp_eq, pe_if_ne, pe_call2, pm_prog_1, pm_ob_some, Nat.reduceDiv, Nat.reduceMod, Nat.reduceMul, Nat.reduceAdd, Int.reduceToNat, pm_kill_i, pm_kill_r, pm_kill_n, pm_kill_j, pm_kill_l, pm_kill_d, pm_cats_nil, pm_cats_i, pm_cats_r, pm_cats_n, pm_cats_l, pm_cats_d, sz_1, sz_2, sl_1, sl_2, lc_0, lc_lt, lc_le, li_ne, va_rf, wr_m1, we_m1, pm_kill_w, Int32.reduceOfInt, Int64.reduceOfInt, Int32.reduceOfNat, Int32.reduceLT, Int32.reduceLE, Prod.mk.injEq, Nat.reduceEqDiff, reduceCtorEq, and_true, true_and, and_false, false_and, and_self, ite_true, ite_false, ↓reduceIte, not_true_eq_false, not_false_eq_true, pe_ri, pe_rz, pe_rc, b710_0, pe_mkx, pe_areturn, w_junk hA, w_athrow hA, w_1, c710 (Cn_c0 hP hA), p_throw, t713, Cn_g0_3 hP hA, Cn_p0_3 hP hA, Cn_p0_4 hP hA, eq_true k1, z2, eq_true k3, hc]
    · rw [if_neg k3] at e
      by_cases k4 : v1 ≤ 57
      · rw [if_pos k4] at e
        have e := Option.some.inj e; subst e
        dsimp only [Sum.elim_inl, go713_1] at hc
        simp -implicitDefEqProofs (disch := first | assumption | exact Nat.le_of_ble_eq_true rfl | decide) only [b713_0, g713_4, b713_4, pe_aload0, pe_getfield, pe_istore1, pe_sipush, pe_istore2, pe_goto_w, pe_iload1, pe_iadd, pe_icmp_ge, pe_call1, pm_af_ret, pm_af_void, pm_af_thr, pe_icmp_lt, pe_icmp_gt, pe_iload2, pe_imul, pe_isub, pe_dup_i, pe_dup_r, pe_putfield, pe_goto, pe_icmp_eq, pe_if_ne, pe_call2, pm_prog_1, pm_ob_some, Nat.reduceDiv, Nat.reduceMod, Nat.reduceMul, Nat.reduceAdd, Int.reduceToNat, pm_kill_i, pm_kill_r, pm_kill_n, pm_kill_j, pm_kill_l, pm_kill_d, pm_cats_nil, pm_cats_i, pm_cats_r, pm_cats_n, pm_cats_l, pm_cats_d, sz_1, sz_2, sl_1, sl_2, lc_0, lc_lt, lc_le, li_ne, va_rf, wr_m1, we_m1, pm_kill_w, Int32.reduceOfInt, Int64.reduceOfInt, Int32.reduceOfNat, Int32.reduceLT, Int32.reduceLE, Prod.mk.injEq, Nat.reduceEqDiff, reduceCtorEq, and_true, true_and, and_false, false_and, and_self, ite_true, ite_false, ↓reduceIte, not_true_eq_false, not_false_eq_true, pe_ri, pe_rz, pe_rc, b710_0, pe_mkx, pe_areturn, w_junk hA, w_athrow hA, w_1, c710 (Cn_c0 hP hA), p_throw, t713, Cn_g0_3 hP hA, Cn_p0_3 hP hA, Cn_p0_4 hP hA, eq_true k1, z2, eq_false k3, eq_true k4, hc]
      · rw [if_neg k4] at e
        have e := Option.some.inj e; subst e
        dsimp only [Sum.elim_inr, ex713_1] at hc
        simp -implicitDefEqProofs (disch := first | assumption | exact Nat.le_of_ble_eq_true rfl | decide) only [b713_0, g713_4, b713_4, pe_aload0, pe_getfield, pe_istore1, pe_sipush, pe_istore2, pe_goto_w, pe_iload1, pe_iadd, pe_icmp_ge, pe_call1, pm_af_ret, pm_af_void, pm_af_thr, pe_icmp_lt, pe_icmp_gt, pe_iload2, pe_imul, pe_isub, pe_dup_i, pe_dup_r, pe_putfield, pe_goto, pe_icmp_eq, pe_if_ne, pe_call2, pm_prog_1, pm_ob_some, Nat.reduceDiv, Nat.reduceMod, Nat.reduceMul, Nat.reduceAdd, Int.reduceToNat, pm_kill_i, pm_kill_r, pm_kill_n, pm_kill_j, pm_kill_l, pm_kill_d, pm_cats_nil, pm_cats_i, pm_cats_r, pm_cats_n, pm_cats_l, pm_cats_d, sz_1, sz_2, sl_1, sl_2, lc_0, lc_lt, lc_le, li_ne, va_rf, wr_m1, we_m1, pm_kill_w, Int32.reduceOfInt, Int64.reduceOfInt, Int32.reduceOfNat, Int32.reduceLT, Int32.reduceLE, Prod.mk.injEq, Nat.reduceEqDiff, reduceCtorEq, and_true, true_and, and_false, false_and, and_self, ite_true, ite_false, ↓reduceIte, not_true_eq_false, not_false_eq_true, pe_ri, pe_rz, pe_rc, b710_0, pe_mkx, pe_areturn, w_junk hA, w_athrow hA, w_1, c710 (Cn_c0 hP hA), p_throw, t713, Cn_g0_3 hP hA, Cn_p0_3 hP hA, Cn_p0_4 hP hA, eq_true k1, z2, eq_false k3, eq_false k4, hc]
  · rw [if_neg k1] at e
    have e := Option.some.inj e; subst e
    dsimp only [Sum.elim_inr, ex713_1] at hc
    simp -implicitDefEqProofs (disch := first | assumption | exact Nat.le_of_ble_eq_true rfl | decide) only [b713_0, g713_4, b713_4, pe_aload0, pe_getfield, pe_istore1, pe_sipush, pe_istore2, pe_goto_w, pe_iload1, pe_iadd, pe_icmp_ge, pe_call1, pm_af_ret, pm_af_void, pm_af_thr, pe_icmp_lt, pe_icmp_gt, pe_iload2, pe_imul, pe_isub, pe_dup_i, pe_dup_r, pe_putfield, pe_goto, pe_icmp_eq, pe_if_ne, pe_call2, pm_prog_1, pm_ob_some, Nat.reduceDiv, Nat.reduceMod, Nat.reduceMul, Nat.reduceAdd, Int.reduceToNat, pm_kill_i, pm_kill_r, pm_kill_n, pm_kill_j, pm_kill_l, pm_kill_d, pm_cats_nil, pm_cats_i, pm_cats_r, pm_cats_n, pm_cats_l, pm_cats_d, sz_1, sz_2, sl_1, sl_2, lc_0, lc_lt, lc_le, li_ne, va_rf, wr_m1, we_m1, pm_kill_w, Int32.reduceOfInt, Int64.reduceOfInt, Int32.reduceOfNat, Int32.reduceLT, Int32.reduceLE, Prod.mk.injEq, Nat.reduceEqDiff, reduceCtorEq, and_true, true_and, and_false, false_and, and_self, ite_true, ite_false, ↓reduceIte, not_true_eq_false, not_false_eq_true, pe_ri, pe_rz, pe_rc, b710_0, pe_mkx, pe_areturn, w_junk hA, w_athrow hA, w_1, c710 (Cn_c0 hP hA), p_throw, t713, Cn_g0_3 hP hA, Cn_p0_3 hP hA, Cn_p0_4 hP hA, eq_false k1, hc]
theorem z713_1 {mc : Int32} {A : wK → Nat} {h : pm_H} {D : Nat} {R : Outcome × pm_H} (hP : Cn_P mc) (hA : wok A (Cn_d mc) h.1) (hL : A (90, 0, 0) = 1) (hD : 1 ≤ D) {n : Nat} {a : Int32 × Int32 × wS} {b : (Int32 × Int32 × wS)} (e : lp (f713_b1 mc) n a = some b) (hx : ex713_1 mc A h D R b) : go713_1 mc A h D R a := lp_run (fun a r => y713_b1 hP hA hL hD a r) n a b e hx
theorem y713_3 {mc : Int32} {A : wK → Nat} {h : pm_H} {D : Nat} {S : wS} {x1 : Int32} {r : (Nat × wS) ⊕ (Int32 × wS)} (hP : Cn_P mc) (hA : wok A (Cn_d mc) h.1) (hL : A (90, 0, 0) = 1) (hD : 1 ≤ D) (e : f713_3 mc S x1 = some r) : ∀ q2 : Value, pm_go pm_prog (pm_call pm_prog D) 713 3 [.ref (A (0, 0, 0)), .int x1, q2] [] (wput A (Cn_d mc) S h) = some (match (generalizing := false) r with | .inl (c, S1) => (Outcome.threw c, (wput A (Cn_d mc) S1 (pm_new h 6 (.inr (c, []))))) | .inr (w0, S1) => (Outcome.returned (some (.int w0)), (wput A (Cn_d mc) S1 h))) := by
  intro q2
  obtain ⟨D, rfl⟩ : ∃ D', D = D' + 1 := ⟨D - 1, by omega⟩
  simp only [f713_3] at e
  rw [g713_3, b713_3]
  have e := Option.some.inj e; subst e
  simp -implicitDefEqProofs (disch := first | assumption | exact Nat.le_of_ble_eq_true rfl | decide) only [b713_0, g713_4, b713_4, pe_aload0, pe_getfield, pe_istore1, pe_sipush, pe_istore2, pe_goto_w, pe_iload1, pe_iadd, pe_icmp_ge, pe_call1, pm_af_ret, pm_af_void, pm_af_thr, pe_icmp_lt, pe_icmp_gt, pe_iload2, pe_imul, pe_isub, pe_dup_i, pe_dup_r, pe_putfield, pe_goto, pe_icmp_eq, pe_if_ne, pe_call2, pm_prog_1, pm_ob_some, Nat.reduceDiv, Nat.reduceMod, Nat.reduceMul, Nat.reduceAdd, Int.reduceToNat, pm_kill_i, pm_kill_r, pm_kill_n, pm_kill_j, pm_kill_l, pm_kill_d, pm_cats_nil, pm_cats_i, pm_cats_r, pm_cats_n, pm_cats_l, pm_cats_d, sz_1, sz_2, sl_1, sl_2, lc_0, lc_lt, lc_le, li_ne, va_rf, wr_m1, we_m1, pm_kill_w, Int32.reduceOfInt, Int64.reduceOfInt, Int32.reduceOfNat, Int32.reduceLT, Int32.reduceLE, Prod.mk.injEq, Nat.reduceEqDiff, reduceCtorEq, and_true, true_and, and_false, false_and, and_self, ite_true, ite_false, ↓reduceIte, not_true_eq_false, not_false_eq_true, pe_ri, pe_rz, pe_rc, b710_0, pe_mkx, pe_areturn, w_junk hA, w_athrow hA, w_1, c710 (Cn_c0 hP hA), p_throw, t713, Cn_g0_3 hP hA, Cn_p0_3 hP hA, Cn_p0_4 hP hA]
theorem y713_2 {mc : Int32} {A : wK → Nat} {h : pm_H} {D : Nat} {S : wS} {x1 : Int32} {x2 : Int32} {r : (Nat × wS) ⊕ (Int32 × wS)} (hP : Cn_P mc) (hA : wok A (Cn_d mc) h.1) (hL : A (90, 0, 0) = 1) (hD : 1 ≤ D) (e : f713_2 mc S x1 x2 = some r) : pm_go pm_prog (pm_call pm_prog D) 713 2 [.ref (A (0, 0, 0)), .int x1, .int x2] [] (wput A (Cn_d mc) S h) = some (match (generalizing := false) r with | .inl (c, S1) => (Outcome.threw c, (wput A (Cn_d mc) S1 (pm_new h 6 (.inr (c, []))))) | .inr (w0, S1) => (Outcome.returned (some (.int w0)), (wput A (Cn_d mc) S1 h))) := by
  obtain ⟨D, rfl⟩ : ∃ D', D = D' + 1 := ⟨D - 1, by omega⟩
  simp only [f713_2] at e
  rw [g713_2, b713_2]
  by_cases k1 : (S.1 (0, 0, 0) 3) = x1
  · rw [if_pos k1] at e
    have k2 := y713_3 (h := h) hP hA hL hD e
    simp -implicitDefEqProofs (disch := first | assumption | exact Nat.le_of_ble_eq_true rfl | decide) only [b713_0, g713_4, b713_4, pe_aload0, pe_getfield, pe_istore1, pe_sipush, pe_istore2, pe_goto_w, pe_iload1, pe_iadd, pe_icmp_ge, pe_call1, pm_af_ret, pm_af_void, pm_af_thr, pe_icmp_lt, pe_icmp_gt, pe_iload2, pe_imul, pe_isub, pe_dup_i, pe_dup_r, pe_putfield, pe_goto, pe_icmp_eq, pe_if_ne, pe_call2, pm_prog_1, pm_ob_some, Nat.reduceDiv, Nat.reduceMod, Nat.reduceMul, Nat.reduceAdd, Int.reduceToNat, pm_kill_i, pm_kill_r, pm_kill_n, pm_kill_j, pm_kill_l, pm_kill_d, pm_cats_nil, pm_cats_i, pm_cats_r, pm_cats_n, pm_cats_l, pm_cats_d, sz_1, sz_2, sl_1, sl_2, lc_0, lc_lt, lc_le, li_ne, va_rf, wr_m1, we_m1, pm_kill_w, Int32.reduceOfInt, Int64.reduceOfInt, Int32.reduceOfNat, Int32.reduceLT, Int32.reduceLE, Prod.mk.injEq, Nat.reduceEqDiff, reduceCtorEq, and_true, true_and, and_false, false_and, and_self, ite_true, ite_false, ↓reduceIte, not_true_eq_false, not_false_eq_true, pe_ri, pe_rz, pe_rc, b710_0, pe_mkx, pe_areturn, w_junk hA, w_athrow hA, w_1, c710 (Cn_c0 hP hA), p_throw, t713, Cn_g0_3 hP hA, Cn_p0_3 hP hA, Cn_p0_4 hP hA, eq_true k1, k2]
  · rw [if_neg k1] at e
    by_cases k3 : x2 = 0
    · rw [if_pos k3] at e
      have k4 := y713_3 (h := h) hP hA hL hD e
      simp -implicitDefEqProofs (disch := first | assumption | exact Nat.le_of_ble_eq_true rfl | decide) only [b713_0, g713_4, b713_4, pe_aload0, pe_getfield, pe_istore1, pe_sipush, pe_istore2, pe_goto_w, pe_iload1, pe_iadd, pe_icmp_ge, pe_call1, pm_af_ret, pm_af_void, pm_af_thr, pe_icmp_lt, pe_icmp_gt, pe_iload2, pe_imul, pe_isub, pe_dup_i, pe_dup_r, pe_putfield, pe_goto, pe_icmp_eq, pe_if_ne, pe_call2, pm_prog_1, pm_ob_some, Nat.reduceDiv, Nat.reduceMod, Nat.reduceMul, Nat.reduceAdd, Int.reduceToNat, pm_kill_i, pm_kill_r, pm_kill_n, pm_kill_j, pm_kill_l, pm_kill_d, pm_cats_nil, pm_cats_i, pm_cats_r, pm_cats_n, pm_cats_l, pm_cats_d, sz_1, sz_2, sl_1, sl_2, lc_0, lc_lt, lc_le, li_ne, va_rf, wr_m1, we_m1, pm_kill_w, Int32.reduceOfInt, Int64.reduceOfInt, Int32.reduceOfNat, Int32.reduceLT, Int32.reduceLE, Prod.mk.injEq, Nat.reduceEqDiff, reduceCtorEq, and_true, true_and, and_false, false_and, and_self, ite_true, ite_false, ↓reduceIte, not_true_eq_false, not_false_eq_true, pe_ri, pe_rz, pe_rc, b710_0, pe_mkx, pe_areturn, w_junk hA, w_athrow hA, w_1, c710 (Cn_c0 hP hA), p_throw, t713, Cn_g0_3 hP hA, Cn_p0_3 hP hA, Cn_p0_4 hP hA, eq_false k1, eq_true k3, k4]
    · rw [if_neg k3] at e
      have e := Option.some.inj e; subst e
      simp -implicitDefEqProofs (disch := first | assumption | exact Nat.le_of_ble_eq_true rfl | decide) only [b713_0, g713_4, b713_4, pe_aload0, pe_getfield, pe_istore1, pe_sipush, pe_istore2, pe_goto_w, pe_iload1, pe_iadd, pe_icmp_ge, pe_call1, pm_af_ret, pm_af_void, pm_af_thr, pe_icmp_lt, pe_icmp_gt, pe_iload2, pe_imul, pe_isub, pe_dup_i, pe_dup_r, pe_putfield, pe_goto, pe_icmp_eq, pe_if_ne, pe_call2, pm_prog_1, pm_ob_some, Nat.reduceDiv, Nat.reduceMod, Nat.reduceMul, Nat.reduceAdd, Int.reduceToNat, pm_kill_i, pm_kill_r, pm_kill_n, pm_kill_j, pm_kill_l, pm_kill_d, pm_cats_nil, pm_cats_i, pm_cats_r, pm_cats_n, pm_cats_l, pm_cats_d, sz_1, sz_2, sl_1, sl_2, lc_0, lc_lt, lc_le, li_ne, va_rf, wr_m1, we_m1, pm_kill_w, Int32.reduceOfInt, Int64.reduceOfInt, Int32.reduceOfNat, Int32.reduceLT, Int32.reduceLE, Prod.mk.injEq, Nat.reduceEqDiff, reduceCtorEq, and_true, true_and, and_false, false_and, and_self, ite_true, ite_false, ↓reduceIte, not_true_eq_false, not_false_eq_true, pe_ri, pe_rz, pe_rc, b710_0, pe_mkx, pe_areturn, w_junk hA, w_athrow hA, w_1, c710 (Cn_c0 hP hA), p_throw, t713, Cn_g0_3 hP hA, Cn_p0_3 hP hA, Cn_p0_4 hP hA, eq_false k1, eq_false k3]
theorem x713 {mc : Int32} {A : wK → Nat} {h : pm_H} {D : Nat} {S : wS} {r : (Nat × wS) ⊕ (Int32 × wS)} (hP : Cn_P mc) (hA : wok A (Cn_d mc) h.1) (hL : A (90, 0, 0) = 1) (hD : 2 ≤ D) (e : f713 mc S = some r) : pm_call pm_prog D 713 [.ref (A (0, 0, 0))] (wput A (Cn_d mc) S h) = some (match (generalizing := false) r with | .inl (c, S1) => (Outcome.threw c, (wput A (Cn_d mc) S1 (pm_new h 6 (.inr (c, []))))) | .inr (w0, S1) => (Outcome.returned (some (.int w0)), (wput A (Cn_d mc) S1 h))) := by
  obtain ⟨D, rfl⟩ : ∃ D', D = D' + 1 := ⟨D - 1, by omega⟩
  have hD : 1 ≤ D := by omega
  obtain ⟨D, rfl⟩ : ∃ D', D = D' + 1 := ⟨D - 1, by omega⟩
  simp only [f713] at e
  rw [c713 (Cn_c0 hP hA), b713_0]
  obtain ⟨⟨v4, v5, S2⟩, k1, e⟩ := Option.bind_eq_some_iff.mp e
  try dsimp only at e
  try simp -implicitDefEqProofs (disch := first | assumption | exact Nat.le_of_ble_eq_true rfl | decide) only [b713_0, g713_4, b713_4, pe_aload0, pe_getfield, pe_istore1, pe_sipush, pe_istore2, pe_goto_w, pe_iload1, pe_iadd, pe_icmp_ge, pe_call1, pm_af_ret, pm_af_void, pm_af_thr, pe_icmp_lt, pe_icmp_gt, pe_iload2, pe_imul, pe_isub, pe_dup_i, pe_dup_r, pe_putfield, pe_goto, pe_icmp_eq, pe_if_ne, pe_call2, pm_prog_1, pm_ob_some, Nat.reduceDiv, Nat.reduceMod, Nat.reduceMul, Nat.reduceAdd, Int.reduceToNat, pm_kill_i, pm_kill_r, pm_kill_n, pm_kill_j, pm_kill_l, pm_kill_d, pm_cats_nil, pm_cats_i, pm_cats_r, pm_cats_n, pm_cats_l, pm_cats_d, sz_1, sz_2, sl_1, sl_2, lc_0, lc_lt, lc_le, li_ne, va_rf, wr_m1, we_m1, pm_kill_w, Int32.reduceOfInt, Int64.reduceOfInt, Int32.reduceOfNat, Int32.reduceLT, Int32.reduceLE, Prod.mk.injEq, Nat.reduceEqDiff, reduceCtorEq, and_true, true_and, and_false, false_and, and_self, ite_true, ite_false, ↓reduceIte, not_true_eq_false, not_false_eq_true, pe_ri, pe_rz, pe_rc, b710_0, pe_mkx, pe_areturn, w_junk hA, w_athrow hA, w_1, c710 (Cn_c0 hP hA), p_throw, t713, Cn_g0_3 hP hA, Cn_p0_3 hP hA, Cn_p0_4 hP hA]
  refine z713_1 hP hA hL hD k1 ?_
  dsimp only [ex713_1]
  have k2 := y713_2 (h := h) hP hA hL hD e
  simp -implicitDefEqProofs (disch := first | assumption | exact Nat.le_of_ble_eq_true rfl | decide) only [b713_0, g713_4, b713_4, pe_aload0, pe_getfield, pe_istore1, pe_sipush, pe_istore2, pe_goto_w, pe_iload1, pe_iadd, pe_icmp_ge, pe_call1, pm_af_ret, pm_af_void, pm_af_thr, pe_icmp_lt, pe_icmp_gt, pe_iload2, pe_imul, pe_isub, pe_dup_i, pe_dup_r, pe_putfield, pe_goto, pe_icmp_eq, pe_if_ne, pe_call2, pm_prog_1, pm_ob_some, Nat.reduceDiv, Nat.reduceMod, Nat.reduceMul, Nat.reduceAdd, Int.reduceToNat, pm_kill_i, pm_kill_r, pm_kill_n, pm_kill_j, pm_kill_l, pm_kill_d, pm_cats_nil, pm_cats_i, pm_cats_r, pm_cats_n, pm_cats_l, pm_cats_d, sz_1, sz_2, sl_1, sl_2, lc_0, lc_lt, lc_le, li_ne, va_rf, wr_m1, we_m1, pm_kill_w, Int32.reduceOfInt, Int64.reduceOfInt, Int32.reduceOfNat, Int32.reduceLT, Int32.reduceLE, Prod.mk.injEq, Nat.reduceEqDiff, reduceCtorEq, and_true, true_and, and_false, false_and, and_self, ite_true, ite_false, ↓reduceIte, not_true_eq_false, not_false_eq_true, pe_ri, pe_rz, pe_rc, b710_0, pe_mkx, pe_areturn, w_junk hA, w_athrow hA, w_1, c710 (Cn_c0 hP hA), p_throw, t713, Cn_g0_3 hP hA, Cn_p0_3 hP hA, Cn_p0_4 hP hA, k2]
/-- TimberHouse$NailRules.there(Z)V -/
theorem c716 {d : Nat} {h : pm_H} {x0 : Int32} : pm_call pm_prog (d + 1) 716 [.int x0] h = pm_ev pm_prog (pm_call pm_prog d) 716 0 b716_0 [.int x0] [] h := pm_cal (pm_rc0 rfl) rfl rfl rfl
theorem g716_1 {cl : pm_C} {ls st : List Value} {h : pm_H} : pm_go pm_prog cl 716 1 ls st h = pm_ev pm_prog cl 716 1 b716_1 ls st h := pm_go_eq pm_prog cl 716 1 ls st h
theorem t716 {cl : pm_C} {j : Nat} {ls : List Value} {c : Nat} {h : pm_H} : pm_thr pm_prog cl 716 j ls c h = some (.threw c, h) := rfl
/-- TimberHouse$NailRules.there(Z)V -/
noncomputable def f716 (x0 : Int32) : Option (Nat ⊕ (Unit)) :=
  if x0 = 0 then
    some (.inl 67)
  else
    some (.inr ())
theorem x716 {h : pm_H} {D : Nat} {x0 : Int32} {r : Nat ⊕ (Unit)} (hD : 1 ≤ D) (e : f716 x0 = some r) : pm_call pm_prog D 716 [.int x0] h = some (match (generalizing := false) r with | .inl c => (Outcome.threw c, (pm_new h 6 (.inr (c, [])))) | .inr _ => (Outcome.returned none, h)) := by
  obtain ⟨D, rfl⟩ : ∃ D', D = D' + 1 := ⟨D - 1, by omega⟩
  have hD : 0 ≤ D := by omega
  simp only [f716] at e
  rw [c716, b716_0]
  by_cases k1 : x0 = 0
  · rw [if_pos k1] at e
    have e := Option.some.inj e; subst e
    simp -implicitDefEqProofs (disch := first | assumption | exact Nat.le_of_ble_eq_true rfl | decide) only [b716_0, g716_1, b716_1, pe_iload0, pe_if_ne, pe_return, pm_prog_1, pm_ob_some, Nat.reduceDiv, Nat.reduceMod, Nat.reduceMul, Nat.reduceAdd, Int.reduceToNat, pm_kill_i, pm_kill_r, pm_kill_n, pm_kill_j, pm_kill_l, pm_kill_d, pm_cats_nil, pm_cats_i, pm_cats_r, pm_cats_n, pm_cats_l, pm_cats_d, sz_1, sz_2, sl_1, sl_2, lc_0, lc_lt, lc_le, li_ne, va_rf, wr_m1, we_m1, pm_kill_w, Int32.reduceOfInt, Int64.reduceOfInt, Int32.reduceOfNat, Int32.reduceLT, Int32.reduceLE, Prod.mk.injEq, Nat.reduceEqDiff, reduceCtorEq, and_true, true_and, and_false, false_and, and_self, ite_true, ite_false, ↓reduceIte, not_true_eq_false, not_false_eq_true, pe_ri, pe_rz, pe_rc, p_throw, t716, eq_true k1]
  · rw [if_neg k1] at e
    have e := Option.some.inj e; subst e
    simp -implicitDefEqProofs (disch := first | assumption | exact Nat.le_of_ble_eq_true rfl | decide) only [b716_0, g716_1, b716_1, pe_iload0, pe_if_ne, pe_return, pm_prog_1, pm_ob_some, Nat.reduceDiv, Nat.reduceMod, Nat.reduceMul, Nat.reduceAdd, Int.reduceToNat, pm_kill_i, pm_kill_r, pm_kill_n, pm_kill_j, pm_kill_l, pm_kill_d, pm_cats_nil, pm_cats_i, pm_cats_r, pm_cats_n, pm_cats_l, pm_cats_d, sz_1, sz_2, sl_1, sl_2, lc_0, lc_lt, lc_le, li_ne, va_rf, wr_m1, we_m1, pm_kill_w, Int32.reduceOfInt, Int64.reduceOfInt, Int32.reduceOfNat, Int32.reduceLT, Int32.reduceLE, Prod.mk.injEq, Nat.reduceEqDiff, reduceCtorEq, and_true, true_and, and_false, false_and, and_self, ite_true, ite_false, ↓reduceIte, not_true_eq_false, not_false_eq_true, pe_ri, pe_rz, pe_rc, p_throw, t716, eq_false k1]
/-- TimberHouse$NailRules.ruleAt(I)LTimberHouse$NailRules$Rule; -/
theorem c715 {d : Nat} {h : pm_H} {a : Nat} {x0 : Int32} (hc : pm_cls h a = some 11) : pm_call pm_prog (d + 1) 715 [.ref a, .int x0] h = pm_ev pm_prog (pm_call pm_prog d) 715 0 b715_0 [.ref a, .int x0] [] h := pm_cal (pm_rc1 hc rfl) rfl rfl rfl
theorem t715 {cl : pm_C} {j : Nat} {ls : List Value} {c : Nat} {h : pm_H} : pm_thr pm_prog cl 715 j ls c h = some (.threw c, h) := rfl
/-- TimberHouse$NailRules.ruleAt(I)LTimberHouse$NailRules$Rule; -/
noncomputable def f715 (mc : Int32) (S : wS) (x1 : Int32) : Option (Nat ⊕ (Int32)) :=
  (f706 (Int32.toInt64 x1) 0 3).bind fun v1 =>
  (f716 v1).bind fun r => match r with
  | .inl c2 =>
    some (.inl c2)
  | .inr _ =>
  if 0 ≤ x1 ∧ x1 < 4 then
    some (.inr x1)
  else none
theorem x715 {mc : Int32} {A : wK → Nat} {h : pm_H} {D : Nat} {S : wS} {x1 : Int32} {r : Nat ⊕ (Int32)} (hP : Cn_P mc) (hA : wok A (Cn_d mc) h.1) (hL : A (90, 0, 0) = 1) (hD : 2 ≤ D) (e : f715 mc S x1 = some r) : pm_call pm_prog D 715 [.ref (A (0, 0, 0)), .int x1] (wput A (Cn_d mc) S h) = some (match (generalizing := false) r with | .inl c => (Outcome.threw c, (wput A (Cn_d mc) S (pm_new h 6 (.inr (c, []))))) | .inr w0 => (Outcome.returned (some (.ref (A (5, w0, 0)))), (wput A (Cn_d mc) S h))) := by
  obtain ⟨D, rfl⟩ : ∃ D', D = D' + 1 := ⟨D - 1, by omega⟩
  have hD : 1 ≤ D := by omega
  simp only [f715] at e
  rw [c715 (Cn_c0 hP hA), b715_0]
  obtain ⟨v1, k1, e⟩ := Option.bind_eq_some_iff.mp e
  try dsimp only at e
  have z1 := fun h => x706 (D := D) (h := h) (by omega) k1
  obtain ⟨r, k2, e⟩ := Option.bind_eq_some_iff.mp e
  have z2 := fun h => x716 (D := D) (h := h) (by omega) k2
  rcases r with c2 | _
  · dsimp only at e z2
    have e := Option.some.inj e; subst e
    simp -implicitDefEqProofs (disch := first | assumption | exact Nat.le_of_ble_eq_true rfl | decide) only [b715_0, pe_iload1, pe_i2l, pe_bipush, pe_call3, pm_af_ret, pm_af_void, pm_af_thr, pe_call1, pe_aload0, pe_getfield, pe_aaload, pe_areturn, pm_prog_1, pm_ob_some, Nat.reduceDiv, Nat.reduceMod, Nat.reduceMul, Nat.reduceAdd, Int.reduceToNat, pm_kill_i, pm_kill_r, pm_kill_n, pm_kill_j, pm_kill_l, pm_kill_d, pm_cats_nil, pm_cats_i, pm_cats_r, pm_cats_n, pm_cats_l, pm_cats_d, sz_1, sz_2, sl_1, sl_2, lc_0, lc_lt, lc_le, li_ne, va_rf, wr_m1, we_m1, pm_kill_w, Int32.reduceOfInt, Int64.reduceOfInt, Int32.reduceOfNat, Int32.reduceLT, Int32.reduceLE, Prod.mk.injEq, Nat.reduceEqDiff, reduceCtorEq, and_true, true_and, and_false, false_and, and_self, ite_true, ite_false, ↓reduceIte, not_true_eq_false, not_false_eq_true, pe_ri, pe_rz, pe_rc, p_throw, t715, w_junk hA, Cn_g0_5 hP hA, Cn_r4 hP hA, z1, z2]
  · dsimp only at e z2
    by_cases k3 : 0 ≤ x1 ∧ x1 < 4
    · rw [if_pos k3] at e
      have e := Option.some.inj e; subst e
      simp -implicitDefEqProofs (disch := first | assumption | exact Nat.le_of_ble_eq_true rfl | decide) only [b715_0, pe_iload1, pe_i2l, pe_bipush, pe_call3, pm_af_ret, pm_af_void, pm_af_thr, pe_call1, pe_aload0, pe_getfield, pe_aaload, pe_areturn, pm_prog_1, pm_ob_some, Nat.reduceDiv, Nat.reduceMod, Nat.reduceMul, Nat.reduceAdd, Int.reduceToNat, pm_kill_i, pm_kill_r, pm_kill_n, pm_kill_j, pm_kill_l, pm_kill_d, pm_cats_nil, pm_cats_i, pm_cats_r, pm_cats_n, pm_cats_l, pm_cats_d, sz_1, sz_2, sl_1, sl_2, lc_0, lc_lt, lc_le, li_ne, va_rf, wr_m1, we_m1, pm_kill_w, Int32.reduceOfInt, Int64.reduceOfInt, Int32.reduceOfNat, Int32.reduceLT, Int32.reduceLE, Prod.mk.injEq, Nat.reduceEqDiff, reduceCtorEq, and_true, true_and, and_false, false_and, and_self, ite_true, ite_false, ↓reduceIte, not_true_eq_false, not_false_eq_true, pe_ri, pe_rz, pe_rc, p_throw, t715, w_junk hA, Cn_g0_5 hP hA, Cn_r4 hP hA, z1, z2]
    · rw [if_neg k3] at e; cases e
/-- TimberHouse$NailRules.rule(II)I -/
theorem c714 {d : Nat} {h : pm_H} {a : Nat} {x0 : Int32} {x1 : Int32} (hc : pm_cls h a = some 11) : pm_call pm_prog (d + 1) 714 [.ref a, .int x0, .int x1] h = pm_ev pm_prog (pm_call pm_prog d) 714 0 b714_0 [.ref a, .int x0, .int x1, pm_junk] [] h := pm_cal (pm_rc1 hc rfl) rfl rfl rfl
theorem t714 {cl : pm_C} {j : Nat} {ls : List Value} {c : Nat} {h : pm_H} : pm_thr pm_prog cl 714 j ls c h = some (.threw c, h) := rfl
/-- TimberHouse$NailRules.rule(II)I -/
noncomputable def f714 (mc : Int32) (S : wS) (x1 : Int32) (x2 : Int32) : Option (Nat ⊕ (Int32)) :=
  (f715 mc S x1).bind fun r => match r with
  | .inl c4 =>
    some (.inl c4)
  | .inr v1i =>
  if 0 ≤ v1i ∧ v1i < 4 then
    (f706 (Int32.toInt64 x2) 0 6).bind fun v2 =>
    (f716 v2).bind fun r => match r with
    | .inl c3 =>
      some (.inl c3)
    | .inr _ =>
    if 0 ≤ x2 ∧ x2 < 7 then
      some (.inr (S.1 (6, v1i, 0) x2))
    else none
  else none
theorem x714 {mc : Int32} {A : wK → Nat} {h : pm_H} {D : Nat} {S : wS} {x1 : Int32} {x2 : Int32} {r : Nat ⊕ (Int32)} (hP : Cn_P mc) (hA : wok A (Cn_d mc) h.1) (hL : A (90, 0, 0) = 1) (hD : 3 ≤ D) (e : f714 mc S x1 x2 = some r) : pm_call pm_prog D 714 [.ref (A (0, 0, 0)), .int x1, .int x2] (wput A (Cn_d mc) S h) = some (match (generalizing := false) r with | .inl c => (Outcome.threw c, (wput A (Cn_d mc) S (pm_new h 6 (.inr (c, []))))) | .inr w0 => (Outcome.returned (some (.int w0)), (wput A (Cn_d mc) S h))) := by
  obtain ⟨D, rfl⟩ : ∃ D', D = D' + 1 := ⟨D - 1, by omega⟩
  have hD : 2 ≤ D := by omega
  simp only [f714] at e
  rw [c714 (Cn_c0 hP hA), b714_0]
  obtain ⟨r, k1, e⟩ := Option.bind_eq_some_iff.mp e
  have z1 := x715 (D := D) (h := h) hP hA hL (by omega) k1
  rcases r with c4 | v1i
  · dsimp only at e z1
    have e := Option.some.inj e; subst e
    simp -implicitDefEqProofs (disch := first | assumption | exact Nat.le_of_ble_eq_true rfl | decide) only [b714_0, pe_aload0, pe_iload1, pe_call2, pm_af_ret, pm_af_void, pm_af_thr, pe_astore3, pe_iload2, pe_i2l, pe_bipush, pe_call3, pe_call1, pe_aload3, pe_getfield, pe_iaload, pm_prog_1, pm_ob_some, Nat.reduceDiv, Nat.reduceMod, Nat.reduceMul, Nat.reduceAdd, Int.reduceToNat, pm_kill_i, pm_kill_r, pm_kill_n, pm_kill_j, pm_kill_l, pm_kill_d, pm_cats_nil, pm_cats_i, pm_cats_r, pm_cats_n, pm_cats_l, pm_cats_d, sz_1, sz_2, sl_1, sl_2, lc_0, lc_lt, lc_le, li_ne, va_rf, wr_m1, we_m1, pm_kill_w, Int32.reduceOfInt, Int64.reduceOfInt, Int32.reduceOfNat, Int32.reduceLT, Int32.reduceLE, Prod.mk.injEq, Nat.reduceEqDiff, reduceCtorEq, and_true, true_and, and_false, false_and, and_self, ite_true, ite_false, ↓reduceIte, not_true_eq_false, not_false_eq_true, pe_ri, pe_rz, pe_rc, p_throw, t714, w_junk hA, Cn_g5_0 hP hA, Cn_r6 hP hA, z1]
  · dsimp only at e z1
    by_cases k2 : 0 ≤ v1i ∧ v1i < 4
    · rw [if_pos k2] at e
      obtain ⟨v2, k3, e⟩ := Option.bind_eq_some_iff.mp e
      try dsimp only at e
      have z3 := fun h => x706 (D := D) (h := h) (by omega) k3
      obtain ⟨r, k4, e⟩ := Option.bind_eq_some_iff.mp e
      have z4 := fun h => x716 (D := D) (h := h) (by omega) k4
      rcases r with c3 | _
      · dsimp only at e z4
        have e := Option.some.inj e; subst e
        simp -implicitDefEqProofs (disch := first | assumption | exact Nat.le_of_ble_eq_true rfl | decide) only [b714_0, pe_aload0, pe_iload1, pe_call2, pm_af_ret, pm_af_void, pm_af_thr, pe_astore3, pe_iload2, pe_i2l, pe_bipush, pe_call3, pe_call1, pe_aload3, pe_getfield, pe_iaload, pm_prog_1, pm_ob_some, Nat.reduceDiv, Nat.reduceMod, Nat.reduceMul, Nat.reduceAdd, Int.reduceToNat, pm_kill_i, pm_kill_r, pm_kill_n, pm_kill_j, pm_kill_l, pm_kill_d, pm_cats_nil, pm_cats_i, pm_cats_r, pm_cats_n, pm_cats_l, pm_cats_d, sz_1, sz_2, sl_1, sl_2, lc_0, lc_lt, lc_le, li_ne, va_rf, wr_m1, we_m1, pm_kill_w, Int32.reduceOfInt, Int64.reduceOfInt, Int32.reduceOfNat, Int32.reduceLT, Int32.reduceLE, Prod.mk.injEq, Nat.reduceEqDiff, reduceCtorEq, and_true, true_and, and_false, false_and, and_self, ite_true, ite_false, ↓reduceIte, not_true_eq_false, not_false_eq_true, pe_ri, pe_rz, pe_rc, p_throw, t714, w_junk hA, Cn_g5_0 hP hA, Cn_r6 hP hA, z1, z3, z4]
      · dsimp only at e z4
        by_cases k5 : 0 ≤ x2 ∧ x2 < 7
        · rw [if_pos k5] at e
          have e := Option.some.inj e; subst e
          simp -implicitDefEqProofs (disch := first | assumption | exact Nat.le_of_ble_eq_true rfl | decide) only [b714_0, pe_aload0, pe_iload1, pe_call2, pm_af_ret, pm_af_void, pm_af_thr, pe_astore3, pe_iload2, pe_i2l, pe_bipush, pe_call3, pe_call1, pe_aload3, pe_getfield, pe_iaload, pm_prog_1, pm_ob_some, Nat.reduceDiv, Nat.reduceMod, Nat.reduceMul, Nat.reduceAdd, Int.reduceToNat, pm_kill_i, pm_kill_r, pm_kill_n, pm_kill_j, pm_kill_l, pm_kill_d, pm_cats_nil, pm_cats_i, pm_cats_r, pm_cats_n, pm_cats_l, pm_cats_d, sz_1, sz_2, sl_1, sl_2, lc_0, lc_lt, lc_le, li_ne, va_rf, wr_m1, we_m1, pm_kill_w, Int32.reduceOfInt, Int64.reduceOfInt, Int32.reduceOfNat, Int32.reduceLT, Int32.reduceLE, Prod.mk.injEq, Nat.reduceEqDiff, reduceCtorEq, and_true, true_and, and_false, false_and, and_self, ite_true, ite_false, ↓reduceIte, not_true_eq_false, not_false_eq_true, pe_ri, pe_rz, pe_rc, p_throw, t714, w_junk hA, Cn_g5_0 hP hA, Cn_r6 hP hA, z1, z3, z4]
        · rw [if_neg k5] at e; cases e
    · rw [if_neg k2] at e; cases e
/-- TimberHouse$NailRules.proper(Z)V -/
theorem c718 {d : Nat} {h : pm_H} {x0 : Int32} : pm_call pm_prog (d + 1) 718 [.int x0] h = pm_ev pm_prog (pm_call pm_prog d) 718 0 b718_0 [.int x0] [] h := pm_cal (pm_rc0 rfl) rfl rfl rfl
theorem g718_1 {cl : pm_C} {ls st : List Value} {h : pm_H} : pm_go pm_prog cl 718 1 ls st h = pm_ev pm_prog cl 718 1 b718_1 ls st h := pm_go_eq pm_prog cl 718 1 ls st h
theorem t718 {cl : pm_C} {j : Nat} {ls : List Value} {c : Nat} {h : pm_H} : pm_thr pm_prog cl 718 j ls c h = some (.threw c, h) := rfl
/-- TimberHouse$NailRules.proper(Z)V -/
noncomputable def f718 (x0 : Int32) : Option (Nat ⊕ (Unit)) :=
  if x0 = 0 then
    some (.inl 70)
  else
    some (.inr ())
theorem x718 {h : pm_H} {D : Nat} {x0 : Int32} {r : Nat ⊕ (Unit)} (hD : 1 ≤ D) (e : f718 x0 = some r) : pm_call pm_prog D 718 [.int x0] h = some (match (generalizing := false) r with | .inl c => (Outcome.threw c, (pm_new h 6 (.inr (c, [])))) | .inr _ => (Outcome.returned none, h)) := by
  obtain ⟨D, rfl⟩ : ∃ D', D = D' + 1 := ⟨D - 1, by omega⟩
  have hD : 0 ≤ D := by omega
  simp only [f718] at e
  rw [c718, b718_0]
  by_cases k1 : x0 = 0
  · rw [if_pos k1] at e
    have e := Option.some.inj e; subst e
    simp -implicitDefEqProofs (disch := first | assumption | exact Nat.le_of_ble_eq_true rfl | decide) only [b718_0, g718_1, b718_1, pe_iload0, pe_if_ne, pe_return, pm_prog_1, pm_ob_some, Nat.reduceDiv, Nat.reduceMod, Nat.reduceMul, Nat.reduceAdd, Int.reduceToNat, pm_kill_i, pm_kill_r, pm_kill_n, pm_kill_j, pm_kill_l, pm_kill_d, pm_cats_nil, pm_cats_i, pm_cats_r, pm_cats_n, pm_cats_l, pm_cats_d, sz_1, sz_2, sl_1, sl_2, lc_0, lc_lt, lc_le, li_ne, va_rf, wr_m1, we_m1, pm_kill_w, Int32.reduceOfInt, Int64.reduceOfInt, Int32.reduceOfNat, Int32.reduceLT, Int32.reduceLE, Prod.mk.injEq, Nat.reduceEqDiff, reduceCtorEq, and_true, true_and, and_false, false_and, and_self, ite_true, ite_false, ↓reduceIte, not_true_eq_false, not_false_eq_true, pe_ri, pe_rz, pe_rc, p_throw, t718, eq_true k1]
  · rw [if_neg k1] at e
    have e := Option.some.inj e; subst e
    simp -implicitDefEqProofs (disch := first | assumption | exact Nat.le_of_ble_eq_true rfl | decide) only [b718_0, g718_1, b718_1, pe_iload0, pe_if_ne, pe_return, pm_prog_1, pm_ob_some, Nat.reduceDiv, Nat.reduceMod, Nat.reduceMul, Nat.reduceAdd, Int.reduceToNat, pm_kill_i, pm_kill_r, pm_kill_n, pm_kill_j, pm_kill_l, pm_kill_d, pm_cats_nil, pm_cats_i, pm_cats_r, pm_cats_n, pm_cats_l, pm_cats_d, sz_1, sz_2, sl_1, sl_2, lc_0, lc_lt, lc_le, li_ne, va_rf, wr_m1, we_m1, pm_kill_w, Int32.reduceOfInt, Int64.reduceOfInt, Int32.reduceOfNat, Int32.reduceLT, Int32.reduceLE, Prod.mk.injEq, Nat.reduceEqDiff, reduceCtorEq, and_true, true_and, and_false, false_and, and_self, ite_true, ite_false, ↓reduceIte, not_true_eq_false, not_false_eq_true, pe_ri, pe_rz, pe_rc, p_throw, t718, eq_false k1]
/-- TimberHouse$NailRules.set(II)V -/
theorem c717 {d : Nat} {h : pm_H} {a : Nat} {x0 : Int32} {x1 : Int32} (hc : pm_cls h a = some 11) : pm_call pm_prog (d + 1) 717 [.ref a, .int x0, .int x1] h = pm_ev pm_prog (pm_call pm_prog d) 717 0 b717_0 [.ref a, .int x0, .int x1] [] h := pm_cal (pm_rc1 hc rfl) rfl rfl rfl
theorem t717 {cl : pm_C} {j : Nat} {ls : List Value} {c : Nat} {h : pm_H} : pm_thr pm_prog cl 717 j ls c h = some (.threw c, h) := rfl
/-- TimberHouse$NailRules.set(II)V -/
noncomputable def f717 (mc : Int32) (S : wS) (x1 : Int32) (x2 : Int32) : Option ((Nat × wS) ⊕ (wS)) :=
  (f706 (Int32.toInt64 x1) 0 1).bind fun v1 =>
  (f716 v1).bind fun r => match r with
  | .inl c4 =>
    some (.inl (c4, S))
  | .inr _ =>
  (f706 (Int32.toInt64 x2) (Int32.toInt64 (1 - x1)) 100).bind fun v2 =>
  (f718 v2).bind fun r => match r with
  | .inl c3 =>
    some (.inl (c3, S))
  | .inr _ =>
  if 0 ≤ x1 ∧ x1 < 2 then
    some (.inr (sz S (7, 0, 0) x1 x2))
  else none
theorem x717 {mc : Int32} {A : wK → Nat} {h : pm_H} {D : Nat} {S : wS} {x1 : Int32} {x2 : Int32} {r : (Nat × wS) ⊕ (wS)} (hP : Cn_P mc) (hA : wok A (Cn_d mc) h.1) (hL : A (90, 0, 0) = 1) (hD : 2 ≤ D) (e : f717 mc S x1 x2 = some r) : pm_call pm_prog D 717 [.ref (A (0, 0, 0)), .int x1, .int x2] (wput A (Cn_d mc) S h) = some (match (generalizing := false) r with | .inl (c, S1) => (Outcome.threw c, (wput A (Cn_d mc) S1 (pm_new h 6 (.inr (c, []))))) | .inr S1 => (Outcome.returned none, (wput A (Cn_d mc) S1 h))) := by
  obtain ⟨D, rfl⟩ : ∃ D', D = D' + 1 := ⟨D - 1, by omega⟩
  have hD : 1 ≤ D := by omega
  simp only [f717] at e
  rw [c717 (Cn_c0 hP hA), b717_0]
  obtain ⟨v1, k1, e⟩ := Option.bind_eq_some_iff.mp e
  try dsimp only at e
  have z1 := fun h => x706 (D := D) (h := h) (by omega) k1
  obtain ⟨r, k2, e⟩ := Option.bind_eq_some_iff.mp e
  have z2 := fun h => x716 (D := D) (h := h) (by omega) k2
  rcases r with c4 | _
  · dsimp only at e z2
    have e := Option.some.inj e; subst e
    simp -implicitDefEqProofs (disch := first | assumption | exact Nat.le_of_ble_eq_true rfl | decide) only [b717_0, pe_iload1, pe_i2l, pe_bipush, pe_call3, pm_af_ret, pm_af_void, pm_af_thr, pe_call1, pe_iload2, pe_sipush, pe_isub, pe_aload0, pe_getfield, pe_iastore, pe_return, pm_prog_1, pm_ob_some, Nat.reduceDiv, Nat.reduceMod, Nat.reduceMul, Nat.reduceAdd, Int.reduceToNat, pm_kill_i, pm_kill_r, pm_kill_n, pm_kill_j, pm_kill_l, pm_kill_d, pm_cats_nil, pm_cats_i, pm_cats_r, pm_cats_n, pm_cats_l, pm_cats_d, sz_1, sz_2, sl_1, sl_2, lc_0, lc_lt, lc_le, li_ne, va_rf, wr_m1, we_m1, pm_kill_w, Int32.reduceOfInt, Int64.reduceOfInt, Int32.reduceOfNat, Int32.reduceLT, Int32.reduceLE, Prod.mk.injEq, Nat.reduceEqDiff, reduceCtorEq, and_true, true_and, and_false, false_and, and_self, ite_true, ite_false, ↓reduceIte, not_true_eq_false, not_false_eq_true, pe_ri, pe_rz, pe_rc, p_throw, t717, w_junk hA, Cn_g0_6 hP hA, Cn_w7 hP hA, z1, z2]
  · dsimp only at e z2
    obtain ⟨v2, k3, e⟩ := Option.bind_eq_some_iff.mp e
    try dsimp only at e
    have z3 := fun h => x706 (D := D) (h := h) (by omega) k3
    obtain ⟨r, k4, e⟩ := Option.bind_eq_some_iff.mp e
    have z4 := fun h => x718 (D := D) (h := h) (by omega) k4
    rcases r with c3 | _
    · dsimp only at e z4
      have e := Option.some.inj e; subst e
      simp -implicitDefEqProofs (disch := first | assumption | exact Nat.le_of_ble_eq_true rfl | decide) only [b717_0, pe_iload1, pe_i2l, pe_bipush, pe_call3, pm_af_ret, pm_af_void, pm_af_thr, pe_call1, pe_iload2, pe_sipush, pe_isub, pe_aload0, pe_getfield, pe_iastore, pe_return, pm_prog_1, pm_ob_some, Nat.reduceDiv, Nat.reduceMod, Nat.reduceMul, Nat.reduceAdd, Int.reduceToNat, pm_kill_i, pm_kill_r, pm_kill_n, pm_kill_j, pm_kill_l, pm_kill_d, pm_cats_nil, pm_cats_i, pm_cats_r, pm_cats_n, pm_cats_l, pm_cats_d, sz_1, sz_2, sl_1, sl_2, lc_0, lc_lt, lc_le, li_ne, va_rf, wr_m1, we_m1, pm_kill_w, Int32.reduceOfInt, Int64.reduceOfInt, Int32.reduceOfNat, Int32.reduceLT, Int32.reduceLE, Prod.mk.injEq, Nat.reduceEqDiff, reduceCtorEq, and_true, true_and, and_false, false_and, and_self, ite_true, ite_false, ↓reduceIte, not_true_eq_false, not_false_eq_true, pe_ri, pe_rz, pe_rc, p_throw, t717, w_junk hA, Cn_g0_6 hP hA, Cn_w7 hP hA, z1, z2, z3, z4]
    · dsimp only at e z4
      by_cases k5 : 0 ≤ x1 ∧ x1 < 2
      · rw [if_pos k5] at e
        have e := Option.some.inj e; subst e
        simp -implicitDefEqProofs (disch := first | assumption | exact Nat.le_of_ble_eq_true rfl | decide) only [b717_0, pe_iload1, pe_i2l, pe_bipush, pe_call3, pm_af_ret, pm_af_void, pm_af_thr, pe_call1, pe_iload2, pe_sipush, pe_isub, pe_aload0, pe_getfield, pe_iastore, pe_return, pm_prog_1, pm_ob_some, Nat.reduceDiv, Nat.reduceMod, Nat.reduceMul, Nat.reduceAdd, Int.reduceToNat, pm_kill_i, pm_kill_r, pm_kill_n, pm_kill_j, pm_kill_l, pm_kill_d, pm_cats_nil, pm_cats_i, pm_cats_r, pm_cats_n, pm_cats_l, pm_cats_d, sz_1, sz_2, sl_1, sl_2, lc_0, lc_lt, lc_le, li_ne, va_rf, wr_m1, we_m1, pm_kill_w, Int32.reduceOfInt, Int64.reduceOfInt, Int32.reduceOfNat, Int32.reduceLT, Int32.reduceLE, Prod.mk.injEq, Nat.reduceEqDiff, reduceCtorEq, and_true, true_and, and_false, false_and, and_self, ite_true, ite_false, ↓reduceIte, not_true_eq_false, not_false_eq_true, pe_ri, pe_rz, pe_rc, p_throw, t717, w_junk hA, Cn_g0_6 hP hA, Cn_w7 hP hA, z1, z2, z3, z4]
      · rw [if_neg k5] at e; cases e
/-- TimberHouse$NailRules$Rule.size()I -/
theorem c770 {d : Nat} {h : pm_H} {a : Nat} (hc : pm_cls h a = some 12) : pm_call pm_prog (d + 1) 770 [.ref a] h = pm_ev pm_prog (pm_call pm_prog d) 770 0 b770_0 [.ref a] [] h := pm_cal (pm_rc1 hc rfl) rfl rfl rfl
/-- TimberHouse$NailRules$Rule.size()I -/
noncomputable def f770 (mc : Int32) (S : wS) (x0i : Int32) : Option (Int32) :=
  if 0 ≤ x0i ∧ x0i < 4 then
    some (S.1 (6, x0i, 0) 0)
  else none
theorem x770 {mc : Int32} {A : wK → Nat} {h : pm_H} {D : Nat} {S : wS} {x0i : Int32} {r : Int32} (hP : Cn_P mc) (hA : wok A (Cn_d mc) h.1) (hL : A (90, 0, 0) = 1) (hD : 1 ≤ D) (e : f770 mc S x0i = some r) : pm_call pm_prog D 770 [.ref (A (5, x0i, 0))] (wput A (Cn_d mc) S h) = some (Outcome.returned (some (.int r)), (wput A (Cn_d mc) S h)) := by
  obtain ⟨D, rfl⟩ : ∃ D', D = D' + 1 := ⟨D - 1, by omega⟩
  have hD : 0 ≤ D := by omega
  simp only [f770] at e
  have k1 : 0 ≤ x0i ∧ x0i < 4 := by
    by_cases q : 0 ≤ x0i ∧ x0i < 4
    · exact q
    · rw [if_neg q] at e; cases e
  rw [if_pos k1] at e
  rw [c770 (Cn_c5 hP hA k1), b770_0]
  have e := Option.some.inj e; subst e
  simp -implicitDefEqProofs (disch := first | assumption | exact Nat.le_of_ble_eq_true rfl | decide) only [b770_0, pe_aload0, pe_getfield, pe_sipush, pe_iaload, pm_prog_1, pm_ob_some, Nat.reduceDiv, Nat.reduceMod, Nat.reduceMul, Nat.reduceAdd, Int.reduceToNat, pm_kill_i, pm_kill_r, pm_kill_n, pm_kill_j, pm_kill_l, pm_kill_d, pm_cats_nil, pm_cats_i, pm_cats_r, pm_cats_n, pm_cats_l, pm_cats_d, sz_1, sz_2, sl_1, sl_2, lc_0, lc_lt, lc_le, li_ne, va_rf, wr_m1, we_m1, pm_kill_w, Int32.reduceOfInt, Int64.reduceOfInt, Int32.reduceOfNat, Int32.reduceLT, Int32.reduceLE, Prod.mk.injEq, Nat.reduceEqDiff, reduceCtorEq, and_true, true_and, and_false, false_and, and_self, ite_true, ite_false, ↓reduceIte, not_true_eq_false, not_false_eq_true, pe_ri, pe_rz, pe_rc, Cn_g5_0 hP hA, Cn_r6 hP hA]
/-- TimberHouse$NailRules$Rule.formula(IJJ)J -/
theorem c769 {d : Nat} {h : pm_H} {a : Nat} {x0 : Int32} {x1 : Int64} {x2 : Int64} (hc : pm_cls h a = some 12) : pm_call pm_prog (d + 1) 769 [.ref a, .int x0, .long x1, .long x2] h = pm_ev pm_prog (pm_call pm_prog d) 769 0 b769_0 [.ref a, .int x0, .long x1, pm_junk, .long x2, pm_junk, pm_junk, pm_junk] [] h := pm_cal (pm_rc1 hc rfl) rfl rfl rfl
theorem g769_1 {cl : pm_C} {ls st : List Value} {h : pm_H} : pm_go pm_prog cl 769 1 ls st h = pm_ev pm_prog cl 769 1 b769_1 ls st h := pm_go_eq pm_prog cl 769 1 ls st h
theorem g769_2 {cl : pm_C} {ls st : List Value} {h : pm_H} : pm_go pm_prog cl 769 2 ls st h = pm_ev pm_prog cl 769 2 b769_2 ls st h := pm_go_eq pm_prog cl 769 2 ls st h
theorem g769_3 {cl : pm_C} {ls st : List Value} {h : pm_H} : pm_go pm_prog cl 769 3 ls st h = pm_ev pm_prog cl 769 3 b769_3 ls st h := pm_go_eq pm_prog cl 769 3 ls st h
theorem g769_4 {cl : pm_C} {ls st : List Value} {h : pm_H} : pm_go pm_prog cl 769 4 ls st h = pm_ev pm_prog cl 769 4 b769_4 ls st h := pm_go_eq pm_prog cl 769 4 ls st h
theorem g769_5 {cl : pm_C} {ls st : List Value} {h : pm_H} : pm_go pm_prog cl 769 5 ls st h = pm_ev pm_prog cl 769 5 b769_5 ls st h := pm_go_eq pm_prog cl 769 5 ls st h
/-- TimberHouse$NailRules$Rule.formula(IJJ)J -/
noncomputable def f769 (mc : Int32) (S : wS) (x0i : Int32) (x1 : Int32) (x2 : Int64) (x4 : Int64) : Option (Int64) :=
  if 0 ≤ x0i ∧ x0i < 4 then
    if x1 = 0 then
      (f770 mc S x0i).bind fun v1 =>
      some (((Int32.toInt64 (S.1 (6, x0i, 0) 1)) * x2) * (Int32.toInt64 v1))
    else
      if x1 = 1 then
        (f770 mc S x0i).bind fun v2 =>
        some (((Int32.toInt64 (S.1 (6, x0i, 0) 1)) * x4) * (Int32.toInt64 v2))
      else
        if x1 = 2 then
          (f770 mc S x0i).bind fun v3 =>
          some ((((Int32.toInt64 (S.1 (6, x0i, 0) 1)) * (x2 + x4)) * (Int32.toInt64 v3)) / 2)
        else
          (f770 mc S x0i).bind fun v4 =>
          some ((((Int32.toInt64 (S.1 (6, x0i, 0) 1)) * (Int32.toInt64 v4)) * (Int32.toInt64 v4)) * 4)
  else none
theorem sw769_0 {x : Int32} : pm_sw 4 0 2 [1, 2, 3] x = if x = 0 then 1 else if x = 1 then 2 else if x = 2 then 3 else 4 := by
  by_cases k0 : x = 0
  · subst k0; rfl
  rw [if_neg k0]
  by_cases k1 : x = 1
  · subst k1; rfl
  rw [if_neg k1]
  by_cases k2 : x = 2
  · subst k2; rfl
  rw [if_neg k2]
  by_cases q : x.toInt < 0 ∨ 2 < x.toInt
  · exact if_pos q
  have q : x.toInt = 0 ∨ x.toInt = 1 ∨ x.toInt = 2 := by omega
  rcases q with q | q | q
  · exact absurd (Int32.toInt_inj.mp (q.trans (by decide : (0 : Int) = (0 : Int32).toInt))) k0
  · exact absurd (Int32.toInt_inj.mp (q.trans (by decide : (1 : Int) = (1 : Int32).toInt))) k1
  · exact absurd (Int32.toInt_inj.mp (q.trans (by decide : (2 : Int) = (2 : Int32).toInt))) k2
theorem x769 {mc : Int32} {A : wK → Nat} {h : pm_H} {D : Nat} {S : wS} {x0i : Int32} {x1 : Int32} {x2 : Int64} {x4 : Int64} {r : Int64} (hP : Cn_P mc) (hA : wok A (Cn_d mc) h.1) (hL : A (90, 0, 0) = 1) (hD : 2 ≤ D) (e : f769 mc S x0i x1 x2 x4 = some r) : pm_call pm_prog D 769 [.ref (A (5, x0i, 0)), .int x1, .long x2, .long x4] (wput A (Cn_d mc) S h) = some (Outcome.returned (some (.long r)), (wput A (Cn_d mc) S h)) := by
  obtain ⟨D, rfl⟩ : ∃ D', D = D' + 1 := ⟨D - 1, by omega⟩
  have hD : 1 ≤ D := by omega
  simp only [f769] at e
  have k1 : 0 ≤ x0i ∧ x0i < 4 := by
    by_cases q : 0 ≤ x0i ∧ x0i < 4
    · exact q
    · rw [if_neg q] at e; cases e
  rw [if_pos k1] at e
  rw [c769 (Cn_c5 hP hA k1), b769_0]
  by_cases k2 : x1 = 0
  · rw [if_pos k2] at e
    obtain ⟨v1, k3, e⟩ := Option.bind_eq_some_iff.mp e
    try dsimp only at e
    have z3 := x770 (D := D) (h := h) hP hA hL (by omega) k3
    have e := Option.some.inj e; subst e
    simp -implicitDefEqProofs (disch := first | assumption | exact Nat.le_of_ble_eq_true rfl | decide) only [b769_0, g769_1, b769_1, g769_2, b769_2, g769_3, b769_3, g769_4, b769_4, g769_5, b769_5, pe_aload0, pe_getfield, pe_sipush, pe_iaload, pe_i2l, pe_lstore6, pe_iload1, pe_tableswitch, pe_lload6, pe_lload2, pe_lmul, pe_call1, pm_af_ret, pm_af_void, pm_af_thr, pe_goto, pe_lload4, pe_ladd, pe_bipush, pe_ldiv, pe_goto_w, pe_lreturn, pm_prog_1, pm_ob_some, Nat.reduceDiv, Nat.reduceMod, Nat.reduceMul, Nat.reduceAdd, Int.reduceToNat, pm_kill_i, pm_kill_r, pm_kill_n, pm_kill_j, pm_kill_l, pm_kill_d, pm_cats_nil, pm_cats_i, pm_cats_r, pm_cats_n, pm_cats_l, pm_cats_d, sz_1, sz_2, sl_1, sl_2, lc_0, lc_lt, lc_le, li_ne, va_rf, wr_m1, we_m1, pm_kill_w, Int32.reduceOfInt, Int64.reduceOfInt, Int32.reduceOfNat, Int32.reduceLT, Int32.reduceLE, Prod.mk.injEq, Nat.reduceEqDiff, reduceCtorEq, and_true, true_and, and_false, false_and, and_self, ite_true, ite_false, ↓reduceIte, not_true_eq_false, not_false_eq_true, pe_ri, pe_rz, pe_rc, sw769_0, Cn_g5_0 hP hA, Cn_r6 hP hA, eq_true k2, z3]
  · rw [if_neg k2] at e
    by_cases k4 : x1 = 1
    · rw [if_pos k4] at e
      obtain ⟨v2, k5, e⟩ := Option.bind_eq_some_iff.mp e
      try dsimp only at e
      have z5 := x770 (D := D) (h := h) hP hA hL (by omega) k5
      have e := Option.some.inj e; subst e
      simp -implicitDefEqProofs (disch := first | assumption | exact Nat.le_of_ble_eq_true rfl | decide) only [b769_0, g769_1, b769_1, g769_2, b769_2, g769_3, b769_3, g769_4, b769_4, g769_5, b769_5, pe_aload0, pe_getfield, pe_sipush, pe_iaload, pe_i2l, pe_lstore6, pe_iload1, pe_tableswitch, pe_lload6, pe_lload2, pe_lmul, pe_call1, pm_af_ret, pm_af_void, pm_af_thr, pe_goto, pe_lload4, pe_ladd, pe_bipush, pe_ldiv, pe_goto_w, pe_lreturn, pm_prog_1, pm_ob_some, Nat.reduceDiv, Nat.reduceMod, Nat.reduceMul, Nat.reduceAdd, Int.reduceToNat, pm_kill_i, pm_kill_r, pm_kill_n, pm_kill_j, pm_kill_l, pm_kill_d, pm_cats_nil, pm_cats_i, pm_cats_r, pm_cats_n, pm_cats_l, pm_cats_d, sz_1, sz_2, sl_1, sl_2, lc_0, lc_lt, lc_le, li_ne, va_rf, wr_m1, we_m1, pm_kill_w, Int32.reduceOfInt, Int64.reduceOfInt, Int32.reduceOfNat, Int32.reduceLT, Int32.reduceLE, Prod.mk.injEq, Nat.reduceEqDiff, reduceCtorEq, and_true, true_and, and_false, false_and, and_self, ite_true, ite_false, ↓reduceIte, not_true_eq_false, not_false_eq_true, pe_ri, pe_rz, pe_rc, sw769_0, Cn_g5_0 hP hA, Cn_r6 hP hA, eq_false k2, eq_true k4, z5]
    · rw [if_neg k4] at e
      by_cases k6 : x1 = 2
      · rw [if_pos k6] at e
        obtain ⟨v3, k7, e⟩ := Option.bind_eq_some_iff.mp e
        try dsimp only at e
        have z7 := x770 (D := D) (h := h) hP hA hL (by omega) k7
        have e := Option.some.inj e; subst e
        simp -implicitDefEqProofs (disch := first | assumption | exact Nat.le_of_ble_eq_true rfl | decide) only [b769_0, g769_1, b769_1, g769_2, b769_2, g769_3, b769_3, g769_4, b769_4, g769_5, b769_5, pe_aload0, pe_getfield, pe_sipush, pe_iaload, pe_i2l, pe_lstore6, pe_iload1, pe_tableswitch, pe_lload6, pe_lload2, pe_lmul, pe_call1, pm_af_ret, pm_af_void, pm_af_thr, pe_goto, pe_lload4, pe_ladd, pe_bipush, pe_ldiv, pe_goto_w, pe_lreturn, pm_prog_1, pm_ob_some, Nat.reduceDiv, Nat.reduceMod, Nat.reduceMul, Nat.reduceAdd, Int.reduceToNat, pm_kill_i, pm_kill_r, pm_kill_n, pm_kill_j, pm_kill_l, pm_kill_d, pm_cats_nil, pm_cats_i, pm_cats_r, pm_cats_n, pm_cats_l, pm_cats_d, sz_1, sz_2, sl_1, sl_2, lc_0, lc_lt, lc_le, li_ne, va_rf, wr_m1, we_m1, pm_kill_w, Int32.reduceOfInt, Int64.reduceOfInt, Int32.reduceOfNat, Int32.reduceLT, Int32.reduceLE, Prod.mk.injEq, Nat.reduceEqDiff, reduceCtorEq, and_true, true_and, and_false, false_and, and_self, ite_true, ite_false, ↓reduceIte, not_true_eq_false, not_false_eq_true, pe_ri, pe_rz, pe_rc, sw769_0, Cn_g5_0 hP hA, Cn_r6 hP hA, eq_false k2, eq_false k4, eq_true k6, z7]
      · rw [if_neg k6] at e
        obtain ⟨v4, k8, e⟩ := Option.bind_eq_some_iff.mp e
        try dsimp only at e
        have z8 := x770 (D := D) (h := h) hP hA hL (by omega) k8
        have e := Option.some.inj e; subst e
        simp -implicitDefEqProofs (disch := first | assumption | exact Nat.le_of_ble_eq_true rfl | decide) only [b769_0, g769_1, b769_1, g769_2, b769_2, g769_3, b769_3, g769_4, b769_4, g769_5, b769_5, pe_aload0, pe_getfield, pe_sipush, pe_iaload, pe_i2l, pe_lstore6, pe_iload1, pe_tableswitch, pe_lload6, pe_lload2, pe_lmul, pe_call1, pm_af_ret, pm_af_void, pm_af_thr, pe_goto, pe_lload4, pe_ladd, pe_bipush, pe_ldiv, pe_goto_w, pe_lreturn, pm_prog_1, pm_ob_some, Nat.reduceDiv, Nat.reduceMod, Nat.reduceMul, Nat.reduceAdd, Int.reduceToNat, pm_kill_i, pm_kill_r, pm_kill_n, pm_kill_j, pm_kill_l, pm_kill_d, pm_cats_nil, pm_cats_i, pm_cats_r, pm_cats_n, pm_cats_l, pm_cats_d, sz_1, sz_2, sl_1, sl_2, lc_0, lc_lt, lc_le, li_ne, va_rf, wr_m1, we_m1, pm_kill_w, Int32.reduceOfInt, Int64.reduceOfInt, Int32.reduceOfNat, Int32.reduceLT, Int32.reduceLE, Prod.mk.injEq, Nat.reduceEqDiff, reduceCtorEq, and_true, true_and, and_false, false_and, and_self, ite_true, ite_false, ↓reduceIte, not_true_eq_false, not_false_eq_true, pe_ri, pe_rz, pe_rc, sw769_0, Cn_g5_0 hP hA, Cn_r6 hP hA, eq_false k2, eq_false k4, eq_false k6, z8]
/-- TimberHouse$NailRules.holds(IIIII)J -/
theorem c719 {d : Nat} {h : pm_H} {a : Nat} {x0 : Int32} {x1 : Int32} {x2 : Int32} {x3 : Int32} {x4 : Int32} (hc : pm_cls h a = some 11) : pm_call pm_prog (d + 1) 719 [.ref a, .int x0, .int x1, .int x2, .int x3, .int x4] h = pm_ev pm_prog (pm_call pm_prog d) 719 0 b719_0 [.ref a, .int x0, .int x1, .int x2, .int x3, .int x4, pm_junk, pm_junk, pm_junk] [] h := pm_cal (pm_rc1 hc rfl) rfl rfl rfl
theorem g719_1 {cl : pm_C} {ls st : List Value} {h : pm_H} : pm_go pm_prog cl 719 1 ls st h = pm_ev pm_prog cl 719 1 b719_1 ls st h := pm_go_eq pm_prog cl 719 1 ls st h
theorem g719_2 {cl : pm_C} {ls st : List Value} {h : pm_H} : pm_go pm_prog cl 719 2 ls st h = pm_ev pm_prog cl 719 2 b719_2 ls st h := pm_go_eq pm_prog cl 719 2 ls st h
theorem g719_3 {cl : pm_C} {ls st : List Value} {h : pm_H} : pm_go pm_prog cl 719 3 ls st h = pm_ev pm_prog cl 719 3 b719_3 ls st h := pm_go_eq pm_prog cl 719 3 ls st h
theorem g719_4 {cl : pm_C} {ls st : List Value} {h : pm_H} : pm_go pm_prog cl 719 4 ls st h = pm_ev pm_prog cl 719 4 b719_4 ls st h := pm_go_eq pm_prog cl 719 4 ls st h
theorem g719_5 {cl : pm_C} {ls st : List Value} {h : pm_H} : pm_go pm_prog cl 719 5 ls st h = pm_ev pm_prog cl 719 5 b719_5 ls st h := pm_go_eq pm_prog cl 719 5 ls st h
theorem g719_6 {cl : pm_C} {ls st : List Value} {h : pm_H} : pm_go pm_prog cl 719 6 ls st h = pm_ev pm_prog cl 719 6 b719_6 ls st h := pm_go_eq pm_prog cl 719 6 ls st h
theorem g719_7 {cl : pm_C} {ls st : List Value} {h : pm_H} : pm_go pm_prog cl 719 7 ls st h = pm_ev pm_prog cl 719 7 b719_7 ls st h := pm_go_eq pm_prog cl 719 7 ls st h
theorem g719_8 {cl : pm_C} {ls st : List Value} {h : pm_H} : pm_go pm_prog cl 719 8 ls st h = pm_ev pm_prog cl 719 8 b719_8 ls st h := pm_go_eq pm_prog cl 719 8 ls st h
theorem t719 {cl : pm_C} {j : Nat} {ls : List Value} {c : Nat} {h : pm_H} : pm_thr pm_prog cl 719 j ls c h = some (.threw c, h) := rfl
noncomputable def f719_b3 (mc : Int32) (S : wS) : Int32 × Int32 × Int32 × Int32 × Int32 × Int32 × Int32 → Option ((Int32 × Int32 × Int32 × Int32 × Int32 × Int32 × Int32) ⊕ ((Int32 × Int32 × Int32 × Int32 × Int32 × Int32))) := fun (x2, x3, x4, x5, x6i, x7, x8) =>
  if 0 ≤ x6i ∧ x6i < 4 then
    if x8 < 4 then
      (f769 mc S x6i x8 (Int32.toInt64 x2) (Int32.toInt64 x3)).bind fun v4 =>
      (f769 mc S x6i x7 (Int32.toInt64 x2) (Int32.toInt64 x3)).bind fun v5 =>
      if v4 < v5 then
        some (.inl (x2, x3, x4, x5, x6i, x8, (x8 + 1)))
      else
        some (.inl (x2, x3, x4, x5, x6i, x7, (x8 + 1)))
    else
      some (.inr (x2, x3, x4, x5, x6i, x7))
  else none
noncomputable def f719_2 (mc : Int32) (S : wS) (x2 : Int32) (x3 : Int32) (x4 : Int32) (x5 : Int32) (x6i : Int32) (y0 : Int32) : Option (Nat ⊕ (Int64)) :=
  if 0 ≤ x6i ∧ x6i < 4 then
    (f718 y0).bind fun r => match r with
    | .inl c14 =>
      some (.inl c14)
    | .inr _ =>
    (lp (f719_b3 mc S) FU (x2, x3, x4, x5, x6i, 0, 1)).bind fun (v7, v8, v9, v10, v11i, v12) =>
    if 0 ≤ v11i ∧ v11i < 4 then
      if v10 = 1 then
        some (.inr (Int32.toInt64 v12))
      else
        (f769 mc S v11i v12 (Int32.toInt64 v7) (Int32.toInt64 v8)).bind fun v13 =>
        some (.inr ((((v13 * (Int32.toInt64 (200 - v9))) / 200) * (Int32.toInt64 (S.1 (7, 0, 0) 0))) / 100))
    else none
  else none
/-- TimberHouse$NailRules.holds(IIIII)J -/
noncomputable def f719 (mc : Int32) (S : wS) (x1 : Int32) (x2 : Int32) (x3 : Int32) (x4 : Int32) (x5 : Int32) : Option (Nat ⊕ (Int64)) :=
  (f715 mc S x1).bind fun r => match r with
  | .inl c18 =>
    some (.inl c18)
  | .inr v1i =>
  if 0 ≤ v1i ∧ v1i < 4 then
    (f706 (Int32.toInt64 x5) 0 1).bind fun v2 =>
    (f716 v2).bind fun r => match r with
    | .inl c17 =>
      some (.inl c17)
    | .inr _ =>
    (f706 (Int32.toInt64 x2) 1 1000).bind fun v3 =>
    if v3 = 0 then
      f719_2 mc S x2 x3 x4 x5 v1i 0
    else
      (f706 (Int32.toInt64 x3) 1 1000).bind fun v15 =>
      if v15 = 0 then
        f719_2 mc S x2 x3 x4 x5 v1i 0
      else
        (f706 (Int32.toInt64 x4) 0 90).bind fun v16 =>
        if v16 = 0 then
          f719_2 mc S x2 x3 x4 x5 v1i 0
        else
          f719_2 mc S x2 x3 x4 x5 v1i 1
  else none
def go719_3 (mc : Int32) (A : wK → Nat) (h : pm_H) (D : Nat) (R : Outcome × pm_H) (S : wS) : Int32 × Int32 × Int32 × Int32 × Int32 × Int32 × Int32 → Prop := fun (x2, x3, x4, x5, x6i, x7, x8) => ∀ q1 : Value, pm_go pm_prog (pm_call pm_prog D) 719 3 [.ref (A (0, 0, 0)), q1, .int x2, .int x3, .int x4, .int x5, .ref (A (5, x6i, 0)), .int x7, .int x8] [] (wput A (Cn_d mc) S h) = some R
def ex719_3 (mc : Int32) (A : wK → Nat) (h : pm_H) (D : Nat) (R : Outcome × pm_H) (S : wS) : (Int32 × Int32 × Int32 × Int32 × Int32 × Int32) → Prop := fun (x2, x3, x4, x5, x6i, x7) => ∀ q1 q8 : Value, pm_go pm_prog (pm_call pm_prog D) 719 6 [.ref (A (0, 0, 0)), q1, .int x2, .int x3, .int x4, .int x5, .ref (A (5, x6i, 0)), .int x7, q8] [] (wput A (Cn_d mc) S h) = some R
theorem y719_b3 {mc : Int32} {A : wK → Nat} {h : pm_H} {D : Nat} {R : Outcome × pm_H} {S : wS} (hP : Cn_P mc) (hA : wok A (Cn_d mc) h.1) (hL : A (90, 0, 0) = 1) (hD : 2 ≤ D) (a : Int32 × Int32 × Int32 × Int32 × Int32 × Int32 × Int32) (r : (Int32 × Int32 × Int32 × Int32 × Int32 × Int32 × Int32) ⊕ ((Int32 × Int32 × Int32 × Int32 × Int32 × Int32))) (e : f719_b3 mc S a = some r) (hc : Sum.elim (go719_3 mc A h D R S) (ex719_3 mc A h D R S) r) : go719_3 mc A h D R S a := by
  obtain ⟨x2, x3, x4, x5, x6i, x7, x8⟩ := a
  dsimp only [go719_3]
  intro q1
  simp only [f719_b3] at e
  rw [g719_3, b719_3]
  by_cases k1 : 0 ≤ x6i ∧ x6i < 4
  · rw [if_pos k1] at e
    by_cases k2 : x8 < 4
    · rw [if_pos k2] at e
      obtain ⟨v4, k3, e⟩ := Option.bind_eq_some_iff.mp e
      try dsimp only at e
      have z3 := x769 (D := D) (h := h) hP hA hL (by omega) k3
      obtain ⟨v5, k4, e⟩ := Option.bind_eq_some_iff.mp e
      try dsimp only at e
      have z4 := x769 (D := D) (h := h) hP hA hL (by omega) k4
      by_cases k5 : v4 < v5
      · rw [if_pos k5] at e
        have e := Option.some.inj e; subst e
        dsimp only [Sum.elim_inl, go719_3] at hc
        simp -implicitDefEqProofs (disch := first | assumption | exact Nat.le_of_ble_eq_true rfl | decide) only [b719_0, g719_1, b719_1, g719_4, b719_4, g719_5, b719_5, g719_6, b719_6, g719_7, b719_7, g719_8, b719_8, pe_aload0, pe_iload1, pe_call2, pm_af_ret, pm_af_void, pm_af_thr, pe_astore6, pe_iload5, pe_i2l, pe_bipush, pe_call3, pe_call1, pe_iload2, pe_if_eq, pe_iload3, pe_iload4, pe_sipush, pe_goto, pe_goto_w, pe_istore7, pe_istore8, pe_iload8, pe_icmp_ge, pe_aload6, pe_call4, pe_iload7, pe_lcmp, pe_if_ge, pe_iinc8, pe_icmp_ne, pe_isub, pe_lmul, pe_ldiv, pe_getfield, pe_iaload, pe_lreturn, pm_prog_1, pm_ob_some, Nat.reduceDiv, Nat.reduceMod, Nat.reduceMul, Nat.reduceAdd, Int.reduceToNat, pm_kill_i, pm_kill_r, pm_kill_n, pm_kill_j, pm_kill_l, pm_kill_d, pm_cats_nil, pm_cats_i, pm_cats_r, pm_cats_n, pm_cats_l, pm_cats_d, sz_1, sz_2, sl_1, sl_2, lc_0, lc_lt, lc_le, li_ne, va_rf, wr_m1, we_m1, pm_kill_w, Int32.reduceOfInt, Int64.reduceOfInt, Int32.reduceOfNat, Int32.reduceLT, Int32.reduceLE, Prod.mk.injEq, Nat.reduceEqDiff, reduceCtorEq, and_true, true_and, and_false, false_and, and_self, ite_true, ite_false, ↓reduceIte, not_true_eq_false, not_false_eq_true, pe_ri, pe_rz, pe_rc, p_throw, t719, w_junk hA, Cn_g0_6 hP hA, Cn_r7 hP hA, eq_true k2, z3, z4, eq_true k5, hc]
      · rw [if_neg k5] at e
        have e := Option.some.inj e; subst e
        dsimp only [Sum.elim_inl, go719_3] at hc
        simp -implicitDefEqProofs (disch := first | assumption | exact Nat.le_of_ble_eq_true rfl | decide) only [b719_0, g719_1, b719_1, g719_4, b719_4, g719_5, b719_5, g719_6, b719_6, g719_7, b719_7, g719_8, b719_8, pe_aload0, pe_iload1, pe_call2, pm_af_ret, pm_af_void, pm_af_thr, pe_astore6, pe_iload5, pe_i2l, pe_bipush, pe_call3, pe_call1, pe_iload2, pe_if_eq, pe_iload3, pe_iload4, pe_sipush, pe_goto, pe_goto_w, pe_istore7, pe_istore8, pe_iload8, pe_icmp_ge, pe_aload6, pe_call4, pe_iload7, pe_lcmp, pe_if_ge, pe_iinc8, pe_icmp_ne, pe_isub, pe_lmul, pe_ldiv, pe_getfield, pe_iaload, pe_lreturn, pm_prog_1, pm_ob_some, Nat.reduceDiv, Nat.reduceMod, Nat.reduceMul, Nat.reduceAdd, Int.reduceToNat, pm_kill_i, pm_kill_r, pm_kill_n, pm_kill_j, pm_kill_l, pm_kill_d, pm_cats_nil, pm_cats_i, pm_cats_r, pm_cats_n, pm_cats_l, pm_cats_d, sz_1, sz_2, sl_1, sl_2, lc_0, lc_lt, lc_le, li_ne, va_rf, wr_m1, we_m1, pm_kill_w, Int32.reduceOfInt, Int64.reduceOfInt, Int32.reduceOfNat, Int32.reduceLT, Int32.reduceLE, Prod.mk.injEq, Nat.reduceEqDiff, reduceCtorEq, and_true, true_and, and_false, false_and, and_self, ite_true, ite_false, ↓reduceIte, not_true_eq_false, not_false_eq_true, pe_ri, pe_rz, pe_rc, p_throw, t719, w_junk hA, Cn_g0_6 hP hA, Cn_r7 hP hA, eq_true k2, z3, z4, eq_false k5, hc]
    · rw [if_neg k2] at e
      have e := Option.some.inj e; subst e
      dsimp only [Sum.elim_inr, ex719_3] at hc
      simp -implicitDefEqProofs (disch := first | assumption | exact Nat.le_of_ble_eq_true rfl | decide) only [b719_0, g719_1, b719_1, g719_4, b719_4, g719_5, b719_5, g719_6, b719_6, g719_7, b719_7, g719_8, b719_8, pe_aload0, pe_iload1, pe_call2, pm_af_ret, pm_af_void, pm_af_thr, pe_astore6, pe_iload5, pe_i2l, pe_bipush, pe_call3, pe_call1, pe_iload2, pe_if_eq, pe_iload3, pe_iload4, pe_sipush, pe_goto, pe_goto_w, pe_istore7, pe_istore8, pe_iload8, pe_icmp_ge, pe_aload6, pe_call4, pe_iload7, pe_lcmp, pe_if_ge, pe_iinc8, pe_icmp_ne, pe_isub, pe_lmul, pe_ldiv, pe_getfield, pe_iaload, pe_lreturn, pm_prog_1, pm_ob_some, Nat.reduceDiv, Nat.reduceMod, Nat.reduceMul, Nat.reduceAdd, Int.reduceToNat, pm_kill_i, pm_kill_r, pm_kill_n, pm_kill_j, pm_kill_l, pm_kill_d, pm_cats_nil, pm_cats_i, pm_cats_r, pm_cats_n, pm_cats_l, pm_cats_d, sz_1, sz_2, sl_1, sl_2, lc_0, lc_lt, lc_le, li_ne, va_rf, wr_m1, we_m1, pm_kill_w, Int32.reduceOfInt, Int64.reduceOfInt, Int32.reduceOfNat, Int32.reduceLT, Int32.reduceLE, Prod.mk.injEq, Nat.reduceEqDiff, reduceCtorEq, and_true, true_and, and_false, false_and, and_self, ite_true, ite_false, ↓reduceIte, not_true_eq_false, not_false_eq_true, pe_ri, pe_rz, pe_rc, p_throw, t719, w_junk hA, Cn_g0_6 hP hA, Cn_r7 hP hA, eq_false k2, hc]
  · rw [if_neg k1] at e; cases e
theorem z719_3 {mc : Int32} {A : wK → Nat} {h : pm_H} {D : Nat} {R : Outcome × pm_H} {S : wS} (hP : Cn_P mc) (hA : wok A (Cn_d mc) h.1) (hL : A (90, 0, 0) = 1) (hD : 2 ≤ D) {n : Nat} {a : Int32 × Int32 × Int32 × Int32 × Int32 × Int32 × Int32} {b : (Int32 × Int32 × Int32 × Int32 × Int32 × Int32)} (e : lp (f719_b3 mc S) n a = some b) (hx : ex719_3 mc A h D R S b) : go719_3 mc A h D R S a := lp_run (fun a r => y719_b3 hP hA hL hD a r) n a b e hx
theorem y719_2 {mc : Int32} {A : wK → Nat} {h : pm_H} {D : Nat} {S : wS} {x2 : Int32} {x3 : Int32} {x4 : Int32} {x5 : Int32} {x6i : Int32} {y0 : Int32} {r : Nat ⊕ (Int64)} (hP : Cn_P mc) (hA : wok A (Cn_d mc) h.1) (hL : A (90, 0, 0) = 1) (hD : 2 ≤ D) (e : f719_2 mc S x2 x3 x4 x5 x6i y0 = some r) : ∀ q1 q7 q8 : Value, pm_go pm_prog (pm_call pm_prog D) 719 2 [.ref (A (0, 0, 0)), q1, .int x2, .int x3, .int x4, .int x5, .ref (A (5, x6i, 0)), q7, q8] [.int y0] (wput A (Cn_d mc) S h) = some (match (generalizing := false) r with | .inl c => (Outcome.threw c, (wput A (Cn_d mc) S (pm_new h 6 (.inr (c, []))))) | .inr w0 => (Outcome.returned (some (.long w0)), (wput A (Cn_d mc) S h))) := by
  intro q1 q7 q8
  simp only [f719_2] at e
  rw [g719_2, b719_2]
  by_cases k1 : 0 ≤ x6i ∧ x6i < 4
  · rw [if_pos k1] at e
    obtain ⟨r, k2, e⟩ := Option.bind_eq_some_iff.mp e
    have z2 := fun h => x718 (D := D) (h := h) (by omega) k2
    rcases r with c14 | _
    · dsimp only at e z2
      have e := Option.some.inj e; subst e
      simp -implicitDefEqProofs (disch := first | assumption | exact Nat.le_of_ble_eq_true rfl | decide) only [b719_0, g719_1, b719_1, g719_4, b719_4, g719_5, b719_5, g719_6, b719_6, g719_7, b719_7, g719_8, b719_8, pe_aload0, pe_iload1, pe_call2, pm_af_ret, pm_af_void, pm_af_thr, pe_astore6, pe_iload5, pe_i2l, pe_bipush, pe_call3, pe_call1, pe_iload2, pe_if_eq, pe_iload3, pe_iload4, pe_sipush, pe_goto, pe_goto_w, pe_istore7, pe_istore8, pe_iload8, pe_icmp_ge, pe_aload6, pe_call4, pe_iload7, pe_lcmp, pe_if_ge, pe_iinc8, pe_icmp_ne, pe_isub, pe_lmul, pe_ldiv, pe_getfield, pe_iaload, pe_lreturn, pm_prog_1, pm_ob_some, Nat.reduceDiv, Nat.reduceMod, Nat.reduceMul, Nat.reduceAdd, Int.reduceToNat, pm_kill_i, pm_kill_r, pm_kill_n, pm_kill_j, pm_kill_l, pm_kill_d, pm_cats_nil, pm_cats_i, pm_cats_r, pm_cats_n, pm_cats_l, pm_cats_d, sz_1, sz_2, sl_1, sl_2, lc_0, lc_lt, lc_le, li_ne, va_rf, wr_m1, we_m1, pm_kill_w, Int32.reduceOfInt, Int64.reduceOfInt, Int32.reduceOfNat, Int32.reduceLT, Int32.reduceLE, Prod.mk.injEq, Nat.reduceEqDiff, reduceCtorEq, and_true, true_and, and_false, false_and, and_self, ite_true, ite_false, ↓reduceIte, not_true_eq_false, not_false_eq_true, pe_ri, pe_rz, pe_rc, p_throw, t719, w_junk hA, Cn_g0_6 hP hA, Cn_r7 hP hA, z2]
    · dsimp only at e z2
      obtain ⟨⟨v7, v8, v9, v10, v11i, v12⟩, k3, e⟩ := Option.bind_eq_some_iff.mp e
      try dsimp only at e
      try simp -implicitDefEqProofs (disch := first | assumption | exact Nat.le_of_ble_eq_true rfl | decide) only [b719_0, g719_1, b719_1, g719_4, b719_4, g719_5, b719_5, g719_6, b719_6, g719_7, b719_7, g719_8, b719_8, pe_aload0, pe_iload1, pe_call2, pm_af_ret, pm_af_void, pm_af_thr, pe_astore6, pe_iload5, pe_i2l, pe_bipush, pe_call3, pe_call1, pe_iload2, pe_if_eq, pe_iload3, pe_iload4, pe_sipush, pe_goto, pe_goto_w, pe_istore7, pe_istore8, pe_iload8, pe_icmp_ge, pe_aload6, pe_call4, pe_iload7, pe_lcmp, pe_if_ge, pe_iinc8, pe_icmp_ne, pe_isub, pe_lmul, pe_ldiv, pe_getfield, pe_iaload, pe_lreturn, pm_prog_1, pm_ob_some, Nat.reduceDiv, Nat.reduceMod, Nat.reduceMul, Nat.reduceAdd, Int.reduceToNat, pm_kill_i, pm_kill_r, pm_kill_n, pm_kill_j, pm_kill_l, pm_kill_d, pm_cats_nil, pm_cats_i, pm_cats_r, pm_cats_n, pm_cats_l, pm_cats_d, sz_1, sz_2, sl_1, sl_2, lc_0, lc_lt, lc_le, li_ne, va_rf, wr_m1, we_m1, pm_kill_w, Int32.reduceOfInt, Int64.reduceOfInt, Int32.reduceOfNat, Int32.reduceLT, Int32.reduceLE, Prod.mk.injEq, Nat.reduceEqDiff, reduceCtorEq, and_true, true_and, and_false, false_and, and_self, ite_true, ite_false, ↓reduceIte, not_true_eq_false, not_false_eq_true, pe_ri, pe_rz, pe_rc, p_throw, t719, w_junk hA, Cn_g0_6 hP hA, Cn_r7 hP hA, z2]
      refine z719_3 hP hA hL hD k3 ?_ _
      dsimp only [ex719_3]
      intro q1 q8
      by_cases k4 : 0 ≤ v11i ∧ v11i < 4
      · rw [if_pos k4] at e
        by_cases k5 : v10 = 1
        · rw [if_pos k5] at e
          have e := Option.some.inj e; subst e
          simp -implicitDefEqProofs (disch := first | assumption | exact Nat.le_of_ble_eq_true rfl | decide) only [b719_0, g719_1, b719_1, g719_4, b719_4, g719_5, b719_5, g719_6, b719_6, g719_7, b719_7, g719_8, b719_8, pe_aload0, pe_iload1, pe_call2, pm_af_ret, pm_af_void, pm_af_thr, pe_astore6, pe_iload5, pe_i2l, pe_bipush, pe_call3, pe_call1, pe_iload2, pe_if_eq, pe_iload3, pe_iload4, pe_sipush, pe_goto, pe_goto_w, pe_istore7, pe_istore8, pe_iload8, pe_icmp_ge, pe_aload6, pe_call4, pe_iload7, pe_lcmp, pe_if_ge, pe_iinc8, pe_icmp_ne, pe_isub, pe_lmul, pe_ldiv, pe_getfield, pe_iaload, pe_lreturn, pm_prog_1, pm_ob_some, Nat.reduceDiv, Nat.reduceMod, Nat.reduceMul, Nat.reduceAdd, Int.reduceToNat, pm_kill_i, pm_kill_r, pm_kill_n, pm_kill_j, pm_kill_l, pm_kill_d, pm_cats_nil, pm_cats_i, pm_cats_r, pm_cats_n, pm_cats_l, pm_cats_d, sz_1, sz_2, sl_1, sl_2, lc_0, lc_lt, lc_le, li_ne, va_rf, wr_m1, we_m1, pm_kill_w, Int32.reduceOfInt, Int64.reduceOfInt, Int32.reduceOfNat, Int32.reduceLT, Int32.reduceLE, Prod.mk.injEq, Nat.reduceEqDiff, reduceCtorEq, and_true, true_and, and_false, false_and, and_self, ite_true, ite_false, ↓reduceIte, not_true_eq_false, not_false_eq_true, pe_ri, pe_rz, pe_rc, p_throw, t719, w_junk hA, Cn_g0_6 hP hA, Cn_r7 hP hA, z2, eq_true k5]
        · rw [if_neg k5] at e
          obtain ⟨v13, k6, e⟩ := Option.bind_eq_some_iff.mp e
          try dsimp only at e
          have z6 := x769 (D := D) (h := h) hP hA hL (by omega) k6
          have e := Option.some.inj e; subst e
          simp -implicitDefEqProofs (disch := first | assumption | exact Nat.le_of_ble_eq_true rfl | decide) only [b719_0, g719_1, b719_1, g719_4, b719_4, g719_5, b719_5, g719_6, b719_6, g719_7, b719_7, g719_8, b719_8, pe_aload0, pe_iload1, pe_call2, pm_af_ret, pm_af_void, pm_af_thr, pe_astore6, pe_iload5, pe_i2l, pe_bipush, pe_call3, pe_call1, pe_iload2, pe_if_eq, pe_iload3, pe_iload4, pe_sipush, pe_goto, pe_goto_w, pe_istore7, pe_istore8, pe_iload8, pe_icmp_ge, pe_aload6, pe_call4, pe_iload7, pe_lcmp, pe_if_ge, pe_iinc8, pe_icmp_ne, pe_isub, pe_lmul, pe_ldiv, pe_getfield, pe_iaload, pe_lreturn, pm_prog_1, pm_ob_some, Nat.reduceDiv, Nat.reduceMod, Nat.reduceMul, Nat.reduceAdd, Int.reduceToNat, pm_kill_i, pm_kill_r, pm_kill_n, pm_kill_j, pm_kill_l, pm_kill_d, pm_cats_nil, pm_cats_i, pm_cats_r, pm_cats_n, pm_cats_l, pm_cats_d, sz_1, sz_2, sl_1, sl_2, lc_0, lc_lt, lc_le, li_ne, va_rf, wr_m1, we_m1, pm_kill_w, Int32.reduceOfInt, Int64.reduceOfInt, Int32.reduceOfNat, Int32.reduceLT, Int32.reduceLE, Prod.mk.injEq, Nat.reduceEqDiff, reduceCtorEq, and_true, true_and, and_false, false_and, and_self, ite_true, ite_false, ↓reduceIte, not_true_eq_false, not_false_eq_true, pe_ri, pe_rz, pe_rc, p_throw, t719, w_junk hA, Cn_g0_6 hP hA, Cn_r7 hP hA, z2, eq_false k5, z6]
      · rw [if_neg k4] at e; cases e
  · rw [if_neg k1] at e; cases e
theorem x719 {mc : Int32} {A : wK → Nat} {h : pm_H} {D : Nat} {S : wS} {x1 : Int32} {x2 : Int32} {x3 : Int32} {x4 : Int32} {x5 : Int32} {r : Nat ⊕ (Int64)} (hP : Cn_P mc) (hA : wok A (Cn_d mc) h.1) (hL : A (90, 0, 0) = 1) (hD : 3 ≤ D) (e : f719 mc S x1 x2 x3 x4 x5 = some r) : pm_call pm_prog D 719 [.ref (A (0, 0, 0)), .int x1, .int x2, .int x3, .int x4, .int x5] (wput A (Cn_d mc) S h) = some (match (generalizing := false) r with | .inl c => (Outcome.threw c, (wput A (Cn_d mc) S (pm_new h 6 (.inr (c, []))))) | .inr w0 => (Outcome.returned (some (.long w0)), (wput A (Cn_d mc) S h))) := by
  obtain ⟨D, rfl⟩ : ∃ D', D = D' + 1 := ⟨D - 1, by omega⟩
  have hD : 2 ≤ D := by omega
  simp only [f719] at e
  rw [c719 (Cn_c0 hP hA), b719_0]
  obtain ⟨r, k1, e⟩ := Option.bind_eq_some_iff.mp e
  have z1 := x715 (D := D) (h := h) hP hA hL (by omega) k1
  rcases r with c18 | v1i
  · dsimp only at e z1
    have e := Option.some.inj e; subst e
    simp -implicitDefEqProofs (disch := first | assumption | exact Nat.le_of_ble_eq_true rfl | decide) only [b719_0, g719_1, b719_1, g719_4, b719_4, g719_5, b719_5, g719_6, b719_6, g719_7, b719_7, g719_8, b719_8, pe_aload0, pe_iload1, pe_call2, pm_af_ret, pm_af_void, pm_af_thr, pe_astore6, pe_iload5, pe_i2l, pe_bipush, pe_call3, pe_call1, pe_iload2, pe_if_eq, pe_iload3, pe_iload4, pe_sipush, pe_goto, pe_goto_w, pe_istore7, pe_istore8, pe_iload8, pe_icmp_ge, pe_aload6, pe_call4, pe_iload7, pe_lcmp, pe_if_ge, pe_iinc8, pe_icmp_ne, pe_isub, pe_lmul, pe_ldiv, pe_getfield, pe_iaload, pe_lreturn, pm_prog_1, pm_ob_some, Nat.reduceDiv, Nat.reduceMod, Nat.reduceMul, Nat.reduceAdd, Int.reduceToNat, pm_kill_i, pm_kill_r, pm_kill_n, pm_kill_j, pm_kill_l, pm_kill_d, pm_cats_nil, pm_cats_i, pm_cats_r, pm_cats_n, pm_cats_l, pm_cats_d, sz_1, sz_2, sl_1, sl_2, lc_0, lc_lt, lc_le, li_ne, va_rf, wr_m1, we_m1, pm_kill_w, Int32.reduceOfInt, Int64.reduceOfInt, Int32.reduceOfNat, Int32.reduceLT, Int32.reduceLE, Prod.mk.injEq, Nat.reduceEqDiff, reduceCtorEq, and_true, true_and, and_false, false_and, and_self, ite_true, ite_false, ↓reduceIte, not_true_eq_false, not_false_eq_true, pe_ri, pe_rz, pe_rc, p_throw, t719, w_junk hA, Cn_g0_6 hP hA, Cn_r7 hP hA, z1]
  · dsimp only at e z1
    by_cases k2 : 0 ≤ v1i ∧ v1i < 4
    · rw [if_pos k2] at e
      obtain ⟨v2, k3, e⟩ := Option.bind_eq_some_iff.mp e
      try dsimp only at e
      have z3 := fun h => x706 (D := D) (h := h) (by omega) k3
      obtain ⟨r, k4, e⟩ := Option.bind_eq_some_iff.mp e
      have z4 := fun h => x716 (D := D) (h := h) (by omega) k4
      rcases r with c17 | _
      · dsimp only at e z4
        have e := Option.some.inj e; subst e
        simp -implicitDefEqProofs (disch := first | assumption | exact Nat.le_of_ble_eq_true rfl | decide) only [b719_0, g719_1, b719_1, g719_4, b719_4, g719_5, b719_5, g719_6, b719_6, g719_7, b719_7, g719_8, b719_8, pe_aload0, pe_iload1, pe_call2, pm_af_ret, pm_af_void, pm_af_thr, pe_astore6, pe_iload5, pe_i2l, pe_bipush, pe_call3, pe_call1, pe_iload2, pe_if_eq, pe_iload3, pe_iload4, pe_sipush, pe_goto, pe_goto_w, pe_istore7, pe_istore8, pe_iload8, pe_icmp_ge, pe_aload6, pe_call4, pe_iload7, pe_lcmp, pe_if_ge, pe_iinc8, pe_icmp_ne, pe_isub, pe_lmul, pe_ldiv, pe_getfield, pe_iaload, pe_lreturn, pm_prog_1, pm_ob_some, Nat.reduceDiv, Nat.reduceMod, Nat.reduceMul, Nat.reduceAdd, Int.reduceToNat, pm_kill_i, pm_kill_r, pm_kill_n, pm_kill_j, pm_kill_l, pm_kill_d, pm_cats_nil, pm_cats_i, pm_cats_r, pm_cats_n, pm_cats_l, pm_cats_d, sz_1, sz_2, sl_1, sl_2, lc_0, lc_lt, lc_le, li_ne, va_rf, wr_m1, we_m1, pm_kill_w, Int32.reduceOfInt, Int64.reduceOfInt, Int32.reduceOfNat, Int32.reduceLT, Int32.reduceLE, Prod.mk.injEq, Nat.reduceEqDiff, reduceCtorEq, and_true, true_and, and_false, false_and, and_self, ite_true, ite_false, ↓reduceIte, not_true_eq_false, not_false_eq_true, pe_ri, pe_rz, pe_rc, p_throw, t719, w_junk hA, Cn_g0_6 hP hA, Cn_r7 hP hA, z1, z3, z4]
      · dsimp only at e z4
        obtain ⟨v3, k5, e⟩ := Option.bind_eq_some_iff.mp e
        try dsimp only at e
        have z5 := fun h => x706 (D := D) (h := h) (by omega) k5
        by_cases k6 : v3 = 0
        · rw [if_pos k6] at e
          have k7 := y719_2 (h := h) hP hA hL hD e
          simp -implicitDefEqProofs (disch := first | assumption | exact Nat.le_of_ble_eq_true rfl | decide) only [b719_0, g719_1, b719_1, g719_4, b719_4, g719_5, b719_5, g719_6, b719_6, g719_7, b719_7, g719_8, b719_8, pe_aload0, pe_iload1, pe_call2, pm_af_ret, pm_af_void, pm_af_thr, pe_astore6, pe_iload5, pe_i2l, pe_bipush, pe_call3, pe_call1, pe_iload2, pe_if_eq, pe_iload3, pe_iload4, pe_sipush, pe_goto, pe_goto_w, pe_istore7, pe_istore8, pe_iload8, pe_icmp_ge, pe_aload6, pe_call4, pe_iload7, pe_lcmp, pe_if_ge, pe_iinc8, pe_icmp_ne, pe_isub, pe_lmul, pe_ldiv, pe_getfield, pe_iaload, pe_lreturn, pm_prog_1, pm_ob_some, Nat.reduceDiv, Nat.reduceMod, Nat.reduceMul, Nat.reduceAdd, Int.reduceToNat, pm_kill_i, pm_kill_r, pm_kill_n, pm_kill_j, pm_kill_l, pm_kill_d, pm_cats_nil, pm_cats_i, pm_cats_r, pm_cats_n, pm_cats_l, pm_cats_d, sz_1, sz_2, sl_1, sl_2, lc_0, lc_lt, lc_le, li_ne, va_rf, wr_m1, we_m1, pm_kill_w, Int32.reduceOfInt, Int64.reduceOfInt, Int32.reduceOfNat, Int32.reduceLT, Int32.reduceLE, Prod.mk.injEq, Nat.reduceEqDiff, reduceCtorEq, and_true, true_and, and_false, false_and, and_self, ite_true, ite_false, ↓reduceIte, not_true_eq_false, not_false_eq_true, pe_ri, pe_rz, pe_rc, p_throw, t719, w_junk hA, Cn_g0_6 hP hA, Cn_r7 hP hA, z1, z3, z4, z5, eq_true k6, k7]
        · rw [if_neg k6] at e
          obtain ⟨v15, k8, e⟩ := Option.bind_eq_some_iff.mp e
          try dsimp only at e
          have z8 := fun h => x706 (D := D) (h := h) (by omega) k8
          by_cases k9 : v15 = 0
          · rw [if_pos k9] at e
            have k10 := y719_2 (h := h) hP hA hL hD e
            simp -implicitDefEqProofs (disch := first | assumption | exact Nat.le_of_ble_eq_true rfl | decide) only [b719_0, g719_1, b719_1, g719_4, b719_4, g719_5, b719_5, g719_6, b719_6, g719_7, b719_7, g719_8, b719_8, pe_aload0, pe_iload1, pe_call2, pm_af_ret, pm_af_void, pm_af_thr, pe_astore6, pe_iload5, pe_i2l, pe_bipush, pe_call3, pe_call1, pe_iload2, pe_if_eq, pe_iload3, pe_iload4, pe_sipush, pe_goto, pe_goto_w, pe_istore7, pe_istore8, pe_iload8, pe_icmp_ge, pe_aload6, pe_call4, pe_iload7, pe_lcmp, pe_if_ge, pe_iinc8, pe_icmp_ne, pe_isub, pe_lmul, pe_ldiv, pe_getfield, pe_iaload, pe_lreturn, pm_prog_1, pm_ob_some, Nat.reduceDiv, Nat.reduceMod, Nat.reduceMul, Nat.reduceAdd, Int.reduceToNat, pm_kill_i, pm_kill_r, pm_kill_n, pm_kill_j, pm_kill_l, pm_kill_d, pm_cats_nil, pm_cats_i, pm_cats_r, pm_cats_n, pm_cats_l, pm_cats_d, sz_1, sz_2, sl_1, sl_2, lc_0, lc_lt, lc_le, li_ne, va_rf, wr_m1, we_m1, pm_kill_w, Int32.reduceOfInt, Int64.reduceOfInt, Int32.reduceOfNat, Int32.reduceLT, Int32.reduceLE, Prod.mk.injEq, Nat.reduceEqDiff, reduceCtorEq, and_true, true_and, and_false, false_and, and_self, ite_true, ite_false, ↓reduceIte, not_true_eq_false, not_false_eq_true, pe_ri, pe_rz, pe_rc, p_throw, t719, w_junk hA, Cn_g0_6 hP hA, Cn_r7 hP hA, z1, z3, z4, z5, eq_false k6, z8, eq_true k9, k10]
          · rw [if_neg k9] at e
            obtain ⟨v16, k11, e⟩ := Option.bind_eq_some_iff.mp e
            try dsimp only at e
            have z11 := fun h => x706 (D := D) (h := h) (by omega) k11
            by_cases k12 : v16 = 0
            · rw [if_pos k12] at e
              have k13 := y719_2 (h := h) hP hA hL hD e
              simp -implicitDefEqProofs (disch := first | assumption | exact Nat.le_of_ble_eq_true rfl | decide) only [b719_0, g719_1, b719_1, g719_4, b719_4, g719_5, b719_5, g719_6, b719_6, g719_7, b719_7, g719_8, b719_8, pe_aload0, pe_iload1, pe_call2, pm_af_ret, pm_af_void, pm_af_thr, pe_astore6, pe_iload5, pe_i2l, pe_bipush, pe_call3, pe_call1, pe_iload2, pe_if_eq, pe_iload3, pe_iload4, pe_sipush, pe_goto, pe_goto_w, pe_istore7, pe_istore8, pe_iload8, pe_icmp_ge, pe_aload6, pe_call4, pe_iload7, pe_lcmp, pe_if_ge, pe_iinc8, pe_icmp_ne, pe_isub, pe_lmul, pe_ldiv, pe_getfield, pe_iaload, pe_lreturn, pm_prog_1, pm_ob_some, Nat.reduceDiv, Nat.reduceMod, Nat.reduceMul, Nat.reduceAdd, Int.reduceToNat, pm_kill_i, pm_kill_r, pm_kill_n, pm_kill_j, pm_kill_l, pm_kill_d, pm_cats_nil, pm_cats_i, pm_cats_r, pm_cats_n, pm_cats_l, pm_cats_d, sz_1, sz_2, sl_1, sl_2, lc_0, lc_lt, lc_le, li_ne, va_rf, wr_m1, we_m1, pm_kill_w, Int32.reduceOfInt, Int64.reduceOfInt, Int32.reduceOfNat, Int32.reduceLT, Int32.reduceLE, Prod.mk.injEq, Nat.reduceEqDiff, reduceCtorEq, and_true, true_and, and_false, false_and, and_self, ite_true, ite_false, ↓reduceIte, not_true_eq_false, not_false_eq_true, pe_ri, pe_rz, pe_rc, p_throw, t719, w_junk hA, Cn_g0_6 hP hA, Cn_r7 hP hA, z1, z3, z4, z5, eq_false k6, z8, eq_false k9, z11, eq_true k12, k13]
            · rw [if_neg k12] at e
              have k14 := y719_2 (h := h) hP hA hL hD e
              simp -implicitDefEqProofs (disch := first | assumption | exact Nat.le_of_ble_eq_true rfl | decide) only [b719_0, g719_1, b719_1, g719_4, b719_4, g719_5, b719_5, g719_6, b719_6, g719_7, b719_7, g719_8, b719_8, pe_aload0, pe_iload1, pe_call2, pm_af_ret, pm_af_void, pm_af_thr, pe_astore6, pe_iload5, pe_i2l, pe_bipush, pe_call3, pe_call1, pe_iload2, pe_if_eq, pe_iload3, pe_iload4, pe_sipush, pe_goto, pe_goto_w, pe_istore7, pe_istore8, pe_iload8, pe_icmp_ge, pe_aload6, pe_call4, pe_iload7, pe_lcmp, pe_if_ge, pe_iinc8, pe_icmp_ne, pe_isub, pe_lmul, pe_ldiv, pe_getfield, pe_iaload, pe_lreturn, pm_prog_1, pm_ob_some, Nat.reduceDiv, Nat.reduceMod, Nat.reduceMul, Nat.reduceAdd, Int.reduceToNat, pm_kill_i, pm_kill_r, pm_kill_n, pm_kill_j, pm_kill_l, pm_kill_d, pm_cats_nil, pm_cats_i, pm_cats_r, pm_cats_n, pm_cats_l, pm_cats_d, sz_1, sz_2, sl_1, sl_2, lc_0, lc_lt, lc_le, li_ne, va_rf, wr_m1, we_m1, pm_kill_w, Int32.reduceOfInt, Int64.reduceOfInt, Int32.reduceOfNat, Int32.reduceLT, Int32.reduceLE, Prod.mk.injEq, Nat.reduceEqDiff, reduceCtorEq, and_true, true_and, and_false, false_and, and_self, ite_true, ite_false, ↓reduceIte, not_true_eq_false, not_false_eq_true, pe_ri, pe_rz, pe_rc, p_throw, t719, w_junk hA, Cn_g0_6 hP hA, Cn_r7 hP hA, z1, z3, z4, z5, eq_false k6, z8, eq_false k9, z11, eq_false k12, k14]
    · rw [if_neg k2] at e; cases e
/-- TimberHouse$NailRules.sum(IJ)J -/
theorem c721 {d : Nat} {h : pm_H} {a : Nat} {x0 : Int32} {x1 : Int64} (hc : pm_cls h a = some 11) : pm_call pm_prog (d + 1) 721 [.ref a, .int x0, .long x1] h = pm_ev pm_prog (pm_call pm_prog d) 721 0 b721_0 [.ref a, .int x0, .long x1, pm_junk, pm_junk, pm_junk] [] h := pm_cal (pm_rc1 hc rfl) rfl rfl rfl
theorem g721_1 {cl : pm_C} {ls st : List Value} {h : pm_H} : pm_go pm_prog cl 721 1 ls st h = pm_ev pm_prog cl 721 1 b721_1 ls st h := pm_go_eq pm_prog cl 721 1 ls st h
theorem g721_2 {cl : pm_C} {ls st : List Value} {h : pm_H} : pm_go pm_prog cl 721 2 ls st h = pm_ev pm_prog cl 721 2 b721_2 ls st h := pm_go_eq pm_prog cl 721 2 ls st h
/-- TimberHouse$NailRules.sum(IJ)J -/
noncomputable def f721 (mc : Int32) (S : wS) (x1 : Int32) (x2 : Int64) : Option (Int64) :=
  (f3843 50 (100 - ((Int32.toInt64 (S.1 (7, 0, 0) 1)) * ((Int32.toInt64 x1) - 1)))).bind fun v1 =>
  if x1 = 0 then
    some ((((Int32.toInt64 x1) * x2) * 100) / 100)
  else
    some ((((Int32.toInt64 x1) * x2) * v1) / 100)
theorem x721 {mc : Int32} {A : wK → Nat} {h : pm_H} {D : Nat} {S : wS} {x1 : Int32} {x2 : Int64} {r : Int64} (hP : Cn_P mc) (hA : wok A (Cn_d mc) h.1) (hL : A (90, 0, 0) = 1) (hD : 2 ≤ D) (e : f721 mc S x1 x2 = some r) : pm_call pm_prog D 721 [.ref (A (0, 0, 0)), .int x1, .long x2] (wput A (Cn_d mc) S h) = some (Outcome.returned (some (.long r)), (wput A (Cn_d mc) S h)) := by
  obtain ⟨D, rfl⟩ : ∃ D', D = D' + 1 := ⟨D - 1, by omega⟩
  have hD : 1 ≤ D := by omega
  simp only [f721] at e
  rw [c721 (Cn_c0 hP hA), b721_0]
  obtain ⟨v1, k1, e⟩ := Option.bind_eq_some_iff.mp e
  try dsimp only at e
  have z1 := fun h => x3843 (D := D) (h := h) (by omega) k1
  by_cases k2 : x1 = 0
  · rw [if_pos k2] at e
    have e := Option.some.inj e; subst e
    simp -implicitDefEqProofs (disch := first | assumption | exact Nat.le_of_ble_eq_true rfl | decide) only [b721_0, g721_1, b721_1, g721_2, b721_2, pe_bipush, pe_aload0, pe_getfield, pe_sipush, pe_iaload, pe_i2l, pe_iload1, pe_lsub, pe_lmul, pe_call2, pm_af_ret, pm_af_void, pm_af_thr, pe_lstore4, pe_lload2, pe_if_ne, pe_goto, pe_lload4, pe_goto_w, pe_ldiv, pe_lreturn, pm_prog_1, pm_ob_some, Nat.reduceDiv, Nat.reduceMod, Nat.reduceMul, Nat.reduceAdd, Int.reduceToNat, pm_kill_i, pm_kill_r, pm_kill_n, pm_kill_j, pm_kill_l, pm_kill_d, pm_cats_nil, pm_cats_i, pm_cats_r, pm_cats_n, pm_cats_l, pm_cats_d, sz_1, sz_2, sl_1, sl_2, lc_0, lc_lt, lc_le, li_ne, va_rf, wr_m1, we_m1, pm_kill_w, Int32.reduceOfInt, Int64.reduceOfInt, Int32.reduceOfNat, Int32.reduceLT, Int32.reduceLE, Prod.mk.injEq, Nat.reduceEqDiff, reduceCtorEq, and_true, true_and, and_false, false_and, and_self, ite_true, ite_false, ↓reduceIte, not_true_eq_false, not_false_eq_true, pe_ri, pe_rz, pe_rc, Cn_g0_6 hP hA, Cn_r7 hP hA, z1, eq_true k2]
  · rw [if_neg k2] at e
    have e := Option.some.inj e; subst e
    simp -implicitDefEqProofs (disch := first | assumption | exact Nat.le_of_ble_eq_true rfl | decide) only [b721_0, g721_1, b721_1, g721_2, b721_2, pe_bipush, pe_aload0, pe_getfield, pe_sipush, pe_iaload, pe_i2l, pe_iload1, pe_lsub, pe_lmul, pe_call2, pm_af_ret, pm_af_void, pm_af_thr, pe_lstore4, pe_lload2, pe_if_ne, pe_goto, pe_lload4, pe_goto_w, pe_ldiv, pe_lreturn, pm_prog_1, pm_ob_some, Nat.reduceDiv, Nat.reduceMod, Nat.reduceMul, Nat.reduceAdd, Int.reduceToNat, pm_kill_i, pm_kill_r, pm_kill_n, pm_kill_j, pm_kill_l, pm_kill_d, pm_cats_nil, pm_cats_i, pm_cats_r, pm_cats_n, pm_cats_l, pm_cats_d, sz_1, sz_2, sl_1, sl_2, lc_0, lc_lt, lc_le, li_ne, va_rf, wr_m1, we_m1, pm_kill_w, Int32.reduceOfInt, Int64.reduceOfInt, Int32.reduceOfNat, Int32.reduceLT, Int32.reduceLE, Prod.mk.injEq, Nat.reduceEqDiff, reduceCtorEq, and_true, true_and, and_false, false_and, and_self, ite_true, ite_false, ↓reduceIte, not_true_eq_false, not_false_eq_true, pe_ri, pe_rz, pe_rc, Cn_g0_6 hP hA, Cn_r7 hP hA, z1, eq_false k2]
/-- TimberHouse$NailRules.together(IJ)J -/
theorem c720 {d : Nat} {h : pm_H} {a : Nat} {x0 : Int32} {x1 : Int64} (hc : pm_cls h a = some 11) : pm_call pm_prog (d + 1) 720 [.ref a, .int x0, .long x1] h = pm_ev pm_prog (pm_call pm_prog d) 720 0 b720_0 [.ref a, .int x0, .long x1, pm_junk] [] h := pm_cal (pm_rc1 hc rfl) rfl rfl rfl
theorem g720_1 {cl : pm_C} {ls st : List Value} {h : pm_H} : pm_go pm_prog cl 720 1 ls st h = pm_ev pm_prog cl 720 1 b720_1 ls st h := pm_go_eq pm_prog cl 720 1 ls st h
theorem g720_2 {cl : pm_C} {ls st : List Value} {h : pm_H} : pm_go pm_prog cl 720 2 ls st h = pm_ev pm_prog cl 720 2 b720_2 ls st h := pm_go_eq pm_prog cl 720 2 ls st h
theorem t720 {cl : pm_C} {j : Nat} {ls : List Value} {c : Nat} {h : pm_H} : pm_thr pm_prog cl 720 j ls c h = some (.threw c, h) := rfl
noncomputable def f720_2 (mc : Int32) (S : wS) (x1 : Int32) (x2 : Int64) (y0 : Int32) : Option (Nat ⊕ (Int64)) :=
  (f718 y0).bind fun r => match r with
  | .inl c3 =>
    some (.inl c3)
  | .inr _ =>
  (f721 mc S x1 x2).bind fun v2 =>
  some (.inr v2)
/-- TimberHouse$NailRules.together(IJ)J -/
noncomputable def f720 (mc : Int32) (S : wS) (x1 : Int32) (x2 : Int64) : Option (Nat ⊕ (Int64)) :=
  (f706 (Int32.toInt64 x1) 0 1000).bind fun v1 =>
  if v1 = 0 then
    f720_2 mc S x1 x2 0
  else
    (f706 x2 0 1000000000000).bind fun v4 =>
    if v4 = 0 then
      f720_2 mc S x1 x2 0
    else
      f720_2 mc S x1 x2 1
theorem y720_2 {mc : Int32} {A : wK → Nat} {h : pm_H} {D : Nat} {S : wS} {x1 : Int32} {x2 : Int64} {y0 : Int32} {r : Nat ⊕ (Int64)} (hP : Cn_P mc) (hA : wok A (Cn_d mc) h.1) (hL : A (90, 0, 0) = 1) (hD : 2 ≤ D) (e : f720_2 mc S x1 x2 y0 = some r) : pm_go pm_prog (pm_call pm_prog D) 720 2 [.ref (A (0, 0, 0)), .int x1, .long x2, pm_junk] [.int y0] (wput A (Cn_d mc) S h) = some (match (generalizing := false) r with | .inl c => (Outcome.threw c, (wput A (Cn_d mc) S (pm_new h 6 (.inr (c, []))))) | .inr w0 => (Outcome.returned (some (.long w0)), (wput A (Cn_d mc) S h))) := by
  simp only [f720_2] at e
  rw [g720_2, b720_2]
  obtain ⟨r, k1, e⟩ := Option.bind_eq_some_iff.mp e
  have z1 := fun h => x718 (D := D) (h := h) (by omega) k1
  rcases r with c3 | _
  · dsimp only at e z1
    have e := Option.some.inj e; subst e
    simp -implicitDefEqProofs (disch := first | assumption | exact Nat.le_of_ble_eq_true rfl | decide) only [b720_0, g720_1, b720_1, pe_iload1, pe_i2l, pe_bipush, pe_call3, pm_af_ret, pm_af_void, pm_af_thr, pe_if_eq, pe_lload2, pe_sipush, pe_goto, pe_goto_w, pe_call1, pe_aload0, pe_lreturn, pm_prog_1, pm_ob_some, Nat.reduceDiv, Nat.reduceMod, Nat.reduceMul, Nat.reduceAdd, Int.reduceToNat, pm_kill_i, pm_kill_r, pm_kill_n, pm_kill_j, pm_kill_l, pm_kill_d, pm_cats_nil, pm_cats_i, pm_cats_r, pm_cats_n, pm_cats_l, pm_cats_d, sz_1, sz_2, sl_1, sl_2, lc_0, lc_lt, lc_le, li_ne, va_rf, wr_m1, we_m1, pm_kill_w, Int32.reduceOfInt, Int64.reduceOfInt, Int32.reduceOfNat, Int32.reduceLT, Int32.reduceLE, Prod.mk.injEq, Nat.reduceEqDiff, reduceCtorEq, and_true, true_and, and_false, false_and, and_self, ite_true, ite_false, ↓reduceIte, not_true_eq_false, not_false_eq_true, pe_ri, pe_rz, pe_rc, p_throw, t720, w_junk hA, z1]
  · dsimp only at e z1
    obtain ⟨v2, k2, e⟩ := Option.bind_eq_some_iff.mp e
    try dsimp only at e
    have z2 := x721 (D := D) (h := h) hP hA hL (by omega) k2
    have e := Option.some.inj e; subst e
    simp -implicitDefEqProofs (disch := first | assumption | exact Nat.le_of_ble_eq_true rfl | decide) only [b720_0, g720_1, b720_1, pe_iload1, pe_i2l, pe_bipush, pe_call3, pm_af_ret, pm_af_void, pm_af_thr, pe_if_eq, pe_lload2, pe_sipush, pe_goto, pe_goto_w, pe_call1, pe_aload0, pe_lreturn, pm_prog_1, pm_ob_some, Nat.reduceDiv, Nat.reduceMod, Nat.reduceMul, Nat.reduceAdd, Int.reduceToNat, pm_kill_i, pm_kill_r, pm_kill_n, pm_kill_j, pm_kill_l, pm_kill_d, pm_cats_nil, pm_cats_i, pm_cats_r, pm_cats_n, pm_cats_l, pm_cats_d, sz_1, sz_2, sl_1, sl_2, lc_0, lc_lt, lc_le, li_ne, va_rf, wr_m1, we_m1, pm_kill_w, Int32.reduceOfInt, Int64.reduceOfInt, Int32.reduceOfNat, Int32.reduceLT, Int32.reduceLE, Prod.mk.injEq, Nat.reduceEqDiff, reduceCtorEq, and_true, true_and, and_false, false_and, and_self, ite_true, ite_false, ↓reduceIte, not_true_eq_false, not_false_eq_true, pe_ri, pe_rz, pe_rc, p_throw, t720, w_junk hA, z1, z2]
theorem x720 {mc : Int32} {A : wK → Nat} {h : pm_H} {D : Nat} {S : wS} {x1 : Int32} {x2 : Int64} {r : Nat ⊕ (Int64)} (hP : Cn_P mc) (hA : wok A (Cn_d mc) h.1) (hL : A (90, 0, 0) = 1) (hD : 3 ≤ D) (e : f720 mc S x1 x2 = some r) : pm_call pm_prog D 720 [.ref (A (0, 0, 0)), .int x1, .long x2] (wput A (Cn_d mc) S h) = some (match (generalizing := false) r with | .inl c => (Outcome.threw c, (wput A (Cn_d mc) S (pm_new h 6 (.inr (c, []))))) | .inr w0 => (Outcome.returned (some (.long w0)), (wput A (Cn_d mc) S h))) := by
  obtain ⟨D, rfl⟩ : ∃ D', D = D' + 1 := ⟨D - 1, by omega⟩
  have hD : 2 ≤ D := by omega
  simp only [f720] at e
  rw [c720 (Cn_c0 hP hA), b720_0]
  obtain ⟨v1, k1, e⟩ := Option.bind_eq_some_iff.mp e
  try dsimp only at e
  have z1 := fun h => x706 (D := D) (h := h) (by omega) k1
  by_cases k2 : v1 = 0
  · rw [if_pos k2] at e
    have k3 := y720_2 (h := h) hP hA hL hD e
    simp -implicitDefEqProofs (disch := first | assumption | exact Nat.le_of_ble_eq_true rfl | decide) only [b720_0, g720_1, b720_1, pe_iload1, pe_i2l, pe_bipush, pe_call3, pm_af_ret, pm_af_void, pm_af_thr, pe_if_eq, pe_lload2, pe_sipush, pe_goto, pe_goto_w, pe_call1, pe_aload0, pe_lreturn, pm_prog_1, pm_ob_some, Nat.reduceDiv, Nat.reduceMod, Nat.reduceMul, Nat.reduceAdd, Int.reduceToNat, pm_kill_i, pm_kill_r, pm_kill_n, pm_kill_j, pm_kill_l, pm_kill_d, pm_cats_nil, pm_cats_i, pm_cats_r, pm_cats_n, pm_cats_l, pm_cats_d, sz_1, sz_2, sl_1, sl_2, lc_0, lc_lt, lc_le, li_ne, va_rf, wr_m1, we_m1, pm_kill_w, Int32.reduceOfInt, Int64.reduceOfInt, Int32.reduceOfNat, Int32.reduceLT, Int32.reduceLE, Prod.mk.injEq, Nat.reduceEqDiff, reduceCtorEq, and_true, true_and, and_false, false_and, and_self, ite_true, ite_false, ↓reduceIte, not_true_eq_false, not_false_eq_true, pe_ri, pe_rz, pe_rc, p_throw, t720, w_junk hA, z1, eq_true k2, k3]
  · rw [if_neg k2] at e
    obtain ⟨v4, k4, e⟩ := Option.bind_eq_some_iff.mp e
    try dsimp only at e
    have z4 := fun h => x706 (D := D) (h := h) (by omega) k4
    by_cases k5 : v4 = 0
    · rw [if_pos k5] at e
      have k6 := y720_2 (h := h) hP hA hL hD e
      simp -implicitDefEqProofs (disch := first | assumption | exact Nat.le_of_ble_eq_true rfl | decide) only [b720_0, g720_1, b720_1, pe_iload1, pe_i2l, pe_bipush, pe_call3, pm_af_ret, pm_af_void, pm_af_thr, pe_if_eq, pe_lload2, pe_sipush, pe_goto, pe_goto_w, pe_call1, pe_aload0, pe_lreturn, pm_prog_1, pm_ob_some, Nat.reduceDiv, Nat.reduceMod, Nat.reduceMul, Nat.reduceAdd, Int.reduceToNat, pm_kill_i, pm_kill_r, pm_kill_n, pm_kill_j, pm_kill_l, pm_kill_d, pm_cats_nil, pm_cats_i, pm_cats_r, pm_cats_n, pm_cats_l, pm_cats_d, sz_1, sz_2, sl_1, sl_2, lc_0, lc_lt, lc_le, li_ne, va_rf, wr_m1, we_m1, pm_kill_w, Int32.reduceOfInt, Int64.reduceOfInt, Int32.reduceOfNat, Int32.reduceLT, Int32.reduceLE, Prod.mk.injEq, Nat.reduceEqDiff, reduceCtorEq, and_true, true_and, and_false, false_and, and_self, ite_true, ite_false, ↓reduceIte, not_true_eq_false, not_false_eq_true, pe_ri, pe_rz, pe_rc, p_throw, t720, w_junk hA, z1, eq_false k2, z4, eq_true k5, k6]
    · rw [if_neg k5] at e
      have k7 := y720_2 (h := h) hP hA hL hD e
      simp -implicitDefEqProofs (disch := first | assumption | exact Nat.le_of_ble_eq_true rfl | decide) only [b720_0, g720_1, b720_1, pe_iload1, pe_i2l, pe_bipush, pe_call3, pm_af_ret, pm_af_void, pm_af_thr, pe_if_eq, pe_lload2, pe_sipush, pe_goto, pe_goto_w, pe_call1, pe_aload0, pe_lreturn, pm_prog_1, pm_ob_some, Nat.reduceDiv, Nat.reduceMod, Nat.reduceMul, Nat.reduceAdd, Int.reduceToNat, pm_kill_i, pm_kill_r, pm_kill_n, pm_kill_j, pm_kill_l, pm_kill_d, pm_cats_nil, pm_cats_i, pm_cats_r, pm_cats_n, pm_cats_l, pm_cats_d, sz_1, sz_2, sl_1, sl_2, lc_0, lc_lt, lc_le, li_ne, va_rf, wr_m1, we_m1, pm_kill_w, Int32.reduceOfInt, Int64.reduceOfInt, Int32.reduceOfNat, Int32.reduceLT, Int32.reduceLE, Prod.mk.injEq, Nat.reduceEqDiff, reduceCtorEq, and_true, true_and, and_false, false_and, and_self, ite_true, ite_false, ↓reduceIte, not_true_eq_false, not_false_eq_true, pe_ri, pe_rz, pe_rc, p_throw, t720, w_junk hA, z1, eq_false k2, z4, eq_false k5, k7]
/-- TimberHouse$NailRules.count(JJ)I -/
theorem c722 {d : Nat} {h : pm_H} {a : Nat} {x0 : Int64} {x1 : Int64} (hc : pm_cls h a = some 11) : pm_call pm_prog (d + 1) 722 [.ref a, .long x0, .long x1] h = pm_ev pm_prog (pm_call pm_prog d) 722 0 b722_0 [.ref a, .long x0, pm_junk, .long x1, pm_junk, pm_junk] [] h := pm_cal (pm_rc1 hc rfl) rfl rfl rfl
theorem g722_1 {cl : pm_C} {ls st : List Value} {h : pm_H} : pm_go pm_prog cl 722 1 ls st h = pm_ev pm_prog cl 722 1 b722_1 ls st h := pm_go_eq pm_prog cl 722 1 ls st h
theorem g722_2 {cl : pm_C} {ls st : List Value} {h : pm_H} : pm_go pm_prog cl 722 2 ls st h = pm_ev pm_prog cl 722 2 b722_2 ls st h := pm_go_eq pm_prog cl 722 2 ls st h
theorem g722_3 {cl : pm_C} {ls st : List Value} {h : pm_H} : pm_go pm_prog cl 722 3 ls st h = pm_ev pm_prog cl 722 3 b722_3 ls st h := pm_go_eq pm_prog cl 722 3 ls st h
theorem g722_4 {cl : pm_C} {ls st : List Value} {h : pm_H} : pm_go pm_prog cl 722 4 ls st h = pm_ev pm_prog cl 722 4 b722_4 ls st h := pm_go_eq pm_prog cl 722 4 ls st h
theorem g722_5 {cl : pm_C} {ls st : List Value} {h : pm_H} : pm_go pm_prog cl 722 5 ls st h = pm_ev pm_prog cl 722 5 b722_5 ls st h := pm_go_eq pm_prog cl 722 5 ls st h
theorem t722 {cl : pm_C} {j : Nat} {ls : List Value} {c : Nat} {h : pm_H} : pm_thr pm_prog cl 722 j ls c h = some (.threw c, h) := rfl
noncomputable def f722_b3 (mc : Int32) (S : wS) : Int64 × Int64 × Int32 → Option ((Int64 × Int64 × Int32) ⊕ ((Int32) ⊕ (Unit))) := fun (x1, x3, x5) =>
  if x5 ≤ 100 then
    (f721 mc S x5 x3).bind fun v2 =>
    if v2 < x1 then
      some (.inl (x1, x3, (x5 + 1)))
    else
      some (.inr (.inl x5))
  else
    some (.inr (.inr (())))
noncomputable def f722_2 (mc : Int32) (S : wS) (x1 : Int64) (x3 : Int64) (y0 : Int32) : Option (Nat ⊕ (Int32)) :=
  (f718 y0).bind fun r => match r with
  | .inl c4 =>
    some (.inl c4)
  | .inr _ =>
  (lp (f722_b3 mc S) FU (x1, x3, 1)).bind fun b => match b with
  | (.inl v3) =>
    some (.inr v3)
  | (.inr (())) =>
    some (.inr (-1))
/-- TimberHouse$NailRules.count(JJ)I -/
noncomputable def f722 (mc : Int32) (S : wS) (x1 : Int64) (x3 : Int64) : Option (Nat ⊕ (Int32)) :=
  (f706 x1 0 1000000000000).bind fun v1 =>
  if v1 = 0 then
    f722_2 mc S x1 x3 0
  else
    (f706 x3 0 1000000000000).bind fun v5 =>
    if v5 = 0 then
      f722_2 mc S x1 x3 0
    else
      f722_2 mc S x1 x3 1
def go722_3 (mc : Int32) (A : wK → Nat) (h : pm_H) (D : Nat) (R : Outcome × pm_H) (S : wS) : Int64 × Int64 × Int32 → Prop := fun (x1, x3, x5) => pm_go pm_prog (pm_call pm_prog D) 722 3 [.ref (A (0, 0, 0)), .long x1, pm_junk, .long x3, pm_junk, .int x5] [] (wput A (Cn_d mc) S h) = some R
def ex722_3 (mc : Int32) (A : wK → Nat) (h : pm_H) (D : Nat) (R : Outcome × pm_H) (S : wS) : (Int32) ⊕ (Unit) → Prop := fun b => match b with
  | (.inl xr0) => some (Outcome.returned (some (.int xr0)), (wput A (Cn_d mc) S h)) = some R
  | (.inr (_)) => ∀ q0 q1 q2 q3 q4 q5 : Value, pm_go pm_prog (pm_call pm_prog D) 722 5 [q0, q1, q2, q3, q4, q5] [] (wput A (Cn_d mc) S h) = some R
theorem y722_b3 {mc : Int32} {A : wK → Nat} {h : pm_H} {D : Nat} {R : Outcome × pm_H} {S : wS} (hP : Cn_P mc) (hA : wok A (Cn_d mc) h.1) (hL : A (90, 0, 0) = 1) (hD : 2 ≤ D) (a : Int64 × Int64 × Int32) (r : (Int64 × Int64 × Int32) ⊕ ((Int32) ⊕ (Unit))) (e : f722_b3 mc S a = some r) (hc : Sum.elim (go722_3 mc A h D R S) (ex722_3 mc A h D R S) r) : go722_3 mc A h D R S a := by
  obtain ⟨x1, x3, x5⟩ := a
  dsimp only [go722_3]
  simp only [f722_b3] at e
  rw [g722_3, b722_3]
  by_cases k1 : x5 ≤ 100
  · rw [if_pos k1] at e
    obtain ⟨v2, k2, e⟩ := Option.bind_eq_some_iff.mp e
    try dsimp only at e
    have z2 := x721 (D := D) (h := h) hP hA hL (by omega) k2
    by_cases k3 : v2 < x1
    · rw [if_pos k3] at e
      have e := Option.some.inj e; subst e
      dsimp only [Sum.elim_inl, go722_3] at hc
      simp -implicitDefEqProofs (disch := first | assumption | exact Nat.le_of_ble_eq_true rfl | decide) only [b722_0, g722_1, b722_1, g722_4, b722_4, g722_5, b722_5, pe_lload1, pe_bipush, pe_call3, pm_af_ret, pm_af_void, pm_af_thr, pe_if_eq, pe_lload3, pe_sipush, pe_goto, pe_goto_w, pe_call1, pe_istore5, pe_iload5, pe_icmp_gt, pe_aload0, pe_lcmp, pe_if_lt, pe_iinc5, pm_prog_1, pm_ob_some, Nat.reduceDiv, Nat.reduceMod, Nat.reduceMul, Nat.reduceAdd, Int.reduceToNat, pm_kill_i, pm_kill_r, pm_kill_n, pm_kill_j, pm_kill_l, pm_kill_d, pm_cats_nil, pm_cats_i, pm_cats_r, pm_cats_n, pm_cats_l, pm_cats_d, sz_1, sz_2, sl_1, sl_2, lc_0, lc_lt, lc_le, li_ne, va_rf, wr_m1, we_m1, pm_kill_w, Int32.reduceOfInt, Int64.reduceOfInt, Int32.reduceOfNat, Int32.reduceLT, Int32.reduceLE, Prod.mk.injEq, Nat.reduceEqDiff, reduceCtorEq, and_true, true_and, and_false, false_and, and_self, ite_true, ite_false, ↓reduceIte, not_true_eq_false, not_false_eq_true, pe_ri, pe_rz, pe_rc, p_throw, t722, w_junk hA, eq_true k1, z2, eq_true k3, hc]
    · rw [if_neg k3] at e
      have e := Option.some.inj e; subst e
      dsimp only [Sum.elim_inr, ex722_3] at hc
      have hc := Option.some.inj hc; subst hc
      simp -implicitDefEqProofs (disch := first | assumption | exact Nat.le_of_ble_eq_true rfl | decide) only [b722_0, g722_1, b722_1, g722_4, b722_4, g722_5, b722_5, pe_lload1, pe_bipush, pe_call3, pm_af_ret, pm_af_void, pm_af_thr, pe_if_eq, pe_lload3, pe_sipush, pe_goto, pe_goto_w, pe_call1, pe_istore5, pe_iload5, pe_icmp_gt, pe_aload0, pe_lcmp, pe_if_lt, pe_iinc5, pm_prog_1, pm_ob_some, Nat.reduceDiv, Nat.reduceMod, Nat.reduceMul, Nat.reduceAdd, Int.reduceToNat, pm_kill_i, pm_kill_r, pm_kill_n, pm_kill_j, pm_kill_l, pm_kill_d, pm_cats_nil, pm_cats_i, pm_cats_r, pm_cats_n, pm_cats_l, pm_cats_d, sz_1, sz_2, sl_1, sl_2, lc_0, lc_lt, lc_le, li_ne, va_rf, wr_m1, we_m1, pm_kill_w, Int32.reduceOfInt, Int64.reduceOfInt, Int32.reduceOfNat, Int32.reduceLT, Int32.reduceLE, Prod.mk.injEq, Nat.reduceEqDiff, reduceCtorEq, and_true, true_and, and_false, false_and, and_self, ite_true, ite_false, ↓reduceIte, not_true_eq_false, not_false_eq_true, pe_ri, pe_rz, pe_rc, p_throw, t722, w_junk hA, eq_true k1, z2, eq_false k3]
  · rw [if_neg k1] at e
    have e := Option.some.inj e; subst e
    dsimp only [Sum.elim_inr, ex722_3] at hc
    simp -implicitDefEqProofs (disch := first | assumption | exact Nat.le_of_ble_eq_true rfl | decide) only [b722_0, g722_1, b722_1, g722_4, b722_4, g722_5, b722_5, pe_lload1, pe_bipush, pe_call3, pm_af_ret, pm_af_void, pm_af_thr, pe_if_eq, pe_lload3, pe_sipush, pe_goto, pe_goto_w, pe_call1, pe_istore5, pe_iload5, pe_icmp_gt, pe_aload0, pe_lcmp, pe_if_lt, pe_iinc5, pm_prog_1, pm_ob_some, Nat.reduceDiv, Nat.reduceMod, Nat.reduceMul, Nat.reduceAdd, Int.reduceToNat, pm_kill_i, pm_kill_r, pm_kill_n, pm_kill_j, pm_kill_l, pm_kill_d, pm_cats_nil, pm_cats_i, pm_cats_r, pm_cats_n, pm_cats_l, pm_cats_d, sz_1, sz_2, sl_1, sl_2, lc_0, lc_lt, lc_le, li_ne, va_rf, wr_m1, we_m1, pm_kill_w, Int32.reduceOfInt, Int64.reduceOfInt, Int32.reduceOfNat, Int32.reduceLT, Int32.reduceLE, Prod.mk.injEq, Nat.reduceEqDiff, reduceCtorEq, and_true, true_and, and_false, false_and, and_self, ite_true, ite_false, ↓reduceIte, not_true_eq_false, not_false_eq_true, pe_ri, pe_rz, pe_rc, p_throw, t722, w_junk hA, eq_false k1, hc]
theorem z722_3 {mc : Int32} {A : wK → Nat} {h : pm_H} {D : Nat} {R : Outcome × pm_H} {S : wS} (hP : Cn_P mc) (hA : wok A (Cn_d mc) h.1) (hL : A (90, 0, 0) = 1) (hD : 2 ≤ D) {n : Nat} {a : Int64 × Int64 × Int32} {b : (Int32) ⊕ (Unit)} (e : lp (f722_b3 mc S) n a = some b) (hx : ex722_3 mc A h D R S b) : go722_3 mc A h D R S a := lp_run (fun a r => y722_b3 hP hA hL hD a r) n a b e hx
theorem y722_2 {mc : Int32} {A : wK → Nat} {h : pm_H} {D : Nat} {S : wS} {x1 : Int64} {x3 : Int64} {y0 : Int32} {r : Nat ⊕ (Int32)} (hP : Cn_P mc) (hA : wok A (Cn_d mc) h.1) (hL : A (90, 0, 0) = 1) (hD : 2 ≤ D) (e : f722_2 mc S x1 x3 y0 = some r) : ∀ q5 : Value, pm_go pm_prog (pm_call pm_prog D) 722 2 [.ref (A (0, 0, 0)), .long x1, pm_junk, .long x3, pm_junk, q5] [.int y0] (wput A (Cn_d mc) S h) = some (match (generalizing := false) r with | .inl c => (Outcome.threw c, (wput A (Cn_d mc) S (pm_new h 6 (.inr (c, []))))) | .inr w0 => (Outcome.returned (some (.int w0)), (wput A (Cn_d mc) S h))) := by
  intro q5
  simp only [f722_2] at e
  rw [g722_2, b722_2]
  obtain ⟨r, k1, e⟩ := Option.bind_eq_some_iff.mp e
  have z1 := fun h => x718 (D := D) (h := h) (by omega) k1
  rcases r with c4 | _
  · dsimp only at e z1
    have e := Option.some.inj e; subst e
    simp -implicitDefEqProofs (disch := first | assumption | exact Nat.le_of_ble_eq_true rfl | decide) only [b722_0, g722_1, b722_1, g722_4, b722_4, g722_5, b722_5, pe_lload1, pe_bipush, pe_call3, pm_af_ret, pm_af_void, pm_af_thr, pe_if_eq, pe_lload3, pe_sipush, pe_goto, pe_goto_w, pe_call1, pe_istore5, pe_iload5, pe_icmp_gt, pe_aload0, pe_lcmp, pe_if_lt, pe_iinc5, pm_prog_1, pm_ob_some, Nat.reduceDiv, Nat.reduceMod, Nat.reduceMul, Nat.reduceAdd, Int.reduceToNat, pm_kill_i, pm_kill_r, pm_kill_n, pm_kill_j, pm_kill_l, pm_kill_d, pm_cats_nil, pm_cats_i, pm_cats_r, pm_cats_n, pm_cats_l, pm_cats_d, sz_1, sz_2, sl_1, sl_2, lc_0, lc_lt, lc_le, li_ne, va_rf, wr_m1, we_m1, pm_kill_w, Int32.reduceOfInt, Int64.reduceOfInt, Int32.reduceOfNat, Int32.reduceLT, Int32.reduceLE, Prod.mk.injEq, Nat.reduceEqDiff, reduceCtorEq, and_true, true_and, and_false, false_and, and_self, ite_true, ite_false, ↓reduceIte, not_true_eq_false, not_false_eq_true, pe_ri, pe_rz, pe_rc, p_throw, t722, w_junk hA, z1]
  · dsimp only at e z1
    obtain ⟨b, k2, e⟩ := Option.bind_eq_some_iff.mp e
    rcases b with v3 | _
    ·
      try dsimp only at e
      try simp -implicitDefEqProofs (disch := first | assumption | exact Nat.le_of_ble_eq_true rfl | decide) only [b722_0, g722_1, b722_1, g722_4, b722_4, g722_5, b722_5, pe_lload1, pe_bipush, pe_call3, pm_af_ret, pm_af_void, pm_af_thr, pe_if_eq, pe_lload3, pe_sipush, pe_goto, pe_goto_w, pe_call1, pe_istore5, pe_iload5, pe_icmp_gt, pe_aload0, pe_lcmp, pe_if_lt, pe_iinc5, pm_prog_1, pm_ob_some, Nat.reduceDiv, Nat.reduceMod, Nat.reduceMul, Nat.reduceAdd, Int.reduceToNat, pm_kill_i, pm_kill_r, pm_kill_n, pm_kill_j, pm_kill_l, pm_kill_d, pm_cats_nil, pm_cats_i, pm_cats_r, pm_cats_n, pm_cats_l, pm_cats_d, sz_1, sz_2, sl_1, sl_2, lc_0, lc_lt, lc_le, li_ne, va_rf, wr_m1, we_m1, pm_kill_w, Int32.reduceOfInt, Int64.reduceOfInt, Int32.reduceOfNat, Int32.reduceLT, Int32.reduceLE, Prod.mk.injEq, Nat.reduceEqDiff, reduceCtorEq, and_true, true_and, and_false, false_and, and_self, ite_true, ite_false, ↓reduceIte, not_true_eq_false, not_false_eq_true, pe_ri, pe_rz, pe_rc, p_throw, t722, w_junk hA, z1]
      refine z722_3 hP hA hL hD k2 ?_
      dsimp only [ex722_3]
      have e := Option.some.inj e; subst e
      simp -implicitDefEqProofs (disch := first | assumption | exact Nat.le_of_ble_eq_true rfl | decide) only [b722_0, g722_1, b722_1, g722_4, b722_4, g722_5, b722_5, pe_lload1, pe_bipush, pe_call3, pm_af_ret, pm_af_void, pm_af_thr, pe_if_eq, pe_lload3, pe_sipush, pe_goto, pe_goto_w, pe_call1, pe_istore5, pe_iload5, pe_icmp_gt, pe_aload0, pe_lcmp, pe_if_lt, pe_iinc5, pm_prog_1, pm_ob_some, Nat.reduceDiv, Nat.reduceMod, Nat.reduceMul, Nat.reduceAdd, Int.reduceToNat, pm_kill_i, pm_kill_r, pm_kill_n, pm_kill_j, pm_kill_l, pm_kill_d, pm_cats_nil, pm_cats_i, pm_cats_r, pm_cats_n, pm_cats_l, pm_cats_d, sz_1, sz_2, sl_1, sl_2, lc_0, lc_lt, lc_le, li_ne, va_rf, wr_m1, we_m1, pm_kill_w, Int32.reduceOfInt, Int64.reduceOfInt, Int32.reduceOfNat, Int32.reduceLT, Int32.reduceLE, Prod.mk.injEq, Nat.reduceEqDiff, reduceCtorEq, and_true, true_and, and_false, false_and, and_self, ite_true, ite_false, ↓reduceIte, not_true_eq_false, not_false_eq_true, pe_ri, pe_rz, pe_rc, p_throw, t722, w_junk hA, z1]
    ·
      try dsimp only at e
      try simp -implicitDefEqProofs (disch := first | assumption | exact Nat.le_of_ble_eq_true rfl | decide) only [b722_0, g722_1, b722_1, g722_4, b722_4, g722_5, b722_5, pe_lload1, pe_bipush, pe_call3, pm_af_ret, pm_af_void, pm_af_thr, pe_if_eq, pe_lload3, pe_sipush, pe_goto, pe_goto_w, pe_call1, pe_istore5, pe_iload5, pe_icmp_gt, pe_aload0, pe_lcmp, pe_if_lt, pe_iinc5, pm_prog_1, pm_ob_some, Nat.reduceDiv, Nat.reduceMod, Nat.reduceMul, Nat.reduceAdd, Int.reduceToNat, pm_kill_i, pm_kill_r, pm_kill_n, pm_kill_j, pm_kill_l, pm_kill_d, pm_cats_nil, pm_cats_i, pm_cats_r, pm_cats_n, pm_cats_l, pm_cats_d, sz_1, sz_2, sl_1, sl_2, lc_0, lc_lt, lc_le, li_ne, va_rf, wr_m1, we_m1, pm_kill_w, Int32.reduceOfInt, Int64.reduceOfInt, Int32.reduceOfNat, Int32.reduceLT, Int32.reduceLE, Prod.mk.injEq, Nat.reduceEqDiff, reduceCtorEq, and_true, true_and, and_false, false_and, and_self, ite_true, ite_false, ↓reduceIte, not_true_eq_false, not_false_eq_true, pe_ri, pe_rz, pe_rc, p_throw, t722, w_junk hA, z1]
      refine z722_3 hP hA hL hD k2 ?_
      dsimp only [ex722_3]
      intro q0 q1 q2 q3 q4 q5
      have e := Option.some.inj e; subst e
      simp -implicitDefEqProofs (disch := first | assumption | exact Nat.le_of_ble_eq_true rfl | decide) only [b722_0, g722_1, b722_1, g722_4, b722_4, g722_5, b722_5, pe_lload1, pe_bipush, pe_call3, pm_af_ret, pm_af_void, pm_af_thr, pe_if_eq, pe_lload3, pe_sipush, pe_goto, pe_goto_w, pe_call1, pe_istore5, pe_iload5, pe_icmp_gt, pe_aload0, pe_lcmp, pe_if_lt, pe_iinc5, pm_prog_1, pm_ob_some, Nat.reduceDiv, Nat.reduceMod, Nat.reduceMul, Nat.reduceAdd, Int.reduceToNat, pm_kill_i, pm_kill_r, pm_kill_n, pm_kill_j, pm_kill_l, pm_kill_d, pm_cats_nil, pm_cats_i, pm_cats_r, pm_cats_n, pm_cats_l, pm_cats_d, sz_1, sz_2, sl_1, sl_2, lc_0, lc_lt, lc_le, li_ne, va_rf, wr_m1, we_m1, pm_kill_w, Int32.reduceOfInt, Int64.reduceOfInt, Int32.reduceOfNat, Int32.reduceLT, Int32.reduceLE, Prod.mk.injEq, Nat.reduceEqDiff, reduceCtorEq, and_true, true_and, and_false, false_and, and_self, ite_true, ite_false, ↓reduceIte, not_true_eq_false, not_false_eq_true, pe_ri, pe_rz, pe_rc, p_throw, t722, w_junk hA, z1]
theorem x722 {mc : Int32} {A : wK → Nat} {h : pm_H} {D : Nat} {S : wS} {x1 : Int64} {x3 : Int64} {r : Nat ⊕ (Int32)} (hP : Cn_P mc) (hA : wok A (Cn_d mc) h.1) (hL : A (90, 0, 0) = 1) (hD : 3 ≤ D) (e : f722 mc S x1 x3 = some r) : pm_call pm_prog D 722 [.ref (A (0, 0, 0)), .long x1, .long x3] (wput A (Cn_d mc) S h) = some (match (generalizing := false) r with | .inl c => (Outcome.threw c, (wput A (Cn_d mc) S (pm_new h 6 (.inr (c, []))))) | .inr w0 => (Outcome.returned (some (.int w0)), (wput A (Cn_d mc) S h))) := by
  obtain ⟨D, rfl⟩ : ∃ D', D = D' + 1 := ⟨D - 1, by omega⟩
  have hD : 2 ≤ D := by omega
  simp only [f722] at e
  rw [c722 (Cn_c0 hP hA), b722_0]
  obtain ⟨v1, k1, e⟩ := Option.bind_eq_some_iff.mp e
  try dsimp only at e
  have z1 := fun h => x706 (D := D) (h := h) (by omega) k1
  by_cases k2 : v1 = 0
  · rw [if_pos k2] at e
    have k3 := y722_2 (h := h) hP hA hL hD e
    simp -implicitDefEqProofs (disch := first | assumption | exact Nat.le_of_ble_eq_true rfl | decide) only [b722_0, g722_1, b722_1, g722_4, b722_4, g722_5, b722_5, pe_lload1, pe_bipush, pe_call3, pm_af_ret, pm_af_void, pm_af_thr, pe_if_eq, pe_lload3, pe_sipush, pe_goto, pe_goto_w, pe_call1, pe_istore5, pe_iload5, pe_icmp_gt, pe_aload0, pe_lcmp, pe_if_lt, pe_iinc5, pm_prog_1, pm_ob_some, Nat.reduceDiv, Nat.reduceMod, Nat.reduceMul, Nat.reduceAdd, Int.reduceToNat, pm_kill_i, pm_kill_r, pm_kill_n, pm_kill_j, pm_kill_l, pm_kill_d, pm_cats_nil, pm_cats_i, pm_cats_r, pm_cats_n, pm_cats_l, pm_cats_d, sz_1, sz_2, sl_1, sl_2, lc_0, lc_lt, lc_le, li_ne, va_rf, wr_m1, we_m1, pm_kill_w, Int32.reduceOfInt, Int64.reduceOfInt, Int32.reduceOfNat, Int32.reduceLT, Int32.reduceLE, Prod.mk.injEq, Nat.reduceEqDiff, reduceCtorEq, and_true, true_and, and_false, false_and, and_self, ite_true, ite_false, ↓reduceIte, not_true_eq_false, not_false_eq_true, pe_ri, pe_rz, pe_rc, p_throw, t722, w_junk hA, z1, eq_true k2, k3]
  · rw [if_neg k2] at e
    obtain ⟨v5, k4, e⟩ := Option.bind_eq_some_iff.mp e
    try dsimp only at e
    have z4 := fun h => x706 (D := D) (h := h) (by omega) k4
    by_cases k5 : v5 = 0
    · rw [if_pos k5] at e
      have k6 := y722_2 (h := h) hP hA hL hD e
      simp -implicitDefEqProofs (disch := first | assumption | exact Nat.le_of_ble_eq_true rfl | decide) only [b722_0, g722_1, b722_1, g722_4, b722_4, g722_5, b722_5, pe_lload1, pe_bipush, pe_call3, pm_af_ret, pm_af_void, pm_af_thr, pe_if_eq, pe_lload3, pe_sipush, pe_goto, pe_goto_w, pe_call1, pe_istore5, pe_iload5, pe_icmp_gt, pe_aload0, pe_lcmp, pe_if_lt, pe_iinc5, pm_prog_1, pm_ob_some, Nat.reduceDiv, Nat.reduceMod, Nat.reduceMul, Nat.reduceAdd, Int.reduceToNat, pm_kill_i, pm_kill_r, pm_kill_n, pm_kill_j, pm_kill_l, pm_kill_d, pm_cats_nil, pm_cats_i, pm_cats_r, pm_cats_n, pm_cats_l, pm_cats_d, sz_1, sz_2, sl_1, sl_2, lc_0, lc_lt, lc_le, li_ne, va_rf, wr_m1, we_m1, pm_kill_w, Int32.reduceOfInt, Int64.reduceOfInt, Int32.reduceOfNat, Int32.reduceLT, Int32.reduceLE, Prod.mk.injEq, Nat.reduceEqDiff, reduceCtorEq, and_true, true_and, and_false, false_and, and_self, ite_true, ite_false, ↓reduceIte, not_true_eq_false, not_false_eq_true, pe_ri, pe_rz, pe_rc, p_throw, t722, w_junk hA, z1, eq_false k2, z4, eq_true k5, k6]
    · rw [if_neg k5] at e
      have k7 := y722_2 (h := h) hP hA hL hD e
      simp -implicitDefEqProofs (disch := first | assumption | exact Nat.le_of_ble_eq_true rfl | decide) only [b722_0, g722_1, b722_1, g722_4, b722_4, g722_5, b722_5, pe_lload1, pe_bipush, pe_call3, pm_af_ret, pm_af_void, pm_af_thr, pe_if_eq, pe_lload3, pe_sipush, pe_goto, pe_goto_w, pe_call1, pe_istore5, pe_iload5, pe_icmp_gt, pe_aload0, pe_lcmp, pe_if_lt, pe_iinc5, pm_prog_1, pm_ob_some, Nat.reduceDiv, Nat.reduceMod, Nat.reduceMul, Nat.reduceAdd, Int.reduceToNat, pm_kill_i, pm_kill_r, pm_kill_n, pm_kill_j, pm_kill_l, pm_kill_d, pm_cats_nil, pm_cats_i, pm_cats_r, pm_cats_n, pm_cats_l, pm_cats_d, sz_1, sz_2, sl_1, sl_2, lc_0, lc_lt, lc_le, li_ne, va_rf, wr_m1, we_m1, pm_kill_w, Int32.reduceOfInt, Int64.reduceOfInt, Int32.reduceOfNat, Int32.reduceLT, Int32.reduceLE, Prod.mk.injEq, Nat.reduceEqDiff, reduceCtorEq, and_true, true_and, and_false, false_and, and_self, ite_true, ite_false, ↓reduceIte, not_true_eq_false, not_false_eq_true, pe_ri, pe_rz, pe_rc, p_throw, t722, w_junk hA, z1, eq_false k2, z4, eq_false k5, k7]
/-- TimberHouse$NailRules$Rule.space(I)I -/
theorem c771 {d : Nat} {h : pm_H} {a : Nat} {x0 : Int32} (hc : pm_cls h a = some 12) : pm_call pm_prog (d + 1) 771 [.ref a, .int x0] h = pm_ev pm_prog (pm_call pm_prog d) 771 0 b771_0 [.ref a, .int x0] [] h := pm_cal (pm_rc1 hc rfl) rfl rfl rfl
/-- TimberHouse$NailRules$Rule.space(I)I -/
noncomputable def f771 (mc : Int32) (S : wS) (x0i : Int32) (x1 : Int32) : Option (Int32) :=
  if 0 ≤ x0i ∧ x0i < 4 then
    if 0 ≤ x1 ∧ x1 < 7 then
      some ((S.1 (6, x0i, 0) x1) * (S.1 (6, x0i, 0) 0))
    else none
  else none
theorem x771 {mc : Int32} {A : wK → Nat} {h : pm_H} {D : Nat} {S : wS} {x0i : Int32} {x1 : Int32} {r : Int32} (hP : Cn_P mc) (hA : wok A (Cn_d mc) h.1) (hL : A (90, 0, 0) = 1) (hD : 1 ≤ D) (e : f771 mc S x0i x1 = some r) : pm_call pm_prog D 771 [.ref (A (5, x0i, 0)), .int x1] (wput A (Cn_d mc) S h) = some (Outcome.returned (some (.int r)), (wput A (Cn_d mc) S h)) := by
  obtain ⟨D, rfl⟩ : ∃ D', D = D' + 1 := ⟨D - 1, by omega⟩
  have hD : 0 ≤ D := by omega
  simp only [f771] at e
  have k1 : 0 ≤ x0i ∧ x0i < 4 := by
    by_cases q : 0 ≤ x0i ∧ x0i < 4
    · exact q
    · rw [if_neg q] at e; cases e
  rw [if_pos k1] at e
  rw [c771 (Cn_c5 hP hA k1), b771_0]
  by_cases k2 : 0 ≤ x1 ∧ x1 < 7
  · rw [if_pos k2] at e
    have e := Option.some.inj e; subst e
    simp -implicitDefEqProofs (disch := first | assumption | exact Nat.le_of_ble_eq_true rfl | decide) only [b771_0, pe_aload0, pe_getfield, pe_iload1, pe_iaload, pe_sipush, pe_imul, pm_prog_1, pm_ob_some, Nat.reduceDiv, Nat.reduceMod, Nat.reduceMul, Nat.reduceAdd, Int.reduceToNat, pm_kill_i, pm_kill_r, pm_kill_n, pm_kill_j, pm_kill_l, pm_kill_d, pm_cats_nil, pm_cats_i, pm_cats_r, pm_cats_n, pm_cats_l, pm_cats_d, sz_1, sz_2, sl_1, sl_2, lc_0, lc_lt, lc_le, li_ne, va_rf, wr_m1, we_m1, pm_kill_w, Int32.reduceOfInt, Int64.reduceOfInt, Int32.reduceOfNat, Int32.reduceLT, Int32.reduceLE, Prod.mk.injEq, Nat.reduceEqDiff, reduceCtorEq, and_true, true_and, and_false, false_and, and_self, ite_true, ite_false, ↓reduceIte, not_true_eq_false, not_false_eq_true, pe_ri, pe_rz, pe_rc, Cn_g5_0 hP hA, Cn_r6 hP hA]
  · rw [if_neg k2] at e; cases e
/-- TimberHouse$NailRules.fit(II)I -/
theorem c724 {d : Nat} {h : pm_H} {x0 : Int32} {x1 : Int32} : pm_call pm_prog (d + 1) 724 [.int x0, .int x1] h = pm_ev pm_prog (pm_call pm_prog d) 724 0 b724_0 [.int x0, .int x1] [] h := pm_cal (pm_rc0 rfl) rfl rfl rfl
theorem g724_1 {cl : pm_C} {ls st : List Value} {h : pm_H} : pm_go pm_prog cl 724 1 ls st h = pm_ev pm_prog cl 724 1 b724_1 ls st h := pm_go_eq pm_prog cl 724 1 ls st h
theorem g724_2 {cl : pm_C} {ls st : List Value} {h : pm_H} : pm_go pm_prog cl 724 2 ls st h = pm_ev pm_prog cl 724 2 b724_2 ls st h := pm_go_eq pm_prog cl 724 2 ls st h
/-- TimberHouse$NailRules.fit(II)I -/
noncomputable def f724 (x0 : Int32) (x1 : Int32) : Option (Int32) :=
  if x0 < 0 then
    some 0
  else
    if ¬ x1 = 0 then
      some ((x0 / x1) + 1)
    else none
theorem x724 {h : pm_H} {D : Nat} {x0 : Int32} {x1 : Int32} {r : Int32} (hD : 1 ≤ D) (e : f724 x0 x1 = some r) : pm_call pm_prog D 724 [.int x0, .int x1] h = some (Outcome.returned (some (.int r)), h) := by
  obtain ⟨D, rfl⟩ : ∃ D', D = D' + 1 := ⟨D - 1, by omega⟩
  have hD : 0 ≤ D := by omega
  simp only [f724] at e
  rw [c724, b724_0]
  by_cases k1 : x0 < 0
  · rw [if_pos k1] at e
    have e := Option.some.inj e; subst e
    simp -implicitDefEqProofs (disch := first | assumption | exact Nat.le_of_ble_eq_true rfl | decide) only [b724_0, g724_1, b724_1, g724_2, b724_2, pe_iload0, pe_if_ge, pe_sipush, pe_goto, pe_iload1, pe_idiv, pe_iadd, pe_goto_w, pm_prog_1, pm_ob_some, Nat.reduceDiv, Nat.reduceMod, Nat.reduceMul, Nat.reduceAdd, Int.reduceToNat, pm_kill_i, pm_kill_r, pm_kill_n, pm_kill_j, pm_kill_l, pm_kill_d, pm_cats_nil, pm_cats_i, pm_cats_r, pm_cats_n, pm_cats_l, pm_cats_d, sz_1, sz_2, sl_1, sl_2, lc_0, lc_lt, lc_le, li_ne, va_rf, wr_m1, we_m1, pm_kill_w, Int32.reduceOfInt, Int64.reduceOfInt, Int32.reduceOfNat, Int32.reduceLT, Int32.reduceLE, Prod.mk.injEq, Nat.reduceEqDiff, reduceCtorEq, and_true, true_and, and_false, false_and, and_self, ite_true, ite_false, ↓reduceIte, not_true_eq_false, not_false_eq_true, pe_ri, pe_rz, pe_rc, eq_true k1]
  · rw [if_neg k1] at e
    by_cases k2 : ¬ x1 = 0
    · rw [if_pos k2] at e
      have e := Option.some.inj e; subst e
      simp -implicitDefEqProofs (disch := first | assumption | exact Nat.le_of_ble_eq_true rfl | decide) only [b724_0, g724_1, b724_1, g724_2, b724_2, pe_iload0, pe_if_ge, pe_sipush, pe_goto, pe_iload1, pe_idiv, pe_iadd, pe_goto_w, pm_prog_1, pm_ob_some, Nat.reduceDiv, Nat.reduceMod, Nat.reduceMul, Nat.reduceAdd, Int.reduceToNat, pm_kill_i, pm_kill_r, pm_kill_n, pm_kill_j, pm_kill_l, pm_kill_d, pm_cats_nil, pm_cats_i, pm_cats_r, pm_cats_n, pm_cats_l, pm_cats_d, sz_1, sz_2, sl_1, sl_2, lc_0, lc_lt, lc_le, li_ne, va_rf, wr_m1, we_m1, pm_kill_w, Int32.reduceOfInt, Int64.reduceOfInt, Int32.reduceOfNat, Int32.reduceLT, Int32.reduceLE, Prod.mk.injEq, Nat.reduceEqDiff, reduceCtorEq, and_true, true_and, and_false, false_and, and_self, ite_true, ite_false, ↓reduceIte, not_true_eq_false, not_false_eq_true, pe_ri, pe_rz, pe_rc, eq_false k1]
    · rw [if_neg k2] at e; cases e
/-- TimberHouse$NailRules.pattern(IIII)Z -/
theorem c723 {d : Nat} {h : pm_H} {a : Nat} {x0 : Int32} {x1 : Int32} {x2 : Int32} {x3 : Int32} (hc : pm_cls h a = some 11) : pm_call pm_prog (d + 1) 723 [.ref a, .int x0, .int x1, .int x2, .int x3] h = pm_ev pm_prog (pm_call pm_prog d) 723 0 b723_0 [.ref a, .int x0, .int x1, .int x2, .int x3, pm_junk, pm_junk, pm_junk, pm_junk] [] h := pm_cal (pm_rc1 hc rfl) rfl rfl rfl
theorem g723_1 {cl : pm_C} {ls st : List Value} {h : pm_H} : pm_go pm_prog cl 723 1 ls st h = pm_ev pm_prog cl 723 1 b723_1 ls st h := pm_go_eq pm_prog cl 723 1 ls st h
theorem g723_2 {cl : pm_C} {ls st : List Value} {h : pm_H} : pm_go pm_prog cl 723 2 ls st h = pm_ev pm_prog cl 723 2 b723_2 ls st h := pm_go_eq pm_prog cl 723 2 ls st h
theorem g723_3 {cl : pm_C} {ls st : List Value} {h : pm_H} : pm_go pm_prog cl 723 3 ls st h = pm_ev pm_prog cl 723 3 b723_3 ls st h := pm_go_eq pm_prog cl 723 3 ls st h
theorem g723_4 {cl : pm_C} {ls st : List Value} {h : pm_H} : pm_go pm_prog cl 723 4 ls st h = pm_ev pm_prog cl 723 4 b723_4 ls st h := pm_go_eq pm_prog cl 723 4 ls st h
theorem g723_5 {cl : pm_C} {ls st : List Value} {h : pm_H} : pm_go pm_prog cl 723 5 ls st h = pm_ev pm_prog cl 723 5 b723_5 ls st h := pm_go_eq pm_prog cl 723 5 ls st h
theorem t723 {cl : pm_C} {j : Nat} {ls : List Value} {c : Nat} {h : pm_H} : pm_thr pm_prog cl 723 j ls c h = some (.threw c, h) := rfl
noncomputable def f723_b4 (mc : Int32) : Int32 × Int32 × wS → Option ((Int32 × Int32 × wS) ⊕ ((wS))) := fun (x5i, x8, S) =>
  if 0 ≤ x5i ∧ x5i < 4 then
    if x8 < 4 then
      (f771 mc S x5i (x8 + 2)).bind fun v9 =>
      if 0 ≤ x8 ∧ x8 < 4 then
        some (.inl (x5i, (x8 + 1), (sz S (8, 0, 0) x8 v9)))
      else none
    else
      some (.inr S)
  else none
noncomputable def f723_2 (mc : Int32) (S : wS) (x1 : Int32) (x2 : Int32) (x3 : Int32) (x4 : Int32) (x5i : Int32) (y0 : Int32) : Option ((Nat × wS) ⊕ (Int32 × wS)) :=
  if 0 ≤ x5i ∧ x5i < 4 then
    (f718 y0).bind fun r => match r with
    | .inl c11 =>
      some (.inl (c11, S))
    | .inr _ =>
    (f771 mc S x5i 3).bind fun v3 =>
    (f771 mc S x5i 4).bind fun v4 =>
    (f724 (x2 - (2 * v3)) v4).bind fun v5 =>
    (f771 mc S x5i 2).bind fun v6 =>
    (f771 mc S x5i 5).bind fun v7 =>
    (f724 (x3 - (2 * v6)) v7).bind fun v8 =>
    if ((Int32.toInt64 v5) * (Int32.toInt64 v8)) < (Int32.toInt64 x4) then
      some (.inr (0, S))
    else
      (lp (f723_b4 mc) FU (x5i, 0, (sz (sz (sz S (0, 0, 0) 7 x1) (0, 0, 0) 8 v5) (0, 0, 0) 9 x4))).bind fun S10 =>
      some (.inr (1, S10))
  else none
/-- TimberHouse$NailRules.pattern(IIII)Z -/
noncomputable def f723 (mc : Int32) (S : wS) (x1 : Int32) (x2 : Int32) (x3 : Int32) (x4 : Int32) : Option ((Nat × wS) ⊕ (Int32 × wS)) :=
  (f715 mc S x1).bind fun r => match r with
  | .inl c14 =>
    some (.inl (c14, S))
  | .inr v1i =>
  if 0 ≤ v1i ∧ v1i < 4 then
    (f706 (Int32.toInt64 x2) 1 100000).bind fun v2 =>
    if v2 = 0 then
      f723_2 mc S x1 x2 x3 x4 v1i 0
    else
      (f706 (Int32.toInt64 x3) 1 100000).bind fun v12 =>
      if v12 = 0 then
        f723_2 mc S x1 x2 x3 x4 v1i 0
      else
        (f706 (Int32.toInt64 x4) 1 100).bind fun v13 =>
        if v13 = 0 then
          f723_2 mc S x1 x2 x3 x4 v1i 0
        else
          f723_2 mc S x1 x2 x3 x4 v1i 1
  else none
def go723_4 (mc : Int32) (A : wK → Nat) (h : pm_H) (D : Nat) (R : Outcome × pm_H) : Int32 × Int32 × wS → Prop := fun (x5i, x8, S) => ∀ q1 q2 q3 q4 q6 q7 : Value, pm_go pm_prog (pm_call pm_prog D) 723 4 [.ref (A (0, 0, 0)), q1, q2, q3, q4, .ref (A (5, x5i, 0)), q6, q7, .int x8] [] (wput A (Cn_d mc) S h) = some R
def ex723_4 (mc : Int32) (A : wK → Nat) (h : pm_H) (D : Nat) (R : Outcome × pm_H) : (wS) → Prop := fun S => ∀ q0 q1 q2 q3 q4 q5 q6 q7 q8 : Value, pm_go pm_prog (pm_call pm_prog D) 723 5 [q0, q1, q2, q3, q4, q5, q6, q7, q8] [] (wput A (Cn_d mc) S h) = some R
theorem y723_b4 {mc : Int32} {A : wK → Nat} {h : pm_H} {D : Nat} {R : Outcome × pm_H} (hP : Cn_P mc) (hA : wok A (Cn_d mc) h.1) (hL : A (90, 0, 0) = 1) (hD : 2 ≤ D) (a : Int32 × Int32 × wS) (r : (Int32 × Int32 × wS) ⊕ ((wS))) (e : f723_b4 mc a = some r) (hc : Sum.elim (go723_4 mc A h D R) (ex723_4 mc A h D R) r) : go723_4 mc A h D R a := by
  obtain ⟨x5i, x8, S⟩ := a
  dsimp only [go723_4]
  intro q1 q2 q3 q4 q6 q7
  simp only [f723_b4] at e
  rw [g723_4, b723_4]
  by_cases k1 : 0 ≤ x5i ∧ x5i < 4
  · rw [if_pos k1] at e
    by_cases k2 : x8 < 4
    · rw [if_pos k2] at e
      obtain ⟨v9, k3, e⟩ := Option.bind_eq_some_iff.mp e
      try dsimp only at e
      have z3 := x771 (D := D) (h := h) hP hA hL (by omega) k3
      by_cases k4 : 0 ≤ x8 ∧ x8 < 4
      · rw [if_pos k4] at e
        have e := Option.some.inj e; subst e
        dsimp only [Sum.elim_inl, go723_4] at hc
        simp -implicitDefEqProofs (disch := first | assumption | exact Nat.le_of_ble_eq_true rfl | decide) only [b723_0, g723_1, b723_1, g723_3, b723_3, g723_5, b723_5, pe_aload0, pe_iload1, pe_call2, pm_af_ret, pm_af_void, pm_af_thr, pe_astore5, pe_iload2, pe_i2l, pe_bipush, pe_call3, pe_if_eq, pe_iload3, pe_iload4, pe_sipush, pe_goto, pe_goto_w, pe_call1, pe_aload5, pe_imul, pe_isub, pe_istore6, pe_istore7, pe_iload6, pe_iload7, pe_lmul, pe_lcmp, pe_if_ge, pe_putfield, pe_istore8, pe_iload8, pe_icmp_ge, pe_getfield, pe_iadd, pe_iastore, pe_iinc8, pm_prog_1, pm_ob_some, Nat.reduceDiv, Nat.reduceMod, Nat.reduceMul, Nat.reduceAdd, Int.reduceToNat, pm_kill_i, pm_kill_r, pm_kill_n, pm_kill_j, pm_kill_l, pm_kill_d, pm_cats_nil, pm_cats_i, pm_cats_r, pm_cats_n, pm_cats_l, pm_cats_d, sz_1, sz_2, sl_1, sl_2, lc_0, lc_lt, lc_le, li_ne, va_rf, wr_m1, we_m1, pm_kill_w, Int32.reduceOfInt, Int64.reduceOfInt, Int32.reduceOfNat, Int32.reduceLT, Int32.reduceLE, Prod.mk.injEq, Nat.reduceEqDiff, reduceCtorEq, and_true, true_and, and_false, false_and, and_self, ite_true, ite_false, ↓reduceIte, not_true_eq_false, not_false_eq_true, pe_ri, pe_rz, pe_rc, p_throw, t723, w_junk hA, Cn_g0_10 hP hA, Cn_p0_7 hP hA, Cn_p0_8 hP hA, Cn_p0_9 hP hA, Cn_w8 hP hA, eq_true k2, z3, hc]
      · rw [if_neg k4] at e; cases e
    · rw [if_neg k2] at e
      have e := Option.some.inj e; subst e
      dsimp only [Sum.elim_inr, ex723_4] at hc
      simp -implicitDefEqProofs (disch := first | assumption | exact Nat.le_of_ble_eq_true rfl | decide) only [b723_0, g723_1, b723_1, g723_3, b723_3, g723_5, b723_5, pe_aload0, pe_iload1, pe_call2, pm_af_ret, pm_af_void, pm_af_thr, pe_astore5, pe_iload2, pe_i2l, pe_bipush, pe_call3, pe_if_eq, pe_iload3, pe_iload4, pe_sipush, pe_goto, pe_goto_w, pe_call1, pe_aload5, pe_imul, pe_isub, pe_istore6, pe_istore7, pe_iload6, pe_iload7, pe_lmul, pe_lcmp, pe_if_ge, pe_putfield, pe_istore8, pe_iload8, pe_icmp_ge, pe_getfield, pe_iadd, pe_iastore, pe_iinc8, pm_prog_1, pm_ob_some, Nat.reduceDiv, Nat.reduceMod, Nat.reduceMul, Nat.reduceAdd, Int.reduceToNat, pm_kill_i, pm_kill_r, pm_kill_n, pm_kill_j, pm_kill_l, pm_kill_d, pm_cats_nil, pm_cats_i, pm_cats_r, pm_cats_n, pm_cats_l, pm_cats_d, sz_1, sz_2, sl_1, sl_2, lc_0, lc_lt, lc_le, li_ne, va_rf, wr_m1, we_m1, pm_kill_w, Int32.reduceOfInt, Int64.reduceOfInt, Int32.reduceOfNat, Int32.reduceLT, Int32.reduceLE, Prod.mk.injEq, Nat.reduceEqDiff, reduceCtorEq, and_true, true_and, and_false, false_and, and_self, ite_true, ite_false, ↓reduceIte, not_true_eq_false, not_false_eq_true, pe_ri, pe_rz, pe_rc, p_throw, t723, w_junk hA, Cn_g0_10 hP hA, Cn_p0_7 hP hA, Cn_p0_8 hP hA, Cn_p0_9 hP hA, Cn_w8 hP hA, eq_false k2, hc]
  · rw [if_neg k1] at e; cases e
theorem z723_4 {mc : Int32} {A : wK → Nat} {h : pm_H} {D : Nat} {R : Outcome × pm_H} (hP : Cn_P mc) (hA : wok A (Cn_d mc) h.1) (hL : A (90, 0, 0) = 1) (hD : 2 ≤ D) {n : Nat} {a : Int32 × Int32 × wS} {b : (wS)} (e : lp (f723_b4 mc) n a = some b) (hx : ex723_4 mc A h D R b) : go723_4 mc A h D R a := lp_run (fun a r => y723_b4 hP hA hL hD a r) n a b e hx
theorem y723_2 {mc : Int32} {A : wK → Nat} {h : pm_H} {D : Nat} {S : wS} {x1 : Int32} {x2 : Int32} {x3 : Int32} {x4 : Int32} {x5i : Int32} {y0 : Int32} {r : (Nat × wS) ⊕ (Int32 × wS)} (hP : Cn_P mc) (hA : wok A (Cn_d mc) h.1) (hL : A (90, 0, 0) = 1) (hD : 2 ≤ D) (e : f723_2 mc S x1 x2 x3 x4 x5i y0 = some r) : ∀ q6 q7 q8 : Value, pm_go pm_prog (pm_call pm_prog D) 723 2 [.ref (A (0, 0, 0)), .int x1, .int x2, .int x3, .int x4, .ref (A (5, x5i, 0)), q6, q7, q8] [.int y0] (wput A (Cn_d mc) S h) = some (match (generalizing := false) r with | .inl (c, S1) => (Outcome.threw c, (wput A (Cn_d mc) S1 (pm_new h 6 (.inr (c, []))))) | .inr (w0, S1) => (Outcome.returned (some (.int w0)), (wput A (Cn_d mc) S1 h))) := by
  intro q6 q7 q8
  simp only [f723_2] at e
  rw [g723_2, b723_2]
  by_cases k1 : 0 ≤ x5i ∧ x5i < 4
  · rw [if_pos k1] at e
    obtain ⟨r, k2, e⟩ := Option.bind_eq_some_iff.mp e
    have z2 := fun h => x718 (D := D) (h := h) (by omega) k2
    rcases r with c11 | _
    · dsimp only at e z2
      have e := Option.some.inj e; subst e
      simp -implicitDefEqProofs (disch := first | assumption | exact Nat.le_of_ble_eq_true rfl | decide) only [b723_0, g723_1, b723_1, g723_3, b723_3, g723_5, b723_5, pe_aload0, pe_iload1, pe_call2, pm_af_ret, pm_af_void, pm_af_thr, pe_astore5, pe_iload2, pe_i2l, pe_bipush, pe_call3, pe_if_eq, pe_iload3, pe_iload4, pe_sipush, pe_goto, pe_goto_w, pe_call1, pe_aload5, pe_imul, pe_isub, pe_istore6, pe_istore7, pe_iload6, pe_iload7, pe_lmul, pe_lcmp, pe_if_ge, pe_putfield, pe_istore8, pe_iload8, pe_icmp_ge, pe_getfield, pe_iadd, pe_iastore, pe_iinc8, pm_prog_1, pm_ob_some, Nat.reduceDiv, Nat.reduceMod, Nat.reduceMul, Nat.reduceAdd, Int.reduceToNat, pm_kill_i, pm_kill_r, pm_kill_n, pm_kill_j, pm_kill_l, pm_kill_d, pm_cats_nil, pm_cats_i, pm_cats_r, pm_cats_n, pm_cats_l, pm_cats_d, sz_1, sz_2, sl_1, sl_2, lc_0, lc_lt, lc_le, li_ne, va_rf, wr_m1, we_m1, pm_kill_w, Int32.reduceOfInt, Int64.reduceOfInt, Int32.reduceOfNat, Int32.reduceLT, Int32.reduceLE, Prod.mk.injEq, Nat.reduceEqDiff, reduceCtorEq, and_true, true_and, and_false, false_and, and_self, ite_true, ite_false, ↓reduceIte, not_true_eq_false, not_false_eq_true, pe_ri, pe_rz, pe_rc, p_throw, t723, w_junk hA, Cn_g0_10 hP hA, Cn_p0_7 hP hA, Cn_p0_8 hP hA, Cn_p0_9 hP hA, Cn_w8 hP hA, z2]
    · dsimp only at e z2
      obtain ⟨v3, k3, e⟩ := Option.bind_eq_some_iff.mp e
      try dsimp only at e
      have z3 := x771 (D := D) (h := h) hP hA hL (by omega) k3
      obtain ⟨v4, k4, e⟩ := Option.bind_eq_some_iff.mp e
      try dsimp only at e
      have z4 := x771 (D := D) (h := h) hP hA hL (by omega) k4
      obtain ⟨v5, k5, e⟩ := Option.bind_eq_some_iff.mp e
      try dsimp only at e
      have z5 := fun h => x724 (D := D) (h := h) (by omega) k5
      obtain ⟨v6, k6, e⟩ := Option.bind_eq_some_iff.mp e
      try dsimp only at e
      have z6 := x771 (D := D) (h := h) hP hA hL (by omega) k6
      obtain ⟨v7, k7, e⟩ := Option.bind_eq_some_iff.mp e
      try dsimp only at e
      have z7 := x771 (D := D) (h := h) hP hA hL (by omega) k7
      obtain ⟨v8, k8, e⟩ := Option.bind_eq_some_iff.mp e
      try dsimp only at e
      have z8 := fun h => x724 (D := D) (h := h) (by omega) k8
      by_cases k9 : ((Int32.toInt64 v5) * (Int32.toInt64 v8)) < (Int32.toInt64 x4)
      · rw [if_pos k9] at e
        have e := Option.some.inj e; subst e
        simp -implicitDefEqProofs (disch := first | assumption | exact Nat.le_of_ble_eq_true rfl | decide) only [b723_0, g723_1, b723_1, g723_3, b723_3, g723_5, b723_5, pe_aload0, pe_iload1, pe_call2, pm_af_ret, pm_af_void, pm_af_thr, pe_astore5, pe_iload2, pe_i2l, pe_bipush, pe_call3, pe_if_eq, pe_iload3, pe_iload4, pe_sipush, pe_goto, pe_goto_w, pe_call1, pe_aload5, pe_imul, pe_isub, pe_istore6, pe_istore7, pe_iload6, pe_iload7, pe_lmul, pe_lcmp, pe_if_ge, pe_putfield, pe_istore8, pe_iload8, pe_icmp_ge, pe_getfield, pe_iadd, pe_iastore, pe_iinc8, pm_prog_1, pm_ob_some, Nat.reduceDiv, Nat.reduceMod, Nat.reduceMul, Nat.reduceAdd, Int.reduceToNat, pm_kill_i, pm_kill_r, pm_kill_n, pm_kill_j, pm_kill_l, pm_kill_d, pm_cats_nil, pm_cats_i, pm_cats_r, pm_cats_n, pm_cats_l, pm_cats_d, sz_1, sz_2, sl_1, sl_2, lc_0, lc_lt, lc_le, li_ne, va_rf, wr_m1, we_m1, pm_kill_w, Int32.reduceOfInt, Int64.reduceOfInt, Int32.reduceOfNat, Int32.reduceLT, Int32.reduceLE, Prod.mk.injEq, Nat.reduceEqDiff, reduceCtorEq, and_true, true_and, and_false, false_and, and_self, ite_true, ite_false, ↓reduceIte, not_true_eq_false, not_false_eq_true, pe_ri, pe_rz, pe_rc, p_throw, t723, w_junk hA, Cn_g0_10 hP hA, Cn_p0_7 hP hA, Cn_p0_8 hP hA, Cn_p0_9 hP hA, Cn_w8 hP hA, z2, z3, z4, z5, z6, z7, z8, eq_true k9]
      · rw [if_neg k9] at e
        obtain ⟨S10, k10, e⟩ := Option.bind_eq_some_iff.mp e
        try dsimp only at e
        try simp -implicitDefEqProofs (disch := first | assumption | exact Nat.le_of_ble_eq_true rfl | decide) only [b723_0, g723_1, b723_1, g723_3, b723_3, g723_5, b723_5, pe_aload0, pe_iload1, pe_call2, pm_af_ret, pm_af_void, pm_af_thr, pe_astore5, pe_iload2, pe_i2l, pe_bipush, pe_call3, pe_if_eq, pe_iload3, pe_iload4, pe_sipush, pe_goto, pe_goto_w, pe_call1, pe_aload5, pe_imul, pe_isub, pe_istore6, pe_istore7, pe_iload6, pe_iload7, pe_lmul, pe_lcmp, pe_if_ge, pe_putfield, pe_istore8, pe_iload8, pe_icmp_ge, pe_getfield, pe_iadd, pe_iastore, pe_iinc8, pm_prog_1, pm_ob_some, Nat.reduceDiv, Nat.reduceMod, Nat.reduceMul, Nat.reduceAdd, Int.reduceToNat, pm_kill_i, pm_kill_r, pm_kill_n, pm_kill_j, pm_kill_l, pm_kill_d, pm_cats_nil, pm_cats_i, pm_cats_r, pm_cats_n, pm_cats_l, pm_cats_d, sz_1, sz_2, sl_1, sl_2, lc_0, lc_lt, lc_le, li_ne, va_rf, wr_m1, we_m1, pm_kill_w, Int32.reduceOfInt, Int64.reduceOfInt, Int32.reduceOfNat, Int32.reduceLT, Int32.reduceLE, Prod.mk.injEq, Nat.reduceEqDiff, reduceCtorEq, and_true, true_and, and_false, false_and, and_self, ite_true, ite_false, ↓reduceIte, not_true_eq_false, not_false_eq_true, pe_ri, pe_rz, pe_rc, p_throw, t723, w_junk hA, Cn_g0_10 hP hA, Cn_p0_7 hP hA, Cn_p0_8 hP hA, Cn_p0_9 hP hA, Cn_w8 hP hA, z2, z3, z4, z5, z6, z7, z8, eq_false k9]
        refine z723_4 hP hA hL hD k10 ?_ _ _ _ _ _ _
        dsimp only [ex723_4]
        intro q0 q1 q2 q3 q4 q5 q6 q7 q8
        have e := Option.some.inj e; subst e
        simp -implicitDefEqProofs (disch := first | assumption | exact Nat.le_of_ble_eq_true rfl | decide) only [b723_0, g723_1, b723_1, g723_3, b723_3, g723_5, b723_5, pe_aload0, pe_iload1, pe_call2, pm_af_ret, pm_af_void, pm_af_thr, pe_astore5, pe_iload2, pe_i2l, pe_bipush, pe_call3, pe_if_eq, pe_iload3, pe_iload4, pe_sipush, pe_goto, pe_goto_w, pe_call1, pe_aload5, pe_imul, pe_isub, pe_istore6, pe_istore7, pe_iload6, pe_iload7, pe_lmul, pe_lcmp, pe_if_ge, pe_putfield, pe_istore8, pe_iload8, pe_icmp_ge, pe_getfield, pe_iadd, pe_iastore, pe_iinc8, pm_prog_1, pm_ob_some, Nat.reduceDiv, Nat.reduceMod, Nat.reduceMul, Nat.reduceAdd, Int.reduceToNat, pm_kill_i, pm_kill_r, pm_kill_n, pm_kill_j, pm_kill_l, pm_kill_d, pm_cats_nil, pm_cats_i, pm_cats_r, pm_cats_n, pm_cats_l, pm_cats_d, sz_1, sz_2, sl_1, sl_2, lc_0, lc_lt, lc_le, li_ne, va_rf, wr_m1, we_m1, pm_kill_w, Int32.reduceOfInt, Int64.reduceOfInt, Int32.reduceOfNat, Int32.reduceLT, Int32.reduceLE, Prod.mk.injEq, Nat.reduceEqDiff, reduceCtorEq, and_true, true_and, and_false, false_and, and_self, ite_true, ite_false, ↓reduceIte, not_true_eq_false, not_false_eq_true, pe_ri, pe_rz, pe_rc, p_throw, t723, w_junk hA, Cn_g0_10 hP hA, Cn_p0_7 hP hA, Cn_p0_8 hP hA, Cn_p0_9 hP hA, Cn_w8 hP hA, z2, z3, z4, z5, z6, z7, z8, eq_false k9]
  · rw [if_neg k1] at e; cases e
theorem x723 {mc : Int32} {A : wK → Nat} {h : pm_H} {D : Nat} {S : wS} {x1 : Int32} {x2 : Int32} {x3 : Int32} {x4 : Int32} {r : (Nat × wS) ⊕ (Int32 × wS)} (hP : Cn_P mc) (hA : wok A (Cn_d mc) h.1) (hL : A (90, 0, 0) = 1) (hD : 3 ≤ D) (e : f723 mc S x1 x2 x3 x4 = some r) : pm_call pm_prog D 723 [.ref (A (0, 0, 0)), .int x1, .int x2, .int x3, .int x4] (wput A (Cn_d mc) S h) = some (match (generalizing := false) r with | .inl (c, S1) => (Outcome.threw c, (wput A (Cn_d mc) S1 (pm_new h 6 (.inr (c, []))))) | .inr (w0, S1) => (Outcome.returned (some (.int w0)), (wput A (Cn_d mc) S1 h))) := by
  obtain ⟨D, rfl⟩ : ∃ D', D = D' + 1 := ⟨D - 1, by omega⟩
  have hD : 2 ≤ D := by omega
  simp only [f723] at e
  rw [c723 (Cn_c0 hP hA), b723_0]
  obtain ⟨r, k1, e⟩ := Option.bind_eq_some_iff.mp e
  have z1 := x715 (D := D) (h := h) hP hA hL (by omega) k1
  rcases r with c14 | v1i
  · dsimp only at e z1
    have e := Option.some.inj e; subst e
    simp -implicitDefEqProofs (disch := first | assumption | exact Nat.le_of_ble_eq_true rfl | decide) only [b723_0, g723_1, b723_1, g723_3, b723_3, g723_5, b723_5, pe_aload0, pe_iload1, pe_call2, pm_af_ret, pm_af_void, pm_af_thr, pe_astore5, pe_iload2, pe_i2l, pe_bipush, pe_call3, pe_if_eq, pe_iload3, pe_iload4, pe_sipush, pe_goto, pe_goto_w, pe_call1, pe_aload5, pe_imul, pe_isub, pe_istore6, pe_istore7, pe_iload6, pe_iload7, pe_lmul, pe_lcmp, pe_if_ge, pe_putfield, pe_istore8, pe_iload8, pe_icmp_ge, pe_getfield, pe_iadd, pe_iastore, pe_iinc8, pm_prog_1, pm_ob_some, Nat.reduceDiv, Nat.reduceMod, Nat.reduceMul, Nat.reduceAdd, Int.reduceToNat, pm_kill_i, pm_kill_r, pm_kill_n, pm_kill_j, pm_kill_l, pm_kill_d, pm_cats_nil, pm_cats_i, pm_cats_r, pm_cats_n, pm_cats_l, pm_cats_d, sz_1, sz_2, sl_1, sl_2, lc_0, lc_lt, lc_le, li_ne, va_rf, wr_m1, we_m1, pm_kill_w, Int32.reduceOfInt, Int64.reduceOfInt, Int32.reduceOfNat, Int32.reduceLT, Int32.reduceLE, Prod.mk.injEq, Nat.reduceEqDiff, reduceCtorEq, and_true, true_and, and_false, false_and, and_self, ite_true, ite_false, ↓reduceIte, not_true_eq_false, not_false_eq_true, pe_ri, pe_rz, pe_rc, p_throw, t723, w_junk hA, Cn_g0_10 hP hA, Cn_p0_7 hP hA, Cn_p0_8 hP hA, Cn_p0_9 hP hA, Cn_w8 hP hA, z1]
  · dsimp only at e z1
    by_cases k2 : 0 ≤ v1i ∧ v1i < 4
    · rw [if_pos k2] at e
      obtain ⟨v2, k3, e⟩ := Option.bind_eq_some_iff.mp e
      try dsimp only at e
      have z3 := fun h => x706 (D := D) (h := h) (by omega) k3
      by_cases k4 : v2 = 0
      · rw [if_pos k4] at e
        have k5 := y723_2 (h := h) hP hA hL hD e
        simp -implicitDefEqProofs (disch := first | assumption | exact Nat.le_of_ble_eq_true rfl | decide) only [b723_0, g723_1, b723_1, g723_3, b723_3, g723_5, b723_5, pe_aload0, pe_iload1, pe_call2, pm_af_ret, pm_af_void, pm_af_thr, pe_astore5, pe_iload2, pe_i2l, pe_bipush, pe_call3, pe_if_eq, pe_iload3, pe_iload4, pe_sipush, pe_goto, pe_goto_w, pe_call1, pe_aload5, pe_imul, pe_isub, pe_istore6, pe_istore7, pe_iload6, pe_iload7, pe_lmul, pe_lcmp, pe_if_ge, pe_putfield, pe_istore8, pe_iload8, pe_icmp_ge, pe_getfield, pe_iadd, pe_iastore, pe_iinc8, pm_prog_1, pm_ob_some, Nat.reduceDiv, Nat.reduceMod, Nat.reduceMul, Nat.reduceAdd, Int.reduceToNat, pm_kill_i, pm_kill_r, pm_kill_n, pm_kill_j, pm_kill_l, pm_kill_d, pm_cats_nil, pm_cats_i, pm_cats_r, pm_cats_n, pm_cats_l, pm_cats_d, sz_1, sz_2, sl_1, sl_2, lc_0, lc_lt, lc_le, li_ne, va_rf, wr_m1, we_m1, pm_kill_w, Int32.reduceOfInt, Int64.reduceOfInt, Int32.reduceOfNat, Int32.reduceLT, Int32.reduceLE, Prod.mk.injEq, Nat.reduceEqDiff, reduceCtorEq, and_true, true_and, and_false, false_and, and_self, ite_true, ite_false, ↓reduceIte, not_true_eq_false, not_false_eq_true, pe_ri, pe_rz, pe_rc, p_throw, t723, w_junk hA, Cn_g0_10 hP hA, Cn_p0_7 hP hA, Cn_p0_8 hP hA, Cn_p0_9 hP hA, Cn_w8 hP hA, z1, z3, eq_true k4, k5]
      · rw [if_neg k4] at e
        obtain ⟨v12, k6, e⟩ := Option.bind_eq_some_iff.mp e
        try dsimp only at e
        have z6 := fun h => x706 (D := D) (h := h) (by omega) k6
        by_cases k7 : v12 = 0
        · rw [if_pos k7] at e
          have k8 := y723_2 (h := h) hP hA hL hD e
          simp -implicitDefEqProofs (disch := first | assumption | exact Nat.le_of_ble_eq_true rfl | decide) only [b723_0, g723_1, b723_1, g723_3, b723_3, g723_5, b723_5, pe_aload0, pe_iload1, pe_call2, pm_af_ret, pm_af_void, pm_af_thr, pe_astore5, pe_iload2, pe_i2l, pe_bipush, pe_call3, pe_if_eq, pe_iload3, pe_iload4, pe_sipush, pe_goto, pe_goto_w, pe_call1, pe_aload5, pe_imul, pe_isub, pe_istore6, pe_istore7, pe_iload6, pe_iload7, pe_lmul, pe_lcmp, pe_if_ge, pe_putfield, pe_istore8, pe_iload8, pe_icmp_ge, pe_getfield, pe_iadd, pe_iastore, pe_iinc8, pm_prog_1, pm_ob_some, Nat.reduceDiv, Nat.reduceMod, Nat.reduceMul, Nat.reduceAdd, Int.reduceToNat, pm_kill_i, pm_kill_r, pm_kill_n, pm_kill_j, pm_kill_l, pm_kill_d, pm_cats_nil, pm_cats_i, pm_cats_r, pm_cats_n, pm_cats_l, pm_cats_d, sz_1, sz_2, sl_1, sl_2, lc_0, lc_lt, lc_le, li_ne, va_rf, wr_m1, we_m1, pm_kill_w, Int32.reduceOfInt, Int64.reduceOfInt, Int32.reduceOfNat, Int32.reduceLT, Int32.reduceLE, Prod.mk.injEq, Nat.reduceEqDiff, reduceCtorEq, and_true, true_and, and_false, false_and, and_self, ite_true, ite_false, ↓reduceIte, not_true_eq_false, not_false_eq_true, pe_ri, pe_rz, pe_rc, p_throw, t723, w_junk hA, Cn_g0_10 hP hA, Cn_p0_7 hP hA, Cn_p0_8 hP hA, Cn_p0_9 hP hA, Cn_w8 hP hA, z1, z3, eq_false k4, z6, eq_true k7, k8]
        · rw [if_neg k7] at e
          obtain ⟨v13, k9, e⟩ := Option.bind_eq_some_iff.mp e
          try dsimp only at e
          have z9 := fun h => x706 (D := D) (h := h) (by omega) k9
          by_cases k10 : v13 = 0
          · rw [if_pos k10] at e
            have k11 := y723_2 (h := h) hP hA hL hD e
            simp -implicitDefEqProofs (disch := first | assumption | exact Nat.le_of_ble_eq_true rfl | decide) only [b723_0, g723_1, b723_1, g723_3, b723_3, g723_5, b723_5, pe_aload0, pe_iload1, pe_call2, pm_af_ret, pm_af_void, pm_af_thr, pe_astore5, pe_iload2, pe_i2l, pe_bipush, pe_call3, pe_if_eq, pe_iload3, pe_iload4, pe_sipush, pe_goto, pe_goto_w, pe_call1, pe_aload5, pe_imul, pe_isub, pe_istore6, pe_istore7, pe_iload6, pe_iload7, pe_lmul, pe_lcmp, pe_if_ge, pe_putfield, pe_istore8, pe_iload8, pe_icmp_ge, pe_getfield, pe_iadd, pe_iastore, pe_iinc8, pm_prog_1, pm_ob_some, Nat.reduceDiv, Nat.reduceMod, Nat.reduceMul, Nat.reduceAdd, Int.reduceToNat, pm_kill_i, pm_kill_r, pm_kill_n, pm_kill_j, pm_kill_l, pm_kill_d, pm_cats_nil, pm_cats_i, pm_cats_r, pm_cats_n, pm_cats_l, pm_cats_d, sz_1, sz_2, sl_1, sl_2, lc_0, lc_lt, lc_le, li_ne, va_rf, wr_m1, we_m1, pm_kill_w, Int32.reduceOfInt, Int64.reduceOfInt, Int32.reduceOfNat, Int32.reduceLT, Int32.reduceLE, Prod.mk.injEq, Nat.reduceEqDiff, reduceCtorEq, and_true, true_and, and_false, false_and, and_self, ite_true, ite_false, ↓reduceIte, not_true_eq_false, not_false_eq_true, pe_ri, pe_rz, pe_rc, p_throw, t723, w_junk hA, Cn_g0_10 hP hA, Cn_p0_7 hP hA, Cn_p0_8 hP hA, Cn_p0_9 hP hA, Cn_w8 hP hA, z1, z3, eq_false k4, z6, eq_false k7, z9, eq_true k10, k11]
          · rw [if_neg k10] at e
            have k12 := y723_2 (h := h) hP hA hL hD e
            simp -implicitDefEqProofs (disch := first | assumption | exact Nat.le_of_ble_eq_true rfl | decide) only [b723_0, g723_1, b723_1, g723_3, b723_3, g723_5, b723_5, pe_aload0, pe_iload1, pe_call2, pm_af_ret, pm_af_void, pm_af_thr, pe_astore5, pe_iload2, pe_i2l, pe_bipush, pe_call3, pe_if_eq, pe_iload3, pe_iload4, pe_sipush, pe_goto, pe_goto_w, pe_call1, pe_aload5, pe_imul, pe_isub, pe_istore6, pe_istore7, pe_iload6, pe_iload7, pe_lmul, pe_lcmp, pe_if_ge, pe_putfield, pe_istore8, pe_iload8, pe_icmp_ge, pe_getfield, pe_iadd, pe_iastore, pe_iinc8, pm_prog_1, pm_ob_some, Nat.reduceDiv, Nat.reduceMod, Nat.reduceMul, Nat.reduceAdd, Int.reduceToNat, pm_kill_i, pm_kill_r, pm_kill_n, pm_kill_j, pm_kill_l, pm_kill_d, pm_cats_nil, pm_cats_i, pm_cats_r, pm_cats_n, pm_cats_l, pm_cats_d, sz_1, sz_2, sl_1, sl_2, lc_0, lc_lt, lc_le, li_ne, va_rf, wr_m1, we_m1, pm_kill_w, Int32.reduceOfInt, Int64.reduceOfInt, Int32.reduceOfNat, Int32.reduceLT, Int32.reduceLE, Prod.mk.injEq, Nat.reduceEqDiff, reduceCtorEq, and_true, true_and, and_false, false_and, and_self, ite_true, ite_false, ↓reduceIte, not_true_eq_false, not_false_eq_true, pe_ri, pe_rz, pe_rc, p_throw, t723, w_junk hA, Cn_g0_10 hP hA, Cn_p0_7 hP hA, Cn_p0_8 hP hA, Cn_p0_9 hP hA, Cn_w8 hP hA, z1, z3, eq_false k4, z6, eq_false k7, z9, eq_false k10, k12]
    · rw [if_neg k2] at e; cases e
/-- TimberHouse$NailRules.can(Z)V -/
theorem c726 {d : Nat} {h : pm_H} {x0 : Int32} : pm_call pm_prog (d + 1) 726 [.int x0] h = pm_ev pm_prog (pm_call pm_prog d) 726 0 b726_0 [.int x0] [] h := pm_cal (pm_rc0 rfl) rfl rfl rfl
theorem g726_1 {cl : pm_C} {ls st : List Value} {h : pm_H} : pm_go pm_prog cl 726 1 ls st h = pm_ev pm_prog cl 726 1 b726_1 ls st h := pm_go_eq pm_prog cl 726 1 ls st h
theorem t726 {cl : pm_C} {j : Nat} {ls : List Value} {c : Nat} {h : pm_H} : pm_thr pm_prog cl 726 j ls c h = some (.threw c, h) := rfl
/-- TimberHouse$NailRules.can(Z)V -/
noncomputable def f726 (x0 : Int32) : Option (Nat ⊕ (Unit)) :=
  if x0 = 0 then
    some (.inl 71)
  else
    some (.inr ())
theorem x726 {h : pm_H} {D : Nat} {x0 : Int32} {r : Nat ⊕ (Unit)} (hD : 1 ≤ D) (e : f726 x0 = some r) : pm_call pm_prog D 726 [.int x0] h = some (match (generalizing := false) r with | .inl c => (Outcome.threw c, (pm_new h 6 (.inr (c, [])))) | .inr _ => (Outcome.returned none, h)) := by
  obtain ⟨D, rfl⟩ : ∃ D', D = D' + 1 := ⟨D - 1, by omega⟩
  have hD : 0 ≤ D := by omega
  simp only [f726] at e
  rw [c726, b726_0]
  by_cases k1 : x0 = 0
  · rw [if_pos k1] at e
    have e := Option.some.inj e; subst e
    simp -implicitDefEqProofs (disch := first | assumption | exact Nat.le_of_ble_eq_true rfl | decide) only [b726_0, g726_1, b726_1, pe_iload0, pe_if_ne, pe_return, pm_prog_1, pm_ob_some, Nat.reduceDiv, Nat.reduceMod, Nat.reduceMul, Nat.reduceAdd, Int.reduceToNat, pm_kill_i, pm_kill_r, pm_kill_n, pm_kill_j, pm_kill_l, pm_kill_d, pm_cats_nil, pm_cats_i, pm_cats_r, pm_cats_n, pm_cats_l, pm_cats_d, sz_1, sz_2, sl_1, sl_2, lc_0, lc_lt, lc_le, li_ne, va_rf, wr_m1, we_m1, pm_kill_w, Int32.reduceOfInt, Int64.reduceOfInt, Int32.reduceOfNat, Int32.reduceLT, Int32.reduceLE, Prod.mk.injEq, Nat.reduceEqDiff, reduceCtorEq, and_true, true_and, and_false, false_and, and_self, ite_true, ite_false, ↓reduceIte, not_true_eq_false, not_false_eq_true, pe_ri, pe_rz, pe_rc, p_throw, t726, eq_true k1]
  · rw [if_neg k1] at e
    have e := Option.some.inj e; subst e
    simp -implicitDefEqProofs (disch := first | assumption | exact Nat.le_of_ble_eq_true rfl | decide) only [b726_0, g726_1, b726_1, pe_iload0, pe_if_ne, pe_return, pm_prog_1, pm_ob_some, Nat.reduceDiv, Nat.reduceMod, Nat.reduceMul, Nat.reduceAdd, Int.reduceToNat, pm_kill_i, pm_kill_r, pm_kill_n, pm_kill_j, pm_kill_l, pm_kill_d, pm_cats_nil, pm_cats_i, pm_cats_r, pm_cats_n, pm_cats_l, pm_cats_d, sz_1, sz_2, sl_1, sl_2, lc_0, lc_lt, lc_le, li_ne, va_rf, wr_m1, we_m1, pm_kill_w, Int32.reduceOfInt, Int64.reduceOfInt, Int32.reduceOfNat, Int32.reduceLT, Int32.reduceLE, Prod.mk.injEq, Nat.reduceEqDiff, reduceCtorEq, and_true, true_and, and_false, false_and, and_self, ite_true, ite_false, ↓reduceIte, not_true_eq_false, not_false_eq_true, pe_ri, pe_rz, pe_rc, p_throw, t726, eq_false k1]
/-- TimberHouse$NailRules.at(II)I -/
theorem c725 {d : Nat} {h : pm_H} {a : Nat} {x0 : Int32} {x1 : Int32} (hc : pm_cls h a = some 11) : pm_call pm_prog (d + 1) 725 [.ref a, .int x0, .int x1] h = pm_ev pm_prog (pm_call pm_prog d) 725 0 b725_0 [.ref a, .int x0, .int x1] [] h := pm_cal (pm_rc1 hc rfl) rfl rfl rfl
theorem g725_1 {cl : pm_C} {ls st : List Value} {h : pm_H} : pm_go pm_prog cl 725 1 ls st h = pm_ev pm_prog cl 725 1 b725_1 ls st h := pm_go_eq pm_prog cl 725 1 ls st h
theorem g725_2 {cl : pm_C} {ls st : List Value} {h : pm_H} : pm_go pm_prog cl 725 2 ls st h = pm_ev pm_prog cl 725 2 b725_2 ls st h := pm_go_eq pm_prog cl 725 2 ls st h
theorem g725_3 {cl : pm_C} {ls st : List Value} {h : pm_H} : pm_go pm_prog cl 725 3 ls st h = pm_ev pm_prog cl 725 3 b725_3 ls st h := pm_go_eq pm_prog cl 725 3 ls st h
theorem g725_4 {cl : pm_C} {ls st : List Value} {h : pm_H} : pm_go pm_prog cl 725 4 ls st h = pm_ev pm_prog cl 725 4 b725_4 ls st h := pm_go_eq pm_prog cl 725 4 ls st h
theorem g725_5 {cl : pm_C} {ls st : List Value} {h : pm_H} : pm_go pm_prog cl 725 5 ls st h = pm_ev pm_prog cl 725 5 b725_5 ls st h := pm_go_eq pm_prog cl 725 5 ls st h
theorem g725_6 {cl : pm_C} {ls st : List Value} {h : pm_H} : pm_go pm_prog cl 725 6 ls st h = pm_ev pm_prog cl 725 6 b725_6 ls st h := pm_go_eq pm_prog cl 725 6 ls st h
theorem t725 {cl : pm_C} {j : Nat} {ls : List Value} {c : Nat} {h : pm_H} : pm_thr pm_prog cl 725 j ls c h = some (.threw c, h) := rfl
noncomputable def f725_4 (mc : Int32) (S : wS) (x1 : Int32) (x2 : Int32) (y0 : Int32) : Option (Nat ⊕ (Int32)) :=
  (f716 y0).bind fun r => match r with
  | .inl c2 =>
    some (.inl c2)
  | .inr _ =>
  if x2 = 0 then
    if ¬ (S.1 (0, 0, 0) 8) = 0 then
      some (.inr ((S.1 (8, 0, 0) 1) + ((x1 - x1 / (S.1 (0, 0, 0) 8) * (S.1 (0, 0, 0) 8)) * (S.1 (8, 0, 0) 2))))
    else none
  else
    if ¬ (S.1 (0, 0, 0) 8) = 0 then
      some (.inr ((S.1 (8, 0, 0) 0) + ((x1 / (S.1 (0, 0, 0) 8)) * (S.1 (8, 0, 0) 3))))
    else none
noncomputable def f725_2 (mc : Int32) (S : wS) (x1 : Int32) (x2 : Int32) (y0 : Int32) : Option (Nat ⊕ (Int32)) :=
  (f726 y0).bind fun r => match r with
  | .inl c4 =>
    some (.inl c4)
  | .inr _ =>
  (f706 (Int32.toInt64 x1) 0 (Int32.toInt64 ((S.1 (0, 0, 0) 9) - 1))).bind fun v1 =>
  if v1 = 0 then
    f725_4 mc S x1 x2 0
  else
    (f706 (Int32.toInt64 x2) 0 1).bind fun v3 =>
    if v3 = 0 then
      f725_4 mc S x1 x2 0
    else
      f725_4 mc S x1 x2 1
/-- TimberHouse$NailRules.at(II)I -/
noncomputable def f725 (mc : Int32) (S : wS) (x1 : Int32) (x2 : Int32) : Option (Nat ⊕ (Int32)) :=
  if (S.1 (0, 0, 0) 7) = (-1) then
    f725_2 mc S x1 x2 0
  else
    f725_2 mc S x1 x2 1
theorem y725_4 {mc : Int32} {A : wK → Nat} {h : pm_H} {D : Nat} {S : wS} {x1 : Int32} {x2 : Int32} {y0 : Int32} {r : Nat ⊕ (Int32)} (hP : Cn_P mc) (hA : wok A (Cn_d mc) h.1) (hL : A (90, 0, 0) = 1) (hD : 1 ≤ D) (e : f725_4 mc S x1 x2 y0 = some r) : pm_go pm_prog (pm_call pm_prog D) 725 4 [.ref (A (0, 0, 0)), .int x1, .int x2] [.int y0] (wput A (Cn_d mc) S h) = some (match (generalizing := false) r with | .inl c => (Outcome.threw c, (wput A (Cn_d mc) S (pm_new h 6 (.inr (c, []))))) | .inr w0 => (Outcome.returned (some (.int w0)), (wput A (Cn_d mc) S h))) := by
  simp only [f725_4] at e
  rw [g725_4, b725_4]
  obtain ⟨r, k1, e⟩ := Option.bind_eq_some_iff.mp e
  have z1 := fun h => x716 (D := D) (h := h) (by omega) k1
  rcases r with c2 | _
  · dsimp only at e z1
    have e := Option.some.inj e; subst e
    simp -implicitDefEqProofs (disch := first | assumption | exact Nat.le_of_ble_eq_true rfl | decide) only [b725_0, g725_1, b725_1, g725_3, b725_3, g725_5, b725_5, g725_6, b725_6, pe_aload0, pe_getfield, pe_sipush, pe_icmp_eq, pe_goto, pe_goto_w, pe_call1, pm_af_ret, pm_af_void, pm_af_thr, pe_iload1, pe_i2l, pe_bipush, pe_isub, pe_call3, pe_if_eq, pe_iload2, pe_if_ne, pe_iaload, pe_irem, pe_imul, pe_iadd, pe_idiv, pm_prog_1, pm_ob_some, Nat.reduceDiv, Nat.reduceMod, Nat.reduceMul, Nat.reduceAdd, Int.reduceToNat, pm_kill_i, pm_kill_r, pm_kill_n, pm_kill_j, pm_kill_l, pm_kill_d, pm_cats_nil, pm_cats_i, pm_cats_r, pm_cats_n, pm_cats_l, pm_cats_d, sz_1, sz_2, sl_1, sl_2, lc_0, lc_lt, lc_le, li_ne, va_rf, wr_m1, we_m1, pm_kill_w, Int32.reduceOfInt, Int64.reduceOfInt, Int32.reduceOfNat, Int32.reduceLT, Int32.reduceLE, Prod.mk.injEq, Nat.reduceEqDiff, reduceCtorEq, and_true, true_and, and_false, false_and, and_self, ite_true, ite_false, ↓reduceIte, not_true_eq_false, not_false_eq_true, pe_ri, pe_rz, pe_rc, p_throw, t725, w_junk hA, Cn_g0_10 hP hA, Cn_g0_7 hP hA, Cn_g0_8 hP hA, Cn_g0_9 hP hA, Cn_r8 hP hA, z1]
  · dsimp only at e z1
    by_cases k2 : x2 = 0
    · rw [if_pos k2] at e
      by_cases k3 : ¬ (S.1 (0, 0, 0) 8) = 0
      · rw [if_pos k3] at e
        have e := Option.some.inj e; subst e
        simp -implicitDefEqProofs (disch := first | assumption | exact Nat.le_of_ble_eq_true rfl | decide) only [b725_0, g725_1, b725_1, g725_3, b725_3, g725_5, b725_5, g725_6, b725_6, pe_aload0, pe_getfield, pe_sipush, pe_icmp_eq, pe_goto, pe_goto_w, pe_call1, pm_af_ret, pm_af_void, pm_af_thr, pe_iload1, pe_i2l, pe_bipush, pe_isub, pe_call3, pe_if_eq, pe_iload2, pe_if_ne, pe_iaload, pe_irem, pe_imul, pe_iadd, pe_idiv, pm_prog_1, pm_ob_some, Nat.reduceDiv, Nat.reduceMod, Nat.reduceMul, Nat.reduceAdd, Int.reduceToNat, pm_kill_i, pm_kill_r, pm_kill_n, pm_kill_j, pm_kill_l, pm_kill_d, pm_cats_nil, pm_cats_i, pm_cats_r, pm_cats_n, pm_cats_l, pm_cats_d, sz_1, sz_2, sl_1, sl_2, lc_0, lc_lt, lc_le, li_ne, va_rf, wr_m1, we_m1, pm_kill_w, Int32.reduceOfInt, Int64.reduceOfInt, Int32.reduceOfNat, Int32.reduceLT, Int32.reduceLE, Prod.mk.injEq, Nat.reduceEqDiff, reduceCtorEq, and_true, true_and, and_false, false_and, and_self, ite_true, ite_false, ↓reduceIte, not_true_eq_false, not_false_eq_true, pe_ri, pe_rz, pe_rc, p_throw, t725, w_junk hA, Cn_g0_10 hP hA, Cn_g0_7 hP hA, Cn_g0_8 hP hA, Cn_g0_9 hP hA, Cn_r8 hP hA, z1, eq_true k2]
      · rw [if_neg k3] at e; cases e
    · rw [if_neg k2] at e
      by_cases k4 : ¬ (S.1 (0, 0, 0) 8) = 0
      · rw [if_pos k4] at e
        have e := Option.some.inj e; subst e
        simp -implicitDefEqProofs (disch := first | assumption | exact Nat.le_of_ble_eq_true rfl | decide) only [b725_0, g725_1, b725_1, g725_3, b725_3, g725_5, b725_5, g725_6, b725_6, pe_aload0, pe_getfield, pe_sipush, pe_icmp_eq, pe_goto, pe_goto_w, pe_call1, pm_af_ret, pm_af_void, pm_af_thr, pe_iload1, pe_i2l, pe_bipush, pe_isub, pe_call3, pe_if_eq, pe_iload2, pe_if_ne, pe_iaload, pe_irem, pe_imul, pe_iadd, pe_idiv, pm_prog_1, pm_ob_some, Nat.reduceDiv, Nat.reduceMod, Nat.reduceMul, Nat.reduceAdd, Int.reduceToNat, pm_kill_i, pm_kill_r, pm_kill_n, pm_kill_j, pm_kill_l, pm_kill_d, pm_cats_nil, pm_cats_i, pm_cats_r, pm_cats_n, pm_cats_l, pm_cats_d, sz_1, sz_2, sl_1, sl_2, lc_0, lc_lt, lc_le, li_ne, va_rf, wr_m1, we_m1, pm_kill_w, Int32.reduceOfInt, Int64.reduceOfInt, Int32.reduceOfNat, Int32.reduceLT, Int32.reduceLE, Prod.mk.injEq, Nat.reduceEqDiff, reduceCtorEq, and_true, true_and, and_false, false_and, and_self, ite_true, ite_false, ↓reduceIte, not_true_eq_false, not_false_eq_true, pe_ri, pe_rz, pe_rc, p_throw, t725, w_junk hA, Cn_g0_10 hP hA, Cn_g0_7 hP hA, Cn_g0_8 hP hA, Cn_g0_9 hP hA, Cn_r8 hP hA, z1, eq_false k2]
      · rw [if_neg k4] at e; cases e
theorem y725_2 {mc : Int32} {A : wK → Nat} {h : pm_H} {D : Nat} {S : wS} {x1 : Int32} {x2 : Int32} {y0 : Int32} {r : Nat ⊕ (Int32)} (hP : Cn_P mc) (hA : wok A (Cn_d mc) h.1) (hL : A (90, 0, 0) = 1) (hD : 1 ≤ D) (e : f725_2 mc S x1 x2 y0 = some r) : pm_go pm_prog (pm_call pm_prog D) 725 2 [.ref (A (0, 0, 0)), .int x1, .int x2] [.int y0] (wput A (Cn_d mc) S h) = some (match (generalizing := false) r with | .inl c => (Outcome.threw c, (wput A (Cn_d mc) S (pm_new h 6 (.inr (c, []))))) | .inr w0 => (Outcome.returned (some (.int w0)), (wput A (Cn_d mc) S h))) := by
  simp only [f725_2] at e
  rw [g725_2, b725_2]
  obtain ⟨r, k1, e⟩ := Option.bind_eq_some_iff.mp e
  have z1 := fun h => x726 (D := D) (h := h) (by omega) k1
  rcases r with c4 | _
  · dsimp only at e z1
    have e := Option.some.inj e; subst e
    simp -implicitDefEqProofs (disch := first | assumption | exact Nat.le_of_ble_eq_true rfl | decide) only [b725_0, g725_1, b725_1, g725_3, b725_3, g725_5, b725_5, g725_6, b725_6, pe_aload0, pe_getfield, pe_sipush, pe_icmp_eq, pe_goto, pe_goto_w, pe_call1, pm_af_ret, pm_af_void, pm_af_thr, pe_iload1, pe_i2l, pe_bipush, pe_isub, pe_call3, pe_if_eq, pe_iload2, pe_if_ne, pe_iaload, pe_irem, pe_imul, pe_iadd, pe_idiv, pm_prog_1, pm_ob_some, Nat.reduceDiv, Nat.reduceMod, Nat.reduceMul, Nat.reduceAdd, Int.reduceToNat, pm_kill_i, pm_kill_r, pm_kill_n, pm_kill_j, pm_kill_l, pm_kill_d, pm_cats_nil, pm_cats_i, pm_cats_r, pm_cats_n, pm_cats_l, pm_cats_d, sz_1, sz_2, sl_1, sl_2, lc_0, lc_lt, lc_le, li_ne, va_rf, wr_m1, we_m1, pm_kill_w, Int32.reduceOfInt, Int64.reduceOfInt, Int32.reduceOfNat, Int32.reduceLT, Int32.reduceLE, Prod.mk.injEq, Nat.reduceEqDiff, reduceCtorEq, and_true, true_and, and_false, false_and, and_self, ite_true, ite_false, ↓reduceIte, not_true_eq_false, not_false_eq_true, pe_ri, pe_rz, pe_rc, p_throw, t725, w_junk hA, Cn_g0_10 hP hA, Cn_g0_7 hP hA, Cn_g0_8 hP hA, Cn_g0_9 hP hA, Cn_r8 hP hA, z1]
  · dsimp only at e z1
    obtain ⟨v1, k2, e⟩ := Option.bind_eq_some_iff.mp e
    try dsimp only at e
    have z2 := fun h => x706 (D := D) (h := h) (by omega) k2
    by_cases k3 : v1 = 0
    · rw [if_pos k3] at e
      have k4 := y725_4 (h := h) hP hA hL hD e
      simp -implicitDefEqProofs (disch := first | assumption | exact Nat.le_of_ble_eq_true rfl | decide) only [b725_0, g725_1, b725_1, g725_3, b725_3, g725_5, b725_5, g725_6, b725_6, pe_aload0, pe_getfield, pe_sipush, pe_icmp_eq, pe_goto, pe_goto_w, pe_call1, pm_af_ret, pm_af_void, pm_af_thr, pe_iload1, pe_i2l, pe_bipush, pe_isub, pe_call3, pe_if_eq, pe_iload2, pe_if_ne, pe_iaload, pe_irem, pe_imul, pe_iadd, pe_idiv, pm_prog_1, pm_ob_some, Nat.reduceDiv, Nat.reduceMod, Nat.reduceMul, Nat.reduceAdd, Int.reduceToNat, pm_kill_i, pm_kill_r, pm_kill_n, pm_kill_j, pm_kill_l, pm_kill_d, pm_cats_nil, pm_cats_i, pm_cats_r, pm_cats_n, pm_cats_l, pm_cats_d, sz_1, sz_2, sl_1, sl_2, lc_0, lc_lt, lc_le, li_ne, va_rf, wr_m1, we_m1, pm_kill_w, Int32.reduceOfInt, Int64.reduceOfInt, Int32.reduceOfNat, Int32.reduceLT, Int32.reduceLE, Prod.mk.injEq, Nat.reduceEqDiff, reduceCtorEq, and_true, true_and, and_false, false_and, and_self, ite_true, ite_false, ↓reduceIte, not_true_eq_false, not_false_eq_true, pe_ri, pe_rz, pe_rc, p_throw, t725, w_junk hA, Cn_g0_10 hP hA, Cn_g0_7 hP hA, Cn_g0_8 hP hA, Cn_g0_9 hP hA, Cn_r8 hP hA, z1, z2, eq_true k3, k4]
    · rw [if_neg k3] at e
      obtain ⟨v3, k5, e⟩ := Option.bind_eq_some_iff.mp e
      try dsimp only at e
      have z5 := fun h => x706 (D := D) (h := h) (by omega) k5
      by_cases k6 : v3 = 0
      · rw [if_pos k6] at e
        have k7 := y725_4 (h := h) hP hA hL hD e
        simp -implicitDefEqProofs (disch := first | assumption | exact Nat.le_of_ble_eq_true rfl | decide) only [b725_0, g725_1, b725_1, g725_3, b725_3, g725_5, b725_5, g725_6, b725_6, pe_aload0, pe_getfield, pe_sipush, pe_icmp_eq, pe_goto, pe_goto_w, pe_call1, pm_af_ret, pm_af_void, pm_af_thr, pe_iload1, pe_i2l, pe_bipush, pe_isub, pe_call3, pe_if_eq, pe_iload2, pe_if_ne, pe_iaload, pe_irem, pe_imul, pe_iadd, pe_idiv, pm_prog_1, pm_ob_some, Nat.reduceDiv, Nat.reduceMod, Nat.reduceMul, Nat.reduceAdd, Int.reduceToNat, pm_kill_i, pm_kill_r, pm_kill_n, pm_kill_j, pm_kill_l, pm_kill_d, pm_cats_nil, pm_cats_i, pm_cats_r, pm_cats_n, pm_cats_l, pm_cats_d, sz_1, sz_2, sl_1, sl_2, lc_0, lc_lt, lc_le, li_ne, va_rf, wr_m1, we_m1, pm_kill_w, Int32.reduceOfInt, Int64.reduceOfInt, Int32.reduceOfNat, Int32.reduceLT, Int32.reduceLE, Prod.mk.injEq, Nat.reduceEqDiff, reduceCtorEq, and_true, true_and, and_false, false_and, and_self, ite_true, ite_false, ↓reduceIte, not_true_eq_false, not_false_eq_true, pe_ri, pe_rz, pe_rc, p_throw, t725, w_junk hA, Cn_g0_10 hP hA, Cn_g0_7 hP hA, Cn_g0_8 hP hA, Cn_g0_9 hP hA, Cn_r8 hP hA, z1, z2, eq_false k3, z5, eq_true k6, k7]
      · rw [if_neg k6] at e
        have k8 := y725_4 (h := h) hP hA hL hD e
        simp -implicitDefEqProofs (disch := first | assumption | exact Nat.le_of_ble_eq_true rfl | decide) only [b725_0, g725_1, b725_1, g725_3, b725_3, g725_5, b725_5, g725_6, b725_6, pe_aload0, pe_getfield, pe_sipush, pe_icmp_eq, pe_goto, pe_goto_w, pe_call1, pm_af_ret, pm_af_void, pm_af_thr, pe_iload1, pe_i2l, pe_bipush, pe_isub, pe_call3, pe_if_eq, pe_iload2, pe_if_ne, pe_iaload, pe_irem, pe_imul, pe_iadd, pe_idiv, pm_prog_1, pm_ob_some, Nat.reduceDiv, Nat.reduceMod, Nat.reduceMul, Nat.reduceAdd, Int.reduceToNat, pm_kill_i, pm_kill_r, pm_kill_n, pm_kill_j, pm_kill_l, pm_kill_d, pm_cats_nil, pm_cats_i, pm_cats_r, pm_cats_n, pm_cats_l, pm_cats_d, sz_1, sz_2, sl_1, sl_2, lc_0, lc_lt, lc_le, li_ne, va_rf, wr_m1, we_m1, pm_kill_w, Int32.reduceOfInt, Int64.reduceOfInt, Int32.reduceOfNat, Int32.reduceLT, Int32.reduceLE, Prod.mk.injEq, Nat.reduceEqDiff, reduceCtorEq, and_true, true_and, and_false, false_and, and_self, ite_true, ite_false, ↓reduceIte, not_true_eq_false, not_false_eq_true, pe_ri, pe_rz, pe_rc, p_throw, t725, w_junk hA, Cn_g0_10 hP hA, Cn_g0_7 hP hA, Cn_g0_8 hP hA, Cn_g0_9 hP hA, Cn_r8 hP hA, z1, z2, eq_false k3, z5, eq_false k6, k8]
theorem x725 {mc : Int32} {A : wK → Nat} {h : pm_H} {D : Nat} {S : wS} {x1 : Int32} {x2 : Int32} {r : Nat ⊕ (Int32)} (hP : Cn_P mc) (hA : wok A (Cn_d mc) h.1) (hL : A (90, 0, 0) = 1) (hD : 2 ≤ D) (e : f725 mc S x1 x2 = some r) : pm_call pm_prog D 725 [.ref (A (0, 0, 0)), .int x1, .int x2] (wput A (Cn_d mc) S h) = some (match (generalizing := false) r with | .inl c => (Outcome.threw c, (wput A (Cn_d mc) S (pm_new h 6 (.inr (c, []))))) | .inr w0 => (Outcome.returned (some (.int w0)), (wput A (Cn_d mc) S h))) := by
  obtain ⟨D, rfl⟩ : ∃ D', D = D' + 1 := ⟨D - 1, by omega⟩
  have hD : 1 ≤ D := by omega
  simp only [f725] at e
  rw [c725 (Cn_c0 hP hA), b725_0]
  by_cases k1 : (S.1 (0, 0, 0) 7) = (-1)
  · rw [if_pos k1] at e
    have k2 := y725_2 (h := h) hP hA hL hD e
    simp -implicitDefEqProofs (disch := first | assumption | exact Nat.le_of_ble_eq_true rfl | decide) only [b725_0, g725_1, b725_1, g725_3, b725_3, g725_5, b725_5, g725_6, b725_6, pe_aload0, pe_getfield, pe_sipush, pe_icmp_eq, pe_goto, pe_goto_w, pe_call1, pm_af_ret, pm_af_void, pm_af_thr, pe_iload1, pe_i2l, pe_bipush, pe_isub, pe_call3, pe_if_eq, pe_iload2, pe_if_ne, pe_iaload, pe_irem, pe_imul, pe_iadd, pe_idiv, pm_prog_1, pm_ob_some, Nat.reduceDiv, Nat.reduceMod, Nat.reduceMul, Nat.reduceAdd, Int.reduceToNat, pm_kill_i, pm_kill_r, pm_kill_n, pm_kill_j, pm_kill_l, pm_kill_d, pm_cats_nil, pm_cats_i, pm_cats_r, pm_cats_n, pm_cats_l, pm_cats_d, sz_1, sz_2, sl_1, sl_2, lc_0, lc_lt, lc_le, li_ne, va_rf, wr_m1, we_m1, pm_kill_w, Int32.reduceOfInt, Int64.reduceOfInt, Int32.reduceOfNat, Int32.reduceLT, Int32.reduceLE, Prod.mk.injEq, Nat.reduceEqDiff, reduceCtorEq, and_true, true_and, and_false, false_and, and_self, ite_true, ite_false, ↓reduceIte, not_true_eq_false, not_false_eq_true, pe_ri, pe_rz, pe_rc, p_throw, t725, w_junk hA, Cn_g0_10 hP hA, Cn_g0_7 hP hA, Cn_g0_8 hP hA, Cn_g0_9 hP hA, Cn_r8 hP hA, eq_true k1, k2]
  · rw [if_neg k1] at e
    have k3 := y725_2 (h := h) hP hA hL hD e
    simp -implicitDefEqProofs (disch := first | assumption | exact Nat.le_of_ble_eq_true rfl | decide) only [b725_0, g725_1, b725_1, g725_3, b725_3, g725_5, b725_5, g725_6, b725_6, pe_aload0, pe_getfield, pe_sipush, pe_icmp_eq, pe_goto, pe_goto_w, pe_call1, pm_af_ret, pm_af_void, pm_af_thr, pe_iload1, pe_i2l, pe_bipush, pe_isub, pe_call3, pe_if_eq, pe_iload2, pe_if_ne, pe_iaload, pe_irem, pe_imul, pe_iadd, pe_idiv, pm_prog_1, pm_ob_some, Nat.reduceDiv, Nat.reduceMod, Nat.reduceMul, Nat.reduceAdd, Int.reduceToNat, pm_kill_i, pm_kill_r, pm_kill_n, pm_kill_j, pm_kill_l, pm_kill_d, pm_cats_nil, pm_cats_i, pm_cats_r, pm_cats_n, pm_cats_l, pm_cats_d, sz_1, sz_2, sl_1, sl_2, lc_0, lc_lt, lc_le, li_ne, va_rf, wr_m1, we_m1, pm_kill_w, Int32.reduceOfInt, Int64.reduceOfInt, Int32.reduceOfNat, Int32.reduceLT, Int32.reduceLE, Prod.mk.injEq, Nat.reduceEqDiff, reduceCtorEq, and_true, true_and, and_false, false_and, and_self, ite_true, ite_false, ↓reduceIte, not_true_eq_false, not_false_eq_true, pe_ri, pe_rz, pe_rc, p_throw, t725, w_junk hA, Cn_g0_10 hP hA, Cn_g0_7 hP hA, Cn_g0_8 hP hA, Cn_g0_9 hP hA, Cn_r8 hP hA, eq_false k1, k3]
/-- TimberHouse$NailRules.place(II)I -/
theorem c727 {d : Nat} {h : pm_H} {a : Nat} {x0 : Int32} {x1 : Int32} (hc : pm_cls h a = some 11) : pm_call pm_prog (d + 1) 727 [.ref a, .int x0, .int x1] h = pm_ev pm_prog (pm_call pm_prog d) 727 0 b727_0 [.ref a, .int x0, .int x1] [] h := pm_cal (pm_rc1 hc rfl) rfl rfl rfl
theorem g727_1 {cl : pm_C} {ls st : List Value} {h : pm_H} : pm_go pm_prog cl 727 1 ls st h = pm_ev pm_prog cl 727 1 b727_1 ls st h := pm_go_eq pm_prog cl 727 1 ls st h
theorem g727_2 {cl : pm_C} {ls st : List Value} {h : pm_H} : pm_go pm_prog cl 727 2 ls st h = pm_ev pm_prog cl 727 2 b727_2 ls st h := pm_go_eq pm_prog cl 727 2 ls st h
theorem g727_3 {cl : pm_C} {ls st : List Value} {h : pm_H} : pm_go pm_prog cl 727 3 ls st h = pm_ev pm_prog cl 727 3 b727_3 ls st h := pm_go_eq pm_prog cl 727 3 ls st h
theorem g727_4 {cl : pm_C} {ls st : List Value} {h : pm_H} : pm_go pm_prog cl 727 4 ls st h = pm_ev pm_prog cl 727 4 b727_4 ls st h := pm_go_eq pm_prog cl 727 4 ls st h
theorem t727 {cl : pm_C} {j : Nat} {ls : List Value} {c : Nat} {h : pm_H} : pm_thr pm_prog cl 727 j ls c h = some (.threw c, h) := rfl
noncomputable def f727_4 (mc : Int32) (S : wS) (x1 : Int32) (x2 : Int32) (y0 : Int32) : Option ((Nat × wS) ⊕ (Int32 × wS)) :=
  (f726 y0).bind fun r => match r with
  | .inl c2 =>
    some (.inl (c2, S))
  | .inr _ =>
  if 0 ≤ (S.1 (0, 0, 0) 12) ∧ (S.1 (0, 0, 0) 12) < 32 then
    some (.inr (((S.1 (0, 0, 0) 12) + 1), (sz (sz (sz S (10, (S.1 (0, 0, 0) 12), 0) 0 x1) (10, (S.1 (0, 0, 0) 12), 0) 1 x2) (0, 0, 0) 12 ((S.1 (0, 0, 0) 12) + 1))))
  else none
noncomputable def f727_2 (mc : Int32) (S : wS) (x1 : Int32) (x2 : Int32) (y0 : Int32) : Option ((Nat × wS) ⊕ (Int32 × wS)) :=
  (f718 y0).bind fun r => match r with
  | .inl c3 =>
    some (.inl (c3, S))
  | .inr _ =>
  if (S.1 (0, 0, 0) 12) < 32 then
    f727_4 mc S x1 x2 1
  else
    f727_4 mc S x1 x2 0
/-- TimberHouse$NailRules.place(II)I -/
noncomputable def f727 (mc : Int32) (S : wS) (x1 : Int32) (x2 : Int32) : Option ((Nat × wS) ⊕ (Int32 × wS)) :=
  (f706 (Int32.toInt64 x1) 0 100000).bind fun v1 =>
  if v1 = 0 then
    f727_2 mc S x1 x2 0
  else
    (f706 (Int32.toInt64 x2) 0 100000).bind fun v4 =>
    if v4 = 0 then
      f727_2 mc S x1 x2 0
    else
      f727_2 mc S x1 x2 1
theorem y727_4 {mc : Int32} {A : wK → Nat} {h : pm_H} {D : Nat} {S : wS} {x1 : Int32} {x2 : Int32} {y0 : Int32} {r : (Nat × wS) ⊕ (Int32 × wS)} (hP : Cn_P mc) (hA : wok A (Cn_d mc) h.1) (hL : A (90, 0, 0) = 1) (hD : 1 ≤ D) (e : f727_4 mc S x1 x2 y0 = some r) : pm_go pm_prog (pm_call pm_prog D) 727 4 [.ref (A (0, 0, 0)), .int x1, .int x2] [.int y0] (wput A (Cn_d mc) S h) = some (match (generalizing := false) r with | .inl (c, S1) => (Outcome.threw c, (wput A (Cn_d mc) S1 (pm_new h 6 (.inr (c, []))))) | .inr (w0, S1) => (Outcome.returned (some (.int w0)), (wput A (Cn_d mc) S1 h))) := by
  simp only [f727_4] at e
  rw [g727_4, b727_4]
  obtain ⟨r, k1, e⟩ := Option.bind_eq_some_iff.mp e
  have z1 := fun h => x726 (D := D) (h := h) (by omega) k1
  rcases r with c2 | _
  · dsimp only at e z1
    have e := Option.some.inj e; subst e
    simp -implicitDefEqProofs (disch := first | assumption | exact Nat.le_of_ble_eq_true rfl | decide) only [b727_0, g727_1, b727_1, g727_3, b727_3, pe_iload1, pe_i2l, pe_bipush, pe_call3, pm_af_ret, pm_af_void, pm_af_thr, pe_if_eq, pe_iload2, pe_sipush, pe_goto, pe_goto_w, pe_call1, pe_aload0, pe_getfield, pe_icmp_ge, pe_aaload, pe_iastore, pe_dup_i, pe_dup_r, pe_iadd, pe_dup_x1_ii, pe_dup_x1_ir, pe_dup_x1_ri, pe_dup_x1_rr, pe_putfield, pm_prog_1, pm_ob_some, Nat.reduceDiv, Nat.reduceMod, Nat.reduceMul, Nat.reduceAdd, Int.reduceToNat, pm_kill_i, pm_kill_r, pm_kill_n, pm_kill_j, pm_kill_l, pm_kill_d, pm_cats_nil, pm_cats_i, pm_cats_r, pm_cats_n, pm_cats_l, pm_cats_d, sz_1, sz_2, sl_1, sl_2, lc_0, lc_lt, lc_le, li_ne, va_rf, wr_m1, we_m1, pm_kill_w, Int32.reduceOfInt, Int64.reduceOfInt, Int32.reduceOfNat, Int32.reduceLT, Int32.reduceLE, Prod.mk.injEq, Nat.reduceEqDiff, reduceCtorEq, and_true, true_and, and_false, false_and, and_self, ite_true, ite_false, ↓reduceIte, not_true_eq_false, not_false_eq_true, pe_ri, pe_rz, pe_rc, p_throw, t727, w_junk hA, Cn_g0_11 hP hA, Cn_g0_12 hP hA, Cn_p0_12 hP hA, Cn_r9 hP hA, Cn_w10 hP hA, z1]
  · dsimp only at e z1
    by_cases k2 : 0 ≤ (S.1 (0, 0, 0) 12) ∧ (S.1 (0, 0, 0) 12) < 32
    · rw [if_pos k2] at e
      have e := Option.some.inj e; subst e
      simp -implicitDefEqProofs (disch := first | assumption | exact Nat.le_of_ble_eq_true rfl | decide) only [b727_0, g727_1, b727_1, g727_3, b727_3, pe_iload1, pe_i2l, pe_bipush, pe_call3, pm_af_ret, pm_af_void, pm_af_thr, pe_if_eq, pe_iload2, pe_sipush, pe_goto, pe_goto_w, pe_call1, pe_aload0, pe_getfield, pe_icmp_ge, pe_aaload, pe_iastore, pe_dup_i, pe_dup_r, pe_iadd, pe_dup_x1_ii, pe_dup_x1_ir, pe_dup_x1_ri, pe_dup_x1_rr, pe_putfield, pm_prog_1, pm_ob_some, Nat.reduceDiv, Nat.reduceMod, Nat.reduceMul, Nat.reduceAdd, Int.reduceToNat, pm_kill_i, pm_kill_r, pm_kill_n, pm_kill_j, pm_kill_l, pm_kill_d, pm_cats_nil, pm_cats_i, pm_cats_r, pm_cats_n, pm_cats_l, pm_cats_d, sz_1, sz_2, sl_1, sl_2, lc_0, lc_lt, lc_le, li_ne, va_rf, wr_m1, we_m1, pm_kill_w, Int32.reduceOfInt, Int64.reduceOfInt, Int32.reduceOfNat, Int32.reduceLT, Int32.reduceLE, Prod.mk.injEq, Nat.reduceEqDiff, reduceCtorEq, and_true, true_and, and_false, false_and, and_self, ite_true, ite_false, ↓reduceIte, not_true_eq_false, not_false_eq_true, pe_ri, pe_rz, pe_rc, p_throw, t727, w_junk hA, Cn_g0_11 hP hA, Cn_g0_12 hP hA, Cn_p0_12 hP hA, Cn_r9 hP hA, Cn_w10 hP hA, z1]
    · rw [if_neg k2] at e; cases e
theorem y727_2 {mc : Int32} {A : wK → Nat} {h : pm_H} {D : Nat} {S : wS} {x1 : Int32} {x2 : Int32} {y0 : Int32} {r : (Nat × wS) ⊕ (Int32 × wS)} (hP : Cn_P mc) (hA : wok A (Cn_d mc) h.1) (hL : A (90, 0, 0) = 1) (hD : 1 ≤ D) (e : f727_2 mc S x1 x2 y0 = some r) : pm_go pm_prog (pm_call pm_prog D) 727 2 [.ref (A (0, 0, 0)), .int x1, .int x2] [.int y0] (wput A (Cn_d mc) S h) = some (match (generalizing := false) r with | .inl (c, S1) => (Outcome.threw c, (wput A (Cn_d mc) S1 (pm_new h 6 (.inr (c, []))))) | .inr (w0, S1) => (Outcome.returned (some (.int w0)), (wput A (Cn_d mc) S1 h))) := by
  simp only [f727_2] at e
  rw [g727_2, b727_2]
  obtain ⟨r, k1, e⟩ := Option.bind_eq_some_iff.mp e
  have z1 := fun h => x718 (D := D) (h := h) (by omega) k1
  rcases r with c3 | _
  · dsimp only at e z1
    have e := Option.some.inj e; subst e
    simp -implicitDefEqProofs (disch := first | assumption | exact Nat.le_of_ble_eq_true rfl | decide) only [b727_0, g727_1, b727_1, g727_3, b727_3, pe_iload1, pe_i2l, pe_bipush, pe_call3, pm_af_ret, pm_af_void, pm_af_thr, pe_if_eq, pe_iload2, pe_sipush, pe_goto, pe_goto_w, pe_call1, pe_aload0, pe_getfield, pe_icmp_ge, pe_aaload, pe_iastore, pe_dup_i, pe_dup_r, pe_iadd, pe_dup_x1_ii, pe_dup_x1_ir, pe_dup_x1_ri, pe_dup_x1_rr, pe_putfield, pm_prog_1, pm_ob_some, Nat.reduceDiv, Nat.reduceMod, Nat.reduceMul, Nat.reduceAdd, Int.reduceToNat, pm_kill_i, pm_kill_r, pm_kill_n, pm_kill_j, pm_kill_l, pm_kill_d, pm_cats_nil, pm_cats_i, pm_cats_r, pm_cats_n, pm_cats_l, pm_cats_d, sz_1, sz_2, sl_1, sl_2, lc_0, lc_lt, lc_le, li_ne, va_rf, wr_m1, we_m1, pm_kill_w, Int32.reduceOfInt, Int64.reduceOfInt, Int32.reduceOfNat, Int32.reduceLT, Int32.reduceLE, Prod.mk.injEq, Nat.reduceEqDiff, reduceCtorEq, and_true, true_and, and_false, false_and, and_self, ite_true, ite_false, ↓reduceIte, not_true_eq_false, not_false_eq_true, pe_ri, pe_rz, pe_rc, p_throw, t727, w_junk hA, Cn_g0_11 hP hA, Cn_g0_12 hP hA, Cn_p0_12 hP hA, Cn_r9 hP hA, Cn_w10 hP hA, z1]
  · dsimp only at e z1
    by_cases k2 : (S.1 (0, 0, 0) 12) < 32
    · rw [if_pos k2] at e
      have k3 := y727_4 (h := h) hP hA hL hD e
      simp -implicitDefEqProofs (disch := first | assumption | exact Nat.le_of_ble_eq_true rfl | decide) only [b727_0, g727_1, b727_1, g727_3, b727_3, pe_iload1, pe_i2l, pe_bipush, pe_call3, pm_af_ret, pm_af_void, pm_af_thr, pe_if_eq, pe_iload2, pe_sipush, pe_goto, pe_goto_w, pe_call1, pe_aload0, pe_getfield, pe_icmp_ge, pe_aaload, pe_iastore, pe_dup_i, pe_dup_r, pe_iadd, pe_dup_x1_ii, pe_dup_x1_ir, pe_dup_x1_ri, pe_dup_x1_rr, pe_putfield, pm_prog_1, pm_ob_some, Nat.reduceDiv, Nat.reduceMod, Nat.reduceMul, Nat.reduceAdd, Int.reduceToNat, pm_kill_i, pm_kill_r, pm_kill_n, pm_kill_j, pm_kill_l, pm_kill_d, pm_cats_nil, pm_cats_i, pm_cats_r, pm_cats_n, pm_cats_l, pm_cats_d, sz_1, sz_2, sl_1, sl_2, lc_0, lc_lt, lc_le, li_ne, va_rf, wr_m1, we_m1, pm_kill_w, Int32.reduceOfInt, Int64.reduceOfInt, Int32.reduceOfNat, Int32.reduceLT, Int32.reduceLE, Prod.mk.injEq, Nat.reduceEqDiff, reduceCtorEq, and_true, true_and, and_false, false_and, and_self, ite_true, ite_false, ↓reduceIte, not_true_eq_false, not_false_eq_true, pe_ri, pe_rz, pe_rc, p_throw, t727, w_junk hA, Cn_g0_11 hP hA, Cn_g0_12 hP hA, Cn_p0_12 hP hA, Cn_r9 hP hA, Cn_w10 hP hA, z1, eq_true k2, k3]
    · rw [if_neg k2] at e
      have k4 := y727_4 (h := h) hP hA hL hD e
      simp -implicitDefEqProofs (disch := first | assumption | exact Nat.le_of_ble_eq_true rfl | decide) only [b727_0, g727_1, b727_1, g727_3, b727_3, pe_iload1, pe_i2l, pe_bipush, pe_call3, pm_af_ret, pm_af_void, pm_af_thr, pe_if_eq, pe_iload2, pe_sipush, pe_goto, pe_goto_w, pe_call1, pe_aload0, pe_getfield, pe_icmp_ge, pe_aaload, pe_iastore, pe_dup_i, pe_dup_r, pe_iadd, pe_dup_x1_ii, pe_dup_x1_ir, pe_dup_x1_ri, pe_dup_x1_rr, pe_putfield, pm_prog_1, pm_ob_some, Nat.reduceDiv, Nat.reduceMod, Nat.reduceMul, Nat.reduceAdd, Int.reduceToNat, pm_kill_i, pm_kill_r, pm_kill_n, pm_kill_j, pm_kill_l, pm_kill_d, pm_cats_nil, pm_cats_i, pm_cats_r, pm_cats_n, pm_cats_l, pm_cats_d, sz_1, sz_2, sl_1, sl_2, lc_0, lc_lt, lc_le, li_ne, va_rf, wr_m1, we_m1, pm_kill_w, Int32.reduceOfInt, Int64.reduceOfInt, Int32.reduceOfNat, Int32.reduceLT, Int32.reduceLE, Prod.mk.injEq, Nat.reduceEqDiff, reduceCtorEq, and_true, true_and, and_false, false_and, and_self, ite_true, ite_false, ↓reduceIte, not_true_eq_false, not_false_eq_true, pe_ri, pe_rz, pe_rc, p_throw, t727, w_junk hA, Cn_g0_11 hP hA, Cn_g0_12 hP hA, Cn_p0_12 hP hA, Cn_r9 hP hA, Cn_w10 hP hA, z1, eq_false k2, k4]
theorem x727 {mc : Int32} {A : wK → Nat} {h : pm_H} {D : Nat} {S : wS} {x1 : Int32} {x2 : Int32} {r : (Nat × wS) ⊕ (Int32 × wS)} (hP : Cn_P mc) (hA : wok A (Cn_d mc) h.1) (hL : A (90, 0, 0) = 1) (hD : 2 ≤ D) (e : f727 mc S x1 x2 = some r) : pm_call pm_prog D 727 [.ref (A (0, 0, 0)), .int x1, .int x2] (wput A (Cn_d mc) S h) = some (match (generalizing := false) r with | .inl (c, S1) => (Outcome.threw c, (wput A (Cn_d mc) S1 (pm_new h 6 (.inr (c, []))))) | .inr (w0, S1) => (Outcome.returned (some (.int w0)), (wput A (Cn_d mc) S1 h))) := by
  obtain ⟨D, rfl⟩ : ∃ D', D = D' + 1 := ⟨D - 1, by omega⟩
  have hD : 1 ≤ D := by omega
  simp only [f727] at e
  rw [c727 (Cn_c0 hP hA), b727_0]
  obtain ⟨v1, k1, e⟩ := Option.bind_eq_some_iff.mp e
  try dsimp only at e
  have z1 := fun h => x706 (D := D) (h := h) (by omega) k1
  by_cases k2 : v1 = 0
  · rw [if_pos k2] at e
    have k3 := y727_2 (h := h) hP hA hL hD e
    simp -implicitDefEqProofs (disch := first | assumption | exact Nat.le_of_ble_eq_true rfl | decide) only [b727_0, g727_1, b727_1, g727_3, b727_3, pe_iload1, pe_i2l, pe_bipush, pe_call3, pm_af_ret, pm_af_void, pm_af_thr, pe_if_eq, pe_iload2, pe_sipush, pe_goto, pe_goto_w, pe_call1, pe_aload0, pe_getfield, pe_icmp_ge, pe_aaload, pe_iastore, pe_dup_i, pe_dup_r, pe_iadd, pe_dup_x1_ii, pe_dup_x1_ir, pe_dup_x1_ri, pe_dup_x1_rr, pe_putfield, pm_prog_1, pm_ob_some, Nat.reduceDiv, Nat.reduceMod, Nat.reduceMul, Nat.reduceAdd, Int.reduceToNat, pm_kill_i, pm_kill_r, pm_kill_n, pm_kill_j, pm_kill_l, pm_kill_d, pm_cats_nil, pm_cats_i, pm_cats_r, pm_cats_n, pm_cats_l, pm_cats_d, sz_1, sz_2, sl_1, sl_2, lc_0, lc_lt, lc_le, li_ne, va_rf, wr_m1, we_m1, pm_kill_w, Int32.reduceOfInt, Int64.reduceOfInt, Int32.reduceOfNat, Int32.reduceLT, Int32.reduceLE, Prod.mk.injEq, Nat.reduceEqDiff, reduceCtorEq, and_true, true_and, and_false, false_and, and_self, ite_true, ite_false, ↓reduceIte, not_true_eq_false, not_false_eq_true, pe_ri, pe_rz, pe_rc, p_throw, t727, w_junk hA, Cn_g0_11 hP hA, Cn_g0_12 hP hA, Cn_p0_12 hP hA, Cn_r9 hP hA, Cn_w10 hP hA, z1, eq_true k2, k3]
  · rw [if_neg k2] at e
    obtain ⟨v4, k4, e⟩ := Option.bind_eq_some_iff.mp e
    try dsimp only at e
    have z4 := fun h => x706 (D := D) (h := h) (by omega) k4
    by_cases k5 : v4 = 0
    · rw [if_pos k5] at e
      have k6 := y727_2 (h := h) hP hA hL hD e
      simp -implicitDefEqProofs (disch := first | assumption | exact Nat.le_of_ble_eq_true rfl | decide) only [b727_0, g727_1, b727_1, g727_3, b727_3, pe_iload1, pe_i2l, pe_bipush, pe_call3, pm_af_ret, pm_af_void, pm_af_thr, pe_if_eq, pe_iload2, pe_sipush, pe_goto, pe_goto_w, pe_call1, pe_aload0, pe_getfield, pe_icmp_ge, pe_aaload, pe_iastore, pe_dup_i, pe_dup_r, pe_iadd, pe_dup_x1_ii, pe_dup_x1_ir, pe_dup_x1_ri, pe_dup_x1_rr, pe_putfield, pm_prog_1, pm_ob_some, Nat.reduceDiv, Nat.reduceMod, Nat.reduceMul, Nat.reduceAdd, Int.reduceToNat, pm_kill_i, pm_kill_r, pm_kill_n, pm_kill_j, pm_kill_l, pm_kill_d, pm_cats_nil, pm_cats_i, pm_cats_r, pm_cats_n, pm_cats_l, pm_cats_d, sz_1, sz_2, sl_1, sl_2, lc_0, lc_lt, lc_le, li_ne, va_rf, wr_m1, we_m1, pm_kill_w, Int32.reduceOfInt, Int64.reduceOfInt, Int32.reduceOfNat, Int32.reduceLT, Int32.reduceLE, Prod.mk.injEq, Nat.reduceEqDiff, reduceCtorEq, and_true, true_and, and_false, false_and, and_self, ite_true, ite_false, ↓reduceIte, not_true_eq_false, not_false_eq_true, pe_ri, pe_rz, pe_rc, p_throw, t727, w_junk hA, Cn_g0_11 hP hA, Cn_g0_12 hP hA, Cn_p0_12 hP hA, Cn_r9 hP hA, Cn_w10 hP hA, z1, eq_false k2, z4, eq_true k5, k6]
    · rw [if_neg k5] at e
      have k7 := y727_2 (h := h) hP hA hL hD e
      simp -implicitDefEqProofs (disch := first | assumption | exact Nat.le_of_ble_eq_true rfl | decide) only [b727_0, g727_1, b727_1, g727_3, b727_3, pe_iload1, pe_i2l, pe_bipush, pe_call3, pm_af_ret, pm_af_void, pm_af_thr, pe_if_eq, pe_iload2, pe_sipush, pe_goto, pe_goto_w, pe_call1, pe_aload0, pe_getfield, pe_icmp_ge, pe_aaload, pe_iastore, pe_dup_i, pe_dup_r, pe_iadd, pe_dup_x1_ii, pe_dup_x1_ir, pe_dup_x1_ri, pe_dup_x1_rr, pe_putfield, pm_prog_1, pm_ob_some, Nat.reduceDiv, Nat.reduceMod, Nat.reduceMul, Nat.reduceAdd, Int.reduceToNat, pm_kill_i, pm_kill_r, pm_kill_n, pm_kill_j, pm_kill_l, pm_kill_d, pm_cats_nil, pm_cats_i, pm_cats_r, pm_cats_n, pm_cats_l, pm_cats_d, sz_1, sz_2, sl_1, sl_2, lc_0, lc_lt, lc_le, li_ne, va_rf, wr_m1, we_m1, pm_kill_w, Int32.reduceOfInt, Int64.reduceOfInt, Int32.reduceOfNat, Int32.reduceLT, Int32.reduceLE, Prod.mk.injEq, Nat.reduceEqDiff, reduceCtorEq, and_true, true_and, and_false, false_and, and_self, ite_true, ite_false, ↓reduceIte, not_true_eq_false, not_false_eq_true, pe_ri, pe_rz, pe_rc, p_throw, t727, w_junk hA, Cn_g0_11 hP hA, Cn_g0_12 hP hA, Cn_p0_12 hP hA, Cn_r9 hP hA, Cn_w10 hP hA, z1, eq_false k2, z4, eq_false k5, k7]
/-- TimberHouse$NailRules.clear()V -/
theorem c728 {d : Nat} {h : pm_H} {a : Nat} (hc : pm_cls h a = some 11) : pm_call pm_prog (d + 1) 728 [.ref a] h = pm_ev pm_prog (pm_call pm_prog d) 728 0 b728_0 [.ref a] [] h := pm_cal (pm_rc1 hc rfl) rfl rfl rfl
/-- TimberHouse$NailRules.clear()V -/
noncomputable def f728 (mc : Int32) (S : wS) : Option (wS) :=
  some (sz S (0, 0, 0) 12 0)
theorem x728 {mc : Int32} {A : wK → Nat} {h : pm_H} {D : Nat} {S : wS} {r : wS} (hP : Cn_P mc) (hA : wok A (Cn_d mc) h.1) (hL : A (90, 0, 0) = 1) (hD : 1 ≤ D) (e : f728 mc S = some r) : pm_call pm_prog D 728 [.ref (A (0, 0, 0))] (wput A (Cn_d mc) S h) = some (Outcome.returned none, (wput A (Cn_d mc) r h)) := by
  obtain ⟨D, rfl⟩ : ∃ D', D = D' + 1 := ⟨D - 1, by omega⟩
  have hD : 0 ≤ D := by omega
  simp only [f728] at e
  rw [c728 (Cn_c0 hP hA), b728_0]
  have e := Option.some.inj e; subst e
  simp -implicitDefEqProofs (disch := first | assumption | exact Nat.le_of_ble_eq_true rfl | decide) only [b728_0, pe_aload0, pe_sipush, pe_putfield, pe_return, pm_prog_1, pm_ob_some, Nat.reduceDiv, Nat.reduceMod, Nat.reduceMul, Nat.reduceAdd, Int.reduceToNat, pm_kill_i, pm_kill_r, pm_kill_n, pm_kill_j, pm_kill_l, pm_kill_d, pm_cats_nil, pm_cats_i, pm_cats_r, pm_cats_n, pm_cats_l, pm_cats_d, sz_1, sz_2, sl_1, sl_2, lc_0, lc_lt, lc_le, li_ne, va_rf, wr_m1, we_m1, pm_kill_w, Int32.reduceOfInt, Int64.reduceOfInt, Int32.reduceOfNat, Int32.reduceLT, Int32.reduceLE, Prod.mk.injEq, Nat.reduceEqDiff, reduceCtorEq, and_true, true_and, and_false, false_and, and_self, ite_true, ite_false, ↓reduceIte, not_true_eq_false, not_false_eq_true, pe_ri, pe_rz, pe_rc, Cn_p0_12 hP hA]
/-- TimberHouse$NailRules.keepsSide(III)Z -/
theorem c730 {d : Nat} {h : pm_H} {x0 : Int32} {x1 : Int32} {x2 : Int32} : pm_call pm_prog (d + 1) 730 [.int x0, .int x1, .int x2] h = pm_ev pm_prog (pm_call pm_prog d) 730 0 b730_0 [.int x0, .int x1, .int x2] [] h := pm_cal (pm_rc0 rfl) rfl rfl rfl
theorem g730_1 {cl : pm_C} {ls st : List Value} {h : pm_H} : pm_go pm_prog cl 730 1 ls st h = pm_ev pm_prog cl 730 1 b730_1 ls st h := pm_go_eq pm_prog cl 730 1 ls st h
theorem g730_2 {cl : pm_C} {ls st : List Value} {h : pm_H} : pm_go pm_prog cl 730 2 ls st h = pm_ev pm_prog cl 730 2 b730_2 ls st h := pm_go_eq pm_prog cl 730 2 ls st h
/-- TimberHouse$NailRules.keepsSide(III)Z -/
noncomputable def f730 (x0 : Int32) (x1 : Int32) (x2 : Int32) : Option (Int32) :=
  if x0 < x2 then
    some 0
  else
    if (x1 - x0) < x2 then
      some 0
    else
      some 1
theorem x730 {h : pm_H} {D : Nat} {x0 : Int32} {x1 : Int32} {x2 : Int32} {r : Int32} (hD : 1 ≤ D) (e : f730 x0 x1 x2 = some r) : pm_call pm_prog D 730 [.int x0, .int x1, .int x2] h = some (Outcome.returned (some (.int r)), h) := by
  obtain ⟨D, rfl⟩ : ∃ D', D = D' + 1 := ⟨D - 1, by omega⟩
  have hD : 0 ≤ D := by omega
  simp only [f730] at e
  rw [c730, b730_0]
  by_cases k1 : x0 < x2
  · rw [if_pos k1] at e
    have e := Option.some.inj e; subst e
    simp -implicitDefEqProofs (disch := first | assumption | exact Nat.le_of_ble_eq_true rfl | decide) only [b730_0, g730_1, b730_1, g730_2, b730_2, pe_iload0, pe_iload2, pe_icmp_lt, pe_iload1, pe_isub, pe_sipush, pe_goto, pe_goto_w, pm_prog_1, pm_ob_some, Nat.reduceDiv, Nat.reduceMod, Nat.reduceMul, Nat.reduceAdd, Int.reduceToNat, pm_kill_i, pm_kill_r, pm_kill_n, pm_kill_j, pm_kill_l, pm_kill_d, pm_cats_nil, pm_cats_i, pm_cats_r, pm_cats_n, pm_cats_l, pm_cats_d, sz_1, sz_2, sl_1, sl_2, lc_0, lc_lt, lc_le, li_ne, va_rf, wr_m1, we_m1, pm_kill_w, Int32.reduceOfInt, Int64.reduceOfInt, Int32.reduceOfNat, Int32.reduceLT, Int32.reduceLE, Prod.mk.injEq, Nat.reduceEqDiff, reduceCtorEq, and_true, true_and, and_false, false_and, and_self, ite_true, ite_false, ↓reduceIte, not_true_eq_false, not_false_eq_true, pe_ri, pe_rz, pe_rc, eq_true k1]
  · rw [if_neg k1] at e
    by_cases k2 : (x1 - x0) < x2
    · rw [if_pos k2] at e
      have e := Option.some.inj e; subst e
      simp -implicitDefEqProofs (disch := first | assumption | exact Nat.le_of_ble_eq_true rfl | decide) only [b730_0, g730_1, b730_1, g730_2, b730_2, pe_iload0, pe_iload2, pe_icmp_lt, pe_iload1, pe_isub, pe_sipush, pe_goto, pe_goto_w, pm_prog_1, pm_ob_some, Nat.reduceDiv, Nat.reduceMod, Nat.reduceMul, Nat.reduceAdd, Int.reduceToNat, pm_kill_i, pm_kill_r, pm_kill_n, pm_kill_j, pm_kill_l, pm_kill_d, pm_cats_nil, pm_cats_i, pm_cats_r, pm_cats_n, pm_cats_l, pm_cats_d, sz_1, sz_2, sl_1, sl_2, lc_0, lc_lt, lc_le, li_ne, va_rf, wr_m1, we_m1, pm_kill_w, Int32.reduceOfInt, Int64.reduceOfInt, Int32.reduceOfNat, Int32.reduceLT, Int32.reduceLE, Prod.mk.injEq, Nat.reduceEqDiff, reduceCtorEq, and_true, true_and, and_false, false_and, and_self, ite_true, ite_false, ↓reduceIte, not_true_eq_false, not_false_eq_true, pe_ri, pe_rz, pe_rc, eq_false k1, eq_true k2]
    · rw [if_neg k2] at e
      have e := Option.some.inj e; subst e
      simp -implicitDefEqProofs (disch := first | assumption | exact Nat.le_of_ble_eq_true rfl | decide) only [b730_0, g730_1, b730_1, g730_2, b730_2, pe_iload0, pe_iload2, pe_icmp_lt, pe_iload1, pe_isub, pe_sipush, pe_goto, pe_goto_w, pm_prog_1, pm_ob_some, Nat.reduceDiv, Nat.reduceMod, Nat.reduceMul, Nat.reduceAdd, Int.reduceToNat, pm_kill_i, pm_kill_r, pm_kill_n, pm_kill_j, pm_kill_l, pm_kill_d, pm_cats_nil, pm_cats_i, pm_cats_r, pm_cats_n, pm_cats_l, pm_cats_d, sz_1, sz_2, sl_1, sl_2, lc_0, lc_lt, lc_le, li_ne, va_rf, wr_m1, we_m1, pm_kill_w, Int32.reduceOfInt, Int64.reduceOfInt, Int32.reduceOfNat, Int32.reduceLT, Int32.reduceLE, Prod.mk.injEq, Nat.reduceEqDiff, reduceCtorEq, and_true, true_and, and_false, false_and, and_self, ite_true, ite_false, ↓reduceIte, not_true_eq_false, not_false_eq_true, pe_ri, pe_rz, pe_rc, eq_false k1, eq_false k2]
/-- TimberHouse$NailRules.keeps(III)I -/
theorem c729 {d : Nat} {h : pm_H} {a : Nat} {x0 : Int32} {x1 : Int32} {x2 : Int32} (hc : pm_cls h a = some 11) : pm_call pm_prog (d + 1) 729 [.ref a, .int x0, .int x1, .int x2] h = pm_ev pm_prog (pm_call pm_prog d) 729 0 b729_0 [.ref a, .int x0, .int x1, .int x2, pm_junk, pm_junk, pm_junk, pm_junk, pm_junk, pm_junk, pm_junk, pm_junk, pm_junk] [] h := pm_cal (pm_rc1 hc rfl) rfl rfl rfl
theorem g729_1 {cl : pm_C} {ls st : List Value} {h : pm_H} : pm_go pm_prog cl 729 1 ls st h = pm_ev pm_prog cl 729 1 b729_1 ls st h := pm_go_eq pm_prog cl 729 1 ls st h
theorem g729_2 {cl : pm_C} {ls st : List Value} {h : pm_H} : pm_go pm_prog cl 729 2 ls st h = pm_ev pm_prog cl 729 2 b729_2 ls st h := pm_go_eq pm_prog cl 729 2 ls st h
theorem g729_3 {cl : pm_C} {ls st : List Value} {h : pm_H} : pm_go pm_prog cl 729 3 ls st h = pm_ev pm_prog cl 729 3 b729_3 ls st h := pm_go_eq pm_prog cl 729 3 ls st h
theorem g729_4 {cl : pm_C} {ls st : List Value} {h : pm_H} : pm_go pm_prog cl 729 4 ls st h = pm_ev pm_prog cl 729 4 b729_4 ls st h := pm_go_eq pm_prog cl 729 4 ls st h
theorem g729_5 {cl : pm_C} {ls st : List Value} {h : pm_H} : pm_go pm_prog cl 729 5 ls st h = pm_ev pm_prog cl 729 5 b729_5 ls st h := pm_go_eq pm_prog cl 729 5 ls st h
theorem g729_6 {cl : pm_C} {ls st : List Value} {h : pm_H} : pm_go pm_prog cl 729 6 ls st h = pm_ev pm_prog cl 729 6 b729_6 ls st h := pm_go_eq pm_prog cl 729 6 ls st h
theorem g729_7 {cl : pm_C} {ls st : List Value} {h : pm_H} : pm_go pm_prog cl 729 7 ls st h = pm_ev pm_prog cl 729 7 b729_7 ls st h := pm_go_eq pm_prog cl 729 7 ls st h
theorem g729_8 {cl : pm_C} {ls st : List Value} {h : pm_H} : pm_go pm_prog cl 729 8 ls st h = pm_ev pm_prog cl 729 8 b729_8 ls st h := pm_go_eq pm_prog cl 729 8 ls st h
theorem g729_9 {cl : pm_C} {ls st : List Value} {h : pm_H} : pm_go pm_prog cl 729 9 ls st h = pm_ev pm_prog cl 729 9 b729_9 ls st h := pm_go_eq pm_prog cl 729 9 ls st h
theorem g729_10 {cl : pm_C} {ls st : List Value} {h : pm_H} : pm_go pm_prog cl 729 10 ls st h = pm_ev pm_prog cl 729 10 b729_10 ls st h := pm_go_eq pm_prog cl 729 10 ls st h
theorem g729_11 {cl : pm_C} {ls st : List Value} {h : pm_H} : pm_go pm_prog cl 729 11 ls st h = pm_ev pm_prog cl 729 11 b729_11 ls st h := pm_go_eq pm_prog cl 729 11 ls st h
theorem t729 {cl : pm_C} {j : Nat} {ls : List Value} {c : Nat} {h : pm_H} : pm_thr pm_prog cl 729 j ls c h = some (.threw c, h) := rfl
noncomputable def f729_b3 (mc : Int32) (S : wS) : Int32 × Int32 × Int32 × Int32 → Option ((Int32 × Int32 × Int32 × Int32) ⊕ ((Int32) ⊕ (Int32))) := fun (x2, x3, x4i, x5) =>
  if 0 ≤ x4i ∧ x4i < 4 then
    if x5 < (S.1 (0, 0, 0) 12) then
      if 0 ≤ x5 ∧ x5 < 32 then
        (f771 mc S x4i 3).bind fun v3 =>
        (f730 (S.1 (10, x5, 0) 0) x2 v3).bind fun v4 =>
        if v4 = 0 then
          some (.inr (.inl x5))
        else
          (f771 mc S x4i 2).bind fun v5 =>
          (f730 (S.1 (10, x5, 0) 1) x3 v5).bind fun v6 =>
          if v6 = 0 then
            some (.inr (.inl x5))
          else
            some (.inl (x2, x3, x4i, (x5 + 1)))
      else none
    else
      some (.inr (.inr (x4i)))
  else none
noncomputable def f729_b8 (mc : Int32) (S : wS) : Int64 × Int32 × Int32 → Option ((Int64 × Int32 × Int32) ⊕ ((Int32) ⊕ (Int64 × Int32))) := fun (x5, x7, x8) =>
  if x8 < (S.1 (0, 0, 0) 12) then
    if 0 ≤ x7 ∧ x7 < 32 then
      if 0 ≤ x8 ∧ x8 < 32 then
        if (((Int32.toInt64 ((S.1 (10, x7, 0) 0) - (S.1 (10, x8, 0) 0))) * (Int32.toInt64 ((S.1 (10, x7, 0) 0) - (S.1 (10, x8, 0) 0)))) + ((Int32.toInt64 ((S.1 (10, x7, 0) 1) - (S.1 (10, x8, 0) 1))) * (Int32.toInt64 ((S.1 (10, x7, 0) 1) - (S.1 (10, x8, 0) 1))))) < (x5 * x5) then
          some (.inr (.inl ((100 + (32 * x7)) + x8)))
        else
          some (.inl (x5, x7, (x8 + 1)))
      else none
    else none
  else
    some (.inr (.inr ((x5, x7))))
noncomputable def f729_b7 (mc : Int32) (S : wS) : Int64 × Int32 → Option ((Int64 × Int32) ⊕ ((Int32) ⊕ (Unit))) := fun (x5, x7) =>
  if x7 < (S.1 (0, 0, 0) 12) then
    (lp (f729_b8 mc S) FU (x5, x7, (x7 + 1))).bind fun b => match b with
    | (.inl v11) =>
      some (.inr (.inl v11))
    | (.inr ((v13, v14))) =>
      some (.inl (v13, (v14 + 1)))
  else
    some (.inr (.inr (())))
noncomputable def f729_2 (mc : Int32) (S : wS) (x2 : Int32) (x3 : Int32) (x4i : Int32) (y0 : Int32) : Option (Nat ⊕ (Int32)) :=
  if 0 ≤ x4i ∧ x4i < 4 then
    (f718 y0).bind fun r => match r with
    | .inl c16 =>
      some (.inl c16)
    | .inr _ =>
    (lp (f729_b3 mc S) FU (x2, x3, x4i, 0)).bind fun b => match b with
    | (.inl v7) =>
      some (.inr (1 + v7))
    | (.inr (v9i)) =>
      if 0 ≤ v9i ∧ v9i < 4 then
        (f771 mc S v9i 4).bind fun v10 =>
        (lp (f729_b7 mc S) FU ((Int32.toInt64 v10), 0)).bind fun b => match b with
        | (.inl v15) =>
          some (.inr v15)
        | (.inr (())) =>
          some (.inr 0)
      else none
  else none
/-- TimberHouse$NailRules.keeps(III)I -/
noncomputable def f729 (mc : Int32) (S : wS) (x1 : Int32) (x2 : Int32) (x3 : Int32) : Option (Nat ⊕ (Int32)) :=
  (f715 mc S x1).bind fun r => match r with
  | .inl c18 =>
    some (.inl c18)
  | .inr v1i =>
  if 0 ≤ v1i ∧ v1i < 4 then
    (f706 (Int32.toInt64 x2) 1 100000).bind fun v2 =>
    if v2 = 0 then
      f729_2 mc S x2 x3 v1i 0
    else
      (f706 (Int32.toInt64 x3) 1 100000).bind fun v17 =>
      if v17 = 0 then
        f729_2 mc S x2 x3 v1i 0
      else
        f729_2 mc S x2 x3 v1i 1
  else none
def go729_3 (mc : Int32) (A : wK → Nat) (h : pm_H) (D : Nat) (R : Outcome × pm_H) (S : wS) : Int32 × Int32 × Int32 × Int32 → Prop := fun (x2, x3, x4i, x5) => ∀ q1 q6 q7 q8 q9 q10 q11 q12 : Value, pm_go pm_prog (pm_call pm_prog D) 729 3 [.ref (A (0, 0, 0)), q1, .int x2, .int x3, .ref (A (5, x4i, 0)), .int x5, q6, q7, q8, q9, q10, q11, q12] [] (wput A (Cn_d mc) S h) = some R
def ex729_3 (mc : Int32) (A : wK → Nat) (h : pm_H) (D : Nat) (R : Outcome × pm_H) (S : wS) : (Int32) ⊕ (Int32) → Prop := fun b => match b with
  | (.inl x5) => ∀ q0 q1 q2 q3 q4 q6 q7 q8 q9 q10 q11 q12 : Value, pm_go pm_prog (pm_call pm_prog D) 729 4 [q0, q1, q2, q3, q4, .int x5, q6, q7, q8, q9, q10, q11, q12] [] (wput A (Cn_d mc) S h) = some R
  | (.inr (x4i)) => ∀ q1 q2 q3 q5 q6 q7 q8 q9 q10 q11 q12 : Value, pm_go pm_prog (pm_call pm_prog D) 729 6 [.ref (A (0, 0, 0)), q1, q2, q3, .ref (A (5, x4i, 0)), q5, q6, q7, q8, q9, q10, q11, q12] [] (wput A (Cn_d mc) S h) = some R
theorem y729_b3 {mc : Int32} {A : wK → Nat} {h : pm_H} {D : Nat} {R : Outcome × pm_H} {S : wS} (hP : Cn_P mc) (hA : wok A (Cn_d mc) h.1) (hL : A (90, 0, 0) = 1) (hD : 2 ≤ D) (a : Int32 × Int32 × Int32 × Int32) (r : (Int32 × Int32 × Int32 × Int32) ⊕ ((Int32) ⊕ (Int32))) (e : f729_b3 mc S a = some r) (hc : Sum.elim (go729_3 mc A h D R S) (ex729_3 mc A h D R S) r) : go729_3 mc A h D R S a := by
  obtain ⟨x2, x3, x4i, x5⟩ := a
  dsimp only [go729_3]
  intro q1 q6 q7 q8 q9 q10 q11 q12
  simp only [f729_b3] at e
  rw [g729_3, b729_3]
  by_cases k1 : 0 ≤ x4i ∧ x4i < 4
  · rw [if_pos k1] at e
    by_cases k2 : x5 < (S.1 (0, 0, 0) 12)
    · rw [if_pos k2] at e
      by_cases k3 : 0 ≤ x5 ∧ x5 < 32
      · rw [if_pos k3] at e
        obtain ⟨v3, k4, e⟩ := Option.bind_eq_some_iff.mp e
        try dsimp only at e
        have z4 := x771 (D := D) (h := h) hP hA hL (by omega) k4
        obtain ⟨v4, k5, e⟩ := Option.bind_eq_some_iff.mp e
        try dsimp only at e
        have z5 := fun h => x730 (D := D) (h := h) (by omega) k5
        by_cases k6 : v4 = 0
        · rw [if_pos k6] at e
          have e := Option.some.inj e; subst e
          dsimp only [Sum.elim_inr, ex729_3] at hc
          simp -implicitDefEqProofs (disch := first | assumption | exact Nat.le_of_ble_eq_true rfl | decide) only [b729_0, g729_1, b729_1, g729_4, b729_4, g729_5, b729_5, g729_6, b729_6, g729_9, b729_9, g729_10, b729_10, g729_11, b729_11, pe_aload0, pe_iload1, pe_call2, pm_af_ret, pm_af_void, pm_af_thr, pe_astore4, pe_iload2, pe_i2l, pe_bipush, pe_call3, pe_if_eq, pe_iload3, pe_sipush, pe_goto, pe_goto_w, pe_call1, pe_istore5, pe_iload5, pe_getfield, pe_icmp_ge, pe_aaload, pe_iaload, pe_aload4, pe_if_ne, pe_iadd, pe_iinc5, pe_lstore5, pe_istore7, pe_iload7, pe_istore8, pe_iload8, pe_isub, pe_lstore9, pe_lstore11, pe_lload9, pe_lmul, pe_lload11, pe_ladd, pe_lload5, pe_lcmp, pe_if_ge, pe_imul, pe_iinc8, pe_iinc7, pm_prog_1, pm_ob_some, Nat.reduceDiv, Nat.reduceMod, Nat.reduceMul, Nat.reduceAdd, Int.reduceToNat, pm_kill_i, pm_kill_r, pm_kill_n, pm_kill_j, pm_kill_l, pm_kill_d, pm_cats_nil, pm_cats_i, pm_cats_r, pm_cats_n, pm_cats_l, pm_cats_d, sz_1, sz_2, sl_1, sl_2, lc_0, lc_lt, lc_le, li_ne, va_rf, wr_m1, we_m1, pm_kill_w, Int32.reduceOfInt, Int64.reduceOfInt, Int32.reduceOfNat, Int32.reduceLT, Int32.reduceLE, Prod.mk.injEq, Nat.reduceEqDiff, reduceCtorEq, and_true, true_and, and_false, false_and, and_self, ite_true, ite_false, ↓reduceIte, not_true_eq_false, not_false_eq_true, pe_ri, pe_rz, pe_rc, p_throw, t729, w_junk hA, Cn_g0_11 hP hA, Cn_g0_12 hP hA, Cn_r10 hP hA, Cn_r9 hP hA, eq_true k2, z4, z5, eq_true k6, hc]
        · rw [if_neg k6] at e
          obtain ⟨v5, k7, e⟩ := Option.bind_eq_some_iff.mp e
          try dsimp only at e
          have z7 := x771 (D := D) (h := h) hP hA hL (by omega) k7
          obtain ⟨v6, k8, e⟩ := Option.bind_eq_some_iff.mp e
          try dsimp only at e
          have z8 := fun h => x730 (D := D) (h := h) (by omega) k8
          by_cases k9 : v6 = 0
          · rw [if_pos k9] at e
            have e := Option.some.inj e; subst e
            dsimp only [Sum.elim_inr, ex729_3] at hc
            simp -implicitDefEqProofs (disch := first | assumption | exact Nat.le_of_ble_eq_true rfl | decide) only [b729_0, g729_1, b729_1, g729_4, b729_4, g729_5, b729_5, g729_6, b729_6, g729_9, b729_9, g729_10, b729_10, g729_11, b729_11, pe_aload0, pe_iload1, pe_call2, pm_af_ret, pm_af_void, pm_af_thr, pe_astore4, pe_iload2, pe_i2l, pe_bipush, pe_call3, pe_if_eq, pe_iload3, pe_sipush, pe_goto, pe_goto_w, pe_call1, pe_istore5, pe_iload5, pe_getfield, pe_icmp_ge, pe_aaload, pe_iaload, pe_aload4, pe_if_ne, pe_iadd, pe_iinc5, pe_lstore5, pe_istore7, pe_iload7, pe_istore8, pe_iload8, pe_isub, pe_lstore9, pe_lstore11, pe_lload9, pe_lmul, pe_lload11, pe_ladd, pe_lload5, pe_lcmp, pe_if_ge, pe_imul, pe_iinc8, pe_iinc7, pm_prog_1, pm_ob_some, Nat.reduceDiv, Nat.reduceMod, Nat.reduceMul, Nat.reduceAdd, Int.reduceToNat, pm_kill_i, pm_kill_r, pm_kill_n, pm_kill_j, pm_kill_l, pm_kill_d, pm_cats_nil, pm_cats_i, pm_cats_r, pm_cats_n, pm_cats_l, pm_cats_d, sz_1, sz_2, sl_1, sl_2, lc_0, lc_lt, lc_le, li_ne, va_rf, wr_m1, we_m1, pm_kill_w, Int32.reduceOfInt, Int64.reduceOfInt, Int32.reduceOfNat, Int32.reduceLT, Int32.reduceLE, Prod.mk.injEq, Nat.reduceEqDiff, reduceCtorEq, and_true, true_and, and_false, false_and, and_self, ite_true, ite_false, ↓reduceIte, not_true_eq_false, not_false_eq_true, pe_ri, pe_rz, pe_rc, p_throw, t729, w_junk hA, Cn_g0_11 hP hA, Cn_g0_12 hP hA, Cn_r10 hP hA, Cn_r9 hP hA, eq_true k2, z4, z5, eq_false k6, z7, z8, eq_true k9, hc]
          · rw [if_neg k9] at e
            have e := Option.some.inj e; subst e
            dsimp only [Sum.elim_inl, go729_3] at hc
            simp -implicitDefEqProofs (disch := first | assumption | exact Nat.le_of_ble_eq_true rfl | decide) only [b729_0, g729_1, b729_1, g729_4, b729_4, g729_5, b729_5, g729_6, b729_6, g729_9, b729_9, g729_10, b729_10, g729_11, b729_11, pe_aload0, pe_iload1, pe_call2, pm_af_ret, pm_af_void, pm_af_thr, pe_astore4, pe_iload2, pe_i2l, pe_bipush, pe_call3, pe_if_eq, pe_iload3, pe_sipush, pe_goto, pe_goto_w, pe_call1, pe_istore5, pe_iload5, pe_getfield, pe_icmp_ge, pe_aaload, pe_iaload, pe_aload4, pe_if_ne, pe_iadd, pe_iinc5, pe_lstore5, pe_istore7, pe_iload7, pe_istore8, pe_iload8, pe_isub, pe_lstore9, pe_lstore11, pe_lload9, pe_lmul, pe_lload11, pe_ladd, pe_lload5, pe_lcmp, pe_if_ge, pe_imul, pe_iinc8, pe_iinc7, pm_prog_1, pm_ob_some, Nat.reduceDiv, Nat.reduceMod, Nat.reduceMul, Nat.reduceAdd, Int.reduceToNat, pm_kill_i, pm_kill_r, pm_kill_n, pm_kill_j, pm_kill_l, pm_kill_d, pm_cats_nil, pm_cats_i, pm_cats_r, pm_cats_n, pm_cats_l, pm_cats_d, sz_1, sz_2, sl_1, sl_2, lc_0, lc_lt, lc_le, li_ne, va_rf, wr_m1, we_m1, pm_kill_w, Int32.reduceOfInt, Int64.reduceOfInt, Int32.reduceOfNat, Int32.reduceLT, Int32.reduceLE, Prod.mk.injEq, Nat.reduceEqDiff, reduceCtorEq, and_true, true_and, and_false, false_and, and_self, ite_true, ite_false, ↓reduceIte, not_true_eq_false, not_false_eq_true, pe_ri, pe_rz, pe_rc, p_throw, t729, w_junk hA, Cn_g0_11 hP hA, Cn_g0_12 hP hA, Cn_r10 hP hA, Cn_r9 hP hA, eq_true k2, z4, z5, eq_false k6, z7, z8, eq_false k9, hc]
      · rw [if_neg k3] at e; cases e
    · rw [if_neg k2] at e
      have e := Option.some.inj e; subst e
      dsimp only [Sum.elim_inr, ex729_3] at hc
      simp -implicitDefEqProofs (disch := first | assumption | exact Nat.le_of_ble_eq_true rfl | decide) only [b729_0, g729_1, b729_1, g729_4, b729_4, g729_5, b729_5, g729_6, b729_6, g729_9, b729_9, g729_10, b729_10, g729_11, b729_11, pe_aload0, pe_iload1, pe_call2, pm_af_ret, pm_af_void, pm_af_thr, pe_astore4, pe_iload2, pe_i2l, pe_bipush, pe_call3, pe_if_eq, pe_iload3, pe_sipush, pe_goto, pe_goto_w, pe_call1, pe_istore5, pe_iload5, pe_getfield, pe_icmp_ge, pe_aaload, pe_iaload, pe_aload4, pe_if_ne, pe_iadd, pe_iinc5, pe_lstore5, pe_istore7, pe_iload7, pe_istore8, pe_iload8, pe_isub, pe_lstore9, pe_lstore11, pe_lload9, pe_lmul, pe_lload11, pe_ladd, pe_lload5, pe_lcmp, pe_if_ge, pe_imul, pe_iinc8, pe_iinc7, pm_prog_1, pm_ob_some, Nat.reduceDiv, Nat.reduceMod, Nat.reduceMul, Nat.reduceAdd, Int.reduceToNat, pm_kill_i, pm_kill_r, pm_kill_n, pm_kill_j, pm_kill_l, pm_kill_d, pm_cats_nil, pm_cats_i, pm_cats_r, pm_cats_n, pm_cats_l, pm_cats_d, sz_1, sz_2, sl_1, sl_2, lc_0, lc_lt, lc_le, li_ne, va_rf, wr_m1, we_m1, pm_kill_w, Int32.reduceOfInt, Int64.reduceOfInt, Int32.reduceOfNat, Int32.reduceLT, Int32.reduceLE, Prod.mk.injEq, Nat.reduceEqDiff, reduceCtorEq, and_true, true_and, and_false, false_and, and_self, ite_true, ite_false, ↓reduceIte, not_true_eq_false, not_false_eq_true, pe_ri, pe_rz, pe_rc, p_throw, t729, w_junk hA, Cn_g0_11 hP hA, Cn_g0_12 hP hA, Cn_r10 hP hA, Cn_r9 hP hA, eq_false k2, hc]
  · rw [if_neg k1] at e; cases e
theorem z729_3 {mc : Int32} {A : wK → Nat} {h : pm_H} {D : Nat} {R : Outcome × pm_H} {S : wS} (hP : Cn_P mc) (hA : wok A (Cn_d mc) h.1) (hL : A (90, 0, 0) = 1) (hD : 2 ≤ D) {n : Nat} {a : Int32 × Int32 × Int32 × Int32} {b : (Int32) ⊕ (Int32)} (e : lp (f729_b3 mc S) n a = some b) (hx : ex729_3 mc A h D R S b) : go729_3 mc A h D R S a := lp_run (fun a r => y729_b3 hP hA hL hD a r) n a b e hx
def go729_8 (mc : Int32) (A : wK → Nat) (h : pm_H) (D : Nat) (R : Outcome × pm_H) (S : wS) : Int64 × Int32 × Int32 → Prop := fun (x5, x7, x8) => ∀ q1 q2 q3 q4 q9 q10 q11 q12 : Value, pm_go pm_prog (pm_call pm_prog D) 729 8 [.ref (A (0, 0, 0)), q1, q2, q3, q4, .long x5, pm_junk, .int x7, .int x8, q9, q10, q11, q12] [] (wput A (Cn_d mc) S h) = some R
def ex729_8 (mc : Int32) (A : wK → Nat) (h : pm_H) (D : Nat) (R : Outcome × pm_H) (S : wS) : (Int32) ⊕ (Int64 × Int32) → Prop := fun b => match b with
  | (.inl xr0) => some (Outcome.returned (some (.int xr0)), (wput A (Cn_d mc) S h)) = some R
  | (.inr ((x5, x7))) => ∀ q1 q2 q3 q4 q8 q9 q10 q11 q12 : Value, pm_go pm_prog (pm_call pm_prog D) 729 10 [.ref (A (0, 0, 0)), q1, q2, q3, q4, .long x5, pm_junk, .int x7, q8, q9, q10, q11, q12] [] (wput A (Cn_d mc) S h) = some R
theorem y729_b8 {mc : Int32} {A : wK → Nat} {h : pm_H} {D : Nat} {R : Outcome × pm_H} {S : wS} (hP : Cn_P mc) (hA : wok A (Cn_d mc) h.1) (hL : A (90, 0, 0) = 1) (hD : 2 ≤ D) (a : Int64 × Int32 × Int32) (r : (Int64 × Int32 × Int32) ⊕ ((Int32) ⊕ (Int64 × Int32))) (e : f729_b8 mc S a = some r) (hc : Sum.elim (go729_8 mc A h D R S) (ex729_8 mc A h D R S) r) : go729_8 mc A h D R S a := by
  obtain ⟨x5, x7, x8⟩ := a
  dsimp only [go729_8]
  intro q1 q2 q3 q4 q9 q10 q11 q12
  simp only [f729_b8] at e
  rw [g729_8, b729_8]
  by_cases k1 : x8 < (S.1 (0, 0, 0) 12)
  · rw [if_pos k1] at e
    by_cases k2 : 0 ≤ x7 ∧ x7 < 32
    · rw [if_pos k2] at e
      by_cases k3 : 0 ≤ x8 ∧ x8 < 32
      · rw [if_pos k3] at e
        by_cases k4 : (((Int32.toInt64 ((S.1 (10, x7, 0) 0) - (S.1 (10, x8, 0) 0))) * (Int32.toInt64 ((S.1 (10, x7, 0) 0) - (S.1 (10, x8, 0) 0)))) + ((Int32.toInt64 ((S.1 (10, x7, 0) 1) - (S.1 (10, x8, 0) 1))) * (Int32.toInt64 ((S.1 (10, x7, 0) 1) - (S.1 (10, x8, 0) 1))))) < (x5 * x5)
        · rw [if_pos k4] at e
          have e := Option.some.inj e; subst e
          dsimp only [Sum.elim_inr, ex729_8] at hc
          have hc := Option.some.inj hc; subst hc
          simp -implicitDefEqProofs (disch := first | assumption | exact Nat.le_of_ble_eq_true rfl | decide) only [b729_0, g729_1, b729_1, g729_4, b729_4, g729_5, b729_5, g729_6, b729_6, g729_9, b729_9, g729_10, b729_10, g729_11, b729_11, pe_aload0, pe_iload1, pe_call2, pm_af_ret, pm_af_void, pm_af_thr, pe_astore4, pe_iload2, pe_i2l, pe_bipush, pe_call3, pe_if_eq, pe_iload3, pe_sipush, pe_goto, pe_goto_w, pe_call1, pe_istore5, pe_iload5, pe_getfield, pe_icmp_ge, pe_aaload, pe_iaload, pe_aload4, pe_if_ne, pe_iadd, pe_iinc5, pe_lstore5, pe_istore7, pe_iload7, pe_istore8, pe_iload8, pe_isub, pe_lstore9, pe_lstore11, pe_lload9, pe_lmul, pe_lload11, pe_ladd, pe_lload5, pe_lcmp, pe_if_ge, pe_imul, pe_iinc8, pe_iinc7, pm_prog_1, pm_ob_some, Nat.reduceDiv, Nat.reduceMod, Nat.reduceMul, Nat.reduceAdd, Int.reduceToNat, pm_kill_i, pm_kill_r, pm_kill_n, pm_kill_j, pm_kill_l, pm_kill_d, pm_cats_nil, pm_cats_i, pm_cats_r, pm_cats_n, pm_cats_l, pm_cats_d, sz_1, sz_2, sl_1, sl_2, lc_0, lc_lt, lc_le, li_ne, va_rf, wr_m1, we_m1, pm_kill_w, Int32.reduceOfInt, Int64.reduceOfInt, Int32.reduceOfNat, Int32.reduceLT, Int32.reduceLE, Prod.mk.injEq, Nat.reduceEqDiff, reduceCtorEq, and_true, true_and, and_false, false_and, and_self, ite_true, ite_false, ↓reduceIte, not_true_eq_false, not_false_eq_true, pe_ri, pe_rz, pe_rc, p_throw, t729, w_junk hA, Cn_g0_11 hP hA, Cn_g0_12 hP hA, Cn_r10 hP hA, Cn_r9 hP hA, eq_true k1, eq_true k4]
        · rw [if_neg k4] at e
          have e := Option.some.inj e; subst e
          dsimp only [Sum.elim_inl, go729_8] at hc
          simp -implicitDefEqProofs (disch := first | assumption | exact Nat.le_of_ble_eq_true rfl | decide) only [b729_0, g729_1, b729_1, g729_4, b729_4, g729_5, b729_5, g729_6, b729_6, g729_9, b729_9, g729_10, b729_10, g729_11, b729_11, pe_aload0, pe_iload1, pe_call2, pm_af_ret, pm_af_void, pm_af_thr, pe_astore4, pe_iload2, pe_i2l, pe_bipush, pe_call3, pe_if_eq, pe_iload3, pe_sipush, pe_goto, pe_goto_w, pe_call1, pe_istore5, pe_iload5, pe_getfield, pe_icmp_ge, pe_aaload, pe_iaload, pe_aload4, pe_if_ne, pe_iadd, pe_iinc5, pe_lstore5, pe_istore7, pe_iload7, pe_istore8, pe_iload8, pe_isub, pe_lstore9, pe_lstore11, pe_lload9, pe_lmul, pe_lload11, pe_ladd, pe_lload5, pe_lcmp, pe_if_ge, pe_imul, pe_iinc8, pe_iinc7, pm_prog_1, pm_ob_some, Nat.reduceDiv, Nat.reduceMod, Nat.reduceMul, Nat.reduceAdd, Int.reduceToNat, pm_kill_i, pm_kill_r, pm_kill_n, pm_kill_j, pm_kill_l, pm_kill_d, pm_cats_nil, pm_cats_i, pm_cats_r, pm_cats_n, pm_cats_l, pm_cats_d, sz_1, sz_2, sl_1, sl_2, lc_0, lc_lt, lc_le, li_ne, va_rf, wr_m1, we_m1, pm_kill_w, Int32.reduceOfInt, Int64.reduceOfInt, Int32.reduceOfNat, Int32.reduceLT, Int32.reduceLE, Prod.mk.injEq, Nat.reduceEqDiff, reduceCtorEq, and_true, true_and, and_false, false_and, and_self, ite_true, ite_false, ↓reduceIte, not_true_eq_false, not_false_eq_true, pe_ri, pe_rz, pe_rc, p_throw, t729, w_junk hA, Cn_g0_11 hP hA, Cn_g0_12 hP hA, Cn_r10 hP hA, Cn_r9 hP hA, eq_true k1, eq_false k4, hc]
      · rw [if_neg k3] at e; cases e
    · rw [if_neg k2] at e; cases e
  · rw [if_neg k1] at e
    have e := Option.some.inj e; subst e
    dsimp only [Sum.elim_inr, ex729_8] at hc
    simp -implicitDefEqProofs (disch := first | assumption | exact Nat.le_of_ble_eq_true rfl | decide) only [b729_0, g729_1, b729_1, g729_4, b729_4, g729_5, b729_5, g729_6, b729_6, g729_9, b729_9, g729_10, b729_10, g729_11, b729_11, pe_aload0, pe_iload1, pe_call2, pm_af_ret, pm_af_void, pm_af_thr, pe_astore4, pe_iload2, pe_i2l, pe_bipush, pe_call3, pe_if_eq, pe_iload3, pe_sipush, pe_goto, pe_goto_w, pe_call1, pe_istore5, pe_iload5, pe_getfield, pe_icmp_ge, pe_aaload, pe_iaload, pe_aload4, pe_if_ne, pe_iadd, pe_iinc5, pe_lstore5, pe_istore7, pe_iload7, pe_istore8, pe_iload8, pe_isub, pe_lstore9, pe_lstore11, pe_lload9, pe_lmul, pe_lload11, pe_ladd, pe_lload5, pe_lcmp, pe_if_ge, pe_imul, pe_iinc8, pe_iinc7, pm_prog_1, pm_ob_some, Nat.reduceDiv, Nat.reduceMod, Nat.reduceMul, Nat.reduceAdd, Int.reduceToNat, pm_kill_i, pm_kill_r, pm_kill_n, pm_kill_j, pm_kill_l, pm_kill_d, pm_cats_nil, pm_cats_i, pm_cats_r, pm_cats_n, pm_cats_l, pm_cats_d, sz_1, sz_2, sl_1, sl_2, lc_0, lc_lt, lc_le, li_ne, va_rf, wr_m1, we_m1, pm_kill_w, Int32.reduceOfInt, Int64.reduceOfInt, Int32.reduceOfNat, Int32.reduceLT, Int32.reduceLE, Prod.mk.injEq, Nat.reduceEqDiff, reduceCtorEq, and_true, true_and, and_false, false_and, and_self, ite_true, ite_false, ↓reduceIte, not_true_eq_false, not_false_eq_true, pe_ri, pe_rz, pe_rc, p_throw, t729, w_junk hA, Cn_g0_11 hP hA, Cn_g0_12 hP hA, Cn_r10 hP hA, Cn_r9 hP hA, eq_false k1, hc]
theorem z729_8 {mc : Int32} {A : wK → Nat} {h : pm_H} {D : Nat} {R : Outcome × pm_H} {S : wS} (hP : Cn_P mc) (hA : wok A (Cn_d mc) h.1) (hL : A (90, 0, 0) = 1) (hD : 2 ≤ D) {n : Nat} {a : Int64 × Int32 × Int32} {b : (Int32) ⊕ (Int64 × Int32)} (e : lp (f729_b8 mc S) n a = some b) (hx : ex729_8 mc A h D R S b) : go729_8 mc A h D R S a := lp_run (fun a r => y729_b8 hP hA hL hD a r) n a b e hx
def go729_7 (mc : Int32) (A : wK → Nat) (h : pm_H) (D : Nat) (R : Outcome × pm_H) (S : wS) : Int64 × Int32 → Prop := fun (x5, x7) => ∀ q1 q2 q3 q4 q8 q9 q10 q11 q12 : Value, pm_go pm_prog (pm_call pm_prog D) 729 7 [.ref (A (0, 0, 0)), q1, q2, q3, q4, .long x5, pm_junk, .int x7, q8, q9, q10, q11, q12] [] (wput A (Cn_d mc) S h) = some R
def ex729_7 (mc : Int32) (A : wK → Nat) (h : pm_H) (D : Nat) (R : Outcome × pm_H) (S : wS) : (Int32) ⊕ (Unit) → Prop := fun b => match b with
  | (.inl xr0) => some (Outcome.returned (some (.int xr0)), (wput A (Cn_d mc) S h)) = some R
  | (.inr (_)) => ∀ q0 q1 q2 q3 q4 q5 q6 q7 q8 q9 q10 q11 q12 : Value, pm_go pm_prog (pm_call pm_prog D) 729 11 [q0, q1, q2, q3, q4, q5, q6, q7, q8, q9, q10, q11, q12] [] (wput A (Cn_d mc) S h) = some R
theorem y729_b7 {mc : Int32} {A : wK → Nat} {h : pm_H} {D : Nat} {R : Outcome × pm_H} {S : wS} (hP : Cn_P mc) (hA : wok A (Cn_d mc) h.1) (hL : A (90, 0, 0) = 1) (hD : 2 ≤ D) (a : Int64 × Int32) (r : (Int64 × Int32) ⊕ ((Int32) ⊕ (Unit))) (e : f729_b7 mc S a = some r) (hc : Sum.elim (go729_7 mc A h D R S) (ex729_7 mc A h D R S) r) : go729_7 mc A h D R S a := by
  obtain ⟨x5, x7⟩ := a
  dsimp only [go729_7]
  intro q1 q2 q3 q4 q8 q9 q10 q11 q12
  simp only [f729_b7] at e
  rw [g729_7, b729_7]
  by_cases k1 : x7 < (S.1 (0, 0, 0) 12)
  · rw [if_pos k1] at e
    obtain ⟨b, k2, e⟩ := Option.bind_eq_some_iff.mp e
    rcases b with v11 | ⟨v13, v14⟩
    ·
      try dsimp only at e
      try simp -implicitDefEqProofs (disch := first | assumption | exact Nat.le_of_ble_eq_true rfl | decide) only [b729_0, g729_1, b729_1, g729_4, b729_4, g729_5, b729_5, g729_6, b729_6, g729_9, b729_9, g729_10, b729_10, g729_11, b729_11, pe_aload0, pe_iload1, pe_call2, pm_af_ret, pm_af_void, pm_af_thr, pe_astore4, pe_iload2, pe_i2l, pe_bipush, pe_call3, pe_if_eq, pe_iload3, pe_sipush, pe_goto, pe_goto_w, pe_call1, pe_istore5, pe_iload5, pe_getfield, pe_icmp_ge, pe_aaload, pe_iaload, pe_aload4, pe_if_ne, pe_iadd, pe_iinc5, pe_lstore5, pe_istore7, pe_iload7, pe_istore8, pe_iload8, pe_isub, pe_lstore9, pe_lstore11, pe_lload9, pe_lmul, pe_lload11, pe_ladd, pe_lload5, pe_lcmp, pe_if_ge, pe_imul, pe_iinc8, pe_iinc7, pm_prog_1, pm_ob_some, Nat.reduceDiv, Nat.reduceMod, Nat.reduceMul, Nat.reduceAdd, Int.reduceToNat, pm_kill_i, pm_kill_r, pm_kill_n, pm_kill_j, pm_kill_l, pm_kill_d, pm_cats_nil, pm_cats_i, pm_cats_r, pm_cats_n, pm_cats_l, pm_cats_d, sz_1, sz_2, sl_1, sl_2, lc_0, lc_lt, lc_le, li_ne, va_rf, wr_m1, we_m1, pm_kill_w, Int32.reduceOfInt, Int64.reduceOfInt, Int32.reduceOfNat, Int32.reduceLT, Int32.reduceLE, Prod.mk.injEq, Nat.reduceEqDiff, reduceCtorEq, and_true, true_and, and_false, false_and, and_self, ite_true, ite_false, ↓reduceIte, not_true_eq_false, not_false_eq_true, pe_ri, pe_rz, pe_rc, p_throw, t729, w_junk hA, Cn_g0_11 hP hA, Cn_g0_12 hP hA, Cn_r10 hP hA, Cn_r9 hP hA, eq_true k1]
      refine z729_8 hP hA hL hD k2 ?_ _ _ _ _ _ _ _ _
      dsimp only [ex729_8]
      have e := Option.some.inj e; subst e
      dsimp only [Sum.elim_inr, ex729_7] at hc
      have hc := Option.some.inj hc; subst hc
      simp -implicitDefEqProofs (disch := first | assumption | exact Nat.le_of_ble_eq_true rfl | decide) only [b729_0, g729_1, b729_1, g729_4, b729_4, g729_5, b729_5, g729_6, b729_6, g729_9, b729_9, g729_10, b729_10, g729_11, b729_11, pe_aload0, pe_iload1, pe_call2, pm_af_ret, pm_af_void, pm_af_thr, pe_astore4, pe_iload2, pe_i2l, pe_bipush, pe_call3, pe_if_eq, pe_iload3, pe_sipush, pe_goto, pe_goto_w, pe_call1, pe_istore5, pe_iload5, pe_getfield, pe_icmp_ge, pe_aaload, pe_iaload, pe_aload4, pe_if_ne, pe_iadd, pe_iinc5, pe_lstore5, pe_istore7, pe_iload7, pe_istore8, pe_iload8, pe_isub, pe_lstore9, pe_lstore11, pe_lload9, pe_lmul, pe_lload11, pe_ladd, pe_lload5, pe_lcmp, pe_if_ge, pe_imul, pe_iinc8, pe_iinc7, pm_prog_1, pm_ob_some, Nat.reduceDiv, Nat.reduceMod, Nat.reduceMul, Nat.reduceAdd, Int.reduceToNat, pm_kill_i, pm_kill_r, pm_kill_n, pm_kill_j, pm_kill_l, pm_kill_d, pm_cats_nil, pm_cats_i, pm_cats_r, pm_cats_n, pm_cats_l, pm_cats_d, sz_1, sz_2, sl_1, sl_2, lc_0, lc_lt, lc_le, li_ne, va_rf, wr_m1, we_m1, pm_kill_w, Int32.reduceOfInt, Int64.reduceOfInt, Int32.reduceOfNat, Int32.reduceLT, Int32.reduceLE, Prod.mk.injEq, Nat.reduceEqDiff, reduceCtorEq, and_true, true_and, and_false, false_and, and_self, ite_true, ite_false, ↓reduceIte, not_true_eq_false, not_false_eq_true, pe_ri, pe_rz, pe_rc, p_throw, t729, w_junk hA, Cn_g0_11 hP hA, Cn_g0_12 hP hA, Cn_r10 hP hA, Cn_r9 hP hA, eq_true k1]
    ·
      try dsimp only at e
      try simp -implicitDefEqProofs (disch := first | assumption | exact Nat.le_of_ble_eq_true rfl | decide) only [b729_0, g729_1, b729_1, g729_4, b729_4, g729_5, b729_5, g729_6, b729_6, g729_9, b729_9, g729_10, b729_10, g729_11, b729_11, pe_aload0, pe_iload1, pe_call2, pm_af_ret, pm_af_void, pm_af_thr, pe_astore4, pe_iload2, pe_i2l, pe_bipush, pe_call3, pe_if_eq, pe_iload3, pe_sipush, pe_goto, pe_goto_w, pe_call1, pe_istore5, pe_iload5, pe_getfield, pe_icmp_ge, pe_aaload, pe_iaload, pe_aload4, pe_if_ne, pe_iadd, pe_iinc5, pe_lstore5, pe_istore7, pe_iload7, pe_istore8, pe_iload8, pe_isub, pe_lstore9, pe_lstore11, pe_lload9, pe_lmul, pe_lload11, pe_ladd, pe_lload5, pe_lcmp, pe_if_ge, pe_imul, pe_iinc8, pe_iinc7, pm_prog_1, pm_ob_some, Nat.reduceDiv, Nat.reduceMod, Nat.reduceMul, Nat.reduceAdd, Int.reduceToNat, pm_kill_i, pm_kill_r, pm_kill_n, pm_kill_j, pm_kill_l, pm_kill_d, pm_cats_nil, pm_cats_i, pm_cats_r, pm_cats_n, pm_cats_l, pm_cats_d, sz_1, sz_2, sl_1, sl_2, lc_0, lc_lt, lc_le, li_ne, va_rf, wr_m1, we_m1, pm_kill_w, Int32.reduceOfInt, Int64.reduceOfInt, Int32.reduceOfNat, Int32.reduceLT, Int32.reduceLE, Prod.mk.injEq, Nat.reduceEqDiff, reduceCtorEq, and_true, true_and, and_false, false_and, and_self, ite_true, ite_false, ↓reduceIte, not_true_eq_false, not_false_eq_true, pe_ri, pe_rz, pe_rc, p_throw, t729, w_junk hA, Cn_g0_11 hP hA, Cn_g0_12 hP hA, Cn_r10 hP hA, Cn_r9 hP hA, eq_true k1]
      refine z729_8 hP hA hL hD k2 ?_ _ _ _ _ _ _ _ _
      dsimp only [ex729_8]
      intro q1 q2 q3 q4 q8 q9 q10 q11 q12
      have e := Option.some.inj e; subst e
      dsimp only [Sum.elim_inl, go729_7] at hc
      simp -implicitDefEqProofs (disch := first | assumption | exact Nat.le_of_ble_eq_true rfl | decide) only [b729_0, g729_1, b729_1, g729_4, b729_4, g729_5, b729_5, g729_6, b729_6, g729_9, b729_9, g729_10, b729_10, g729_11, b729_11, pe_aload0, pe_iload1, pe_call2, pm_af_ret, pm_af_void, pm_af_thr, pe_astore4, pe_iload2, pe_i2l, pe_bipush, pe_call3, pe_if_eq, pe_iload3, pe_sipush, pe_goto, pe_goto_w, pe_call1, pe_istore5, pe_iload5, pe_getfield, pe_icmp_ge, pe_aaload, pe_iaload, pe_aload4, pe_if_ne, pe_iadd, pe_iinc5, pe_lstore5, pe_istore7, pe_iload7, pe_istore8, pe_iload8, pe_isub, pe_lstore9, pe_lstore11, pe_lload9, pe_lmul, pe_lload11, pe_ladd, pe_lload5, pe_lcmp, pe_if_ge, pe_imul, pe_iinc8, pe_iinc7, pm_prog_1, pm_ob_some, Nat.reduceDiv, Nat.reduceMod, Nat.reduceMul, Nat.reduceAdd, Int.reduceToNat, pm_kill_i, pm_kill_r, pm_kill_n, pm_kill_j, pm_kill_l, pm_kill_d, pm_cats_nil, pm_cats_i, pm_cats_r, pm_cats_n, pm_cats_l, pm_cats_d, sz_1, sz_2, sl_1, sl_2, lc_0, lc_lt, lc_le, li_ne, va_rf, wr_m1, we_m1, pm_kill_w, Int32.reduceOfInt, Int64.reduceOfInt, Int32.reduceOfNat, Int32.reduceLT, Int32.reduceLE, Prod.mk.injEq, Nat.reduceEqDiff, reduceCtorEq, and_true, true_and, and_false, false_and, and_self, ite_true, ite_false, ↓reduceIte, not_true_eq_false, not_false_eq_true, pe_ri, pe_rz, pe_rc, p_throw, t729, w_junk hA, Cn_g0_11 hP hA, Cn_g0_12 hP hA, Cn_r10 hP hA, Cn_r9 hP hA, eq_true k1, hc]
  · rw [if_neg k1] at e
    have e := Option.some.inj e; subst e
    dsimp only [Sum.elim_inr, ex729_7] at hc
    simp -implicitDefEqProofs (disch := first | assumption | exact Nat.le_of_ble_eq_true rfl | decide) only [b729_0, g729_1, b729_1, g729_4, b729_4, g729_5, b729_5, g729_6, b729_6, g729_9, b729_9, g729_10, b729_10, g729_11, b729_11, pe_aload0, pe_iload1, pe_call2, pm_af_ret, pm_af_void, pm_af_thr, pe_astore4, pe_iload2, pe_i2l, pe_bipush, pe_call3, pe_if_eq, pe_iload3, pe_sipush, pe_goto, pe_goto_w, pe_call1, pe_istore5, pe_iload5, pe_getfield, pe_icmp_ge, pe_aaload, pe_iaload, pe_aload4, pe_if_ne, pe_iadd, pe_iinc5, pe_lstore5, pe_istore7, pe_iload7, pe_istore8, pe_iload8, pe_isub, pe_lstore9, pe_lstore11, pe_lload9, pe_lmul, pe_lload11, pe_ladd, pe_lload5, pe_lcmp, pe_if_ge, pe_imul, pe_iinc8, pe_iinc7, pm_prog_1, pm_ob_some, Nat.reduceDiv, Nat.reduceMod, Nat.reduceMul, Nat.reduceAdd, Int.reduceToNat, pm_kill_i, pm_kill_r, pm_kill_n, pm_kill_j, pm_kill_l, pm_kill_d, pm_cats_nil, pm_cats_i, pm_cats_r, pm_cats_n, pm_cats_l, pm_cats_d, sz_1, sz_2, sl_1, sl_2, lc_0, lc_lt, lc_le, li_ne, va_rf, wr_m1, we_m1, pm_kill_w, Int32.reduceOfInt, Int64.reduceOfInt, Int32.reduceOfNat, Int32.reduceLT, Int32.reduceLE, Prod.mk.injEq, Nat.reduceEqDiff, reduceCtorEq, and_true, true_and, and_false, false_and, and_self, ite_true, ite_false, ↓reduceIte, not_true_eq_false, not_false_eq_true, pe_ri, pe_rz, pe_rc, p_throw, t729, w_junk hA, Cn_g0_11 hP hA, Cn_g0_12 hP hA, Cn_r10 hP hA, Cn_r9 hP hA, eq_false k1, hc]
theorem z729_7 {mc : Int32} {A : wK → Nat} {h : pm_H} {D : Nat} {R : Outcome × pm_H} {S : wS} (hP : Cn_P mc) (hA : wok A (Cn_d mc) h.1) (hL : A (90, 0, 0) = 1) (hD : 2 ≤ D) {n : Nat} {a : Int64 × Int32} {b : (Int32) ⊕ (Unit)} (e : lp (f729_b7 mc S) n a = some b) (hx : ex729_7 mc A h D R S b) : go729_7 mc A h D R S a := lp_run (fun a r => y729_b7 hP hA hL hD a r) n a b e hx
theorem y729_2 {mc : Int32} {A : wK → Nat} {h : pm_H} {D : Nat} {S : wS} {x2 : Int32} {x3 : Int32} {x4i : Int32} {y0 : Int32} {r : Nat ⊕ (Int32)} (hP : Cn_P mc) (hA : wok A (Cn_d mc) h.1) (hL : A (90, 0, 0) = 1) (hD : 2 ≤ D) (e : f729_2 mc S x2 x3 x4i y0 = some r) : ∀ q1 q5 q6 q7 q8 q9 q10 q11 q12 : Value, pm_go pm_prog (pm_call pm_prog D) 729 2 [.ref (A (0, 0, 0)), q1, .int x2, .int x3, .ref (A (5, x4i, 0)), q5, q6, q7, q8, q9, q10, q11, q12] [.int y0] (wput A (Cn_d mc) S h) = some (match (generalizing := false) r with | .inl c => (Outcome.threw c, (wput A (Cn_d mc) S (pm_new h 6 (.inr (c, []))))) | .inr w0 => (Outcome.returned (some (.int w0)), (wput A (Cn_d mc) S h))) := by
  intro q1 q5 q6 q7 q8 q9 q10 q11 q12
  simp only [f729_2] at e
  rw [g729_2, b729_2]
  by_cases k1 : 0 ≤ x4i ∧ x4i < 4
  · rw [if_pos k1] at e
    obtain ⟨r, k2, e⟩ := Option.bind_eq_some_iff.mp e
    have z2 := fun h => x718 (D := D) (h := h) (by omega) k2
    rcases r with c16 | _
    · dsimp only at e z2
      have e := Option.some.inj e; subst e
      simp -implicitDefEqProofs (disch := first | assumption | exact Nat.le_of_ble_eq_true rfl | decide) only [b729_0, g729_1, b729_1, g729_4, b729_4, g729_5, b729_5, g729_6, b729_6, g729_9, b729_9, g729_10, b729_10, g729_11, b729_11, pe_aload0, pe_iload1, pe_call2, pm_af_ret, pm_af_void, pm_af_thr, pe_astore4, pe_iload2, pe_i2l, pe_bipush, pe_call3, pe_if_eq, pe_iload3, pe_sipush, pe_goto, pe_goto_w, pe_call1, pe_istore5, pe_iload5, pe_getfield, pe_icmp_ge, pe_aaload, pe_iaload, pe_aload4, pe_if_ne, pe_iadd, pe_iinc5, pe_lstore5, pe_istore7, pe_iload7, pe_istore8, pe_iload8, pe_isub, pe_lstore9, pe_lstore11, pe_lload9, pe_lmul, pe_lload11, pe_ladd, pe_lload5, pe_lcmp, pe_if_ge, pe_imul, pe_iinc8, pe_iinc7, pm_prog_1, pm_ob_some, Nat.reduceDiv, Nat.reduceMod, Nat.reduceMul, Nat.reduceAdd, Int.reduceToNat, pm_kill_i, pm_kill_r, pm_kill_n, pm_kill_j, pm_kill_l, pm_kill_d, pm_cats_nil, pm_cats_i, pm_cats_r, pm_cats_n, pm_cats_l, pm_cats_d, sz_1, sz_2, sl_1, sl_2, lc_0, lc_lt, lc_le, li_ne, va_rf, wr_m1, we_m1, pm_kill_w, Int32.reduceOfInt, Int64.reduceOfInt, Int32.reduceOfNat, Int32.reduceLT, Int32.reduceLE, Prod.mk.injEq, Nat.reduceEqDiff, reduceCtorEq, and_true, true_and, and_false, false_and, and_self, ite_true, ite_false, ↓reduceIte, not_true_eq_false, not_false_eq_true, pe_ri, pe_rz, pe_rc, p_throw, t729, w_junk hA, Cn_g0_11 hP hA, Cn_g0_12 hP hA, Cn_r10 hP hA, Cn_r9 hP hA, z2]
    · dsimp only at e z2
      obtain ⟨b, k3, e⟩ := Option.bind_eq_some_iff.mp e
      rcases b with v7 | v9i
      ·
        try dsimp only at e
        try simp -implicitDefEqProofs (disch := first | assumption | exact Nat.le_of_ble_eq_true rfl | decide) only [b729_0, g729_1, b729_1, g729_4, b729_4, g729_5, b729_5, g729_6, b729_6, g729_9, b729_9, g729_10, b729_10, g729_11, b729_11, pe_aload0, pe_iload1, pe_call2, pm_af_ret, pm_af_void, pm_af_thr, pe_astore4, pe_iload2, pe_i2l, pe_bipush, pe_call3, pe_if_eq, pe_iload3, pe_sipush, pe_goto, pe_goto_w, pe_call1, pe_istore5, pe_iload5, pe_getfield, pe_icmp_ge, pe_aaload, pe_iaload, pe_aload4, pe_if_ne, pe_iadd, pe_iinc5, pe_lstore5, pe_istore7, pe_iload7, pe_istore8, pe_iload8, pe_isub, pe_lstore9, pe_lstore11, pe_lload9, pe_lmul, pe_lload11, pe_ladd, pe_lload5, pe_lcmp, pe_if_ge, pe_imul, pe_iinc8, pe_iinc7, pm_prog_1, pm_ob_some, Nat.reduceDiv, Nat.reduceMod, Nat.reduceMul, Nat.reduceAdd, Int.reduceToNat, pm_kill_i, pm_kill_r, pm_kill_n, pm_kill_j, pm_kill_l, pm_kill_d, pm_cats_nil, pm_cats_i, pm_cats_r, pm_cats_n, pm_cats_l, pm_cats_d, sz_1, sz_2, sl_1, sl_2, lc_0, lc_lt, lc_le, li_ne, va_rf, wr_m1, we_m1, pm_kill_w, Int32.reduceOfInt, Int64.reduceOfInt, Int32.reduceOfNat, Int32.reduceLT, Int32.reduceLE, Prod.mk.injEq, Nat.reduceEqDiff, reduceCtorEq, and_true, true_and, and_false, false_and, and_self, ite_true, ite_false, ↓reduceIte, not_true_eq_false, not_false_eq_true, pe_ri, pe_rz, pe_rc, p_throw, t729, w_junk hA, Cn_g0_11 hP hA, Cn_g0_12 hP hA, Cn_r10 hP hA, Cn_r9 hP hA, z2]
        refine z729_3 hP hA hL hD k3 ?_ _ _ _ _ _ _ _ _
        dsimp only [ex729_3]
        intro q0 q1 q2 q3 q4 q6 q7 q8 q9 q10 q11 q12
        have e := Option.some.inj e; subst e
        simp -implicitDefEqProofs (disch := first | assumption | exact Nat.le_of_ble_eq_true rfl | decide) only [b729_0, g729_1, b729_1, g729_4, b729_4, g729_5, b729_5, g729_6, b729_6, g729_9, b729_9, g729_10, b729_10, g729_11, b729_11, pe_aload0, pe_iload1, pe_call2, pm_af_ret, pm_af_void, pm_af_thr, pe_astore4, pe_iload2, pe_i2l, pe_bipush, pe_call3, pe_if_eq, pe_iload3, pe_sipush, pe_goto, pe_goto_w, pe_call1, pe_istore5, pe_iload5, pe_getfield, pe_icmp_ge, pe_aaload, pe_iaload, pe_aload4, pe_if_ne, pe_iadd, pe_iinc5, pe_lstore5, pe_istore7, pe_iload7, pe_istore8, pe_iload8, pe_isub, pe_lstore9, pe_lstore11, pe_lload9, pe_lmul, pe_lload11, pe_ladd, pe_lload5, pe_lcmp, pe_if_ge, pe_imul, pe_iinc8, pe_iinc7, pm_prog_1, pm_ob_some, Nat.reduceDiv, Nat.reduceMod, Nat.reduceMul, Nat.reduceAdd, Int.reduceToNat, pm_kill_i, pm_kill_r, pm_kill_n, pm_kill_j, pm_kill_l, pm_kill_d, pm_cats_nil, pm_cats_i, pm_cats_r, pm_cats_n, pm_cats_l, pm_cats_d, sz_1, sz_2, sl_1, sl_2, lc_0, lc_lt, lc_le, li_ne, va_rf, wr_m1, we_m1, pm_kill_w, Int32.reduceOfInt, Int64.reduceOfInt, Int32.reduceOfNat, Int32.reduceLT, Int32.reduceLE, Prod.mk.injEq, Nat.reduceEqDiff, reduceCtorEq, and_true, true_and, and_false, false_and, and_self, ite_true, ite_false, ↓reduceIte, not_true_eq_false, not_false_eq_true, pe_ri, pe_rz, pe_rc, p_throw, t729, w_junk hA, Cn_g0_11 hP hA, Cn_g0_12 hP hA, Cn_r10 hP hA, Cn_r9 hP hA, z2]
      ·
        try dsimp only at e
        try simp -implicitDefEqProofs (disch := first | assumption | exact Nat.le_of_ble_eq_true rfl | decide) only [b729_0, g729_1, b729_1, g729_4, b729_4, g729_5, b729_5, g729_6, b729_6, g729_9, b729_9, g729_10, b729_10, g729_11, b729_11, pe_aload0, pe_iload1, pe_call2, pm_af_ret, pm_af_void, pm_af_thr, pe_astore4, pe_iload2, pe_i2l, pe_bipush, pe_call3, pe_if_eq, pe_iload3, pe_sipush, pe_goto, pe_goto_w, pe_call1, pe_istore5, pe_iload5, pe_getfield, pe_icmp_ge, pe_aaload, pe_iaload, pe_aload4, pe_if_ne, pe_iadd, pe_iinc5, pe_lstore5, pe_istore7, pe_iload7, pe_istore8, pe_iload8, pe_isub, pe_lstore9, pe_lstore11, pe_lload9, pe_lmul, pe_lload11, pe_ladd, pe_lload5, pe_lcmp, pe_if_ge, pe_imul, pe_iinc8, pe_iinc7, pm_prog_1, pm_ob_some, Nat.reduceDiv, Nat.reduceMod, Nat.reduceMul, Nat.reduceAdd, Int.reduceToNat, pm_kill_i, pm_kill_r, pm_kill_n, pm_kill_j, pm_kill_l, pm_kill_d, pm_cats_nil, pm_cats_i, pm_cats_r, pm_cats_n, pm_cats_l, pm_cats_d, sz_1, sz_2, sl_1, sl_2, lc_0, lc_lt, lc_le, li_ne, va_rf, wr_m1, we_m1, pm_kill_w, Int32.reduceOfInt, Int64.reduceOfInt, Int32.reduceOfNat, Int32.reduceLT, Int32.reduceLE, Prod.mk.injEq, Nat.reduceEqDiff, reduceCtorEq, and_true, true_and, and_false, false_and, and_self, ite_true, ite_false, ↓reduceIte, not_true_eq_false, not_false_eq_true, pe_ri, pe_rz, pe_rc, p_throw, t729, w_junk hA, Cn_g0_11 hP hA, Cn_g0_12 hP hA, Cn_r10 hP hA, Cn_r9 hP hA, z2]
        refine z729_3 hP hA hL hD k3 ?_ _ _ _ _ _ _ _ _
        dsimp only [ex729_3]
        intro q1 q2 q3 q5 q6 q7 q8 q9 q10 q11 q12
        by_cases k4 : 0 ≤ v9i ∧ v9i < 4
        · rw [if_pos k4] at e
          obtain ⟨v10, k5, e⟩ := Option.bind_eq_some_iff.mp e
          try dsimp only at e
          have z5 := x771 (D := D) (h := h) hP hA hL (by omega) k5
          obtain ⟨b, k6, e⟩ := Option.bind_eq_some_iff.mp e
          rcases b with v15 | _
          ·
            try dsimp only at e
            try simp -implicitDefEqProofs (disch := first | assumption | exact Nat.le_of_ble_eq_true rfl | decide) only [b729_0, g729_1, b729_1, g729_4, b729_4, g729_5, b729_5, g729_6, b729_6, g729_9, b729_9, g729_10, b729_10, g729_11, b729_11, pe_aload0, pe_iload1, pe_call2, pm_af_ret, pm_af_void, pm_af_thr, pe_astore4, pe_iload2, pe_i2l, pe_bipush, pe_call3, pe_if_eq, pe_iload3, pe_sipush, pe_goto, pe_goto_w, pe_call1, pe_istore5, pe_iload5, pe_getfield, pe_icmp_ge, pe_aaload, pe_iaload, pe_aload4, pe_if_ne, pe_iadd, pe_iinc5, pe_lstore5, pe_istore7, pe_iload7, pe_istore8, pe_iload8, pe_isub, pe_lstore9, pe_lstore11, pe_lload9, pe_lmul, pe_lload11, pe_ladd, pe_lload5, pe_lcmp, pe_if_ge, pe_imul, pe_iinc8, pe_iinc7, pm_prog_1, pm_ob_some, Nat.reduceDiv, Nat.reduceMod, Nat.reduceMul, Nat.reduceAdd, Int.reduceToNat, pm_kill_i, pm_kill_r, pm_kill_n, pm_kill_j, pm_kill_l, pm_kill_d, pm_cats_nil, pm_cats_i, pm_cats_r, pm_cats_n, pm_cats_l, pm_cats_d, sz_1, sz_2, sl_1, sl_2, lc_0, lc_lt, lc_le, li_ne, va_rf, wr_m1, we_m1, pm_kill_w, Int32.reduceOfInt, Int64.reduceOfInt, Int32.reduceOfNat, Int32.reduceLT, Int32.reduceLE, Prod.mk.injEq, Nat.reduceEqDiff, reduceCtorEq, and_true, true_and, and_false, false_and, and_self, ite_true, ite_false, ↓reduceIte, not_true_eq_false, not_false_eq_true, pe_ri, pe_rz, pe_rc, p_throw, t729, w_junk hA, Cn_g0_11 hP hA, Cn_g0_12 hP hA, Cn_r10 hP hA, Cn_r9 hP hA, z2, z5]
            refine z729_7 hP hA hL hD k6 ?_ _ _ _ _ _ _ _ _ _
            dsimp only [ex729_7]
            have e := Option.some.inj e; subst e
            simp -implicitDefEqProofs (disch := first | assumption | exact Nat.le_of_ble_eq_true rfl | decide) only [b729_0, g729_1, b729_1, g729_4, b729_4, g729_5, b729_5, g729_6, b729_6, g729_9, b729_9, g729_10, b729_10, g729_11, b729_11, pe_aload0, pe_iload1, pe_call2, pm_af_ret, pm_af_void, pm_af_thr, pe_astore4, pe_iload2, pe_i2l, pe_bipush, pe_call3, pe_if_eq, pe_iload3, pe_sipush, pe_goto, pe_goto_w, pe_call1, pe_istore5, pe_iload5, pe_getfield, pe_icmp_ge, pe_aaload, pe_iaload, pe_aload4, pe_if_ne, pe_iadd, pe_iinc5, pe_lstore5, pe_istore7, pe_iload7, pe_istore8, pe_iload8, pe_isub, pe_lstore9, pe_lstore11, pe_lload9, pe_lmul, pe_lload11, pe_ladd, pe_lload5, pe_lcmp, pe_if_ge, pe_imul, pe_iinc8, pe_iinc7, pm_prog_1, pm_ob_some, Nat.reduceDiv, Nat.reduceMod, Nat.reduceMul, Nat.reduceAdd, Int.reduceToNat, pm_kill_i, pm_kill_r, pm_kill_n, pm_kill_j, pm_kill_l, pm_kill_d, pm_cats_nil, pm_cats_i, pm_cats_r, pm_cats_n, pm_cats_l, pm_cats_d, sz_1, sz_2, sl_1, sl_2, lc_0, lc_lt, lc_le, li_ne, va_rf, wr_m1, we_m1, pm_kill_w, Int32.reduceOfInt, Int64.reduceOfInt, Int32.reduceOfNat, Int32.reduceLT, Int32.reduceLE, Prod.mk.injEq, Nat.reduceEqDiff, reduceCtorEq, and_true, true_and, and_false, false_and, and_self, ite_true, ite_false, ↓reduceIte, not_true_eq_false, not_false_eq_true, pe_ri, pe_rz, pe_rc, p_throw, t729, w_junk hA, Cn_g0_11 hP hA, Cn_g0_12 hP hA, Cn_r10 hP hA, Cn_r9 hP hA, z2, z5]
          ·
            try dsimp only at e
            try simp -implicitDefEqProofs (disch := first | assumption | exact Nat.le_of_ble_eq_true rfl | decide) only [b729_0, g729_1, b729_1, g729_4, b729_4, g729_5, b729_5, g729_6, b729_6, g729_9, b729_9, g729_10, b729_10, g729_11, b729_11, pe_aload0, pe_iload1, pe_call2, pm_af_ret, pm_af_void, pm_af_thr, pe_astore4, pe_iload2, pe_i2l, pe_bipush, pe_call3, pe_if_eq, pe_iload3, pe_sipush, pe_goto, pe_goto_w, pe_call1, pe_istore5, pe_iload5, pe_getfield, pe_icmp_ge, pe_aaload, pe_iaload, pe_aload4, pe_if_ne, pe_iadd, pe_iinc5, pe_lstore5, pe_istore7, pe_iload7, pe_istore8, pe_iload8, pe_isub, pe_lstore9, pe_lstore11, pe_lload9, pe_lmul, pe_lload11, pe_ladd, pe_lload5, pe_lcmp, pe_if_ge, pe_imul, pe_iinc8, pe_iinc7, pm_prog_1, pm_ob_some, Nat.reduceDiv, Nat.reduceMod, Nat.reduceMul, Nat.reduceAdd, Int.reduceToNat, pm_kill_i, pm_kill_r, pm_kill_n, pm_kill_j, pm_kill_l, pm_kill_d, pm_cats_nil, pm_cats_i, pm_cats_r, pm_cats_n, pm_cats_l, pm_cats_d, sz_1, sz_2, sl_1, sl_2, lc_0, lc_lt, lc_le, li_ne, va_rf, wr_m1, we_m1, pm_kill_w, Int32.reduceOfInt, Int64.reduceOfInt, Int32.reduceOfNat, Int32.reduceLT, Int32.reduceLE, Prod.mk.injEq, Nat.reduceEqDiff, reduceCtorEq, and_true, true_and, and_false, false_and, and_self, ite_true, ite_false, ↓reduceIte, not_true_eq_false, not_false_eq_true, pe_ri, pe_rz, pe_rc, p_throw, t729, w_junk hA, Cn_g0_11 hP hA, Cn_g0_12 hP hA, Cn_r10 hP hA, Cn_r9 hP hA, z2, z5]
            refine z729_7 hP hA hL hD k6 ?_ _ _ _ _ _ _ _ _ _
            dsimp only [ex729_7]
            intro q0 q1 q2 q3 q4 q5 q6 q7 q8 q9 q10 q11 q12
            have e := Option.some.inj e; subst e
            simp -implicitDefEqProofs (disch := first | assumption | exact Nat.le_of_ble_eq_true rfl | decide) only [b729_0, g729_1, b729_1, g729_4, b729_4, g729_5, b729_5, g729_6, b729_6, g729_9, b729_9, g729_10, b729_10, g729_11, b729_11, pe_aload0, pe_iload1, pe_call2, pm_af_ret, pm_af_void, pm_af_thr, pe_astore4, pe_iload2, pe_i2l, pe_bipush, pe_call3, pe_if_eq, pe_iload3, pe_sipush, pe_goto, pe_goto_w, pe_call1, pe_istore5, pe_iload5, pe_getfield, pe_icmp_ge, pe_aaload, pe_iaload, pe_aload4, pe_if_ne, pe_iadd, pe_iinc5, pe_lstore5, pe_istore7, pe_iload7, pe_istore8, pe_iload8, pe_isub, pe_lstore9, pe_lstore11, pe_lload9, pe_lmul, pe_lload11, pe_ladd, pe_lload5, pe_lcmp, pe_if_ge, pe_imul, pe_iinc8, pe_iinc7, pm_prog_1, pm_ob_some, Nat.reduceDiv, Nat.reduceMod, Nat.reduceMul, Nat.reduceAdd, Int.reduceToNat, pm_kill_i, pm_kill_r, pm_kill_n, pm_kill_j, pm_kill_l, pm_kill_d, pm_cats_nil, pm_cats_i, pm_cats_r, pm_cats_n, pm_cats_l, pm_cats_d, sz_1, sz_2, sl_1, sl_2, lc_0, lc_lt, lc_le, li_ne, va_rf, wr_m1, we_m1, pm_kill_w, Int32.reduceOfInt, Int64.reduceOfInt, Int32.reduceOfNat, Int32.reduceLT, Int32.reduceLE, Prod.mk.injEq, Nat.reduceEqDiff, reduceCtorEq, and_true, true_and, and_false, false_and, and_self, ite_true, ite_false, ↓reduceIte, not_true_eq_false, not_false_eq_true, pe_ri, pe_rz, pe_rc, p_throw, t729, w_junk hA, Cn_g0_11 hP hA, Cn_g0_12 hP hA, Cn_r10 hP hA, Cn_r9 hP hA, z2, z5]
        · rw [if_neg k4] at e; cases e
  · rw [if_neg k1] at e; cases e
theorem x729 {mc : Int32} {A : wK → Nat} {h : pm_H} {D : Nat} {S : wS} {x1 : Int32} {x2 : Int32} {x3 : Int32} {r : Nat ⊕ (Int32)} (hP : Cn_P mc) (hA : wok A (Cn_d mc) h.1) (hL : A (90, 0, 0) = 1) (hD : 3 ≤ D) (e : f729 mc S x1 x2 x3 = some r) : pm_call pm_prog D 729 [.ref (A (0, 0, 0)), .int x1, .int x2, .int x3] (wput A (Cn_d mc) S h) = some (match (generalizing := false) r with | .inl c => (Outcome.threw c, (wput A (Cn_d mc) S (pm_new h 6 (.inr (c, []))))) | .inr w0 => (Outcome.returned (some (.int w0)), (wput A (Cn_d mc) S h))) := by
  obtain ⟨D, rfl⟩ : ∃ D', D = D' + 1 := ⟨D - 1, by omega⟩
  have hD : 2 ≤ D := by omega
  simp only [f729] at e
  rw [c729 (Cn_c0 hP hA), b729_0]
  obtain ⟨r, k1, e⟩ := Option.bind_eq_some_iff.mp e
  have z1 := x715 (D := D) (h := h) hP hA hL (by omega) k1
  rcases r with c18 | v1i
  · dsimp only at e z1
    have e := Option.some.inj e; subst e
    simp -implicitDefEqProofs (disch := first | assumption | exact Nat.le_of_ble_eq_true rfl | decide) only [b729_0, g729_1, b729_1, g729_4, b729_4, g729_5, b729_5, g729_6, b729_6, g729_9, b729_9, g729_10, b729_10, g729_11, b729_11, pe_aload0, pe_iload1, pe_call2, pm_af_ret, pm_af_void, pm_af_thr, pe_astore4, pe_iload2, pe_i2l, pe_bipush, pe_call3, pe_if_eq, pe_iload3, pe_sipush, pe_goto, pe_goto_w, pe_call1, pe_istore5, pe_iload5, pe_getfield, pe_icmp_ge, pe_aaload, pe_iaload, pe_aload4, pe_if_ne, pe_iadd, pe_iinc5, pe_lstore5, pe_istore7, pe_iload7, pe_istore8, pe_iload8, pe_isub, pe_lstore9, pe_lstore11, pe_lload9, pe_lmul, pe_lload11, pe_ladd, pe_lload5, pe_lcmp, pe_if_ge, pe_imul, pe_iinc8, pe_iinc7, pm_prog_1, pm_ob_some, Nat.reduceDiv, Nat.reduceMod, Nat.reduceMul, Nat.reduceAdd, Int.reduceToNat, pm_kill_i, pm_kill_r, pm_kill_n, pm_kill_j, pm_kill_l, pm_kill_d, pm_cats_nil, pm_cats_i, pm_cats_r, pm_cats_n, pm_cats_l, pm_cats_d, sz_1, sz_2, sl_1, sl_2, lc_0, lc_lt, lc_le, li_ne, va_rf, wr_m1, we_m1, pm_kill_w, Int32.reduceOfInt, Int64.reduceOfInt, Int32.reduceOfNat, Int32.reduceLT, Int32.reduceLE, Prod.mk.injEq, Nat.reduceEqDiff, reduceCtorEq, and_true, true_and, and_false, false_and, and_self, ite_true, ite_false, ↓reduceIte, not_true_eq_false, not_false_eq_true, pe_ri, pe_rz, pe_rc, p_throw, t729, w_junk hA, Cn_g0_11 hP hA, Cn_g0_12 hP hA, Cn_r10 hP hA, Cn_r9 hP hA, z1]
  · dsimp only at e z1
    by_cases k2 : 0 ≤ v1i ∧ v1i < 4
    · rw [if_pos k2] at e
      obtain ⟨v2, k3, e⟩ := Option.bind_eq_some_iff.mp e
      try dsimp only at e
      have z3 := fun h => x706 (D := D) (h := h) (by omega) k3
      by_cases k4 : v2 = 0
      · rw [if_pos k4] at e
        have k5 := y729_2 (h := h) hP hA hL hD e
        simp -implicitDefEqProofs (disch := first | assumption | exact Nat.le_of_ble_eq_true rfl | decide) only [b729_0, g729_1, b729_1, g729_4, b729_4, g729_5, b729_5, g729_6, b729_6, g729_9, b729_9, g729_10, b729_10, g729_11, b729_11, pe_aload0, pe_iload1, pe_call2, pm_af_ret, pm_af_void, pm_af_thr, pe_astore4, pe_iload2, pe_i2l, pe_bipush, pe_call3, pe_if_eq, pe_iload3, pe_sipush, pe_goto, pe_goto_w, pe_call1, pe_istore5, pe_iload5, pe_getfield, pe_icmp_ge, pe_aaload, pe_iaload, pe_aload4, pe_if_ne, pe_iadd, pe_iinc5, pe_lstore5, pe_istore7, pe_iload7, pe_istore8, pe_iload8, pe_isub, pe_lstore9, pe_lstore11, pe_lload9, pe_lmul, pe_lload11, pe_ladd, pe_lload5, pe_lcmp, pe_if_ge, pe_imul, pe_iinc8, pe_iinc7, pm_prog_1, pm_ob_some, Nat.reduceDiv, Nat.reduceMod, Nat.reduceMul, Nat.reduceAdd, Int.reduceToNat, pm_kill_i, pm_kill_r, pm_kill_n, pm_kill_j, pm_kill_l, pm_kill_d, pm_cats_nil, pm_cats_i, pm_cats_r, pm_cats_n, pm_cats_l, pm_cats_d, sz_1, sz_2, sl_1, sl_2, lc_0, lc_lt, lc_le, li_ne, va_rf, wr_m1, we_m1, pm_kill_w, Int32.reduceOfInt, Int64.reduceOfInt, Int32.reduceOfNat, Int32.reduceLT, Int32.reduceLE, Prod.mk.injEq, Nat.reduceEqDiff, reduceCtorEq, and_true, true_and, and_false, false_and, and_self, ite_true, ite_false, ↓reduceIte, not_true_eq_false, not_false_eq_true, pe_ri, pe_rz, pe_rc, p_throw, t729, w_junk hA, Cn_g0_11 hP hA, Cn_g0_12 hP hA, Cn_r10 hP hA, Cn_r9 hP hA, z1, z3, eq_true k4, k5]
      · rw [if_neg k4] at e
        obtain ⟨v17, k6, e⟩ := Option.bind_eq_some_iff.mp e
        try dsimp only at e
        have z6 := fun h => x706 (D := D) (h := h) (by omega) k6
        by_cases k7 : v17 = 0
        · rw [if_pos k7] at e
          have k8 := y729_2 (h := h) hP hA hL hD e
          simp -implicitDefEqProofs (disch := first | assumption | exact Nat.le_of_ble_eq_true rfl | decide) only [b729_0, g729_1, b729_1, g729_4, b729_4, g729_5, b729_5, g729_6, b729_6, g729_9, b729_9, g729_10, b729_10, g729_11, b729_11, pe_aload0, pe_iload1, pe_call2, pm_af_ret, pm_af_void, pm_af_thr, pe_astore4, pe_iload2, pe_i2l, pe_bipush, pe_call3, pe_if_eq, pe_iload3, pe_sipush, pe_goto, pe_goto_w, pe_call1, pe_istore5, pe_iload5, pe_getfield, pe_icmp_ge, pe_aaload, pe_iaload, pe_aload4, pe_if_ne, pe_iadd, pe_iinc5, pe_lstore5, pe_istore7, pe_iload7, pe_istore8, pe_iload8, pe_isub, pe_lstore9, pe_lstore11, pe_lload9, pe_lmul, pe_lload11, pe_ladd, pe_lload5, pe_lcmp, pe_if_ge, pe_imul, pe_iinc8, pe_iinc7, pm_prog_1, pm_ob_some, Nat.reduceDiv, Nat.reduceMod, Nat.reduceMul, Nat.reduceAdd, Int.reduceToNat, pm_kill_i, pm_kill_r, pm_kill_n, pm_kill_j, pm_kill_l, pm_kill_d, pm_cats_nil, pm_cats_i, pm_cats_r, pm_cats_n, pm_cats_l, pm_cats_d, sz_1, sz_2, sl_1, sl_2, lc_0, lc_lt, lc_le, li_ne, va_rf, wr_m1, we_m1, pm_kill_w, Int32.reduceOfInt, Int64.reduceOfInt, Int32.reduceOfNat, Int32.reduceLT, Int32.reduceLE, Prod.mk.injEq, Nat.reduceEqDiff, reduceCtorEq, and_true, true_and, and_false, false_and, and_self, ite_true, ite_false, ↓reduceIte, not_true_eq_false, not_false_eq_true, pe_ri, pe_rz, pe_rc, p_throw, t729, w_junk hA, Cn_g0_11 hP hA, Cn_g0_12 hP hA, Cn_r10 hP hA, Cn_r9 hP hA, z1, z3, eq_false k4, z6, eq_true k7, k8]
        · rw [if_neg k7] at e
          have k9 := y729_2 (h := h) hP hA hL hD e
          simp -implicitDefEqProofs (disch := first | assumption | exact Nat.le_of_ble_eq_true rfl | decide) only [b729_0, g729_1, b729_1, g729_4, b729_4, g729_5, b729_5, g729_6, b729_6, g729_9, b729_9, g729_10, b729_10, g729_11, b729_11, pe_aload0, pe_iload1, pe_call2, pm_af_ret, pm_af_void, pm_af_thr, pe_astore4, pe_iload2, pe_i2l, pe_bipush, pe_call3, pe_if_eq, pe_iload3, pe_sipush, pe_goto, pe_goto_w, pe_call1, pe_istore5, pe_iload5, pe_getfield, pe_icmp_ge, pe_aaload, pe_iaload, pe_aload4, pe_if_ne, pe_iadd, pe_iinc5, pe_lstore5, pe_istore7, pe_iload7, pe_istore8, pe_iload8, pe_isub, pe_lstore9, pe_lstore11, pe_lload9, pe_lmul, pe_lload11, pe_ladd, pe_lload5, pe_lcmp, pe_if_ge, pe_imul, pe_iinc8, pe_iinc7, pm_prog_1, pm_ob_some, Nat.reduceDiv, Nat.reduceMod, Nat.reduceMul, Nat.reduceAdd, Int.reduceToNat, pm_kill_i, pm_kill_r, pm_kill_n, pm_kill_j, pm_kill_l, pm_kill_d, pm_cats_nil, pm_cats_i, pm_cats_r, pm_cats_n, pm_cats_l, pm_cats_d, sz_1, sz_2, sl_1, sl_2, lc_0, lc_lt, lc_le, li_ne, va_rf, wr_m1, we_m1, pm_kill_w, Int32.reduceOfInt, Int64.reduceOfInt, Int32.reduceOfNat, Int32.reduceLT, Int32.reduceLE, Prod.mk.injEq, Nat.reduceEqDiff, reduceCtorEq, and_true, true_and, and_false, false_and, and_self, ite_true, ite_false, ↓reduceIte, not_true_eq_false, not_false_eq_true, pe_ri, pe_rz, pe_rc, p_throw, t729, w_junk hA, Cn_g0_11 hP hA, Cn_g0_12 hP hA, Cn_r10 hP hA, Cn_r9 hP hA, z1, z3, eq_false k4, z6, eq_false k7, k9]
    · rw [if_neg k2] at e; cases e
/-- TimberHouse$NailRules.isPlace(I)Z -/
theorem c732 {d : Nat} {h : pm_H} {x0 : Int32} : pm_call pm_prog (d + 1) 732 [.int x0] h = pm_ev pm_prog (pm_call pm_prog d) 732 0 b732_0 [.int x0] [] h := pm_cal (pm_rc0 rfl) rfl rfl rfl
theorem g732_1 {cl : pm_C} {ls st : List Value} {h : pm_H} : pm_go pm_prog cl 732 1 ls st h = pm_ev pm_prog cl 732 1 b732_1 ls st h := pm_go_eq pm_prog cl 732 1 ls st h
theorem g732_2 {cl : pm_C} {ls st : List Value} {h : pm_H} : pm_go pm_prog cl 732 2 ls st h = pm_ev pm_prog cl 732 2 b732_2 ls st h := pm_go_eq pm_prog cl 732 2 ls st h
/-- TimberHouse$NailRules.isPlace(I)Z -/
noncomputable def f732 (x0 : Int32) : Option (Int32) :=
  if x0 < (-10000) then
    some 0
  else
    if x0 ≤ 10000 then
      some 1
    else
      some 0
theorem x732 {h : pm_H} {D : Nat} {x0 : Int32} {r : Int32} (hD : 1 ≤ D) (e : f732 x0 = some r) : pm_call pm_prog D 732 [.int x0] h = some (Outcome.returned (some (.int r)), h) := by
  obtain ⟨D, rfl⟩ : ∃ D', D = D' + 1 := ⟨D - 1, by omega⟩
  have hD : 0 ≤ D := by omega
  simp only [f732] at e
  rw [c732, b732_0]
  by_cases k1 : x0 < (-10000)
  · rw [if_pos k1] at e
    have e := Option.some.inj e; subst e
    simp -implicitDefEqProofs (disch := first | assumption | exact Nat.le_of_ble_eq_true rfl | decide) only [b732_0, g732_1, b732_1, g732_2, b732_2, pe_iload0, pe_sipush, pe_icmp_lt, pe_icmp_gt, pe_goto, pe_goto_w, pm_prog_1, pm_ob_some, Nat.reduceDiv, Nat.reduceMod, Nat.reduceMul, Nat.reduceAdd, Int.reduceToNat, pm_kill_i, pm_kill_r, pm_kill_n, pm_kill_j, pm_kill_l, pm_kill_d, pm_cats_nil, pm_cats_i, pm_cats_r, pm_cats_n, pm_cats_l, pm_cats_d, sz_1, sz_2, sl_1, sl_2, lc_0, lc_lt, lc_le, li_ne, va_rf, wr_m1, we_m1, pm_kill_w, Int32.reduceOfInt, Int64.reduceOfInt, Int32.reduceOfNat, Int32.reduceLT, Int32.reduceLE, Prod.mk.injEq, Nat.reduceEqDiff, reduceCtorEq, and_true, true_and, and_false, false_and, and_self, ite_true, ite_false, ↓reduceIte, not_true_eq_false, not_false_eq_true, pe_ri, pe_rz, pe_rc, eq_true k1]
  · rw [if_neg k1] at e
    by_cases k2 : x0 ≤ 10000
    · rw [if_pos k2] at e
      have e := Option.some.inj e; subst e
      simp -implicitDefEqProofs (disch := first | assumption | exact Nat.le_of_ble_eq_true rfl | decide) only [b732_0, g732_1, b732_1, g732_2, b732_2, pe_iload0, pe_sipush, pe_icmp_lt, pe_icmp_gt, pe_goto, pe_goto_w, pm_prog_1, pm_ob_some, Nat.reduceDiv, Nat.reduceMod, Nat.reduceMul, Nat.reduceAdd, Int.reduceToNat, pm_kill_i, pm_kill_r, pm_kill_n, pm_kill_j, pm_kill_l, pm_kill_d, pm_cats_nil, pm_cats_i, pm_cats_r, pm_cats_n, pm_cats_l, pm_cats_d, sz_1, sz_2, sl_1, sl_2, lc_0, lc_lt, lc_le, li_ne, va_rf, wr_m1, we_m1, pm_kill_w, Int32.reduceOfInt, Int64.reduceOfInt, Int32.reduceOfNat, Int32.reduceLT, Int32.reduceLE, Prod.mk.injEq, Nat.reduceEqDiff, reduceCtorEq, and_true, true_and, and_false, false_and, and_self, ite_true, ite_false, ↓reduceIte, not_true_eq_false, not_false_eq_true, pe_ri, pe_rz, pe_rc, eq_false k1, eq_true k2]
    · rw [if_neg k2] at e
      have e := Option.some.inj e; subst e
      simp -implicitDefEqProofs (disch := first | assumption | exact Nat.le_of_ble_eq_true rfl | decide) only [b732_0, g732_1, b732_1, g732_2, b732_2, pe_iload0, pe_sipush, pe_icmp_lt, pe_icmp_gt, pe_goto, pe_goto_w, pm_prog_1, pm_ob_some, Nat.reduceDiv, Nat.reduceMod, Nat.reduceMul, Nat.reduceAdd, Int.reduceToNat, pm_kill_i, pm_kill_r, pm_kill_n, pm_kill_j, pm_kill_l, pm_kill_d, pm_cats_nil, pm_cats_i, pm_cats_r, pm_cats_n, pm_cats_l, pm_cats_d, sz_1, sz_2, sl_1, sl_2, lc_0, lc_lt, lc_le, li_ne, va_rf, wr_m1, we_m1, pm_kill_w, Int32.reduceOfInt, Int64.reduceOfInt, Int32.reduceOfNat, Int32.reduceLT, Int32.reduceLE, Prod.mk.injEq, Nat.reduceEqDiff, reduceCtorEq, and_true, true_and, and_false, false_and, and_self, ite_true, ite_false, ↓reduceIte, not_true_eq_false, not_false_eq_true, pe_ri, pe_rz, pe_rc, eq_false k1, eq_false k2]
/-- TimberHouse$NailRules.memberAt(I)LTimberHouse$NailRules$Member; -/
theorem c734 {d : Nat} {h : pm_H} {a : Nat} {x0 : Int32} (hc : pm_cls h a = some 11) : pm_call pm_prog (d + 1) 734 [.ref a, .int x0] h = pm_ev pm_prog (pm_call pm_prog d) 734 0 b734_0 [.ref a, .int x0] [] h := pm_cal (pm_rc1 hc rfl) rfl rfl rfl
theorem t734 {cl : pm_C} {j : Nat} {ls : List Value} {c : Nat} {h : pm_H} : pm_thr pm_prog cl 734 j ls c h = some (.threw c, h) := rfl
/-- TimberHouse$NailRules.memberAt(I)LTimberHouse$NailRules$Member; -/
noncomputable def f734 (mc : Int32) (S : wS) (x1 : Int32) : Option (Nat ⊕ (Int32)) :=
  (f706 (Int32.toInt64 x1) 0 (Int32.toInt64 ((S.1 (0, 0, 0) 14) - 1))).bind fun v1 =>
  (f716 v1).bind fun r => match r with
  | .inl c2 =>
    some (.inl c2)
  | .inr _ =>
  if 0 ≤ x1 ∧ x1 < 6 then
    if x1 < mc then
      if 0 ≤ x1 ∧ x1 < mc then
        some (.inr x1)
      else none
    else none
  else none
theorem x734 {mc : Int32} {A : wK → Nat} {h : pm_H} {D : Nat} {S : wS} {x1 : Int32} {r : Nat ⊕ (Int32)} (hP : Cn_P mc) (hA : wok A (Cn_d mc) h.1) (hL : A (90, 0, 0) = 1) (hD : 2 ≤ D) (e : f734 mc S x1 = some r) : pm_call pm_prog D 734 [.ref (A (0, 0, 0)), .int x1] (wput A (Cn_d mc) S h) = some (match (generalizing := false) r with | .inl c => (Outcome.threw c, (wput A (Cn_d mc) S (pm_new h 6 (.inr (c, []))))) | .inr w0 => (Outcome.returned (some (.ref (A (12, w0, 0)))), (wput A (Cn_d mc) S h))) := by
  obtain ⟨D, rfl⟩ : ∃ D', D = D' + 1 := ⟨D - 1, by omega⟩
  have hD : 1 ≤ D := by omega
  simp only [f734] at e
  rw [c734 (Cn_c0 hP hA), b734_0]
  obtain ⟨v1, k1, e⟩ := Option.bind_eq_some_iff.mp e
  try dsimp only at e
  have z1 := fun h => x706 (D := D) (h := h) (by omega) k1
  obtain ⟨r, k2, e⟩ := Option.bind_eq_some_iff.mp e
  have z2 := fun h => x716 (D := D) (h := h) (by omega) k2
  rcases r with c2 | _
  · dsimp only at e z2
    have e := Option.some.inj e; subst e
    simp -implicitDefEqProofs (disch := first | assumption | exact Nat.le_of_ble_eq_true rfl | decide) only [b734_0, pe_iload1, pe_i2l, pe_bipush, pe_aload0, pe_getfield, pe_sipush, pe_isub, pe_call3, pm_af_ret, pm_af_void, pm_af_thr, pe_call1, pe_aaload, pe_areturn, pm_prog_1, pm_ob_some, Nat.reduceDiv, Nat.reduceMod, Nat.reduceMul, Nat.reduceAdd, Int.reduceToNat, pm_kill_i, pm_kill_r, pm_kill_n, pm_kill_j, pm_kill_l, pm_kill_d, pm_cats_nil, pm_cats_i, pm_cats_r, pm_cats_n, pm_cats_l, pm_cats_d, sz_1, sz_2, sl_1, sl_2, lc_0, lc_lt, lc_le, li_ne, va_rf, wr_m1, we_m1, pm_kill_w, Int32.reduceOfInt, Int64.reduceOfInt, Int32.reduceOfNat, Int32.reduceLT, Int32.reduceLE, Prod.mk.injEq, Nat.reduceEqDiff, reduceCtorEq, and_true, true_and, and_false, false_and, and_self, ite_true, ite_false, ↓reduceIte, not_true_eq_false, not_false_eq_true, pe_ri, pe_rz, pe_rc, p_throw, t734, w_junk hA, Cn_g0_13 hP hA, Cn_g0_14 hP hA, Cn_r11 hP hA, z1, z2]
  · dsimp only at e z2
    by_cases k3 : 0 ≤ x1 ∧ x1 < 6
    · rw [if_pos k3] at e
      by_cases k4 : x1 < mc
      · rw [if_pos k4] at e
        by_cases k5 : 0 ≤ x1 ∧ x1 < mc
        · rw [if_pos k5] at e
          have e := Option.some.inj e; subst e
          simp -implicitDefEqProofs (disch := first | assumption | exact Nat.le_of_ble_eq_true rfl | decide) only [b734_0, pe_iload1, pe_i2l, pe_bipush, pe_aload0, pe_getfield, pe_sipush, pe_isub, pe_call3, pm_af_ret, pm_af_void, pm_af_thr, pe_call1, pe_aaload, pe_areturn, pm_prog_1, pm_ob_some, Nat.reduceDiv, Nat.reduceMod, Nat.reduceMul, Nat.reduceAdd, Int.reduceToNat, pm_kill_i, pm_kill_r, pm_kill_n, pm_kill_j, pm_kill_l, pm_kill_d, pm_cats_nil, pm_cats_i, pm_cats_r, pm_cats_n, pm_cats_l, pm_cats_d, sz_1, sz_2, sl_1, sl_2, lc_0, lc_lt, lc_le, li_ne, va_rf, wr_m1, we_m1, pm_kill_w, Int32.reduceOfInt, Int64.reduceOfInt, Int32.reduceOfNat, Int32.reduceLT, Int32.reduceLE, Prod.mk.injEq, Nat.reduceEqDiff, reduceCtorEq, and_true, true_and, and_false, false_and, and_self, ite_true, ite_false, ↓reduceIte, not_true_eq_false, not_false_eq_true, pe_ri, pe_rz, pe_rc, p_throw, t734, w_junk hA, Cn_g0_13 hP hA, Cn_g0_14 hP hA, Cn_r11 hP hA, z1, z2]
        · rw [if_neg k5] at e; cases e
      · rw [if_neg k4] at e; cases e
    · rw [if_neg k3] at e; cases e
/-- TimberHouse$NailRules$Member.has(JJ)Z -/
theorem c2945 {d : Nat} {h : pm_H} {a : Nat} {x0 : Int64} {x1 : Int64} (hc : pm_cls h a = some 46) : pm_call pm_prog (d + 1) 2945 [.ref a, .long x0, .long x1] h = pm_ev pm_prog (pm_call pm_prog d) 2945 0 b2945_0 [.ref a, .long x0, pm_junk, .long x1, pm_junk, pm_junk, pm_junk, pm_junk, pm_junk, pm_junk, pm_junk] [] h := pm_cal (pm_rc1 hc rfl) rfl rfl rfl
theorem g2945_1 {cl : pm_C} {ls st : List Value} {h : pm_H} : pm_go pm_prog cl 2945 1 ls st h = pm_ev pm_prog cl 2945 1 b2945_1 ls st h := pm_go_eq pm_prog cl 2945 1 ls st h
theorem g2945_2 {cl : pm_C} {ls st : List Value} {h : pm_H} : pm_go pm_prog cl 2945 2 ls st h = pm_ev pm_prog cl 2945 2 b2945_2 ls st h := pm_go_eq pm_prog cl 2945 2 ls st h
/-- TimberHouse$NailRules$Member.has(JJ)Z -/
noncomputable def f2945 (mc : Int32) (S : wS) (x0i : Int32) (x1 : Int64) (x3 : Int64) : Option (Int32) :=
  if 0 ≤ x0i ∧ x0i < mc then
    if (((x1 - (S.2 (12, x0i, 0) 0)) * (S.2 (12, x0i, 0) 2)) + ((x3 - (S.2 (12, x0i, 0) 1)) * (S.2 (12, x0i, 0) 3))) < 0 then
      some 0
    else
      if (((x1 - (S.2 (12, x0i, 0) 0)) * (S.2 (12, x0i, 0) 2)) + ((x3 - (S.2 (12, x0i, 0) 1)) * (S.2 (12, x0i, 0) 3))) ≤ (((S.2 (12, x0i, 0) 2) * (S.2 (12, x0i, 0) 2)) + ((S.2 (12, x0i, 0) 3) * (S.2 (12, x0i, 0) 3))) then
        if ((2 * (((x1 - (S.2 (12, x0i, 0) 0)) * (S.2 (12, x0i, 0) 3)) - ((x3 - (S.2 (12, x0i, 0) 1)) * (S.2 (12, x0i, 0) 2)))) * (2 * (((x1 - (S.2 (12, x0i, 0) 0)) * (S.2 (12, x0i, 0) 3)) - ((x3 - (S.2 (12, x0i, 0) 1)) * (S.2 (12, x0i, 0) 2))))) ≤ (((S.2 (12, x0i, 0) 4) * (S.2 (12, x0i, 0) 4)) * (((S.2 (12, x0i, 0) 2) * (S.2 (12, x0i, 0) 2)) + ((S.2 (12, x0i, 0) 3) * (S.2 (12, x0i, 0) 3)))) then
          some 1
        else
          some 0
      else
        some 0
  else none
theorem x2945 {mc : Int32} {A : wK → Nat} {h : pm_H} {D : Nat} {S : wS} {x0i : Int32} {x1 : Int64} {x3 : Int64} {r : Int32} (hP : Cn_P mc) (hA : wok A (Cn_d mc) h.1) (hL : A (90, 0, 0) = 1) (hD : 1 ≤ D) (e : f2945 mc S x0i x1 x3 = some r) : pm_call pm_prog D 2945 [.ref (A (12, x0i, 0)), .long x1, .long x3] (wput A (Cn_d mc) S h) = some (Outcome.returned (some (.int r)), (wput A (Cn_d mc) S h)) := by
  obtain ⟨D, rfl⟩ : ∃ D', D = D' + 1 := ⟨D - 1, by omega⟩
  have hD : 0 ≤ D := by omega
  simp only [f2945] at e
  have k1 : 0 ≤ x0i ∧ x0i < mc := by
    by_cases q : 0 ≤ x0i ∧ x0i < mc
    · exact q
    · rw [if_neg q] at e; cases e
  rw [if_pos k1] at e
  rw [c2945 (Cn_c12 hP hA k1), b2945_0]
  by_cases k2 : (((x1 - (S.2 (12, x0i, 0) 0)) * (S.2 (12, x0i, 0) 2)) + ((x3 - (S.2 (12, x0i, 0) 1)) * (S.2 (12, x0i, 0) 3))) < 0
  · rw [if_pos k2] at e
    have e := Option.some.inj e; subst e
    simp -implicitDefEqProofs (disch := first | assumption | exact Nat.le_of_ble_eq_true rfl | decide) only [b2945_0, g2945_1, b2945_1, g2945_2, b2945_2, pe_aload0, pe_getfield, pe_lmul, pe_ladd, pe_lstore5, pe_lload1, pe_lsub, pe_lload3, pe_lstore7, pe_bipush, pe_lstore9, pe_lload7, pe_lcmp, pe_if_lt, pe_lload5, pe_if_gt, pe_lload9, pe_sipush, pe_goto, pe_goto_w, pm_prog_1, pm_ob_some, Nat.reduceDiv, Nat.reduceMod, Nat.reduceMul, Nat.reduceAdd, Int.reduceToNat, pm_kill_i, pm_kill_r, pm_kill_n, pm_kill_j, pm_kill_l, pm_kill_d, pm_cats_nil, pm_cats_i, pm_cats_r, pm_cats_n, pm_cats_l, pm_cats_d, sz_1, sz_2, sl_1, sl_2, lc_0, lc_lt, lc_le, li_ne, va_rf, wr_m1, we_m1, pm_kill_w, Int32.reduceOfInt, Int64.reduceOfInt, Int32.reduceOfNat, Int32.reduceLT, Int32.reduceLE, Prod.mk.injEq, Nat.reduceEqDiff, reduceCtorEq, and_true, true_and, and_false, false_and, and_self, ite_true, ite_false, ↓reduceIte, not_true_eq_false, not_false_eq_true, pe_ri, pe_rz, pe_rc, Cn_g12_0 hP hA, Cn_g12_1 hP hA, Cn_g12_2 hP hA, Cn_g12_3 hP hA, Cn_g12_4 hP hA, eq_true k2]
  · rw [if_neg k2] at e
    by_cases k3 : (((x1 - (S.2 (12, x0i, 0) 0)) * (S.2 (12, x0i, 0) 2)) + ((x3 - (S.2 (12, x0i, 0) 1)) * (S.2 (12, x0i, 0) 3))) ≤ (((S.2 (12, x0i, 0) 2) * (S.2 (12, x0i, 0) 2)) + ((S.2 (12, x0i, 0) 3) * (S.2 (12, x0i, 0) 3)))
    · rw [if_pos k3] at e
      by_cases k4 : ((2 * (((x1 - (S.2 (12, x0i, 0) 0)) * (S.2 (12, x0i, 0) 3)) - ((x3 - (S.2 (12, x0i, 0) 1)) * (S.2 (12, x0i, 0) 2)))) * (2 * (((x1 - (S.2 (12, x0i, 0) 0)) * (S.2 (12, x0i, 0) 3)) - ((x3 - (S.2 (12, x0i, 0) 1)) * (S.2 (12, x0i, 0) 2))))) ≤ (((S.2 (12, x0i, 0) 4) * (S.2 (12, x0i, 0) 4)) * (((S.2 (12, x0i, 0) 2) * (S.2 (12, x0i, 0) 2)) + ((S.2 (12, x0i, 0) 3) * (S.2 (12, x0i, 0) 3))))
      · rw [if_pos k4] at e
        have e := Option.some.inj e; subst e
        simp -implicitDefEqProofs (disch := first | assumption | exact Nat.le_of_ble_eq_true rfl | decide) only [b2945_0, g2945_1, b2945_1, g2945_2, b2945_2, pe_aload0, pe_getfield, pe_lmul, pe_ladd, pe_lstore5, pe_lload1, pe_lsub, pe_lload3, pe_lstore7, pe_bipush, pe_lstore9, pe_lload7, pe_lcmp, pe_if_lt, pe_lload5, pe_if_gt, pe_lload9, pe_sipush, pe_goto, pe_goto_w, pm_prog_1, pm_ob_some, Nat.reduceDiv, Nat.reduceMod, Nat.reduceMul, Nat.reduceAdd, Int.reduceToNat, pm_kill_i, pm_kill_r, pm_kill_n, pm_kill_j, pm_kill_l, pm_kill_d, pm_cats_nil, pm_cats_i, pm_cats_r, pm_cats_n, pm_cats_l, pm_cats_d, sz_1, sz_2, sl_1, sl_2, lc_0, lc_lt, lc_le, li_ne, va_rf, wr_m1, we_m1, pm_kill_w, Int32.reduceOfInt, Int64.reduceOfInt, Int32.reduceOfNat, Int32.reduceLT, Int32.reduceLE, Prod.mk.injEq, Nat.reduceEqDiff, reduceCtorEq, and_true, true_and, and_false, false_and, and_self, ite_true, ite_false, ↓reduceIte, not_true_eq_false, not_false_eq_true, pe_ri, pe_rz, pe_rc, Cn_g12_0 hP hA, Cn_g12_1 hP hA, Cn_g12_2 hP hA, Cn_g12_3 hP hA, Cn_g12_4 hP hA, eq_false k2, eq_true k3, eq_true k4]
      · rw [if_neg k4] at e
        have e := Option.some.inj e; subst e
        simp -implicitDefEqProofs (disch := first | assumption | exact Nat.le_of_ble_eq_true rfl | decide) only [b2945_0, g2945_1, b2945_1, g2945_2, b2945_2, pe_aload0, pe_getfield, pe_lmul, pe_ladd, pe_lstore5, pe_lload1, pe_lsub, pe_lload3, pe_lstore7, pe_bipush, pe_lstore9, pe_lload7, pe_lcmp, pe_if_lt, pe_lload5, pe_if_gt, pe_lload9, pe_sipush, pe_goto, pe_goto_w, pm_prog_1, pm_ob_some, Nat.reduceDiv, Nat.reduceMod, Nat.reduceMul, Nat.reduceAdd, Int.reduceToNat, pm_kill_i, pm_kill_r, pm_kill_n, pm_kill_j, pm_kill_l, pm_kill_d, pm_cats_nil, pm_cats_i, pm_cats_r, pm_cats_n, pm_cats_l, pm_cats_d, sz_1, sz_2, sl_1, sl_2, lc_0, lc_lt, lc_le, li_ne, va_rf, wr_m1, we_m1, pm_kill_w, Int32.reduceOfInt, Int64.reduceOfInt, Int32.reduceOfNat, Int32.reduceLT, Int32.reduceLE, Prod.mk.injEq, Nat.reduceEqDiff, reduceCtorEq, and_true, true_and, and_false, false_and, and_self, ite_true, ite_false, ↓reduceIte, not_true_eq_false, not_false_eq_true, pe_ri, pe_rz, pe_rc, Cn_g12_0 hP hA, Cn_g12_1 hP hA, Cn_g12_2 hP hA, Cn_g12_3 hP hA, Cn_g12_4 hP hA, eq_false k2, eq_true k3, eq_false k4]
    · rw [if_neg k3] at e
      have e := Option.some.inj e; subst e
      simp -implicitDefEqProofs (disch := first | assumption | exact Nat.le_of_ble_eq_true rfl | decide) only [b2945_0, g2945_1, b2945_1, g2945_2, b2945_2, pe_aload0, pe_getfield, pe_lmul, pe_ladd, pe_lstore5, pe_lload1, pe_lsub, pe_lload3, pe_lstore7, pe_bipush, pe_lstore9, pe_lload7, pe_lcmp, pe_if_lt, pe_lload5, pe_if_gt, pe_lload9, pe_sipush, pe_goto, pe_goto_w, pm_prog_1, pm_ob_some, Nat.reduceDiv, Nat.reduceMod, Nat.reduceMul, Nat.reduceAdd, Int.reduceToNat, pm_kill_i, pm_kill_r, pm_kill_n, pm_kill_j, pm_kill_l, pm_kill_d, pm_cats_nil, pm_cats_i, pm_cats_r, pm_cats_n, pm_cats_l, pm_cats_d, sz_1, sz_2, sl_1, sl_2, lc_0, lc_lt, lc_le, li_ne, va_rf, wr_m1, we_m1, pm_kill_w, Int32.reduceOfInt, Int64.reduceOfInt, Int32.reduceOfNat, Int32.reduceLT, Int32.reduceLE, Prod.mk.injEq, Nat.reduceEqDiff, reduceCtorEq, and_true, true_and, and_false, false_and, and_self, ite_true, ite_false, ↓reduceIte, not_true_eq_false, not_false_eq_true, pe_ri, pe_rz, pe_rc, Cn_g12_0 hP hA, Cn_g12_1 hP hA, Cn_g12_2 hP hA, Cn_g12_3 hP hA, Cn_g12_4 hP hA, eq_false k2, eq_false k3]
/-- TimberHouse$NailRules.in(III)Z -/
theorem c733 {d : Nat} {h : pm_H} {a : Nat} {x0 : Int32} {x1 : Int32} {x2 : Int32} (hc : pm_cls h a = some 11) : pm_call pm_prog (d + 1) 733 [.ref a, .int x0, .int x1, .int x2] h = pm_ev pm_prog (pm_call pm_prog d) 733 0 b733_0 [.ref a, .int x0, .int x1, .int x2, pm_junk] [] h := pm_cal (pm_rc1 hc rfl) rfl rfl rfl
theorem g733_1 {cl : pm_C} {ls st : List Value} {h : pm_H} : pm_go pm_prog cl 733 1 ls st h = pm_ev pm_prog cl 733 1 b733_1 ls st h := pm_go_eq pm_prog cl 733 1 ls st h
theorem g733_2 {cl : pm_C} {ls st : List Value} {h : pm_H} : pm_go pm_prog cl 733 2 ls st h = pm_ev pm_prog cl 733 2 b733_2 ls st h := pm_go_eq pm_prog cl 733 2 ls st h
theorem t733 {cl : pm_C} {j : Nat} {ls : List Value} {c : Nat} {h : pm_H} : pm_thr pm_prog cl 733 j ls c h = some (.threw c, h) := rfl
noncomputable def f733_2 (mc : Int32) (S : wS) (x2 : Int32) (x3 : Int32) (x4i : Int32) (y0 : Int32) : Option (Nat ⊕ (Int32)) :=
  if 0 ≤ x4i ∧ x4i < mc then
    (f718 y0).bind fun r => match r with
    | .inl c4 =>
      some (.inl c4)
    | .inr _ =>
    (f2945 mc S x4i (Int32.toInt64 x2) (Int32.toInt64 x3)).bind fun v3 =>
    if v3 = 0 ∨ v3 = 1 then
      some (.inr v3)
    else none
  else none
/-- TimberHouse$NailRules.in(III)Z -/
noncomputable def f733 (mc : Int32) (S : wS) (x1 : Int32) (x2 : Int32) (x3 : Int32) : Option (Nat ⊕ (Int32)) :=
  (f734 mc S x1).bind fun r => match r with
  | .inl c6 =>
    some (.inl c6)
  | .inr v1i =>
  if 0 ≤ v1i ∧ v1i < mc then
    (f732 x2).bind fun v2 =>
    if v2 = 0 then
      f733_2 mc S x2 x3 v1i 0
    else
      (f732 x3).bind fun v5 =>
      if v5 = 0 then
        f733_2 mc S x2 x3 v1i 0
      else
        f733_2 mc S x2 x3 v1i 1
  else none
theorem y733_2 {mc : Int32} {A : wK → Nat} {h : pm_H} {D : Nat} {S : wS} {x2 : Int32} {x3 : Int32} {x4i : Int32} {y0 : Int32} {r : Nat ⊕ (Int32)} (hP : Cn_P mc) (hA : wok A (Cn_d mc) h.1) (hL : A (90, 0, 0) = 1) (hD : 2 ≤ D) (e : f733_2 mc S x2 x3 x4i y0 = some r) : ∀ q0 q1 : Value, pm_go pm_prog (pm_call pm_prog D) 733 2 [q0, q1, .int x2, .int x3, .ref (A (12, x4i, 0))] [.int y0] (wput A (Cn_d mc) S h) = some (match (generalizing := false) r with | .inl c => (Outcome.threw c, (wput A (Cn_d mc) S (pm_new h 6 (.inr (c, []))))) | .inr w0 => (Outcome.returned (some (.int w0)), (wput A (Cn_d mc) S h))) := by
  intro q0 q1
  simp only [f733_2] at e
  rw [g733_2, b733_2]
  by_cases k1 : 0 ≤ x4i ∧ x4i < mc
  · rw [if_pos k1] at e
    obtain ⟨r, k2, e⟩ := Option.bind_eq_some_iff.mp e
    have z2 := fun h => x718 (D := D) (h := h) (by omega) k2
    rcases r with c4 | _
    · dsimp only at e z2
      have e := Option.some.inj e; subst e
      simp -implicitDefEqProofs (disch := first | assumption | exact Nat.le_of_ble_eq_true rfl | decide) only [b733_0, g733_1, b733_1, pe_aload0, pe_iload1, pe_call2, pm_af_ret, pm_af_void, pm_af_thr, pe_astore4, pe_iload2, pe_call1, pe_if_eq, pe_iload3, pe_sipush, pe_goto, pe_goto_w, pe_aload4, pe_i2l, pe_call3, pm_prog_1, pm_ob_some, Nat.reduceDiv, Nat.reduceMod, Nat.reduceMul, Nat.reduceAdd, Int.reduceToNat, pm_kill_i, pm_kill_r, pm_kill_n, pm_kill_j, pm_kill_l, pm_kill_d, pm_cats_nil, pm_cats_i, pm_cats_r, pm_cats_n, pm_cats_l, pm_cats_d, sz_1, sz_2, sl_1, sl_2, lc_0, lc_lt, lc_le, li_ne, va_rf, wr_m1, we_m1, pm_kill_w, Int32.reduceOfInt, Int64.reduceOfInt, Int32.reduceOfNat, Int32.reduceLT, Int32.reduceLE, Prod.mk.injEq, Nat.reduceEqDiff, reduceCtorEq, and_true, true_and, and_false, false_and, and_self, ite_true, ite_false, ↓reduceIte, not_true_eq_false, not_false_eq_true, pe_ri, pe_rz, pe_rc, p_throw, t733, w_junk hA, z2]
    · dsimp only at e z2
      obtain ⟨v3, k3, e⟩ := Option.bind_eq_some_iff.mp e
      try dsimp only at e
      have z3 := x2945 (D := D) (h := h) hP hA hL (by omega) k3
      by_cases k4 : v3 = 0 ∨ v3 = 1
      · rw [if_pos k4] at e
        have e := Option.some.inj e; subst e
        simp -implicitDefEqProofs (disch := first | assumption | exact Nat.le_of_ble_eq_true rfl | decide) only [b733_0, g733_1, b733_1, pe_aload0, pe_iload1, pe_call2, pm_af_ret, pm_af_void, pm_af_thr, pe_astore4, pe_iload2, pe_call1, pe_if_eq, pe_iload3, pe_sipush, pe_goto, pe_goto_w, pe_aload4, pe_i2l, pe_call3, pm_prog_1, pm_ob_some, Nat.reduceDiv, Nat.reduceMod, Nat.reduceMul, Nat.reduceAdd, Int.reduceToNat, pm_kill_i, pm_kill_r, pm_kill_n, pm_kill_j, pm_kill_l, pm_kill_d, pm_cats_nil, pm_cats_i, pm_cats_r, pm_cats_n, pm_cats_l, pm_cats_d, sz_1, sz_2, sl_1, sl_2, lc_0, lc_lt, lc_le, li_ne, va_rf, wr_m1, we_m1, pm_kill_w, Int32.reduceOfInt, Int64.reduceOfInt, Int32.reduceOfNat, Int32.reduceLT, Int32.reduceLE, Prod.mk.injEq, Nat.reduceEqDiff, reduceCtorEq, and_true, true_and, and_false, false_and, and_self, ite_true, ite_false, ↓reduceIte, not_true_eq_false, not_false_eq_true, pe_ri, pe_rz, pe_rc, p_throw, t733, w_junk hA, z2, z3]
      · rw [if_neg k4] at e; cases e
  · rw [if_neg k1] at e; cases e
theorem x733 {mc : Int32} {A : wK → Nat} {h : pm_H} {D : Nat} {S : wS} {x1 : Int32} {x2 : Int32} {x3 : Int32} {r : Nat ⊕ (Int32)} (hP : Cn_P mc) (hA : wok A (Cn_d mc) h.1) (hL : A (90, 0, 0) = 1) (hD : 3 ≤ D) (e : f733 mc S x1 x2 x3 = some r) : pm_call pm_prog D 733 [.ref (A (0, 0, 0)), .int x1, .int x2, .int x3] (wput A (Cn_d mc) S h) = some (match (generalizing := false) r with | .inl c => (Outcome.threw c, (wput A (Cn_d mc) S (pm_new h 6 (.inr (c, []))))) | .inr w0 => (Outcome.returned (some (.int w0)), (wput A (Cn_d mc) S h))) := by
  obtain ⟨D, rfl⟩ : ∃ D', D = D' + 1 := ⟨D - 1, by omega⟩
  have hD : 2 ≤ D := by omega
  simp only [f733] at e
  rw [c733 (Cn_c0 hP hA), b733_0]
  obtain ⟨r, k1, e⟩ := Option.bind_eq_some_iff.mp e
  have z1 := x734 (D := D) (h := h) hP hA hL (by omega) k1
  rcases r with c6 | v1i
  · dsimp only at e z1
    have e := Option.some.inj e; subst e
    simp -implicitDefEqProofs (disch := first | assumption | exact Nat.le_of_ble_eq_true rfl | decide) only [b733_0, g733_1, b733_1, pe_aload0, pe_iload1, pe_call2, pm_af_ret, pm_af_void, pm_af_thr, pe_astore4, pe_iload2, pe_call1, pe_if_eq, pe_iload3, pe_sipush, pe_goto, pe_goto_w, pe_aload4, pe_i2l, pe_call3, pm_prog_1, pm_ob_some, Nat.reduceDiv, Nat.reduceMod, Nat.reduceMul, Nat.reduceAdd, Int.reduceToNat, pm_kill_i, pm_kill_r, pm_kill_n, pm_kill_j, pm_kill_l, pm_kill_d, pm_cats_nil, pm_cats_i, pm_cats_r, pm_cats_n, pm_cats_l, pm_cats_d, sz_1, sz_2, sl_1, sl_2, lc_0, lc_lt, lc_le, li_ne, va_rf, wr_m1, we_m1, pm_kill_w, Int32.reduceOfInt, Int64.reduceOfInt, Int32.reduceOfNat, Int32.reduceLT, Int32.reduceLE, Prod.mk.injEq, Nat.reduceEqDiff, reduceCtorEq, and_true, true_and, and_false, false_and, and_self, ite_true, ite_false, ↓reduceIte, not_true_eq_false, not_false_eq_true, pe_ri, pe_rz, pe_rc, p_throw, t733, w_junk hA, z1]
  · dsimp only at e z1
    by_cases k2 : 0 ≤ v1i ∧ v1i < mc
    · rw [if_pos k2] at e
      obtain ⟨v2, k3, e⟩ := Option.bind_eq_some_iff.mp e
      try dsimp only at e
      have z3 := fun h => x732 (D := D) (h := h) (by omega) k3
      by_cases k4 : v2 = 0
      · rw [if_pos k4] at e
        have k5 := y733_2 (h := h) hP hA hL hD e
        simp -implicitDefEqProofs (disch := first | assumption | exact Nat.le_of_ble_eq_true rfl | decide) only [b733_0, g733_1, b733_1, pe_aload0, pe_iload1, pe_call2, pm_af_ret, pm_af_void, pm_af_thr, pe_astore4, pe_iload2, pe_call1, pe_if_eq, pe_iload3, pe_sipush, pe_goto, pe_goto_w, pe_aload4, pe_i2l, pe_call3, pm_prog_1, pm_ob_some, Nat.reduceDiv, Nat.reduceMod, Nat.reduceMul, Nat.reduceAdd, Int.reduceToNat, pm_kill_i, pm_kill_r, pm_kill_n, pm_kill_j, pm_kill_l, pm_kill_d, pm_cats_nil, pm_cats_i, pm_cats_r, pm_cats_n, pm_cats_l, pm_cats_d, sz_1, sz_2, sl_1, sl_2, lc_0, lc_lt, lc_le, li_ne, va_rf, wr_m1, we_m1, pm_kill_w, Int32.reduceOfInt, Int64.reduceOfInt, Int32.reduceOfNat, Int32.reduceLT, Int32.reduceLE, Prod.mk.injEq, Nat.reduceEqDiff, reduceCtorEq, and_true, true_and, and_false, false_and, and_self, ite_true, ite_false, ↓reduceIte, not_true_eq_false, not_false_eq_true, pe_ri, pe_rz, pe_rc, p_throw, t733, w_junk hA, z1, z3, eq_true k4, k5]
      · rw [if_neg k4] at e
        obtain ⟨v5, k6, e⟩ := Option.bind_eq_some_iff.mp e
        try dsimp only at e
        have z6 := fun h => x732 (D := D) (h := h) (by omega) k6
        by_cases k7 : v5 = 0
        · rw [if_pos k7] at e
          have k8 := y733_2 (h := h) hP hA hL hD e
          simp -implicitDefEqProofs (disch := first | assumption | exact Nat.le_of_ble_eq_true rfl | decide) only [b733_0, g733_1, b733_1, pe_aload0, pe_iload1, pe_call2, pm_af_ret, pm_af_void, pm_af_thr, pe_astore4, pe_iload2, pe_call1, pe_if_eq, pe_iload3, pe_sipush, pe_goto, pe_goto_w, pe_aload4, pe_i2l, pe_call3, pm_prog_1, pm_ob_some, Nat.reduceDiv, Nat.reduceMod, Nat.reduceMul, Nat.reduceAdd, Int.reduceToNat, pm_kill_i, pm_kill_r, pm_kill_n, pm_kill_j, pm_kill_l, pm_kill_d, pm_cats_nil, pm_cats_i, pm_cats_r, pm_cats_n, pm_cats_l, pm_cats_d, sz_1, sz_2, sl_1, sl_2, lc_0, lc_lt, lc_le, li_ne, va_rf, wr_m1, we_m1, pm_kill_w, Int32.reduceOfInt, Int64.reduceOfInt, Int32.reduceOfNat, Int32.reduceLT, Int32.reduceLE, Prod.mk.injEq, Nat.reduceEqDiff, reduceCtorEq, and_true, true_and, and_false, false_and, and_self, ite_true, ite_false, ↓reduceIte, not_true_eq_false, not_false_eq_true, pe_ri, pe_rz, pe_rc, p_throw, t733, w_junk hA, z1, z3, eq_false k4, z6, eq_true k7, k8]
        · rw [if_neg k7] at e
          have k9 := y733_2 (h := h) hP hA hL hD e
          simp -implicitDefEqProofs (disch := first | assumption | exact Nat.le_of_ble_eq_true rfl | decide) only [b733_0, g733_1, b733_1, pe_aload0, pe_iload1, pe_call2, pm_af_ret, pm_af_void, pm_af_thr, pe_astore4, pe_iload2, pe_call1, pe_if_eq, pe_iload3, pe_sipush, pe_goto, pe_goto_w, pe_aload4, pe_i2l, pe_call3, pm_prog_1, pm_ob_some, Nat.reduceDiv, Nat.reduceMod, Nat.reduceMul, Nat.reduceAdd, Int.reduceToNat, pm_kill_i, pm_kill_r, pm_kill_n, pm_kill_j, pm_kill_l, pm_kill_d, pm_cats_nil, pm_cats_i, pm_cats_r, pm_cats_n, pm_cats_l, pm_cats_d, sz_1, sz_2, sl_1, sl_2, lc_0, lc_lt, lc_le, li_ne, va_rf, wr_m1, we_m1, pm_kill_w, Int32.reduceOfInt, Int64.reduceOfInt, Int32.reduceOfNat, Int32.reduceLT, Int32.reduceLE, Prod.mk.injEq, Nat.reduceEqDiff, reduceCtorEq, and_true, true_and, and_false, false_and, and_self, ite_true, ite_false, ↓reduceIte, not_true_eq_false, not_false_eq_true, pe_ri, pe_rz, pe_rc, p_throw, t733, w_junk hA, z1, z3, eq_false k4, z6, eq_false k7, k9]
    · rw [if_neg k2] at e; cases e
/-- TimberHouse$NailRules.teeth(IIIIII)I -/
theorem c735 {d : Nat} {h : pm_H} {a : Nat} {x0 : Int32} {x1 : Int32} {x2 : Int32} {x3 : Int32} {x4 : Int32} {x5 : Int32} (hc : pm_cls h a = some 11) : pm_call pm_prog (d + 1) 735 [.ref a, .int x0, .int x1, .int x2, .int x3, .int x4, .int x5] h = pm_ev pm_prog (pm_call pm_prog d) 735 0 b735_0 [.ref a, .int x0, .int x1, .int x2, .int x3, .int x4, .int x5, pm_junk, pm_junk, pm_junk, pm_junk] [] h := pm_cal (pm_rc1 hc rfl) rfl rfl rfl
theorem g735_1 {cl : pm_C} {ls st : List Value} {h : pm_H} : pm_go pm_prog cl 735 1 ls st h = pm_ev pm_prog cl 735 1 b735_1 ls st h := pm_go_eq pm_prog cl 735 1 ls st h
theorem g735_2 {cl : pm_C} {ls st : List Value} {h : pm_H} : pm_go pm_prog cl 735 2 ls st h = pm_ev pm_prog cl 735 2 b735_2 ls st h := pm_go_eq pm_prog cl 735 2 ls st h
theorem g735_3 {cl : pm_C} {ls st : List Value} {h : pm_H} : pm_go pm_prog cl 735 3 ls st h = pm_ev pm_prog cl 735 3 b735_3 ls st h := pm_go_eq pm_prog cl 735 3 ls st h
theorem g735_4 {cl : pm_C} {ls st : List Value} {h : pm_H} : pm_go pm_prog cl 735 4 ls st h = pm_ev pm_prog cl 735 4 b735_4 ls st h := pm_go_eq pm_prog cl 735 4 ls st h
theorem g735_5 {cl : pm_C} {ls st : List Value} {h : pm_H} : pm_go pm_prog cl 735 5 ls st h = pm_ev pm_prog cl 735 5 b735_5 ls st h := pm_go_eq pm_prog cl 735 5 ls st h
theorem g735_6 {cl : pm_C} {ls st : List Value} {h : pm_H} : pm_go pm_prog cl 735 6 ls st h = pm_ev pm_prog cl 735 6 b735_6 ls st h := pm_go_eq pm_prog cl 735 6 ls st h
theorem g735_7 {cl : pm_C} {ls st : List Value} {h : pm_H} : pm_go pm_prog cl 735 7 ls st h = pm_ev pm_prog cl 735 7 b735_7 ls st h := pm_go_eq pm_prog cl 735 7 ls st h
theorem g735_8 {cl : pm_C} {ls st : List Value} {h : pm_H} : pm_go pm_prog cl 735 8 ls st h = pm_ev pm_prog cl 735 8 b735_8 ls st h := pm_go_eq pm_prog cl 735 8 ls st h
theorem t735 {cl : pm_C} {j : Nat} {ls : List Value} {c : Nat} {h : pm_H} : pm_thr pm_prog cl 735 j ls c h = some (.threw c, h) := rfl
noncomputable def f735_b4 (mc : Int32) (S : wS) : Int32 × Int32 × Int32 × Int32 × Int32 × Int32 × Int32 × Int32 × Int32 → Option ((Int32 × Int32 × Int32 × Int32 × Int32 × Int32 × Int32 × Int32 × Int32) ⊕ ((Int32 × Int32 × Int32 × Int32 × Int32 × Int32 × Int32 × Int32))) := fun (x2, x3, x4, x5, x6, x7i, x8, x9, x10) =>
  if 0 ≤ x7i ∧ x7i < mc then
    if x10 ≤ x4 then
      (f2945 mc S x7i (Int32.toInt64 (x2 + x10)) (Int32.toInt64 (x3 + x9))).bind fun v3 =>
      if v3 = 0 then
        some (.inl (x2, x3, x4, x5, x6, x7i, (x8 + 0), x9, (x10 + x6)))
      else
        some (.inl (x2, x3, x4, x5, x6, x7i, (x8 + 1), x9, (x10 + x6)))
    else
      some (.inr (x2, x3, x4, x5, x6, x7i, x8, x9))
  else none
noncomputable def f735_b3 (mc : Int32) (S : wS) : Int32 × Int32 × Int32 × Int32 × Int32 × Int32 × Int32 × Int32 → Option ((Int32 × Int32 × Int32 × Int32 × Int32 × Int32 × Int32 × Int32) ⊕ ((Int32))) := fun (x2, x3, x4, x5, x6, x7i, x8, x9) =>
  if 0 ≤ x7i ∧ x7i < mc then
    if x9 ≤ x5 then
      (lp (f735_b4 mc S) FU (x2, x3, x4, x5, x6, x7i, x8, x9, 0)).bind fun (v4, v5, v6, v7, v8, v9i, v10, v11) =>
      if 0 ≤ v9i ∧ v9i < mc then
        some (.inl (v4, v5, v6, v7, v8, v9i, v10, (v11 + v8)))
      else none
    else
      some (.inr x8)
  else none
noncomputable def f735_2 (mc : Int32) (S : wS) (x2 : Int32) (x3 : Int32) (x4 : Int32) (x5 : Int32) (x6 : Int32) (x7i : Int32) (y0 : Int32) : Option (Nat ⊕ (Int32)) :=
  if 0 ≤ x7i ∧ x7i < mc then
    (f718 y0).bind fun r => match r with
    | .inl c13 =>
      some (.inl c13)
    | .inr _ =>
    (lp (f735_b3 mc S) FU (x2, x3, x4, x5, x6, x7i, 0, 0)).bind fun v12 =>
    some (.inr v12)
  else none
/-- TimberHouse$NailRules.teeth(IIIIII)I -/
noncomputable def f735 (mc : Int32) (S : wS) (x1 : Int32) (x2 : Int32) (x3 : Int32) (x4 : Int32) (x5 : Int32) (x6 : Int32) : Option (Nat ⊕ (Int32)) :=
  (f734 mc S x1).bind fun r => match r with
  | .inl c18 =>
    some (.inl c18)
  | .inr v1i =>
  if 0 ≤ v1i ∧ v1i < mc then
    (f732 x2).bind fun v2 =>
    if v2 = 0 then
      f735_2 mc S x2 x3 x4 x5 x6 v1i 0
    else
      (f732 x3).bind fun v14 =>
      if v14 = 0 then
        f735_2 mc S x2 x3 x4 x5 x6 v1i 0
      else
        (f706 (Int32.toInt64 x4) 0 1000).bind fun v15 =>
        if v15 = 0 then
          f735_2 mc S x2 x3 x4 x5 x6 v1i 0
        else
          (f706 (Int32.toInt64 x5) 0 1000).bind fun v16 =>
          if v16 = 0 then
            f735_2 mc S x2 x3 x4 x5 x6 v1i 0
          else
            (f706 (Int32.toInt64 x6) 10 1000).bind fun v17 =>
            if v17 = 0 then
              f735_2 mc S x2 x3 x4 x5 x6 v1i 0
            else
              f735_2 mc S x2 x3 x4 x5 x6 v1i 1
  else none
def go735_4 (mc : Int32) (A : wK → Nat) (h : pm_H) (D : Nat) (R : Outcome × pm_H) (S : wS) : Int32 × Int32 × Int32 × Int32 × Int32 × Int32 × Int32 × Int32 × Int32 → Prop := fun (x2, x3, x4, x5, x6, x7i, x8, x9, x10) => ∀ q0 q1 : Value, pm_go pm_prog (pm_call pm_prog D) 735 4 [q0, q1, .int x2, .int x3, .int x4, .int x5, .int x6, .ref (A (12, x7i, 0)), .int x8, .int x9, .int x10] [] (wput A (Cn_d mc) S h) = some R
def ex735_4 (mc : Int32) (A : wK → Nat) (h : pm_H) (D : Nat) (R : Outcome × pm_H) (S : wS) : (Int32 × Int32 × Int32 × Int32 × Int32 × Int32 × Int32 × Int32) → Prop := fun (x2, x3, x4, x5, x6, x7i, x8, x9) => ∀ q0 q1 q10 : Value, pm_go pm_prog (pm_call pm_prog D) 735 7 [q0, q1, .int x2, .int x3, .int x4, .int x5, .int x6, .ref (A (12, x7i, 0)), .int x8, .int x9, q10] [] (wput A (Cn_d mc) S h) = some R
theorem y735_b4 {mc : Int32} {A : wK → Nat} {h : pm_H} {D : Nat} {R : Outcome × pm_H} {S : wS} (hP : Cn_P mc) (hA : wok A (Cn_d mc) h.1) (hL : A (90, 0, 0) = 1) (hD : 2 ≤ D) (a : Int32 × Int32 × Int32 × Int32 × Int32 × Int32 × Int32 × Int32 × Int32) (r : (Int32 × Int32 × Int32 × Int32 × Int32 × Int32 × Int32 × Int32 × Int32) ⊕ ((Int32 × Int32 × Int32 × Int32 × Int32 × Int32 × Int32 × Int32))) (e : f735_b4 mc S a = some r) (hc : Sum.elim (go735_4 mc A h D R S) (ex735_4 mc A h D R S) r) : go735_4 mc A h D R S a := by
  obtain ⟨x2, x3, x4, x5, x6, x7i, x8, x9, x10⟩ := a
  dsimp only [go735_4]
  intro q0 q1
  simp only [f735_b4] at e
  rw [g735_4, b735_4]
  by_cases k1 : 0 ≤ x7i ∧ x7i < mc
  · rw [if_pos k1] at e
    by_cases k2 : x10 ≤ x4
    · rw [if_pos k2] at e
      obtain ⟨v3, k3, e⟩ := Option.bind_eq_some_iff.mp e
      try dsimp only at e
      have z3 := x2945 (D := D) (h := h) hP hA hL (by omega) k3
      by_cases k4 : v3 = 0
      · rw [if_pos k4] at e
        have e := Option.some.inj e; subst e
        dsimp only [Sum.elim_inl, go735_4] at hc
        simp -implicitDefEqProofs (disch := first | assumption | exact Nat.le_of_ble_eq_true rfl | decide) only [b735_0, g735_1, b735_1, g735_5, b735_5, g735_6, b735_6, g735_7, b735_7, g735_8, b735_8, pe_aload0, pe_iload1, pe_call2, pm_af_ret, pm_af_void, pm_af_thr, pe_astore7, pe_iload2, pe_call1, pe_if_eq, pe_iload3, pe_iload4, pe_i2l, pe_bipush, pe_call3, pe_iload5, pe_iload6, pe_sipush, pe_goto, pe_goto_w, pe_istore8, pe_istore9, pe_iload9, pe_icmp_gt, pe_istore10, pe_iload10, pe_iload8, pe_aload7, pe_iadd, pm_prog_1, pm_ob_some, Nat.reduceDiv, Nat.reduceMod, Nat.reduceMul, Nat.reduceAdd, Int.reduceToNat, pm_kill_i, pm_kill_r, pm_kill_n, pm_kill_j, pm_kill_l, pm_kill_d, pm_cats_nil, pm_cats_i, pm_cats_r, pm_cats_n, pm_cats_l, pm_cats_d, sz_1, sz_2, sl_1, sl_2, lc_0, lc_lt, lc_le, li_ne, va_rf, wr_m1, we_m1, pm_kill_w, Int32.reduceOfInt, Int64.reduceOfInt, Int32.reduceOfNat, Int32.reduceLT, Int32.reduceLE, Prod.mk.injEq, Nat.reduceEqDiff, reduceCtorEq, and_true, true_and, and_false, false_and, and_self, ite_true, ite_false, ↓reduceIte, not_true_eq_false, not_false_eq_true, pe_ri, pe_rz, pe_rc, p_throw, t735, w_junk hA, eq_true k2, z3, eq_true k4, hc]
      · rw [if_neg k4] at e
        have e := Option.some.inj e; subst e
        dsimp only [Sum.elim_inl, go735_4] at hc
        simp -implicitDefEqProofs (disch := first | assumption | exact Nat.le_of_ble_eq_true rfl | decide) only [b735_0, g735_1, b735_1, g735_5, b735_5, g735_6, b735_6, g735_7, b735_7, g735_8, b735_8, pe_aload0, pe_iload1, pe_call2, pm_af_ret, pm_af_void, pm_af_thr, pe_astore7, pe_iload2, pe_call1, pe_if_eq, pe_iload3, pe_iload4, pe_i2l, pe_bipush, pe_call3, pe_iload5, pe_iload6, pe_sipush, pe_goto, pe_goto_w, pe_istore8, pe_istore9, pe_iload9, pe_icmp_gt, pe_istore10, pe_iload10, pe_iload8, pe_aload7, pe_iadd, pm_prog_1, pm_ob_some, Nat.reduceDiv, Nat.reduceMod, Nat.reduceMul, Nat.reduceAdd, Int.reduceToNat, pm_kill_i, pm_kill_r, pm_kill_n, pm_kill_j, pm_kill_l, pm_kill_d, pm_cats_nil, pm_cats_i, pm_cats_r, pm_cats_n, pm_cats_l, pm_cats_d, sz_1, sz_2, sl_1, sl_2, lc_0, lc_lt, lc_le, li_ne, va_rf, wr_m1, we_m1, pm_kill_w, Int32.reduceOfInt, Int64.reduceOfInt, Int32.reduceOfNat, Int32.reduceLT, Int32.reduceLE, Prod.mk.injEq, Nat.reduceEqDiff, reduceCtorEq, and_true, true_and, and_false, false_and, and_self, ite_true, ite_false, ↓reduceIte, not_true_eq_false, not_false_eq_true, pe_ri, pe_rz, pe_rc, p_throw, t735, w_junk hA, eq_true k2, z3, eq_false k4, hc]
    · rw [if_neg k2] at e
      have e := Option.some.inj e; subst e
      dsimp only [Sum.elim_inr, ex735_4] at hc
      simp -implicitDefEqProofs (disch := first | assumption | exact Nat.le_of_ble_eq_true rfl | decide) only [b735_0, g735_1, b735_1, g735_5, b735_5, g735_6, b735_6, g735_7, b735_7, g735_8, b735_8, pe_aload0, pe_iload1, pe_call2, pm_af_ret, pm_af_void, pm_af_thr, pe_astore7, pe_iload2, pe_call1, pe_if_eq, pe_iload3, pe_iload4, pe_i2l, pe_bipush, pe_call3, pe_iload5, pe_iload6, pe_sipush, pe_goto, pe_goto_w, pe_istore8, pe_istore9, pe_iload9, pe_icmp_gt, pe_istore10, pe_iload10, pe_iload8, pe_aload7, pe_iadd, pm_prog_1, pm_ob_some, Nat.reduceDiv, Nat.reduceMod, Nat.reduceMul, Nat.reduceAdd, Int.reduceToNat, pm_kill_i, pm_kill_r, pm_kill_n, pm_kill_j, pm_kill_l, pm_kill_d, pm_cats_nil, pm_cats_i, pm_cats_r, pm_cats_n, pm_cats_l, pm_cats_d, sz_1, sz_2, sl_1, sl_2, lc_0, lc_lt, lc_le, li_ne, va_rf, wr_m1, we_m1, pm_kill_w, Int32.reduceOfInt, Int64.reduceOfInt, Int32.reduceOfNat, Int32.reduceLT, Int32.reduceLE, Prod.mk.injEq, Nat.reduceEqDiff, reduceCtorEq, and_true, true_and, and_false, false_and, and_self, ite_true, ite_false, ↓reduceIte, not_true_eq_false, not_false_eq_true, pe_ri, pe_rz, pe_rc, p_throw, t735, w_junk hA, eq_false k2, hc]
  · rw [if_neg k1] at e; cases e
theorem z735_4 {mc : Int32} {A : wK → Nat} {h : pm_H} {D : Nat} {R : Outcome × pm_H} {S : wS} (hP : Cn_P mc) (hA : wok A (Cn_d mc) h.1) (hL : A (90, 0, 0) = 1) (hD : 2 ≤ D) {n : Nat} {a : Int32 × Int32 × Int32 × Int32 × Int32 × Int32 × Int32 × Int32 × Int32} {b : (Int32 × Int32 × Int32 × Int32 × Int32 × Int32 × Int32 × Int32)} (e : lp (f735_b4 mc S) n a = some b) (hx : ex735_4 mc A h D R S b) : go735_4 mc A h D R S a := lp_run (fun a r => y735_b4 hP hA hL hD a r) n a b e hx
def go735_3 (mc : Int32) (A : wK → Nat) (h : pm_H) (D : Nat) (R : Outcome × pm_H) (S : wS) : Int32 × Int32 × Int32 × Int32 × Int32 × Int32 × Int32 × Int32 → Prop := fun (x2, x3, x4, x5, x6, x7i, x8, x9) => ∀ q0 q1 q10 : Value, pm_go pm_prog (pm_call pm_prog D) 735 3 [q0, q1, .int x2, .int x3, .int x4, .int x5, .int x6, .ref (A (12, x7i, 0)), .int x8, .int x9, q10] [] (wput A (Cn_d mc) S h) = some R
def ex735_3 (mc : Int32) (A : wK → Nat) (h : pm_H) (D : Nat) (R : Outcome × pm_H) (S : wS) : (Int32) → Prop := fun x8 => ∀ q0 q1 q2 q3 q4 q5 q6 q7 q9 q10 : Value, pm_go pm_prog (pm_call pm_prog D) 735 8 [q0, q1, q2, q3, q4, q5, q6, q7, .int x8, q9, q10] [] (wput A (Cn_d mc) S h) = some R
theorem y735_b3 {mc : Int32} {A : wK → Nat} {h : pm_H} {D : Nat} {R : Outcome × pm_H} {S : wS} (hP : Cn_P mc) (hA : wok A (Cn_d mc) h.1) (hL : A (90, 0, 0) = 1) (hD : 2 ≤ D) (a : Int32 × Int32 × Int32 × Int32 × Int32 × Int32 × Int32 × Int32) (r : (Int32 × Int32 × Int32 × Int32 × Int32 × Int32 × Int32 × Int32) ⊕ ((Int32))) (e : f735_b3 mc S a = some r) (hc : Sum.elim (go735_3 mc A h D R S) (ex735_3 mc A h D R S) r) : go735_3 mc A h D R S a := by
  obtain ⟨x2, x3, x4, x5, x6, x7i, x8, x9⟩ := a
  dsimp only [go735_3]
  intro q0 q1 q10
  simp only [f735_b3] at e
  rw [g735_3, b735_3]
  by_cases k1 : 0 ≤ x7i ∧ x7i < mc
  · rw [if_pos k1] at e
    by_cases k2 : x9 ≤ x5
    · rw [if_pos k2] at e
      obtain ⟨⟨v4, v5, v6, v7, v8, v9i, v10, v11⟩, k3, e⟩ := Option.bind_eq_some_iff.mp e
      try dsimp only at e
      try simp -implicitDefEqProofs (disch := first | assumption | exact Nat.le_of_ble_eq_true rfl | decide) only [b735_0, g735_1, b735_1, g735_5, b735_5, g735_6, b735_6, g735_7, b735_7, g735_8, b735_8, pe_aload0, pe_iload1, pe_call2, pm_af_ret, pm_af_void, pm_af_thr, pe_astore7, pe_iload2, pe_call1, pe_if_eq, pe_iload3, pe_iload4, pe_i2l, pe_bipush, pe_call3, pe_iload5, pe_iload6, pe_sipush, pe_goto, pe_goto_w, pe_istore8, pe_istore9, pe_iload9, pe_icmp_gt, pe_istore10, pe_iload10, pe_iload8, pe_aload7, pe_iadd, pm_prog_1, pm_ob_some, Nat.reduceDiv, Nat.reduceMod, Nat.reduceMul, Nat.reduceAdd, Int.reduceToNat, pm_kill_i, pm_kill_r, pm_kill_n, pm_kill_j, pm_kill_l, pm_kill_d, pm_cats_nil, pm_cats_i, pm_cats_r, pm_cats_n, pm_cats_l, pm_cats_d, sz_1, sz_2, sl_1, sl_2, lc_0, lc_lt, lc_le, li_ne, va_rf, wr_m1, we_m1, pm_kill_w, Int32.reduceOfInt, Int64.reduceOfInt, Int32.reduceOfNat, Int32.reduceLT, Int32.reduceLE, Prod.mk.injEq, Nat.reduceEqDiff, reduceCtorEq, and_true, true_and, and_false, false_and, and_self, ite_true, ite_false, ↓reduceIte, not_true_eq_false, not_false_eq_true, pe_ri, pe_rz, pe_rc, p_throw, t735, w_junk hA, eq_true k2]
      refine z735_4 hP hA hL hD k3 ?_ _ _
      dsimp only [ex735_4]
      intro q0 q1 q10
      by_cases k4 : 0 ≤ v9i ∧ v9i < mc
      · rw [if_pos k4] at e
        have e := Option.some.inj e; subst e
        dsimp only [Sum.elim_inl, go735_3] at hc
        simp -implicitDefEqProofs (disch := first | assumption | exact Nat.le_of_ble_eq_true rfl | decide) only [b735_0, g735_1, b735_1, g735_5, b735_5, g735_6, b735_6, g735_7, b735_7, g735_8, b735_8, pe_aload0, pe_iload1, pe_call2, pm_af_ret, pm_af_void, pm_af_thr, pe_astore7, pe_iload2, pe_call1, pe_if_eq, pe_iload3, pe_iload4, pe_i2l, pe_bipush, pe_call3, pe_iload5, pe_iload6, pe_sipush, pe_goto, pe_goto_w, pe_istore8, pe_istore9, pe_iload9, pe_icmp_gt, pe_istore10, pe_iload10, pe_iload8, pe_aload7, pe_iadd, pm_prog_1, pm_ob_some, Nat.reduceDiv, Nat.reduceMod, Nat.reduceMul, Nat.reduceAdd, Int.reduceToNat, pm_kill_i, pm_kill_r, pm_kill_n, pm_kill_j, pm_kill_l, pm_kill_d, pm_cats_nil, pm_cats_i, pm_cats_r, pm_cats_n, pm_cats_l, pm_cats_d, sz_1, sz_2, sl_1, sl_2, lc_0, lc_lt, lc_le, li_ne, va_rf, wr_m1, we_m1, pm_kill_w, Int32.reduceOfInt, Int64.reduceOfInt, Int32.reduceOfNat, Int32.reduceLT, Int32.reduceLE, Prod.mk.injEq, Nat.reduceEqDiff, reduceCtorEq, and_true, true_and, and_false, false_and, and_self, ite_true, ite_false, ↓reduceIte, not_true_eq_false, not_false_eq_true, pe_ri, pe_rz, pe_rc, p_throw, t735, w_junk hA, eq_true k2, hc]
      · rw [if_neg k4] at e; cases e
    · rw [if_neg k2] at e
      have e := Option.some.inj e; subst e
      dsimp only [Sum.elim_inr, ex735_3] at hc
      simp -implicitDefEqProofs (disch := first | assumption | exact Nat.le_of_ble_eq_true rfl | decide) only [b735_0, g735_1, b735_1, g735_5, b735_5, g735_6, b735_6, g735_7, b735_7, g735_8, b735_8, pe_aload0, pe_iload1, pe_call2, pm_af_ret, pm_af_void, pm_af_thr, pe_astore7, pe_iload2, pe_call1, pe_if_eq, pe_iload3, pe_iload4, pe_i2l, pe_bipush, pe_call3, pe_iload5, pe_iload6, pe_sipush, pe_goto, pe_goto_w, pe_istore8, pe_istore9, pe_iload9, pe_icmp_gt, pe_istore10, pe_iload10, pe_iload8, pe_aload7, pe_iadd, pm_prog_1, pm_ob_some, Nat.reduceDiv, Nat.reduceMod, Nat.reduceMul, Nat.reduceAdd, Int.reduceToNat, pm_kill_i, pm_kill_r, pm_kill_n, pm_kill_j, pm_kill_l, pm_kill_d, pm_cats_nil, pm_cats_i, pm_cats_r, pm_cats_n, pm_cats_l, pm_cats_d, sz_1, sz_2, sl_1, sl_2, lc_0, lc_lt, lc_le, li_ne, va_rf, wr_m1, we_m1, pm_kill_w, Int32.reduceOfInt, Int64.reduceOfInt, Int32.reduceOfNat, Int32.reduceLT, Int32.reduceLE, Prod.mk.injEq, Nat.reduceEqDiff, reduceCtorEq, and_true, true_and, and_false, false_and, and_self, ite_true, ite_false, ↓reduceIte, not_true_eq_false, not_false_eq_true, pe_ri, pe_rz, pe_rc, p_throw, t735, w_junk hA, eq_false k2, hc]
  · rw [if_neg k1] at e; cases e
theorem z735_3 {mc : Int32} {A : wK → Nat} {h : pm_H} {D : Nat} {R : Outcome × pm_H} {S : wS} (hP : Cn_P mc) (hA : wok A (Cn_d mc) h.1) (hL : A (90, 0, 0) = 1) (hD : 2 ≤ D) {n : Nat} {a : Int32 × Int32 × Int32 × Int32 × Int32 × Int32 × Int32 × Int32} {b : (Int32)} (e : lp (f735_b3 mc S) n a = some b) (hx : ex735_3 mc A h D R S b) : go735_3 mc A h D R S a := lp_run (fun a r => y735_b3 hP hA hL hD a r) n a b e hx
theorem y735_2 {mc : Int32} {A : wK → Nat} {h : pm_H} {D : Nat} {S : wS} {x2 : Int32} {x3 : Int32} {x4 : Int32} {x5 : Int32} {x6 : Int32} {x7i : Int32} {y0 : Int32} {r : Nat ⊕ (Int32)} (hP : Cn_P mc) (hA : wok A (Cn_d mc) h.1) (hL : A (90, 0, 0) = 1) (hD : 2 ≤ D) (e : f735_2 mc S x2 x3 x4 x5 x6 x7i y0 = some r) : ∀ q0 q1 q8 q9 q10 : Value, pm_go pm_prog (pm_call pm_prog D) 735 2 [q0, q1, .int x2, .int x3, .int x4, .int x5, .int x6, .ref (A (12, x7i, 0)), q8, q9, q10] [.int y0] (wput A (Cn_d mc) S h) = some (match (generalizing := false) r with | .inl c => (Outcome.threw c, (wput A (Cn_d mc) S (pm_new h 6 (.inr (c, []))))) | .inr w0 => (Outcome.returned (some (.int w0)), (wput A (Cn_d mc) S h))) := by
  intro q0 q1 q8 q9 q10
  simp only [f735_2] at e
  rw [g735_2, b735_2]
  by_cases k1 : 0 ≤ x7i ∧ x7i < mc
  · rw [if_pos k1] at e
    obtain ⟨r, k2, e⟩ := Option.bind_eq_some_iff.mp e
    have z2 := fun h => x718 (D := D) (h := h) (by omega) k2
    rcases r with c13 | _
    · dsimp only at e z2
      have e := Option.some.inj e; subst e
      simp -implicitDefEqProofs (disch := first | assumption | exact Nat.le_of_ble_eq_true rfl | decide) only [b735_0, g735_1, b735_1, g735_5, b735_5, g735_6, b735_6, g735_7, b735_7, g735_8, b735_8, pe_aload0, pe_iload1, pe_call2, pm_af_ret, pm_af_void, pm_af_thr, pe_astore7, pe_iload2, pe_call1, pe_if_eq, pe_iload3, pe_iload4, pe_i2l, pe_bipush, pe_call3, pe_iload5, pe_iload6, pe_sipush, pe_goto, pe_goto_w, pe_istore8, pe_istore9, pe_iload9, pe_icmp_gt, pe_istore10, pe_iload10, pe_iload8, pe_aload7, pe_iadd, pm_prog_1, pm_ob_some, Nat.reduceDiv, Nat.reduceMod, Nat.reduceMul, Nat.reduceAdd, Int.reduceToNat, pm_kill_i, pm_kill_r, pm_kill_n, pm_kill_j, pm_kill_l, pm_kill_d, pm_cats_nil, pm_cats_i, pm_cats_r, pm_cats_n, pm_cats_l, pm_cats_d, sz_1, sz_2, sl_1, sl_2, lc_0, lc_lt, lc_le, li_ne, va_rf, wr_m1, we_m1, pm_kill_w, Int32.reduceOfInt, Int64.reduceOfInt, Int32.reduceOfNat, Int32.reduceLT, Int32.reduceLE, Prod.mk.injEq, Nat.reduceEqDiff, reduceCtorEq, and_true, true_and, and_false, false_and, and_self, ite_true, ite_false, ↓reduceIte, not_true_eq_false, not_false_eq_true, pe_ri, pe_rz, pe_rc, p_throw, t735, w_junk hA, z2]
    · dsimp only at e z2
      obtain ⟨v12, k3, e⟩ := Option.bind_eq_some_iff.mp e
      try dsimp only at e
      try simp -implicitDefEqProofs (disch := first | assumption | exact Nat.le_of_ble_eq_true rfl | decide) only [b735_0, g735_1, b735_1, g735_5, b735_5, g735_6, b735_6, g735_7, b735_7, g735_8, b735_8, pe_aload0, pe_iload1, pe_call2, pm_af_ret, pm_af_void, pm_af_thr, pe_astore7, pe_iload2, pe_call1, pe_if_eq, pe_iload3, pe_iload4, pe_i2l, pe_bipush, pe_call3, pe_iload5, pe_iload6, pe_sipush, pe_goto, pe_goto_w, pe_istore8, pe_istore9, pe_iload9, pe_icmp_gt, pe_istore10, pe_iload10, pe_iload8, pe_aload7, pe_iadd, pm_prog_1, pm_ob_some, Nat.reduceDiv, Nat.reduceMod, Nat.reduceMul, Nat.reduceAdd, Int.reduceToNat, pm_kill_i, pm_kill_r, pm_kill_n, pm_kill_j, pm_kill_l, pm_kill_d, pm_cats_nil, pm_cats_i, pm_cats_r, pm_cats_n, pm_cats_l, pm_cats_d, sz_1, sz_2, sl_1, sl_2, lc_0, lc_lt, lc_le, li_ne, va_rf, wr_m1, we_m1, pm_kill_w, Int32.reduceOfInt, Int64.reduceOfInt, Int32.reduceOfNat, Int32.reduceLT, Int32.reduceLE, Prod.mk.injEq, Nat.reduceEqDiff, reduceCtorEq, and_true, true_and, and_false, false_and, and_self, ite_true, ite_false, ↓reduceIte, not_true_eq_false, not_false_eq_true, pe_ri, pe_rz, pe_rc, p_throw, t735, w_junk hA, z2]
      refine z735_3 hP hA hL hD k3 ?_ _ _ _
      dsimp only [ex735_3]
      intro q0 q1 q2 q3 q4 q5 q6 q7 q9 q10
      have e := Option.some.inj e; subst e
      simp -implicitDefEqProofs (disch := first | assumption | exact Nat.le_of_ble_eq_true rfl | decide) only [b735_0, g735_1, b735_1, g735_5, b735_5, g735_6, b735_6, g735_7, b735_7, g735_8, b735_8, pe_aload0, pe_iload1, pe_call2, pm_af_ret, pm_af_void, pm_af_thr, pe_astore7, pe_iload2, pe_call1, pe_if_eq, pe_iload3, pe_iload4, pe_i2l, pe_bipush, pe_call3, pe_iload5, pe_iload6, pe_sipush, pe_goto, pe_goto_w, pe_istore8, pe_istore9, pe_iload9, pe_icmp_gt, pe_istore10, pe_iload10, pe_iload8, pe_aload7, pe_iadd, pm_prog_1, pm_ob_some, Nat.reduceDiv, Nat.reduceMod, Nat.reduceMul, Nat.reduceAdd, Int.reduceToNat, pm_kill_i, pm_kill_r, pm_kill_n, pm_kill_j, pm_kill_l, pm_kill_d, pm_cats_nil, pm_cats_i, pm_cats_r, pm_cats_n, pm_cats_l, pm_cats_d, sz_1, sz_2, sl_1, sl_2, lc_0, lc_lt, lc_le, li_ne, va_rf, wr_m1, we_m1, pm_kill_w, Int32.reduceOfInt, Int64.reduceOfInt, Int32.reduceOfNat, Int32.reduceLT, Int32.reduceLE, Prod.mk.injEq, Nat.reduceEqDiff, reduceCtorEq, and_true, true_and, and_false, false_and, and_self, ite_true, ite_false, ↓reduceIte, not_true_eq_false, not_false_eq_true, pe_ri, pe_rz, pe_rc, p_throw, t735, w_junk hA, z2]
  · rw [if_neg k1] at e; cases e
theorem x735 {mc : Int32} {A : wK → Nat} {h : pm_H} {D : Nat} {S : wS} {x1 : Int32} {x2 : Int32} {x3 : Int32} {x4 : Int32} {x5 : Int32} {x6 : Int32} {r : Nat ⊕ (Int32)} (hP : Cn_P mc) (hA : wok A (Cn_d mc) h.1) (hL : A (90, 0, 0) = 1) (hD : 3 ≤ D) (e : f735 mc S x1 x2 x3 x4 x5 x6 = some r) : pm_call pm_prog D 735 [.ref (A (0, 0, 0)), .int x1, .int x2, .int x3, .int x4, .int x5, .int x6] (wput A (Cn_d mc) S h) = some (match (generalizing := false) r with | .inl c => (Outcome.threw c, (wput A (Cn_d mc) S (pm_new h 6 (.inr (c, []))))) | .inr w0 => (Outcome.returned (some (.int w0)), (wput A (Cn_d mc) S h))) := by
  obtain ⟨D, rfl⟩ : ∃ D', D = D' + 1 := ⟨D - 1, by omega⟩
  have hD : 2 ≤ D := by omega
  simp only [f735] at e
  rw [c735 (Cn_c0 hP hA), b735_0]
  obtain ⟨r, k1, e⟩ := Option.bind_eq_some_iff.mp e
  have z1 := x734 (D := D) (h := h) hP hA hL (by omega) k1
  rcases r with c18 | v1i
  · dsimp only at e z1
    have e := Option.some.inj e; subst e
    simp -implicitDefEqProofs (disch := first | assumption | exact Nat.le_of_ble_eq_true rfl | decide) only [b735_0, g735_1, b735_1, g735_5, b735_5, g735_6, b735_6, g735_7, b735_7, g735_8, b735_8, pe_aload0, pe_iload1, pe_call2, pm_af_ret, pm_af_void, pm_af_thr, pe_astore7, pe_iload2, pe_call1, pe_if_eq, pe_iload3, pe_iload4, pe_i2l, pe_bipush, pe_call3, pe_iload5, pe_iload6, pe_sipush, pe_goto, pe_goto_w, pe_istore8, pe_istore9, pe_iload9, pe_icmp_gt, pe_istore10, pe_iload10, pe_iload8, pe_aload7, pe_iadd, pm_prog_1, pm_ob_some, Nat.reduceDiv, Nat.reduceMod, Nat.reduceMul, Nat.reduceAdd, Int.reduceToNat, pm_kill_i, pm_kill_r, pm_kill_n, pm_kill_j, pm_kill_l, pm_kill_d, pm_cats_nil, pm_cats_i, pm_cats_r, pm_cats_n, pm_cats_l, pm_cats_d, sz_1, sz_2, sl_1, sl_2, lc_0, lc_lt, lc_le, li_ne, va_rf, wr_m1, we_m1, pm_kill_w, Int32.reduceOfInt, Int64.reduceOfInt, Int32.reduceOfNat, Int32.reduceLT, Int32.reduceLE, Prod.mk.injEq, Nat.reduceEqDiff, reduceCtorEq, and_true, true_and, and_false, false_and, and_self, ite_true, ite_false, ↓reduceIte, not_true_eq_false, not_false_eq_true, pe_ri, pe_rz, pe_rc, p_throw, t735, w_junk hA, z1]
  · dsimp only at e z1
    by_cases k2 : 0 ≤ v1i ∧ v1i < mc
    · rw [if_pos k2] at e
      obtain ⟨v2, k3, e⟩ := Option.bind_eq_some_iff.mp e
      try dsimp only at e
      have z3 := fun h => x732 (D := D) (h := h) (by omega) k3
      by_cases k4 : v2 = 0
      · rw [if_pos k4] at e
        have k5 := y735_2 (h := h) hP hA hL hD e
        simp -implicitDefEqProofs (disch := first | assumption | exact Nat.le_of_ble_eq_true rfl | decide) only [b735_0, g735_1, b735_1, g735_5, b735_5, g735_6, b735_6, g735_7, b735_7, g735_8, b735_8, pe_aload0, pe_iload1, pe_call2, pm_af_ret, pm_af_void, pm_af_thr, pe_astore7, pe_iload2, pe_call1, pe_if_eq, pe_iload3, pe_iload4, pe_i2l, pe_bipush, pe_call3, pe_iload5, pe_iload6, pe_sipush, pe_goto, pe_goto_w, pe_istore8, pe_istore9, pe_iload9, pe_icmp_gt, pe_istore10, pe_iload10, pe_iload8, pe_aload7, pe_iadd, pm_prog_1, pm_ob_some, Nat.reduceDiv, Nat.reduceMod, Nat.reduceMul, Nat.reduceAdd, Int.reduceToNat, pm_kill_i, pm_kill_r, pm_kill_n, pm_kill_j, pm_kill_l, pm_kill_d, pm_cats_nil, pm_cats_i, pm_cats_r, pm_cats_n, pm_cats_l, pm_cats_d, sz_1, sz_2, sl_1, sl_2, lc_0, lc_lt, lc_le, li_ne, va_rf, wr_m1, we_m1, pm_kill_w, Int32.reduceOfInt, Int64.reduceOfInt, Int32.reduceOfNat, Int32.reduceLT, Int32.reduceLE, Prod.mk.injEq, Nat.reduceEqDiff, reduceCtorEq, and_true, true_and, and_false, false_and, and_self, ite_true, ite_false, ↓reduceIte, not_true_eq_false, not_false_eq_true, pe_ri, pe_rz, pe_rc, p_throw, t735, w_junk hA, z1, z3, eq_true k4, k5]
      · rw [if_neg k4] at e
        obtain ⟨v14, k6, e⟩ := Option.bind_eq_some_iff.mp e
        try dsimp only at e
        have z6 := fun h => x732 (D := D) (h := h) (by omega) k6
        by_cases k7 : v14 = 0
        · rw [if_pos k7] at e
          have k8 := y735_2 (h := h) hP hA hL hD e
          simp -implicitDefEqProofs (disch := first | assumption | exact Nat.le_of_ble_eq_true rfl | decide) only [b735_0, g735_1, b735_1, g735_5, b735_5, g735_6, b735_6, g735_7, b735_7, g735_8, b735_8, pe_aload0, pe_iload1, pe_call2, pm_af_ret, pm_af_void, pm_af_thr, pe_astore7, pe_iload2, pe_call1, pe_if_eq, pe_iload3, pe_iload4, pe_i2l, pe_bipush, pe_call3, pe_iload5, pe_iload6, pe_sipush, pe_goto, pe_goto_w, pe_istore8, pe_istore9, pe_iload9, pe_icmp_gt, pe_istore10, pe_iload10, pe_iload8, pe_aload7, pe_iadd, pm_prog_1, pm_ob_some, Nat.reduceDiv, Nat.reduceMod, Nat.reduceMul, Nat.reduceAdd, Int.reduceToNat, pm_kill_i, pm_kill_r, pm_kill_n, pm_kill_j, pm_kill_l, pm_kill_d, pm_cats_nil, pm_cats_i, pm_cats_r, pm_cats_n, pm_cats_l, pm_cats_d, sz_1, sz_2, sl_1, sl_2, lc_0, lc_lt, lc_le, li_ne, va_rf, wr_m1, we_m1, pm_kill_w, Int32.reduceOfInt, Int64.reduceOfInt, Int32.reduceOfNat, Int32.reduceLT, Int32.reduceLE, Prod.mk.injEq, Nat.reduceEqDiff, reduceCtorEq, and_true, true_and, and_false, false_and, and_self, ite_true, ite_false, ↓reduceIte, not_true_eq_false, not_false_eq_true, pe_ri, pe_rz, pe_rc, p_throw, t735, w_junk hA, z1, z3, eq_false k4, z6, eq_true k7, k8]
        · rw [if_neg k7] at e
          obtain ⟨v15, k9, e⟩ := Option.bind_eq_some_iff.mp e
          try dsimp only at e
          have z9 := fun h => x706 (D := D) (h := h) (by omega) k9
          by_cases k10 : v15 = 0
          · rw [if_pos k10] at e
            have k11 := y735_2 (h := h) hP hA hL hD e
            simp -implicitDefEqProofs (disch := first | assumption | exact Nat.le_of_ble_eq_true rfl | decide) only [b735_0, g735_1, b735_1, g735_5, b735_5, g735_6, b735_6, g735_7, b735_7, g735_8, b735_8, pe_aload0, pe_iload1, pe_call2, pm_af_ret, pm_af_void, pm_af_thr, pe_astore7, pe_iload2, pe_call1, pe_if_eq, pe_iload3, pe_iload4, pe_i2l, pe_bipush, pe_call3, pe_iload5, pe_iload6, pe_sipush, pe_goto, pe_goto_w, pe_istore8, pe_istore9, pe_iload9, pe_icmp_gt, pe_istore10, pe_iload10, pe_iload8, pe_aload7, pe_iadd, pm_prog_1, pm_ob_some, Nat.reduceDiv, Nat.reduceMod, Nat.reduceMul, Nat.reduceAdd, Int.reduceToNat, pm_kill_i, pm_kill_r, pm_kill_n, pm_kill_j, pm_kill_l, pm_kill_d, pm_cats_nil, pm_cats_i, pm_cats_r, pm_cats_n, pm_cats_l, pm_cats_d, sz_1, sz_2, sl_1, sl_2, lc_0, lc_lt, lc_le, li_ne, va_rf, wr_m1, we_m1, pm_kill_w, Int32.reduceOfInt, Int64.reduceOfInt, Int32.reduceOfNat, Int32.reduceLT, Int32.reduceLE, Prod.mk.injEq, Nat.reduceEqDiff, reduceCtorEq, and_true, true_and, and_false, false_and, and_self, ite_true, ite_false, ↓reduceIte, not_true_eq_false, not_false_eq_true, pe_ri, pe_rz, pe_rc, p_throw, t735, w_junk hA, z1, z3, eq_false k4, z6, eq_false k7, z9, eq_true k10, k11]
          · rw [if_neg k10] at e
            obtain ⟨v16, k12, e⟩ := Option.bind_eq_some_iff.mp e
            try dsimp only at e
            have z12 := fun h => x706 (D := D) (h := h) (by omega) k12
            by_cases k13 : v16 = 0
            · rw [if_pos k13] at e
              have k14 := y735_2 (h := h) hP hA hL hD e
              simp -implicitDefEqProofs (disch := first | assumption | exact Nat.le_of_ble_eq_true rfl | decide) only [b735_0, g735_1, b735_1, g735_5, b735_5, g735_6, b735_6, g735_7, b735_7, g735_8, b735_8, pe_aload0, pe_iload1, pe_call2, pm_af_ret, pm_af_void, pm_af_thr, pe_astore7, pe_iload2, pe_call1, pe_if_eq, pe_iload3, pe_iload4, pe_i2l, pe_bipush, pe_call3, pe_iload5, pe_iload6, pe_sipush, pe_goto, pe_goto_w, pe_istore8, pe_istore9, pe_iload9, pe_icmp_gt, pe_istore10, pe_iload10, pe_iload8, pe_aload7, pe_iadd, pm_prog_1, pm_ob_some, Nat.reduceDiv, Nat.reduceMod, Nat.reduceMul, Nat.reduceAdd, Int.reduceToNat, pm_kill_i, pm_kill_r, pm_kill_n, pm_kill_j, pm_kill_l, pm_kill_d, pm_cats_nil, pm_cats_i, pm_cats_r, pm_cats_n, pm_cats_l, pm_cats_d, sz_1, sz_2, sl_1, sl_2, lc_0, lc_lt, lc_le, li_ne, va_rf, wr_m1, we_m1, pm_kill_w, Int32.reduceOfInt, Int64.reduceOfInt, Int32.reduceOfNat, Int32.reduceLT, Int32.reduceLE, Prod.mk.injEq, Nat.reduceEqDiff, reduceCtorEq, and_true, true_and, and_false, false_and, and_self, ite_true, ite_false, ↓reduceIte, not_true_eq_false, not_false_eq_true, pe_ri, pe_rz, pe_rc, p_throw, t735, w_junk hA, z1, z3, eq_false k4, z6, eq_false k7, z9, eq_false k10, z12, eq_true k13, k14]
            · rw [if_neg k13] at e
              obtain ⟨v17, k15, e⟩ := Option.bind_eq_some_iff.mp e
              try dsimp only at e
              have z15 := fun h => x706 (D := D) (h := h) (by omega) k15
              by_cases k16 : v17 = 0
              · rw [if_pos k16] at e
                have k17 := y735_2 (h := h) hP hA hL hD e
                simp -implicitDefEqProofs (disch := first | assumption | exact Nat.le_of_ble_eq_true rfl | decide) only [b735_0, g735_1, b735_1, g735_5, b735_5, g735_6, b735_6, g735_7, b735_7, g735_8, b735_8, pe_aload0, pe_iload1, pe_call2, pm_af_ret, pm_af_void, pm_af_thr, pe_astore7, pe_iload2, pe_call1, pe_if_eq, pe_iload3, pe_iload4, pe_i2l, pe_bipush, pe_call3, pe_iload5, pe_iload6, pe_sipush, pe_goto, pe_goto_w, pe_istore8, pe_istore9, pe_iload9, pe_icmp_gt, pe_istore10, pe_iload10, pe_iload8, pe_aload7, pe_iadd, pm_prog_1, pm_ob_some, Nat.reduceDiv, Nat.reduceMod, Nat.reduceMul, Nat.reduceAdd, Int.reduceToNat, pm_kill_i, pm_kill_r, pm_kill_n, pm_kill_j, pm_kill_l, pm_kill_d, pm_cats_nil, pm_cats_i, pm_cats_r, pm_cats_n, pm_cats_l, pm_cats_d, sz_1, sz_2, sl_1, sl_2, lc_0, lc_lt, lc_le, li_ne, va_rf, wr_m1, we_m1, pm_kill_w, Int32.reduceOfInt, Int64.reduceOfInt, Int32.reduceOfNat, Int32.reduceLT, Int32.reduceLE, Prod.mk.injEq, Nat.reduceEqDiff, reduceCtorEq, and_true, true_and, and_false, false_and, and_self, ite_true, ite_false, ↓reduceIte, not_true_eq_false, not_false_eq_true, pe_ri, pe_rz, pe_rc, p_throw, t735, w_junk hA, z1, z3, eq_false k4, z6, eq_false k7, z9, eq_false k10, z12, eq_false k13, z15, eq_true k16, k17]
              · rw [if_neg k16] at e
                have k18 := y735_2 (h := h) hP hA hL hD e
                simp -implicitDefEqProofs (disch := first | assumption | exact Nat.le_of_ble_eq_true rfl | decide) only [b735_0, g735_1, b735_1, g735_5, b735_5, g735_6, b735_6, g735_7, b735_7, g735_8, b735_8, pe_aload0, pe_iload1, pe_call2, pm_af_ret, pm_af_void, pm_af_thr, pe_astore7, pe_iload2, pe_call1, pe_if_eq, pe_iload3, pe_iload4, pe_i2l, pe_bipush, pe_call3, pe_iload5, pe_iload6, pe_sipush, pe_goto, pe_goto_w, pe_istore8, pe_istore9, pe_iload9, pe_icmp_gt, pe_istore10, pe_iload10, pe_iload8, pe_aload7, pe_iadd, pm_prog_1, pm_ob_some, Nat.reduceDiv, Nat.reduceMod, Nat.reduceMul, Nat.reduceAdd, Int.reduceToNat, pm_kill_i, pm_kill_r, pm_kill_n, pm_kill_j, pm_kill_l, pm_kill_d, pm_cats_nil, pm_cats_i, pm_cats_r, pm_cats_n, pm_cats_l, pm_cats_d, sz_1, sz_2, sl_1, sl_2, lc_0, lc_lt, lc_le, li_ne, va_rf, wr_m1, we_m1, pm_kill_w, Int32.reduceOfInt, Int64.reduceOfInt, Int32.reduceOfNat, Int32.reduceLT, Int32.reduceLE, Prod.mk.injEq, Nat.reduceEqDiff, reduceCtorEq, and_true, true_and, and_false, false_and, and_self, ite_true, ite_false, ↓reduceIte, not_true_eq_false, not_false_eq_true, pe_ri, pe_rz, pe_rc, p_throw, t735, w_junk hA, z1, z3, eq_false k4, z6, eq_false k7, z9, eq_false k10, z12, eq_false k13, z15, eq_false k16, k18]
    · rw [if_neg k2] at e; cases e
/-- TimberHouse$NailRules.thick(II)Z -/
theorem c736 {d : Nat} {h : pm_H} {a : Nat} {x0 : Int32} {x1 : Int32} (hc : pm_cls h a = some 11) : pm_call pm_prog (d + 1) 736 [.ref a, .int x0, .int x1] h = pm_ev pm_prog (pm_call pm_prog d) 736 0 b736_0 [.ref a, .int x0, .int x1, pm_junk] [] h := pm_cal (pm_rc1 hc rfl) rfl rfl rfl
theorem g736_1 {cl : pm_C} {ls st : List Value} {h : pm_H} : pm_go pm_prog cl 736 1 ls st h = pm_ev pm_prog cl 736 1 b736_1 ls st h := pm_go_eq pm_prog cl 736 1 ls st h
theorem g736_2 {cl : pm_C} {ls st : List Value} {h : pm_H} : pm_go pm_prog cl 736 2 ls st h = pm_ev pm_prog cl 736 2 b736_2 ls st h := pm_go_eq pm_prog cl 736 2 ls st h
theorem g736_3 {cl : pm_C} {ls st : List Value} {h : pm_H} : pm_go pm_prog cl 736 3 ls st h = pm_ev pm_prog cl 736 3 b736_3 ls st h := pm_go_eq pm_prog cl 736 3 ls st h
theorem g736_4 {cl : pm_C} {ls st : List Value} {h : pm_H} : pm_go pm_prog cl 736 4 ls st h = pm_ev pm_prog cl 736 4 b736_4 ls st h := pm_go_eq pm_prog cl 736 4 ls st h
theorem t736 {cl : pm_C} {j : Nat} {ls : List Value} {c : Nat} {h : pm_H} : pm_thr pm_prog cl 736 j ls c h = some (.threw c, h) := rfl
noncomputable def f736_2 (mc : Int32) (S : wS) (x2 : Int32) (x3i : Int32) (y0 : Int32) : Option (Nat ⊕ (Int32)) :=
  if 0 ≤ x3i ∧ x3i < 4 then
    (f718 y0).bind fun r => match r with
    | .inl c3 =>
      some (.inl c3)
    | .inr _ =>
    (f771 mc S x3i 6).bind fun v2 =>
    if x2 < v2 then
      some (.inr 0)
    else
      some (.inr 1)
  else none
/-- TimberHouse$NailRules.thick(II)Z -/
noncomputable def f736 (mc : Int32) (S : wS) (x1 : Int32) (x2 : Int32) : Option (Nat ⊕ (Int32)) :=
  (f715 mc S x1).bind fun r => match r with
  | .inl c4 =>
    some (.inl c4)
  | .inr v1i =>
  if 0 ≤ v1i ∧ v1i < 4 then
    if x2 < 0 then
      f736_2 mc S x2 v1i 0
    else
      f736_2 mc S x2 v1i 1
  else none
theorem y736_2 {mc : Int32} {A : wK → Nat} {h : pm_H} {D : Nat} {S : wS} {x2 : Int32} {x3i : Int32} {y0 : Int32} {r : Nat ⊕ (Int32)} (hP : Cn_P mc) (hA : wok A (Cn_d mc) h.1) (hL : A (90, 0, 0) = 1) (hD : 2 ≤ D) (e : f736_2 mc S x2 x3i y0 = some r) : ∀ q0 q1 : Value, pm_go pm_prog (pm_call pm_prog D) 736 2 [q0, q1, .int x2, .ref (A (5, x3i, 0))] [.int y0] (wput A (Cn_d mc) S h) = some (match (generalizing := false) r with | .inl c => (Outcome.threw c, (wput A (Cn_d mc) S (pm_new h 6 (.inr (c, []))))) | .inr w0 => (Outcome.returned (some (.int w0)), (wput A (Cn_d mc) S h))) := by
  intro q0 q1
  simp only [f736_2] at e
  rw [g736_2, b736_2]
  by_cases k1 : 0 ≤ x3i ∧ x3i < 4
  · rw [if_pos k1] at e
    obtain ⟨r, k2, e⟩ := Option.bind_eq_some_iff.mp e
    have z2 := fun h => x718 (D := D) (h := h) (by omega) k2
    rcases r with c3 | _
    · dsimp only at e z2
      have e := Option.some.inj e; subst e
      simp -implicitDefEqProofs (disch := first | assumption | exact Nat.le_of_ble_eq_true rfl | decide) only [b736_0, g736_1, b736_1, g736_3, b736_3, g736_4, b736_4, pe_aload0, pe_iload1, pe_call2, pm_af_ret, pm_af_void, pm_af_thr, pe_astore3, pe_iload2, pe_if_lt, pe_sipush, pe_goto, pe_goto_w, pe_call1, pe_aload3, pe_icmp_lt, pm_prog_1, pm_ob_some, Nat.reduceDiv, Nat.reduceMod, Nat.reduceMul, Nat.reduceAdd, Int.reduceToNat, pm_kill_i, pm_kill_r, pm_kill_n, pm_kill_j, pm_kill_l, pm_kill_d, pm_cats_nil, pm_cats_i, pm_cats_r, pm_cats_n, pm_cats_l, pm_cats_d, sz_1, sz_2, sl_1, sl_2, lc_0, lc_lt, lc_le, li_ne, va_rf, wr_m1, we_m1, pm_kill_w, Int32.reduceOfInt, Int64.reduceOfInt, Int32.reduceOfNat, Int32.reduceLT, Int32.reduceLE, Prod.mk.injEq, Nat.reduceEqDiff, reduceCtorEq, and_true, true_and, and_false, false_and, and_self, ite_true, ite_false, ↓reduceIte, not_true_eq_false, not_false_eq_true, pe_ri, pe_rz, pe_rc, p_throw, t736, w_junk hA, z2]
    · dsimp only at e z2
      obtain ⟨v2, k3, e⟩ := Option.bind_eq_some_iff.mp e
      try dsimp only at e
      have z3 := x771 (D := D) (h := h) hP hA hL (by omega) k3
      by_cases k4 : x2 < v2
      · rw [if_pos k4] at e
        have e := Option.some.inj e; subst e
        simp -implicitDefEqProofs (disch := first | assumption | exact Nat.le_of_ble_eq_true rfl | decide) only [b736_0, g736_1, b736_1, g736_3, b736_3, g736_4, b736_4, pe_aload0, pe_iload1, pe_call2, pm_af_ret, pm_af_void, pm_af_thr, pe_astore3, pe_iload2, pe_if_lt, pe_sipush, pe_goto, pe_goto_w, pe_call1, pe_aload3, pe_icmp_lt, pm_prog_1, pm_ob_some, Nat.reduceDiv, Nat.reduceMod, Nat.reduceMul, Nat.reduceAdd, Int.reduceToNat, pm_kill_i, pm_kill_r, pm_kill_n, pm_kill_j, pm_kill_l, pm_kill_d, pm_cats_nil, pm_cats_i, pm_cats_r, pm_cats_n, pm_cats_l, pm_cats_d, sz_1, sz_2, sl_1, sl_2, lc_0, lc_lt, lc_le, li_ne, va_rf, wr_m1, we_m1, pm_kill_w, Int32.reduceOfInt, Int64.reduceOfInt, Int32.reduceOfNat, Int32.reduceLT, Int32.reduceLE, Prod.mk.injEq, Nat.reduceEqDiff, reduceCtorEq, and_true, true_and, and_false, false_and, and_self, ite_true, ite_false, ↓reduceIte, not_true_eq_false, not_false_eq_true, pe_ri, pe_rz, pe_rc, p_throw, t736, w_junk hA, z2, z3, eq_true k4]
      · rw [if_neg k4] at e
        have e := Option.some.inj e; subst e
        simp -implicitDefEqProofs (disch := first | assumption | exact Nat.le_of_ble_eq_true rfl | decide) only [b736_0, g736_1, b736_1, g736_3, b736_3, g736_4, b736_4, pe_aload0, pe_iload1, pe_call2, pm_af_ret, pm_af_void, pm_af_thr, pe_astore3, pe_iload2, pe_if_lt, pe_sipush, pe_goto, pe_goto_w, pe_call1, pe_aload3, pe_icmp_lt, pm_prog_1, pm_ob_some, Nat.reduceDiv, Nat.reduceMod, Nat.reduceMul, Nat.reduceAdd, Int.reduceToNat, pm_kill_i, pm_kill_r, pm_kill_n, pm_kill_j, pm_kill_l, pm_kill_d, pm_cats_nil, pm_cats_i, pm_cats_r, pm_cats_n, pm_cats_l, pm_cats_d, sz_1, sz_2, sl_1, sl_2, lc_0, lc_lt, lc_le, li_ne, va_rf, wr_m1, we_m1, pm_kill_w, Int32.reduceOfInt, Int64.reduceOfInt, Int32.reduceOfNat, Int32.reduceLT, Int32.reduceLE, Prod.mk.injEq, Nat.reduceEqDiff, reduceCtorEq, and_true, true_and, and_false, false_and, and_self, ite_true, ite_false, ↓reduceIte, not_true_eq_false, not_false_eq_true, pe_ri, pe_rz, pe_rc, p_throw, t736, w_junk hA, z2, z3, eq_false k4]
  · rw [if_neg k1] at e; cases e
theorem x736 {mc : Int32} {A : wK → Nat} {h : pm_H} {D : Nat} {S : wS} {x1 : Int32} {x2 : Int32} {r : Nat ⊕ (Int32)} (hP : Cn_P mc) (hA : wok A (Cn_d mc) h.1) (hL : A (90, 0, 0) = 1) (hD : 3 ≤ D) (e : f736 mc S x1 x2 = some r) : pm_call pm_prog D 736 [.ref (A (0, 0, 0)), .int x1, .int x2] (wput A (Cn_d mc) S h) = some (match (generalizing := false) r with | .inl c => (Outcome.threw c, (wput A (Cn_d mc) S (pm_new h 6 (.inr (c, []))))) | .inr w0 => (Outcome.returned (some (.int w0)), (wput A (Cn_d mc) S h))) := by
  obtain ⟨D, rfl⟩ : ∃ D', D = D' + 1 := ⟨D - 1, by omega⟩
  have hD : 2 ≤ D := by omega
  simp only [f736] at e
  rw [c736 (Cn_c0 hP hA), b736_0]
  obtain ⟨r, k1, e⟩ := Option.bind_eq_some_iff.mp e
  have z1 := x715 (D := D) (h := h) hP hA hL (by omega) k1
  rcases r with c4 | v1i
  · dsimp only at e z1
    have e := Option.some.inj e; subst e
    simp -implicitDefEqProofs (disch := first | assumption | exact Nat.le_of_ble_eq_true rfl | decide) only [b736_0, g736_1, b736_1, g736_3, b736_3, g736_4, b736_4, pe_aload0, pe_iload1, pe_call2, pm_af_ret, pm_af_void, pm_af_thr, pe_astore3, pe_iload2, pe_if_lt, pe_sipush, pe_goto, pe_goto_w, pe_call1, pe_aload3, pe_icmp_lt, pm_prog_1, pm_ob_some, Nat.reduceDiv, Nat.reduceMod, Nat.reduceMul, Nat.reduceAdd, Int.reduceToNat, pm_kill_i, pm_kill_r, pm_kill_n, pm_kill_j, pm_kill_l, pm_kill_d, pm_cats_nil, pm_cats_i, pm_cats_r, pm_cats_n, pm_cats_l, pm_cats_d, sz_1, sz_2, sl_1, sl_2, lc_0, lc_lt, lc_le, li_ne, va_rf, wr_m1, we_m1, pm_kill_w, Int32.reduceOfInt, Int64.reduceOfInt, Int32.reduceOfNat, Int32.reduceLT, Int32.reduceLE, Prod.mk.injEq, Nat.reduceEqDiff, reduceCtorEq, and_true, true_and, and_false, false_and, and_self, ite_true, ite_false, ↓reduceIte, not_true_eq_false, not_false_eq_true, pe_ri, pe_rz, pe_rc, p_throw, t736, w_junk hA, z1]
  · dsimp only at e z1
    by_cases k2 : 0 ≤ v1i ∧ v1i < 4
    · rw [if_pos k2] at e
      by_cases k3 : x2 < 0
      · rw [if_pos k3] at e
        have k4 := y736_2 (h := h) hP hA hL hD e
        simp -implicitDefEqProofs (disch := first | assumption | exact Nat.le_of_ble_eq_true rfl | decide) only [b736_0, g736_1, b736_1, g736_3, b736_3, g736_4, b736_4, pe_aload0, pe_iload1, pe_call2, pm_af_ret, pm_af_void, pm_af_thr, pe_astore3, pe_iload2, pe_if_lt, pe_sipush, pe_goto, pe_goto_w, pe_call1, pe_aload3, pe_icmp_lt, pm_prog_1, pm_ob_some, Nat.reduceDiv, Nat.reduceMod, Nat.reduceMul, Nat.reduceAdd, Int.reduceToNat, pm_kill_i, pm_kill_r, pm_kill_n, pm_kill_j, pm_kill_l, pm_kill_d, pm_cats_nil, pm_cats_i, pm_cats_r, pm_cats_n, pm_cats_l, pm_cats_d, sz_1, sz_2, sl_1, sl_2, lc_0, lc_lt, lc_le, li_ne, va_rf, wr_m1, we_m1, pm_kill_w, Int32.reduceOfInt, Int64.reduceOfInt, Int32.reduceOfNat, Int32.reduceLT, Int32.reduceLE, Prod.mk.injEq, Nat.reduceEqDiff, reduceCtorEq, and_true, true_and, and_false, false_and, and_self, ite_true, ite_false, ↓reduceIte, not_true_eq_false, not_false_eq_true, pe_ri, pe_rz, pe_rc, p_throw, t736, w_junk hA, z1, eq_true k3, k4]
      · rw [if_neg k3] at e
        have k5 := y736_2 (h := h) hP hA hL hD e
        simp -implicitDefEqProofs (disch := first | assumption | exact Nat.le_of_ble_eq_true rfl | decide) only [b736_0, g736_1, b736_1, g736_3, b736_3, g736_4, b736_4, pe_aload0, pe_iload1, pe_call2, pm_af_ret, pm_af_void, pm_af_thr, pe_astore3, pe_iload2, pe_if_lt, pe_sipush, pe_goto, pe_goto_w, pe_call1, pe_aload3, pe_icmp_lt, pm_prog_1, pm_ob_some, Nat.reduceDiv, Nat.reduceMod, Nat.reduceMul, Nat.reduceAdd, Int.reduceToNat, pm_kill_i, pm_kill_r, pm_kill_n, pm_kill_j, pm_kill_l, pm_kill_d, pm_cats_nil, pm_cats_i, pm_cats_r, pm_cats_n, pm_cats_l, pm_cats_d, sz_1, sz_2, sl_1, sl_2, lc_0, lc_lt, lc_le, li_ne, va_rf, wr_m1, we_m1, pm_kill_w, Int32.reduceOfInt, Int64.reduceOfInt, Int32.reduceOfNat, Int32.reduceLT, Int32.reduceLE, Prod.mk.injEq, Nat.reduceEqDiff, reduceCtorEq, and_true, true_and, and_false, false_and, and_self, ite_true, ite_false, ↓reduceIte, not_true_eq_false, not_false_eq_true, pe_ri, pe_rz, pe_rc, p_throw, t736, w_junk hA, z1, eq_false k3, k5]
    · rw [if_neg k2] at e; cases e
/-- TimberHouse$NailRules.hole(I)I -/
theorem c737 {d : Nat} {h : pm_H} {a : Nat} {x0 : Int32} (hc : pm_cls h a = some 11) : pm_call pm_prog (d + 1) 737 [.ref a, .int x0] h = pm_ev pm_prog (pm_call pm_prog d) 737 0 b737_0 [.ref a, .int x0, pm_junk] [] h := pm_cal (pm_rc1 hc rfl) rfl rfl rfl
theorem g737_1 {cl : pm_C} {ls st : List Value} {h : pm_H} : pm_go pm_prog cl 737 1 ls st h = pm_ev pm_prog cl 737 1 b737_1 ls st h := pm_go_eq pm_prog cl 737 1 ls st h
theorem g737_2 {cl : pm_C} {ls st : List Value} {h : pm_H} : pm_go pm_prog cl 737 2 ls st h = pm_ev pm_prog cl 737 2 b737_2 ls st h := pm_go_eq pm_prog cl 737 2 ls st h
theorem g737_3 {cl : pm_C} {ls st : List Value} {h : pm_H} : pm_go pm_prog cl 737 3 ls st h = pm_ev pm_prog cl 737 3 b737_3 ls st h := pm_go_eq pm_prog cl 737 3 ls st h
theorem g737_4 {cl : pm_C} {ls st : List Value} {h : pm_H} : pm_go pm_prog cl 737 4 ls st h = pm_ev pm_prog cl 737 4 b737_4 ls st h := pm_go_eq pm_prog cl 737 4 ls st h
theorem g737_5 {cl : pm_C} {ls st : List Value} {h : pm_H} : pm_go pm_prog cl 737 5 ls st h = pm_ev pm_prog cl 737 5 b737_5 ls st h := pm_go_eq pm_prog cl 737 5 ls st h
theorem g737_6 {cl : pm_C} {ls st : List Value} {h : pm_H} : pm_go pm_prog cl 737 6 ls st h = pm_ev pm_prog cl 737 6 b737_6 ls st h := pm_go_eq pm_prog cl 737 6 ls st h
theorem t737 {cl : pm_C} {j : Nat} {ls : List Value} {c : Nat} {h : pm_H} : pm_thr pm_prog cl 737 j ls c h = some (.threw c, h) := rfl
/-- TimberHouse$NailRules.hole(I)I -/
noncomputable def f737 (mc : Int32) (S : wS) (x1 : Int32) : Option (Nat ⊕ (Int32)) :=
  (f715 mc S x1).bind fun r => match r with
  | .inl c3 =>
    some (.inl c3)
  | .inr v1i =>
  if 0 ≤ v1i ∧ v1i < 4 then
    (f770 mc S v1i).bind fun v2 =>
    if 0 ≤ x1 ∧ x1 < 4 then
      if (S.1 (90, 0, 0) x1) = 98 then
        some (.inr (v2 + 10))
      else
        if (S.1 (90, 0, 0) x1) = 110 then
          if v2 ≤ 50 then
            some (.inr 0)
          else
            some (.inr ((v2 * 7) / 10))
        else
          if (S.1 (90, 0, 0) x1) = 115 then
            some (.inr ((v2 * 7) / 10))
          else
            some (.inr v2)
    else none
  else none
theorem sw737_0 {x : Int32} : pm_lk 5 [(98, 4), (110, 1), (115, 3)] x = if x = 98 then 4 else if x = 110 then 1 else if x = 115 then 3 else 5 := by
  simp (disch := decide) only [pm_lk, sw_eq, Int32.reduceOfInt, Int.reduceToNat]
theorem x737 {mc : Int32} {A : wK → Nat} {h : pm_H} {D : Nat} {S : wS} {x1 : Int32} {r : Nat ⊕ (Int32)} (hP : Cn_P mc) (hA : wok A (Cn_d mc) h.1) (hL : A (90, 0, 0) = 1) (hD : 3 ≤ D) (e : f737 mc S x1 = some r) : pm_call pm_prog D 737 [.ref (A (0, 0, 0)), .int x1] (wput A (Cn_d mc) S h) = some (match (generalizing := false) r with | .inl c => (Outcome.threw c, (wput A (Cn_d mc) S (pm_new h 6 (.inr (c, []))))) | .inr w0 => (Outcome.returned (some (.int w0)), (wput A (Cn_d mc) S h))) := by
  obtain ⟨D, rfl⟩ : ∃ D', D = D' + 1 := ⟨D - 1, by omega⟩
  have hD : 2 ≤ D := by omega
  simp only [f737] at e
  rw [c737 (Cn_c0 hP hA), b737_0]
  obtain ⟨r, k1, e⟩ := Option.bind_eq_some_iff.mp e
  have z1 := x715 (D := D) (h := h) hP hA hL (by omega) k1
  rcases r with c3 | v1i
  · dsimp only at e z1
    have e := Option.some.inj e; subst e
    simp -implicitDefEqProofs (disch := first | assumption | exact Nat.le_of_ble_eq_true rfl | decide) only [b737_0, g737_1, b737_1, g737_2, b737_2, g737_3, b737_3, g737_4, b737_4, g737_5, b737_5, g737_6, b737_6, pe_aload0, pe_iload1, pe_call2, pm_af_ret, pm_af_void, pm_af_thr, pe_call1, pe_istore2, pe_caload, pe_lookupswitch, pe_iload2, pe_sipush, pe_icmp_le, pe_imul, pe_idiv, pe_goto, pe_iadd, pe_goto_w, pm_prog_1, pm_ob_some, Nat.reduceDiv, Nat.reduceMod, Nat.reduceMul, Nat.reduceAdd, Int.reduceToNat, pm_kill_i, pm_kill_r, pm_kill_n, pm_kill_j, pm_kill_l, pm_kill_d, pm_cats_nil, pm_cats_i, pm_cats_r, pm_cats_n, pm_cats_l, pm_cats_d, sz_1, sz_2, sl_1, sl_2, lc_0, lc_lt, lc_le, li_ne, va_rf, wr_m1, we_m1, pm_kill_w, Int32.reduceOfInt, Int64.reduceOfInt, Int32.reduceOfNat, Int32.reduceLT, Int32.reduceLE, Prod.mk.injEq, Nat.reduceEqDiff, reduceCtorEq, and_true, true_and, and_false, false_and, and_self, ite_true, ite_false, ↓reduceIte, not_true_eq_false, not_false_eq_true, pe_ri, pe_rz, pe_rc, w_gs (q := 1) hL rfl, p_throw, t737, w_junk hA, sw737_0, Cn_r90 hP hA, z1]
  · dsimp only at e z1
    by_cases k2 : 0 ≤ v1i ∧ v1i < 4
    · rw [if_pos k2] at e
      obtain ⟨v2, k3, e⟩ := Option.bind_eq_some_iff.mp e
      try dsimp only at e
      have z3 := x770 (D := D) (h := h) hP hA hL (by omega) k3
      by_cases k4 : 0 ≤ x1 ∧ x1 < 4
      · rw [if_pos k4] at e
        by_cases k5 : (S.1 (90, 0, 0) x1) = 98
        · rw [if_pos k5] at e
          have e := Option.some.inj e; subst e
          simp -implicitDefEqProofs (disch := first | assumption | exact Nat.le_of_ble_eq_true rfl | decide) only [b737_0, g737_1, b737_1, g737_2, b737_2, g737_3, b737_3, g737_4, b737_4, g737_5, b737_5, g737_6, b737_6, pe_aload0, pe_iload1, pe_call2, pm_af_ret, pm_af_void, pm_af_thr, pe_call1, pe_istore2, pe_caload, pe_lookupswitch, pe_iload2, pe_sipush, pe_icmp_le, pe_imul, pe_idiv, pe_goto, pe_iadd, pe_goto_w, pm_prog_1, pm_ob_some, Nat.reduceDiv, Nat.reduceMod, Nat.reduceMul, Nat.reduceAdd, Int.reduceToNat, pm_kill_i, pm_kill_r, pm_kill_n, pm_kill_j, pm_kill_l, pm_kill_d, pm_cats_nil, pm_cats_i, pm_cats_r, pm_cats_n, pm_cats_l, pm_cats_d, sz_1, sz_2, sl_1, sl_2, lc_0, lc_lt, lc_le, li_ne, va_rf, wr_m1, we_m1, pm_kill_w, Int32.reduceOfInt, Int64.reduceOfInt, Int32.reduceOfNat, Int32.reduceLT, Int32.reduceLE, Prod.mk.injEq, Nat.reduceEqDiff, reduceCtorEq, and_true, true_and, and_false, false_and, and_self, ite_true, ite_false, ↓reduceIte, not_true_eq_false, not_false_eq_true, pe_ri, pe_rz, pe_rc, w_gs (q := 1) hL rfl, p_throw, t737, w_junk hA, sw737_0, Cn_r90 hP hA, z1, z3, eq_true k5]
        · rw [if_neg k5] at e
          by_cases k6 : (S.1 (90, 0, 0) x1) = 110
          · rw [if_pos k6] at e
            by_cases k7 : v2 ≤ 50
            · rw [if_pos k7] at e
              have e := Option.some.inj e; subst e
              simp -implicitDefEqProofs (disch := first | assumption | exact Nat.le_of_ble_eq_true rfl | decide) only [b737_0, g737_1, b737_1, g737_2, b737_2, g737_3, b737_3, g737_4, b737_4, g737_5, b737_5, g737_6, b737_6, pe_aload0, pe_iload1, pe_call2, pm_af_ret, pm_af_void, pm_af_thr, pe_call1, pe_istore2, pe_caload, pe_lookupswitch, pe_iload2, pe_sipush, pe_icmp_le, pe_imul, pe_idiv, pe_goto, pe_iadd, pe_goto_w, pm_prog_1, pm_ob_some, Nat.reduceDiv, Nat.reduceMod, Nat.reduceMul, Nat.reduceAdd, Int.reduceToNat, pm_kill_i, pm_kill_r, pm_kill_n, pm_kill_j, pm_kill_l, pm_kill_d, pm_cats_nil, pm_cats_i, pm_cats_r, pm_cats_n, pm_cats_l, pm_cats_d, sz_1, sz_2, sl_1, sl_2, lc_0, lc_lt, lc_le, li_ne, va_rf, wr_m1, we_m1, pm_kill_w, Int32.reduceOfInt, Int64.reduceOfInt, Int32.reduceOfNat, Int32.reduceLT, Int32.reduceLE, Prod.mk.injEq, Nat.reduceEqDiff, reduceCtorEq, and_true, true_and, and_false, false_and, and_self, ite_true, ite_false, ↓reduceIte, not_true_eq_false, not_false_eq_true, pe_ri, pe_rz, pe_rc, w_gs (q := 1) hL rfl, p_throw, t737, w_junk hA, sw737_0, Cn_r90 hP hA, z1, z3, eq_false k5, eq_true k6, eq_true k7]
            · rw [if_neg k7] at e
              have e := Option.some.inj e; subst e
              simp -implicitDefEqProofs (disch := first | assumption | exact Nat.le_of_ble_eq_true rfl | decide) only [b737_0, g737_1, b737_1, g737_2, b737_2, g737_3, b737_3, g737_4, b737_4, g737_5, b737_5, g737_6, b737_6, pe_aload0, pe_iload1, pe_call2, pm_af_ret, pm_af_void, pm_af_thr, pe_call1, pe_istore2, pe_caload, pe_lookupswitch, pe_iload2, pe_sipush, pe_icmp_le, pe_imul, pe_idiv, pe_goto, pe_iadd, pe_goto_w, pm_prog_1, pm_ob_some, Nat.reduceDiv, Nat.reduceMod, Nat.reduceMul, Nat.reduceAdd, Int.reduceToNat, pm_kill_i, pm_kill_r, pm_kill_n, pm_kill_j, pm_kill_l, pm_kill_d, pm_cats_nil, pm_cats_i, pm_cats_r, pm_cats_n, pm_cats_l, pm_cats_d, sz_1, sz_2, sl_1, sl_2, lc_0, lc_lt, lc_le, li_ne, va_rf, wr_m1, we_m1, pm_kill_w, Int32.reduceOfInt, Int64.reduceOfInt, Int32.reduceOfNat, Int32.reduceLT, Int32.reduceLE, Prod.mk.injEq, Nat.reduceEqDiff, reduceCtorEq, and_true, true_and, and_false, false_and, and_self, ite_true, ite_false, ↓reduceIte, not_true_eq_false, not_false_eq_true, pe_ri, pe_rz, pe_rc, w_gs (q := 1) hL rfl, p_throw, t737, w_junk hA, sw737_0, Cn_r90 hP hA, z1, z3, eq_false k5, eq_true k6, eq_false k7]
          · rw [if_neg k6] at e
            by_cases k8 : (S.1 (90, 0, 0) x1) = 115
            · rw [if_pos k8] at e
              have e := Option.some.inj e; subst e
              simp -implicitDefEqProofs (disch := first | assumption | exact Nat.le_of_ble_eq_true rfl | decide) only [b737_0, g737_1, b737_1, g737_2, b737_2, g737_3, b737_3, g737_4, b737_4, g737_5, b737_5, g737_6, b737_6, pe_aload0, pe_iload1, pe_call2, pm_af_ret, pm_af_void, pm_af_thr, pe_call1, pe_istore2, pe_caload, pe_lookupswitch, pe_iload2, pe_sipush, pe_icmp_le, pe_imul, pe_idiv, pe_goto, pe_iadd, pe_goto_w, pm_prog_1, pm_ob_some, Nat.reduceDiv, Nat.reduceMod, Nat.reduceMul, Nat.reduceAdd, Int.reduceToNat, pm_kill_i, pm_kill_r, pm_kill_n, pm_kill_j, pm_kill_l, pm_kill_d, pm_cats_nil, pm_cats_i, pm_cats_r, pm_cats_n, pm_cats_l, pm_cats_d, sz_1, sz_2, sl_1, sl_2, lc_0, lc_lt, lc_le, li_ne, va_rf, wr_m1, we_m1, pm_kill_w, Int32.reduceOfInt, Int64.reduceOfInt, Int32.reduceOfNat, Int32.reduceLT, Int32.reduceLE, Prod.mk.injEq, Nat.reduceEqDiff, reduceCtorEq, and_true, true_and, and_false, false_and, and_self, ite_true, ite_false, ↓reduceIte, not_true_eq_false, not_false_eq_true, pe_ri, pe_rz, pe_rc, w_gs (q := 1) hL rfl, p_throw, t737, w_junk hA, sw737_0, Cn_r90 hP hA, z1, z3, eq_false k5, eq_false k6, eq_true k8]
            · rw [if_neg k8] at e
              have e := Option.some.inj e; subst e
              simp -implicitDefEqProofs (disch := first | assumption | exact Nat.le_of_ble_eq_true rfl | decide) only [b737_0, g737_1, b737_1, g737_2, b737_2, g737_3, b737_3, g737_4, b737_4, g737_5, b737_5, g737_6, b737_6, pe_aload0, pe_iload1, pe_call2, pm_af_ret, pm_af_void, pm_af_thr, pe_call1, pe_istore2, pe_caload, pe_lookupswitch, pe_iload2, pe_sipush, pe_icmp_le, pe_imul, pe_idiv, pe_goto, pe_iadd, pe_goto_w, pm_prog_1, pm_ob_some, Nat.reduceDiv, Nat.reduceMod, Nat.reduceMul, Nat.reduceAdd, Int.reduceToNat, pm_kill_i, pm_kill_r, pm_kill_n, pm_kill_j, pm_kill_l, pm_kill_d, pm_cats_nil, pm_cats_i, pm_cats_r, pm_cats_n, pm_cats_l, pm_cats_d, sz_1, sz_2, sl_1, sl_2, lc_0, lc_lt, lc_le, li_ne, va_rf, wr_m1, we_m1, pm_kill_w, Int32.reduceOfInt, Int64.reduceOfInt, Int32.reduceOfNat, Int32.reduceLT, Int32.reduceLE, Prod.mk.injEq, Nat.reduceEqDiff, reduceCtorEq, and_true, true_and, and_false, false_and, and_self, ite_true, ite_false, ↓reduceIte, not_true_eq_false, not_false_eq_true, pe_ri, pe_rz, pe_rc, w_gs (q := 1) hL rfl, p_throw, t737, w_junk hA, sw737_0, Cn_r90 hP hA, z1, z3, eq_false k5, eq_false k6, eq_false k8]
      · rw [if_neg k4] at e; cases e
    · rw [if_neg k2] at e; cases e
