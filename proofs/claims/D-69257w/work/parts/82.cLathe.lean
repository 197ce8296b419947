set_option maxRecDepth 100000
/-! TimberHouse$LathePieces -/
def Cz_P (pc : Int32) (tc : Int32) (rc : Int32) (fc : Int32) (qc : Int32) (pa : Int32) (ta : Int32) (ra : Int32) (pl : Int32 → Int32) (tl : Int32 → Int32) (wc : Int32 → Int32) (wa : Int32 → Int32) (ya : Int32 → Int32) : Prop := 0 ≤ pc ∧ 0 ≤ tc ∧ 0 ≤ rc ∧ 0 ≤ fc ∧ 0 ≤ qc ∧ 0 ≤ pa ∧ 0 ≤ ta ∧ 0 ≤ ra ∧ (∀ i, 0 ≤ pl i) ∧ (∀ i, 0 ≤ tl i) ∧ (∀ i, 0 ≤ wc i) ∧ (∀ i, 0 ≤ wa i) ∧ (∀ i, 0 ≤ ya i)
def Cz_d (pc : Int32) (tc : Int32) (rc : Int32) (fc : Int32) (qc : Int32) (pa : Int32) (ta : Int32) (ra : Int32) (pl : Int32 → Int32) (tl : Int32 → Int32) (wc : Int32 → Int32) (wa : Int32 → Int32) (ya : Int32 → Int32) : wK → Option wD := fun k => match k.1 with
  | 0 => if k.2.1 = 0 ∧ k.2.2 = 0 then some (.inl (10, [(4, (30, 0, 0)), (2, (1, 0, 0)), (2, (3, 0, 0)), (2, (5, 0, 0)), (4, (31, 0, 0)), (2, (7, 0, 0)), (2, (8, 0, 0)), (0, (0, 0, 0))])) else none
  | 1 => if k.2.1 = 0 ∧ k.2.2 = 0 then some (.inl (63, [(0, (0, 0, 0)), (2, if 0 < pa then (2, 0, 0) else (91, 0, 0)), (0, (0, 0, 0))])) else none
  | 2 => if k.2.1 = 0 ∧ k.2.2 = 0 then some (.inr (.inr ((.object "java/lang/Object"), wn pa, .inr (fun x => if x < pc then some (10, x, 0) else none)))) else none
  | 10 => if (0 ≤ k.2.1 ∧ k.2.1 < pc) ∧ k.2.2 = 0 then some (.inl (43, [(2, (11, k.2.1, 0)), (0, (0, 0, 0))])) else none
  | 11 => if (0 ≤ k.2.1 ∧ k.2.1 < pc) ∧ k.2.2 = 0 then some (.inr (.inl (.int, wn (pl k.2.1)))) else none
  | 3 => if k.2.1 = 0 ∧ k.2.2 = 0 then some (.inl (63, [(0, (0, 0, 0)), (2, if 0 < ta then (4, 0, 0) else (91, 0, 0)), (0, (0, 0, 0))])) else none
  | 4 => if k.2.1 = 0 ∧ k.2.2 = 0 then some (.inr (.inr ((.object "java/lang/Object"), wn ta, .inr (fun x => if x < tc then some (12, x, 0) else none)))) else none
  | 12 => if (0 ≤ k.2.1 ∧ k.2.1 < tc) ∧ k.2.2 = 0 then some (.inl (44, [(0, (0, 0, 0)), (2, (13, k.2.1, 0))])) else none
  | 13 => if (0 ≤ k.2.1 ∧ k.2.1 < tc) ∧ k.2.2 = 0 then some (.inr (.inl (.int, wn (tl k.2.1)))) else none
  | 5 => if k.2.1 = 0 ∧ k.2.2 = 0 then some (.inl (63, [(0, (0, 0, 0)), (2, if 0 < ra then (6, 0, 0) else (91, 0, 0)), (0, (0, 0, 0))])) else none
  | 6 => if k.2.1 = 0 ∧ k.2.2 = 0 then some (.inr (.inr ((.object "java/lang/Object"), wn ra, .inr (fun x => if x < rc then some (14, x, 0) else none)))) else none
  | 14 => if (0 ≤ k.2.1 ∧ k.2.1 < rc) ∧ k.2.2 = 0 then some (.inl (63, [(0, (0, 0, 0)), (2, if 0 < (wa k.2.1) then (15, k.2.1, 0) else (91, 0, 0)), (0, (0, 0, 0))])) else none
  | 15 => if (0 ≤ k.2.1 ∧ k.2.1 < rc) ∧ k.2.2 = 0 then some (.inr (.inr ((.object "java/lang/Object"), wn (wa k.2.1), .inr (fun x => if x < (wc k.2.1) then some (16, k.2.1, x) else none)))) else none
  | 16 => if (0 ≤ k.2.1 ∧ k.2.1 < rc) ∧ (0 ≤ k.2.2 ∧ k.2.2 < (wc k.2.1)) then some (.inl (45, [(1, (0, 0, 0)), (1, (0, 0, 0))])) else none
  | 7 => if k.2.1 = 0 ∧ k.2.2 = 0 then some (.inr (.inl (.int, 8))) else none
  | 8 => if k.2.1 = 0 ∧ k.2.2 = 0 then some (.inr (.inl (.int, 8))) else none
  | 30 => if (0 ≤ k.2.1 ∧ k.2.1 < fc) ∧ k.2.2 = 0 then some (.inl (39, [(2, (32, k.2.1, 0)), (0, (0, 0, 0)), (0, (0, 0, 0))])) else none
  | 32 => if (0 ≤ k.2.1 ∧ k.2.1 < fc) ∧ k.2.2 = 0 then some (.inl (63, [(0, (0, 0, 0)), (2, if 0 < (ya k.2.1) then (33, k.2.1, 0) else (91, 0, 0)), (0, (0, 0, 0))])) else none
  | 33 => if (0 ≤ k.2.1 ∧ k.2.1 < fc) ∧ k.2.2 = 0 then some (.inr (.inr ((.object "java/lang/Object"), wn (ya k.2.1), .inl 31))) else none
  | 31 => if (0 ≤ k.2.1 ∧ k.2.1 < qc) ∧ k.2.2 = 0 then some (.inl (45, [(1, (0, 0, 0)), (1, (0, 0, 0))])) else none
  | 91 => if k.2.1 = 0 ∧ k.2.2 = 0 then some (.inr (.inr ((.object "java/lang/Object"), 0, .inl 31))) else none
  | _ => none
section
variable {A : wK → Nat} {S : wS} {h : pm_H} {m : Nat} {i j x v : Int32} {u : Int64} {pc : Int32} {tc : Int32} {rc : Int32} {fc : Int32} {qc : Int32} {pa : Int32} {ta : Int32} {ra : Int32} {pl : Int32 → Int32} {tl : Int32 → Int32} {wc : Int32 → Int32} {wa : Int32 → Int32} {ya : Int32 → Int32}
theorem Cz_n0 (hP : Cz_P pc tc rc fc qc pa ta ra pl tl wc wa ya) : Int32.ofNat (wn pa) = pa := wn_of (hP.2.2.2.2.2.1)
theorem Cz_n1 (hP : Cz_P pc tc rc fc qc pa ta ra pl tl wc wa ya) : Int32.ofNat (wn ta) = ta := wn_of (hP.2.2.2.2.2.2.1)
theorem Cz_n2 (hP : Cz_P pc tc rc fc qc pa ta ra pl tl wc wa ya) : Int32.ofNat (wn ra) = ra := wn_of (hP.2.2.2.2.2.2.2.1)
theorem Cz_n3 (hP : Cz_P pc tc rc fc qc pa ta ra pl tl wc wa ya) : Int32.ofNat (wn (pl i)) = (pl i) := wn_of (hP.2.2.2.2.2.2.2.2.1 i)
theorem Cz_n4 (hP : Cz_P pc tc rc fc qc pa ta ra pl tl wc wa ya) : Int32.ofNat (wn (tl i)) = (tl i) := wn_of (hP.2.2.2.2.2.2.2.2.2.1 i)
theorem Cz_n5 (hP : Cz_P pc tc rc fc qc pa ta ra pl tl wc wa ya) : Int32.ofNat (wn (wa i)) = (wa i) := wn_of (hP.2.2.2.2.2.2.2.2.2.2.2.1 i)
theorem Cz_n6 (hP : Cz_P pc tc rc fc qc pa ta ra pl tl wc wa ya) : Int32.ofNat (wn (ya i)) = (ya i) := wn_of (hP.2.2.2.2.2.2.2.2.2.2.2.2 i)
theorem Cz_d0 {pc : Int32} {tc : Int32} {rc : Int32} {fc : Int32} {qc : Int32} {pa : Int32} {ta : Int32} {ra : Int32} {pl : Int32 → Int32} {tl : Int32 → Int32} {wc : Int32 → Int32} {wa : Int32 → Int32} {ya : Int32 → Int32} : (Cz_d pc tc rc fc qc pa ta ra pl tl wc wa ya) (0, 0, 0) = some (.inl (10, [(4, (30, 0, 0)), (2, (1, 0, 0)), (2, (3, 0, 0)), (2, (5, 0, 0)), (4, (31, 0, 0)), (2, (7, 0, 0)), (2, (8, 0, 0)), (0, (0, 0, 0))])) := rfl
theorem Cz_d1 {pc : Int32} {tc : Int32} {rc : Int32} {fc : Int32} {qc : Int32} {pa : Int32} {ta : Int32} {ra : Int32} {pl : Int32 → Int32} {tl : Int32 → Int32} {wc : Int32 → Int32} {wa : Int32 → Int32} {ya : Int32 → Int32} : (Cz_d pc tc rc fc qc pa ta ra pl tl wc wa ya) (1, 0, 0) = some (.inl (63, [(0, (0, 0, 0)), (2, if 0 < pa then (2, 0, 0) else (91, 0, 0)), (0, (0, 0, 0))])) := rfl
theorem Cz_d2 {pc : Int32} {tc : Int32} {rc : Int32} {fc : Int32} {qc : Int32} {pa : Int32} {ta : Int32} {ra : Int32} {pl : Int32 → Int32} {tl : Int32 → Int32} {wc : Int32 → Int32} {wa : Int32 → Int32} {ya : Int32 → Int32} : (Cz_d pc tc rc fc qc pa ta ra pl tl wc wa ya) (2, 0, 0) = some (.inr (.inr ((.object "java/lang/Object"), wn pa, .inr (fun x => if x < pc then some (10, x, 0) else none)))) := rfl
theorem Cz_d10 {pc : Int32} {tc : Int32} {rc : Int32} {fc : Int32} {qc : Int32} {pa : Int32} {ta : Int32} {ra : Int32} {pl : Int32 → Int32} {tl : Int32 → Int32} {wc : Int32 → Int32} {wa : Int32 → Int32} {ya : Int32 → Int32} (h0 : 0 ≤ i ∧ i < pc) : (Cz_d pc tc rc fc qc pa ta ra pl tl wc wa ya) (10, i, 0) = some (.inl (43, [(2, (11, i, 0)), (0, (0, 0, 0))])) := if_pos ⟨h0, rfl⟩
theorem Cz_d11 {pc : Int32} {tc : Int32} {rc : Int32} {fc : Int32} {qc : Int32} {pa : Int32} {ta : Int32} {ra : Int32} {pl : Int32 → Int32} {tl : Int32 → Int32} {wc : Int32 → Int32} {wa : Int32 → Int32} {ya : Int32 → Int32} (h0 : 0 ≤ i ∧ i < pc) : (Cz_d pc tc rc fc qc pa ta ra pl tl wc wa ya) (11, i, 0) = some (.inr (.inl (.int, wn (pl i)))) := if_pos ⟨h0, rfl⟩
theorem Cz_d3 {pc : Int32} {tc : Int32} {rc : Int32} {fc : Int32} {qc : Int32} {pa : Int32} {ta : Int32} {ra : Int32} {pl : Int32 → Int32} {tl : Int32 → Int32} {wc : Int32 → Int32} {wa : Int32 → Int32} {ya : Int32 → Int32} : (Cz_d pc tc rc fc qc pa ta ra pl tl wc wa ya) (3, 0, 0) = some (.inl (63, [(0, (0, 0, 0)), (2, if 0 < ta then (4, 0, 0) else (91, 0, 0)), (0, (0, 0, 0))])) := rfl
theorem Cz_d4 {pc : Int32} {tc : Int32} {rc : Int32} {fc : Int32} {qc : Int32} {pa : Int32} {ta : Int32} {ra : Int32} {pl : Int32 → Int32} {tl : Int32 → Int32} {wc : Int32 → Int32} {wa : Int32 → Int32} {ya : Int32 → Int32} : (Cz_d pc tc rc fc qc pa ta ra pl tl wc wa ya) (4, 0, 0) = some (.inr (.inr ((.object "java/lang/Object"), wn ta, .inr (fun x => if x < tc then some (12, x, 0) else none)))) := rfl
theorem Cz_d12 {pc : Int32} {tc : Int32} {rc : Int32} {fc : Int32} {qc : Int32} {pa : Int32} {ta : Int32} {ra : Int32} {pl : Int32 → Int32} {tl : Int32 → Int32} {wc : Int32 → Int32} {wa : Int32 → Int32} {ya : Int32 → Int32} (h0 : 0 ≤ i ∧ i < tc) : (Cz_d pc tc rc fc qc pa ta ra pl tl wc wa ya) (12, i, 0) = some (.inl (44, [(0, (0, 0, 0)), (2, (13, i, 0))])) := if_pos ⟨h0, rfl⟩
theorem Cz_d13 {pc : Int32} {tc : Int32} {rc : Int32} {fc : Int32} {qc : Int32} {pa : Int32} {ta : Int32} {ra : Int32} {pl : Int32 → Int32} {tl : Int32 → Int32} {wc : Int32 → Int32} {wa : Int32 → Int32} {ya : Int32 → Int32} (h0 : 0 ≤ i ∧ i < tc) : (Cz_d pc tc rc fc qc pa ta ra pl tl wc wa ya) (13, i, 0) = some (.inr (.inl (.int, wn (tl i)))) := if_pos ⟨h0, rfl⟩
theorem Cz_d5 {pc : Int32} {tc : Int32} {rc : Int32} {fc : Int32} {qc : Int32} {pa : Int32} {ta : Int32} {ra : Int32} {pl : Int32 → Int32} {tl : Int32 → Int32} {wc : Int32 → Int32} {wa : Int32 → Int32} {ya : Int32 → Int32} : (Cz_d pc tc rc fc qc pa ta ra pl tl wc wa ya) (5, 0, 0) = some (.inl (63, [(0, (0, 0, 0)), (2, if 0 < ra then (6, 0, 0) else (91, 0, 0)), (0, (0, 0, 0))])) := rfl
theorem Cz_d6 {pc : Int32} {tc : Int32} {rc : Int32} {fc : Int32} {qc : Int32} {pa : Int32} {ta : Int32} {ra : Int32} {pl : Int32 → Int32} {tl : Int32 → Int32} {wc : Int32 → Int32} {wa : Int32 → Int32} {ya : Int32 → Int32} : (Cz_d pc tc rc fc qc pa ta ra pl tl wc wa ya) (6, 0, 0) = some (.inr (.inr ((.object "java/lang/Object"), wn ra, .inr (fun x => if x < rc then some (14, x, 0) else none)))) := rfl
theorem Cz_d14 {pc : Int32} {tc : Int32} {rc : Int32} {fc : Int32} {qc : Int32} {pa : Int32} {ta : Int32} {ra : Int32} {pl : Int32 → Int32} {tl : Int32 → Int32} {wc : Int32 → Int32} {wa : Int32 → Int32} {ya : Int32 → Int32} (h0 : 0 ≤ i ∧ i < rc) : (Cz_d pc tc rc fc qc pa ta ra pl tl wc wa ya) (14, i, 0) = some (.inl (63, [(0, (0, 0, 0)), (2, if 0 < (wa i) then (15, i, 0) else (91, 0, 0)), (0, (0, 0, 0))])) := if_pos ⟨h0, rfl⟩
theorem Cz_d15 {pc : Int32} {tc : Int32} {rc : Int32} {fc : Int32} {qc : Int32} {pa : Int32} {ta : Int32} {ra : Int32} {pl : Int32 → Int32} {tl : Int32 → Int32} {wc : Int32 → Int32} {wa : Int32 → Int32} {ya : Int32 → Int32} (h0 : 0 ≤ i ∧ i < rc) : (Cz_d pc tc rc fc qc pa ta ra pl tl wc wa ya) (15, i, 0) = some (.inr (.inr ((.object "java/lang/Object"), wn (wa i), .inr (fun x => if x < (wc i) then some (16, i, x) else none)))) := if_pos ⟨h0, rfl⟩
theorem Cz_d16 {pc : Int32} {tc : Int32} {rc : Int32} {fc : Int32} {qc : Int32} {pa : Int32} {ta : Int32} {ra : Int32} {pl : Int32 → Int32} {tl : Int32 → Int32} {wc : Int32 → Int32} {wa : Int32 → Int32} {ya : Int32 → Int32} (h0 : 0 ≤ i ∧ i < rc) (h1 : 0 ≤ j ∧ j < (wc i)) : (Cz_d pc tc rc fc qc pa ta ra pl tl wc wa ya) (16, i, j) = some (.inl (45, [(1, (0, 0, 0)), (1, (0, 0, 0))])) := if_pos ⟨h0, h1⟩
theorem Cz_d7 {pc : Int32} {tc : Int32} {rc : Int32} {fc : Int32} {qc : Int32} {pa : Int32} {ta : Int32} {ra : Int32} {pl : Int32 → Int32} {tl : Int32 → Int32} {wc : Int32 → Int32} {wa : Int32 → Int32} {ya : Int32 → Int32} : (Cz_d pc tc rc fc qc pa ta ra pl tl wc wa ya) (7, 0, 0) = some (.inr (.inl (.int, 8))) := rfl
theorem Cz_d8 {pc : Int32} {tc : Int32} {rc : Int32} {fc : Int32} {qc : Int32} {pa : Int32} {ta : Int32} {ra : Int32} {pl : Int32 → Int32} {tl : Int32 → Int32} {wc : Int32 → Int32} {wa : Int32 → Int32} {ya : Int32 → Int32} : (Cz_d pc tc rc fc qc pa ta ra pl tl wc wa ya) (8, 0, 0) = some (.inr (.inl (.int, 8))) := rfl
theorem Cz_d30 {pc : Int32} {tc : Int32} {rc : Int32} {fc : Int32} {qc : Int32} {pa : Int32} {ta : Int32} {ra : Int32} {pl : Int32 → Int32} {tl : Int32 → Int32} {wc : Int32 → Int32} {wa : Int32 → Int32} {ya : Int32 → Int32} (h0 : 0 ≤ i ∧ i < fc) : (Cz_d pc tc rc fc qc pa ta ra pl tl wc wa ya) (30, i, 0) = some (.inl (39, [(2, (32, i, 0)), (0, (0, 0, 0)), (0, (0, 0, 0))])) := if_pos ⟨h0, rfl⟩
theorem Cz_d32 {pc : Int32} {tc : Int32} {rc : Int32} {fc : Int32} {qc : Int32} {pa : Int32} {ta : Int32} {ra : Int32} {pl : Int32 → Int32} {tl : Int32 → Int32} {wc : Int32 → Int32} {wa : Int32 → Int32} {ya : Int32 → Int32} (h0 : 0 ≤ i ∧ i < fc) : (Cz_d pc tc rc fc qc pa ta ra pl tl wc wa ya) (32, i, 0) = some (.inl (63, [(0, (0, 0, 0)), (2, if 0 < (ya i) then (33, i, 0) else (91, 0, 0)), (0, (0, 0, 0))])) := if_pos ⟨h0, rfl⟩
theorem Cz_d33 {pc : Int32} {tc : Int32} {rc : Int32} {fc : Int32} {qc : Int32} {pa : Int32} {ta : Int32} {ra : Int32} {pl : Int32 → Int32} {tl : Int32 → Int32} {wc : Int32 → Int32} {wa : Int32 → Int32} {ya : Int32 → Int32} (h0 : 0 ≤ i ∧ i < fc) : (Cz_d pc tc rc fc qc pa ta ra pl tl wc wa ya) (33, i, 0) = some (.inr (.inr ((.object "java/lang/Object"), wn (ya i), .inl 31))) := if_pos ⟨h0, rfl⟩
theorem Cz_d31 {pc : Int32} {tc : Int32} {rc : Int32} {fc : Int32} {qc : Int32} {pa : Int32} {ta : Int32} {ra : Int32} {pl : Int32 → Int32} {tl : Int32 → Int32} {wc : Int32 → Int32} {wa : Int32 → Int32} {ya : Int32 → Int32} (h0 : 0 ≤ i ∧ i < qc) : (Cz_d pc tc rc fc qc pa ta ra pl tl wc wa ya) (31, i, 0) = some (.inl (45, [(1, (0, 0, 0)), (1, (0, 0, 0))])) := if_pos ⟨h0, rfl⟩
theorem Cz_d91 {pc : Int32} {tc : Int32} {rc : Int32} {fc : Int32} {qc : Int32} {pa : Int32} {ta : Int32} {ra : Int32} {pl : Int32 → Int32} {tl : Int32 → Int32} {wc : Int32 → Int32} {wa : Int32 → Int32} {ya : Int32 → Int32} : (Cz_d pc tc rc fc qc pa ta ra pl tl wc wa ya) (91, 0, 0) = some (.inr (.inr ((.object "java/lang/Object"), 0, .inl 31))) := rfl
theorem Cz_c0 (hP : Cz_P pc tc rc fc qc pa ta ra pl tl wc wa ya) (hA : wok A (Cz_d pc tc rc fc qc pa ta ra pl tl wc wa ya) m) : pm_cls (wput A (Cz_d pc tc rc fc qc pa ta ra pl tl wc wa ya) S h) (A (0, 0, 0)) = some 10 := w_cls hA (Cz_d0)
theorem Cz_k0 {cl : pm_C} {k b c : Nat} {r : List Instr} {ls s : List Value} (hP : Cz_P pc tc rc fc qc pa ta ra pl tl wc wa ya) (hA : wok A (Cz_d pc tc rc fc qc pa ta ra pl tl wc wa ya) m) (h2 : pm_sub 10 c = true) : pm_ev pm_prog cl k b (.checkcast c :: r) ls (.ref (A (0, 0, 0)) :: s) (wput A (Cz_d pc tc rc fc qc pa ta ra pl tl wc wa ya) S h) = pm_ev pm_prog cl k b r ls (.ref (A (0, 0, 0)) :: s) (wput A (Cz_d pc tc rc fc qc pa ta ra pl tl wc wa ya) S h) := pe_checkcast (w_cls hA (Cz_d0)) h2
theorem Cz_g0_0 (hP : Cz_P pc tc rc fc qc pa ta ra pl tl wc wa ya) (hA : wok A (Cz_d pc tc rc fc qc pa ta ra pl tl wc wa ya) m) : pm_gf pm_tab (wput A (Cz_d pc tc rc fc qc pa ta ra pl tl wc wa ya) S h) (A (0, 0, 0)) 10 0 = some (wr A 30 (S.1 (0, 0, 0) 0)) := w_g (f := (4, (30, 0, 0))) hA (Cz_d0) rfl rfl
theorem Cz_p0_0 (hP : Cz_P pc tc rc fc qc pa ta ra pl tl wc wa ya) (hA : wok A (Cz_d pc tc rc fc qc pa ta ra pl tl wc wa ya) m) (hv : ¬ v < 0) : pm_pf pm_tab (wput A (Cz_d pc tc rc fc qc pa ta ra pl tl wc wa ya) S h) (A (0, 0, 0)) 10 0 3 (.ref (A (30, v, 0))) = some (wput A (Cz_d pc tc rc fc qc pa ta ra pl tl wc wa ya) (sz S (0, 0, 0) 0 v) h) := w_p4 (q := (30, 0, 0)) hA (Cz_d0) rfl rfl (Nat.le_of_ble_eq_true rfl) (wr_p hv)
theorem Cz_pN0_0 (hP : Cz_P pc tc rc fc qc pa ta ra pl tl wc wa ya) (hA : wok A (Cz_d pc tc rc fc qc pa ta ra pl tl wc wa ya) m) : pm_pf pm_tab (wput A (Cz_d pc tc rc fc qc pa ta ra pl tl wc wa ya) S h) (A (0, 0, 0)) 10 0 3 .null = some (wput A (Cz_d pc tc rc fc qc pa ta ra pl tl wc wa ya) (sz S (0, 0, 0) 0 (-1)) h) := w_p4 (q := (30, 0, 0)) hA (Cz_d0) rfl rfl (Nat.le_of_ble_eq_true rfl) wr_m1
theorem Cz_g0_1 (hP : Cz_P pc tc rc fc qc pa ta ra pl tl wc wa ya) (hA : wok A (Cz_d pc tc rc fc qc pa ta ra pl tl wc wa ya) m) : pm_gf pm_tab (wput A (Cz_d pc tc rc fc qc pa ta ra pl tl wc wa ya) S h) (A (0, 0, 0)) 10 1 = some (.ref (A (1, 0, 0))) := w_g (f := (2, (1, 0, 0))) hA (Cz_d0) rfl rfl
theorem Cz_g0_2 (hP : Cz_P pc tc rc fc qc pa ta ra pl tl wc wa ya) (hA : wok A (Cz_d pc tc rc fc qc pa ta ra pl tl wc wa ya) m) : pm_gf pm_tab (wput A (Cz_d pc tc rc fc qc pa ta ra pl tl wc wa ya) S h) (A (0, 0, 0)) 10 2 = some (.ref (A (3, 0, 0))) := w_g (f := (2, (3, 0, 0))) hA (Cz_d0) rfl rfl
theorem Cz_g0_3 (hP : Cz_P pc tc rc fc qc pa ta ra pl tl wc wa ya) (hA : wok A (Cz_d pc tc rc fc qc pa ta ra pl tl wc wa ya) m) : pm_gf pm_tab (wput A (Cz_d pc tc rc fc qc pa ta ra pl tl wc wa ya) S h) (A (0, 0, 0)) 10 3 = some (.ref (A (5, 0, 0))) := w_g (f := (2, (5, 0, 0))) hA (Cz_d0) rfl rfl
theorem Cz_g0_4 (hP : Cz_P pc tc rc fc qc pa ta ra pl tl wc wa ya) (hA : wok A (Cz_d pc tc rc fc qc pa ta ra pl tl wc wa ya) m) : pm_gf pm_tab (wput A (Cz_d pc tc rc fc qc pa ta ra pl tl wc wa ya) S h) (A (0, 0, 0)) 10 4 = some (wr A 31 (S.1 (0, 0, 0) 4)) := w_g (f := (4, (31, 0, 0))) hA (Cz_d0) rfl rfl
theorem Cz_p0_4 (hP : Cz_P pc tc rc fc qc pa ta ra pl tl wc wa ya) (hA : wok A (Cz_d pc tc rc fc qc pa ta ra pl tl wc wa ya) m) (hv : ¬ v < 0) : pm_pf pm_tab (wput A (Cz_d pc tc rc fc qc pa ta ra pl tl wc wa ya) S h) (A (0, 0, 0)) 10 4 3 (.ref (A (31, v, 0))) = some (wput A (Cz_d pc tc rc fc qc pa ta ra pl tl wc wa ya) (sz S (0, 0, 0) 4 v) h) := w_p4 (q := (31, 0, 0)) hA (Cz_d0) rfl rfl (Nat.le_of_ble_eq_true rfl) (wr_p hv)
theorem Cz_pN0_4 (hP : Cz_P pc tc rc fc qc pa ta ra pl tl wc wa ya) (hA : wok A (Cz_d pc tc rc fc qc pa ta ra pl tl wc wa ya) m) : pm_pf pm_tab (wput A (Cz_d pc tc rc fc qc pa ta ra pl tl wc wa ya) S h) (A (0, 0, 0)) 10 4 3 .null = some (wput A (Cz_d pc tc rc fc qc pa ta ra pl tl wc wa ya) (sz S (0, 0, 0) 4 (-1)) h) := w_p4 (q := (31, 0, 0)) hA (Cz_d0) rfl rfl (Nat.le_of_ble_eq_true rfl) wr_m1
theorem Cz_g0_5 (hP : Cz_P pc tc rc fc qc pa ta ra pl tl wc wa ya) (hA : wok A (Cz_d pc tc rc fc qc pa ta ra pl tl wc wa ya) m) : pm_gf pm_tab (wput A (Cz_d pc tc rc fc qc pa ta ra pl tl wc wa ya) S h) (A (0, 0, 0)) 10 5 = some (.ref (A (7, 0, 0))) := w_g (f := (2, (7, 0, 0))) hA (Cz_d0) rfl rfl
theorem Cz_g0_6 (hP : Cz_P pc tc rc fc qc pa ta ra pl tl wc wa ya) (hA : wok A (Cz_d pc tc rc fc qc pa ta ra pl tl wc wa ya) m) : pm_gf pm_tab (wput A (Cz_d pc tc rc fc qc pa ta ra pl tl wc wa ya) S h) (A (0, 0, 0)) 10 6 = some (.ref (A (8, 0, 0))) := w_g (f := (2, (8, 0, 0))) hA (Cz_d0) rfl rfl
theorem Cz_g0_7 (hP : Cz_P pc tc rc fc qc pa ta ra pl tl wc wa ya) (hA : wok A (Cz_d pc tc rc fc qc pa ta ra pl tl wc wa ya) m) : pm_gf pm_tab (wput A (Cz_d pc tc rc fc qc pa ta ra pl tl wc wa ya) S h) (A (0, 0, 0)) 10 7 = some (.int (S.1 (0, 0, 0) 7)) := w_g (f := (0, (0, 0, 0))) hA (Cz_d0) rfl rfl
theorem Cz_p0_7 (hP : Cz_P pc tc rc fc qc pa ta ra pl tl wc wa ya) (hA : wok A (Cz_d pc tc rc fc qc pa ta ra pl tl wc wa ya) m) : pm_pf pm_tab (wput A (Cz_d pc tc rc fc qc pa ta ra pl tl wc wa ya) S h) (A (0, 0, 0)) 10 7 0 (.int v) = some (wput A (Cz_d pc tc rc fc qc pa ta ra pl tl wc wa ya) (sz S (0, 0, 0) 7 v) h) := w_p0 (q := (0, 0, 0)) (t := 0) hA (Cz_d0) rfl rfl (Nat.le_of_ble_eq_true rfl)
theorem Cz_c1 (hP : Cz_P pc tc rc fc qc pa ta ra pl tl wc wa ya) (hA : wok A (Cz_d pc tc rc fc qc pa ta ra pl tl wc wa ya) m) : pm_cls (wput A (Cz_d pc tc rc fc qc pa ta ra pl tl wc wa ya) S h) (A (1, 0, 0)) = some 63 := w_cls hA (Cz_d1)
theorem Cz_k1 {cl : pm_C} {k b c : Nat} {r : List Instr} {ls s : List Value} (hP : Cz_P pc tc rc fc qc pa ta ra pl tl wc wa ya) (hA : wok A (Cz_d pc tc rc fc qc pa ta ra pl tl wc wa ya) m) (h2 : pm_sub 63 c = true) : pm_ev pm_prog cl k b (.checkcast c :: r) ls (.ref (A (1, 0, 0)) :: s) (wput A (Cz_d pc tc rc fc qc pa ta ra pl tl wc wa ya) S h) = pm_ev pm_prog cl k b r ls (.ref (A (1, 0, 0)) :: s) (wput A (Cz_d pc tc rc fc qc pa ta ra pl tl wc wa ya) S h) := pe_checkcast (w_cls hA (Cz_d1)) h2
theorem Cz_g1_0 (hP : Cz_P pc tc rc fc qc pa ta ra pl tl wc wa ya) (hA : wok A (Cz_d pc tc rc fc qc pa ta ra pl tl wc wa ya) m) : pm_gf pm_tab (wput A (Cz_d pc tc rc fc qc pa ta ra pl tl wc wa ya) S h) (A (1, 0, 0)) 63 0 = some (.int (S.1 (1, 0, 0) 0)) := w_g (f := (0, (0, 0, 0))) hA (Cz_d1) rfl rfl
theorem Cz_p1_0 (hP : Cz_P pc tc rc fc qc pa ta ra pl tl wc wa ya) (hA : wok A (Cz_d pc tc rc fc qc pa ta ra pl tl wc wa ya) m) : pm_pf pm_tab (wput A (Cz_d pc tc rc fc qc pa ta ra pl tl wc wa ya) S h) (A (1, 0, 0)) 63 0 0 (.int v) = some (wput A (Cz_d pc tc rc fc qc pa ta ra pl tl wc wa ya) (sz S (1, 0, 0) 0 v) h) := w_p0 (q := (0, 0, 0)) (t := 0) hA (Cz_d1) rfl rfl (Nat.le_of_ble_eq_true rfl)
theorem Cz_g1_1 (hP : Cz_P pc tc rc fc qc pa ta ra pl tl wc wa ya) (hA : wok A (Cz_d pc tc rc fc qc pa ta ra pl tl wc wa ya) m) (hc : 0 < pa) : pm_gf pm_tab (wput A (Cz_d pc tc rc fc qc pa ta ra pl tl wc wa ya) S h) (A (1, 0, 0)) 63 1 = some (.ref (A (2, 0, 0))) := (w_g (f := (2, if 0 < pa then (2, 0, 0) else (91, 0, 0))) hA (Cz_d1) rfl rfl).trans (by rw [if_pos hc]; rfl)
theorem Cz_gE1_1 (hP : Cz_P pc tc rc fc qc pa ta ra pl tl wc wa ya) (hA : wok A (Cz_d pc tc rc fc qc pa ta ra pl tl wc wa ya) m) (hc : ¬ 0 < pa) : pm_gf pm_tab (wput A (Cz_d pc tc rc fc qc pa ta ra pl tl wc wa ya) S h) (A (1, 0, 0)) 63 1 = some (.ref (A (91, 0, 0))) := (w_g (f := (2, if 0 < pa then (2, 0, 0) else (91, 0, 0))) hA (Cz_d1) rfl rfl).trans (by rw [if_neg hc]; rfl)
theorem Cz_g1_2 (hP : Cz_P pc tc rc fc qc pa ta ra pl tl wc wa ya) (hA : wok A (Cz_d pc tc rc fc qc pa ta ra pl tl wc wa ya) m) : pm_gf pm_tab (wput A (Cz_d pc tc rc fc qc pa ta ra pl tl wc wa ya) S h) (A (1, 0, 0)) 63 2 = some (.int (S.1 (1, 0, 0) 2)) := w_g (f := (0, (0, 0, 0))) hA (Cz_d1) rfl rfl
theorem Cz_p1_2 (hP : Cz_P pc tc rc fc qc pa ta ra pl tl wc wa ya) (hA : wok A (Cz_d pc tc rc fc qc pa ta ra pl tl wc wa ya) m) : pm_pf pm_tab (wput A (Cz_d pc tc rc fc qc pa ta ra pl tl wc wa ya) S h) (A (1, 0, 0)) 63 2 0 (.int v) = some (wput A (Cz_d pc tc rc fc qc pa ta ra pl tl wc wa ya) (sz S (1, 0, 0) 2 v) h) := w_p0 (q := (0, 0, 0)) (t := 0) hA (Cz_d1) rfl rfl (Nat.le_of_ble_eq_true rfl)
theorem Cz_l2 (hP : Cz_P pc tc rc fc qc pa ta ra pl tl wc wa ya) (hA : wok A (Cz_d pc tc rc fc qc pa ta ra pl tl wc wa ya) m) : pm_len (wput A (Cz_d pc tc rc fc qc pa ta ra pl tl wc wa ya) S h) (A (2, 0, 0)) = some (wn pa) := w_lenR hA (Cz_d2) (by decide)
theorem Cz_r2 (hP : Cz_P pc tc rc fc qc pa ta ra pl tl wc wa ya) (hA : wok A (Cz_d pc tc rc fc qc pa ta ra pl tl wc wa ya) m) (hx : 0 ≤ x ∧ x < pa) (hn : x < pc) : pm_rdR (wput A (Cz_d pc tc rc fc qc pa ta ra pl tl wc wa ya) S h) (A (2, 0, 0)) x = some (some (A (10, x, 0))) := ((w_rdR hA (Cz_d2) rfl (wn_le _)).trans (if_pos (wn_in (hP.2.2.2.2.2.1) hx))).trans (congrArg some (congrArg (Option.map A) (if_pos hn)))
theorem Cz_c10 (hP : Cz_P pc tc rc fc qc pa ta ra pl tl wc wa ya) (hA : wok A (Cz_d pc tc rc fc qc pa ta ra pl tl wc wa ya) m) (h0 : 0 ≤ i ∧ i < pc) : pm_cls (wput A (Cz_d pc tc rc fc qc pa ta ra pl tl wc wa ya) S h) (A (10, i, 0)) = some 43 := w_cls hA (Cz_d10 h0)
theorem Cz_k10 {cl : pm_C} {k b c : Nat} {r : List Instr} {ls s : List Value} (hP : Cz_P pc tc rc fc qc pa ta ra pl tl wc wa ya) (hA : wok A (Cz_d pc tc rc fc qc pa ta ra pl tl wc wa ya) m) (h0 : 0 ≤ i ∧ i < pc) (h2 : pm_sub 43 c = true) : pm_ev pm_prog cl k b (.checkcast c :: r) ls (.ref (A (10, i, 0)) :: s) (wput A (Cz_d pc tc rc fc qc pa ta ra pl tl wc wa ya) S h) = pm_ev pm_prog cl k b r ls (.ref (A (10, i, 0)) :: s) (wput A (Cz_d pc tc rc fc qc pa ta ra pl tl wc wa ya) S h) := pe_checkcast (w_cls hA (Cz_d10 h0)) h2
theorem Cz_g10_0 (hP : Cz_P pc tc rc fc qc pa ta ra pl tl wc wa ya) (hA : wok A (Cz_d pc tc rc fc qc pa ta ra pl tl wc wa ya) m) (h0 : 0 ≤ i ∧ i < pc) : pm_gf pm_tab (wput A (Cz_d pc tc rc fc qc pa ta ra pl tl wc wa ya) S h) (A (10, i, 0)) 43 0 = some (.ref (A (11, i, 0))) := w_g (f := (2, (11, i, 0))) hA (Cz_d10 h0) rfl rfl
theorem Cz_g10_1 (hP : Cz_P pc tc rc fc qc pa ta ra pl tl wc wa ya) (hA : wok A (Cz_d pc tc rc fc qc pa ta ra pl tl wc wa ya) m) (h0 : 0 ≤ i ∧ i < pc) : pm_gf pm_tab (wput A (Cz_d pc tc rc fc qc pa ta ra pl tl wc wa ya) S h) (A (10, i, 0)) 43 1 = some (.int (S.1 (10, i, 0) 1)) := w_g (f := (0, (0, 0, 0))) hA (Cz_d10 h0) rfl rfl
theorem Cz_p10_1 (hP : Cz_P pc tc rc fc qc pa ta ra pl tl wc wa ya) (hA : wok A (Cz_d pc tc rc fc qc pa ta ra pl tl wc wa ya) m) (h0 : 0 ≤ i ∧ i < pc) : pm_pf pm_tab (wput A (Cz_d pc tc rc fc qc pa ta ra pl tl wc wa ya) S h) (A (10, i, 0)) 43 1 0 (.int v) = some (wput A (Cz_d pc tc rc fc qc pa ta ra pl tl wc wa ya) (sz S (10, i, 0) 1 v) h) := w_p0 (q := (0, 0, 0)) (t := 0) hA (Cz_d10 h0) rfl rfl (Nat.le_of_ble_eq_true rfl)
theorem Cz_l11 (hP : Cz_P pc tc rc fc qc pa ta ra pl tl wc wa ya) (hA : wok A (Cz_d pc tc rc fc qc pa ta ra pl tl wc wa ya) m) (h0 : 0 ≤ i ∧ i < pc) : pm_len (wput A (Cz_d pc tc rc fc qc pa ta ra pl tl wc wa ya) S h) (A (11, i, 0)) = some (wn (pl i)) := w_len hA (Cz_d11 h0) (by decide)
theorem Cz_r11 (hP : Cz_P pc tc rc fc qc pa ta ra pl tl wc wa ya) (hA : wok A (Cz_d pc tc rc fc qc pa ta ra pl tl wc wa ya) m) (h0 : 0 ≤ i ∧ i < pc) (hx : 0 ≤ x ∧ x < (pl i)) : pm_rd pm_isI (wput A (Cz_d pc tc rc fc qc pa ta ra pl tl wc wa ya) S h) (A (11, i, 0)) x = some (S.1 (11, i, 0) x) := (w_rd (t := .int) hA (Cz_d11 h0) rfl (by decide) (wn_le _)).trans (if_pos (wn_in (hP.2.2.2.2.2.2.2.2.1 i) hx))
theorem Cz_w11 (hP : Cz_P pc tc rc fc qc pa ta ra pl tl wc wa ya) (hA : wok A (Cz_d pc tc rc fc qc pa ta ra pl tl wc wa ya) m) (h0 : 0 ≤ i ∧ i < pc) (hx : 0 ≤ x ∧ x < (pl i)) : pm_wr pm_wI (wput A (Cz_d pc tc rc fc qc pa ta ra pl tl wc wa ya) S h) (A (11, i, 0)) x v = some (wput A (Cz_d pc tc rc fc qc pa ta ra pl tl wc wa ya) (sz S (11, i, 0) x v) h) := (w_wr (t := .int) hA (Cz_d11 h0) rfl (by decide) (wn_le _)).trans (if_pos (wn_in (hP.2.2.2.2.2.2.2.2.1 i) hx))
theorem Cz_c3 (hP : Cz_P pc tc rc fc qc pa ta ra pl tl wc wa ya) (hA : wok A (Cz_d pc tc rc fc qc pa ta ra pl tl wc wa ya) m) : pm_cls (wput A (Cz_d pc tc rc fc qc pa ta ra pl tl wc wa ya) S h) (A (3, 0, 0)) = some 63 := w_cls hA (Cz_d3)
theorem Cz_k3 {cl : pm_C} {k b c : Nat} {r : List Instr} {ls s : List Value} (hP : Cz_P pc tc rc fc qc pa ta ra pl tl wc wa ya) (hA : wok A (Cz_d pc tc rc fc qc pa ta ra pl tl wc wa ya) m) (h2 : pm_sub 63 c = true) : pm_ev pm_prog cl k b (.checkcast c :: r) ls (.ref (A (3, 0, 0)) :: s) (wput A (Cz_d pc tc rc fc qc pa ta ra pl tl wc wa ya) S h) = pm_ev pm_prog cl k b r ls (.ref (A (3, 0, 0)) :: s) (wput A (Cz_d pc tc rc fc qc pa ta ra pl tl wc wa ya) S h) := pe_checkcast (w_cls hA (Cz_d3)) h2
theorem Cz_g3_0 (hP : Cz_P pc tc rc fc qc pa ta ra pl tl wc wa ya) (hA : wok A (Cz_d pc tc rc fc qc pa ta ra pl tl wc wa ya) m) : pm_gf pm_tab (wput A (Cz_d pc tc rc fc qc pa ta ra pl tl wc wa ya) S h) (A (3, 0, 0)) 63 0 = some (.int (S.1 (3, 0, 0) 0)) := w_g (f := (0, (0, 0, 0))) hA (Cz_d3) rfl rfl
theorem Cz_p3_0 (hP : Cz_P pc tc rc fc qc pa ta ra pl tl wc wa ya) (hA : wok A (Cz_d pc tc rc fc qc pa ta ra pl tl wc wa ya) m) : pm_pf pm_tab (wput A (Cz_d pc tc rc fc qc pa ta ra pl tl wc wa ya) S h) (A (3, 0, 0)) 63 0 0 (.int v) = some (wput A (Cz_d pc tc rc fc qc pa ta ra pl tl wc wa ya) (sz S (3, 0, 0) 0 v) h) := w_p0 (q := (0, 0, 0)) (t := 0) hA (Cz_d3) rfl rfl (Nat.le_of_ble_eq_true rfl)
theorem Cz_g3_1 (hP : Cz_P pc tc rc fc qc pa ta ra pl tl wc wa ya) (hA : wok A (Cz_d pc tc rc fc qc pa ta ra pl tl wc wa ya) m) (hc : 0 < ta) : pm_gf pm_tab (wput A (Cz_d pc tc rc fc qc pa ta ra pl tl wc wa ya) S h) (A (3, 0, 0)) 63 1 = some (.ref (A (4, 0, 0))) := (w_g (f := (2, if 0 < ta then (4, 0, 0) else (91, 0, 0))) hA (Cz_d3) rfl rfl).trans (by rw [if_pos hc]; rfl)
theorem Cz_gE3_1 (hP : Cz_P pc tc rc fc qc pa ta ra pl tl wc wa ya) (hA : wok A (Cz_d pc tc rc fc qc pa ta ra pl tl wc wa ya) m) (hc : ¬ 0 < ta) : pm_gf pm_tab (wput A (Cz_d pc tc rc fc qc pa ta ra pl tl wc wa ya) S h) (A (3, 0, 0)) 63 1 = some (.ref (A (91, 0, 0))) := (w_g (f := (2, if 0 < ta then (4, 0, 0) else (91, 0, 0))) hA (Cz_d3) rfl rfl).trans (by rw [if_neg hc]; rfl)
theorem Cz_g3_2 (hP : Cz_P pc tc rc fc qc pa ta ra pl tl wc wa ya) (hA : wok A (Cz_d pc tc rc fc qc pa ta ra pl tl wc wa ya) m) : pm_gf pm_tab (wput A (Cz_d pc tc rc fc qc pa ta ra pl tl wc wa ya) S h) (A (3, 0, 0)) 63 2 = some (.int (S.1 (3, 0, 0) 2)) := w_g (f := (0, (0, 0, 0))) hA (Cz_d3) rfl rfl
theorem Cz_p3_2 (hP : Cz_P pc tc rc fc qc pa ta ra pl tl wc wa ya) (hA : wok A (Cz_d pc tc rc fc qc pa ta ra pl tl wc wa ya) m) : pm_pf pm_tab (wput A (Cz_d pc tc rc fc qc pa ta ra pl tl wc wa ya) S h) (A (3, 0, 0)) 63 2 0 (.int v) = some (wput A (Cz_d pc tc rc fc qc pa ta ra pl tl wc wa ya) (sz S (3, 0, 0) 2 v) h) := w_p0 (q := (0, 0, 0)) (t := 0) hA (Cz_d3) rfl rfl (Nat.le_of_ble_eq_true rfl)
theorem Cz_l4 (hP : Cz_P pc tc rc fc qc pa ta ra pl tl wc wa ya) (hA : wok A (Cz_d pc tc rc fc qc pa ta ra pl tl wc wa ya) m) : pm_len (wput A (Cz_d pc tc rc fc qc pa ta ra pl tl wc wa ya) S h) (A (4, 0, 0)) = some (wn ta) := w_lenR hA (Cz_d4) (by decide)
theorem Cz_r4 (hP : Cz_P pc tc rc fc qc pa ta ra pl tl wc wa ya) (hA : wok A (Cz_d pc tc rc fc qc pa ta ra pl tl wc wa ya) m) (hx : 0 ≤ x ∧ x < ta) (hn : x < tc) : pm_rdR (wput A (Cz_d pc tc rc fc qc pa ta ra pl tl wc wa ya) S h) (A (4, 0, 0)) x = some (some (A (12, x, 0))) := ((w_rdR hA (Cz_d4) rfl (wn_le _)).trans (if_pos (wn_in (hP.2.2.2.2.2.2.1) hx))).trans (congrArg some (congrArg (Option.map A) (if_pos hn)))
theorem Cz_c12 (hP : Cz_P pc tc rc fc qc pa ta ra pl tl wc wa ya) (hA : wok A (Cz_d pc tc rc fc qc pa ta ra pl tl wc wa ya) m) (h0 : 0 ≤ i ∧ i < tc) : pm_cls (wput A (Cz_d pc tc rc fc qc pa ta ra pl tl wc wa ya) S h) (A (12, i, 0)) = some 44 := w_cls hA (Cz_d12 h0)
theorem Cz_k12 {cl : pm_C} {k b c : Nat} {r : List Instr} {ls s : List Value} (hP : Cz_P pc tc rc fc qc pa ta ra pl tl wc wa ya) (hA : wok A (Cz_d pc tc rc fc qc pa ta ra pl tl wc wa ya) m) (h0 : 0 ≤ i ∧ i < tc) (h2 : pm_sub 44 c = true) : pm_ev pm_prog cl k b (.checkcast c :: r) ls (.ref (A (12, i, 0)) :: s) (wput A (Cz_d pc tc rc fc qc pa ta ra pl tl wc wa ya) S h) = pm_ev pm_prog cl k b r ls (.ref (A (12, i, 0)) :: s) (wput A (Cz_d pc tc rc fc qc pa ta ra pl tl wc wa ya) S h) := pe_checkcast (w_cls hA (Cz_d12 h0)) h2
theorem Cz_g12_0 (hP : Cz_P pc tc rc fc qc pa ta ra pl tl wc wa ya) (hA : wok A (Cz_d pc tc rc fc qc pa ta ra pl tl wc wa ya) m) (h0 : 0 ≤ i ∧ i < tc) : pm_gf pm_tab (wput A (Cz_d pc tc rc fc qc pa ta ra pl tl wc wa ya) S h) (A (12, i, 0)) 44 0 = some (.int (S.1 (12, i, 0) 0)) := w_g (f := (0, (0, 0, 0))) hA (Cz_d12 h0) rfl rfl
theorem Cz_p12_0 (hP : Cz_P pc tc rc fc qc pa ta ra pl tl wc wa ya) (hA : wok A (Cz_d pc tc rc fc qc pa ta ra pl tl wc wa ya) m) (h0 : 0 ≤ i ∧ i < tc) : pm_pf pm_tab (wput A (Cz_d pc tc rc fc qc pa ta ra pl tl wc wa ya) S h) (A (12, i, 0)) 44 0 0 (.int v) = some (wput A (Cz_d pc tc rc fc qc pa ta ra pl tl wc wa ya) (sz S (12, i, 0) 0 v) h) := w_p0 (q := (0, 0, 0)) (t := 0) hA (Cz_d12 h0) rfl rfl (Nat.le_of_ble_eq_true rfl)
theorem Cz_g12_1 (hP : Cz_P pc tc rc fc qc pa ta ra pl tl wc wa ya) (hA : wok A (Cz_d pc tc rc fc qc pa ta ra pl tl wc wa ya) m) (h0 : 0 ≤ i ∧ i < tc) : pm_gf pm_tab (wput A (Cz_d pc tc rc fc qc pa ta ra pl tl wc wa ya) S h) (A (12, i, 0)) 44 1 = some (.ref (A (13, i, 0))) := w_g (f := (2, (13, i, 0))) hA (Cz_d12 h0) rfl rfl
theorem Cz_l13 (hP : Cz_P pc tc rc fc qc pa ta ra pl tl wc wa ya) (hA : wok A (Cz_d pc tc rc fc qc pa ta ra pl tl wc wa ya) m) (h0 : 0 ≤ i ∧ i < tc) : pm_len (wput A (Cz_d pc tc rc fc qc pa ta ra pl tl wc wa ya) S h) (A (13, i, 0)) = some (wn (tl i)) := w_len hA (Cz_d13 h0) (by decide)
theorem Cz_r13 (hP : Cz_P pc tc rc fc qc pa ta ra pl tl wc wa ya) (hA : wok A (Cz_d pc tc rc fc qc pa ta ra pl tl wc wa ya) m) (h0 : 0 ≤ i ∧ i < tc) (hx : 0 ≤ x ∧ x < (tl i)) : pm_rd pm_isI (wput A (Cz_d pc tc rc fc qc pa ta ra pl tl wc wa ya) S h) (A (13, i, 0)) x = some (S.1 (13, i, 0) x) := (w_rd (t := .int) hA (Cz_d13 h0) rfl (by decide) (wn_le _)).trans (if_pos (wn_in (hP.2.2.2.2.2.2.2.2.2.1 i) hx))
theorem Cz_w13 (hP : Cz_P pc tc rc fc qc pa ta ra pl tl wc wa ya) (hA : wok A (Cz_d pc tc rc fc qc pa ta ra pl tl wc wa ya) m) (h0 : 0 ≤ i ∧ i < tc) (hx : 0 ≤ x ∧ x < (tl i)) : pm_wr pm_wI (wput A (Cz_d pc tc rc fc qc pa ta ra pl tl wc wa ya) S h) (A (13, i, 0)) x v = some (wput A (Cz_d pc tc rc fc qc pa ta ra pl tl wc wa ya) (sz S (13, i, 0) x v) h) := (w_wr (t := .int) hA (Cz_d13 h0) rfl (by decide) (wn_le _)).trans (if_pos (wn_in (hP.2.2.2.2.2.2.2.2.2.1 i) hx))
theorem Cz_c5 (hP : Cz_P pc tc rc fc qc pa ta ra pl tl wc wa ya) (hA : wok A (Cz_d pc tc rc fc qc pa ta ra pl tl wc wa ya) m) : pm_cls (wput A (Cz_d pc tc rc fc qc pa ta ra pl tl wc wa ya) S h) (A (5, 0, 0)) = some 63 := w_cls hA (Cz_d5)
theorem Cz_k5 {cl : pm_C} {k b c : Nat} {r : List Instr} {ls s : List Value} (hP : Cz_P pc tc rc fc qc pa ta ra pl tl wc wa ya) (hA : wok A (Cz_d pc tc rc fc qc pa ta ra pl tl wc wa ya) m) (h2 : pm_sub 63 c = true) : pm_ev pm_prog cl k b (.checkcast c :: r) ls (.ref (A (5, 0, 0)) :: s) (wput A (Cz_d pc tc rc fc qc pa ta ra pl tl wc wa ya) S h) = pm_ev pm_prog cl k b r ls (.ref (A (5, 0, 0)) :: s) (wput A (Cz_d pc tc rc fc qc pa ta ra pl tl wc wa ya) S h) := pe_checkcast (w_cls hA (Cz_d5)) h2
theorem Cz_g5_0 (hP : Cz_P pc tc rc fc qc pa ta ra pl tl wc wa ya) (hA : wok A (Cz_d pc tc rc fc qc pa ta ra pl tl wc wa ya) m) : pm_gf pm_tab (wput A (Cz_d pc tc rc fc qc pa ta ra pl tl wc wa ya) S h) (A (5, 0, 0)) 63 0 = some (.int (S.1 (5, 0, 0) 0)) := w_g (f := (0, (0, 0, 0))) hA (Cz_d5) rfl rfl
theorem Cz_p5_0 (hP : Cz_P pc tc rc fc qc pa ta ra pl tl wc wa ya) (hA : wok A (Cz_d pc tc rc fc qc pa ta ra pl tl wc wa ya) m) : pm_pf pm_tab (wput A (Cz_d pc tc rc fc qc pa ta ra pl tl wc wa ya) S h) (A (5, 0, 0)) 63 0 0 (.int v) = some (wput A (Cz_d pc tc rc fc qc pa ta ra pl tl wc wa ya) (sz S (5, 0, 0) 0 v) h) := w_p0 (q := (0, 0, 0)) (t := 0) hA (Cz_d5) rfl rfl (Nat.le_of_ble_eq_true rfl)
theorem Cz_g5_1 (hP : Cz_P pc tc rc fc qc pa ta ra pl tl wc wa ya) (hA : wok A (Cz_d pc tc rc fc qc pa ta ra pl tl wc wa ya) m) (hc : 0 < ra) : pm_gf pm_tab (wput A (Cz_d pc tc rc fc qc pa ta ra pl tl wc wa ya) S h) (A (5, 0, 0)) 63 1 = some (.ref (A (6, 0, 0))) := (w_g (f := (2, if 0 < ra then (6, 0, 0) else (91, 0, 0))) hA (Cz_d5) rfl rfl).trans (by rw [if_pos hc]; rfl)
theorem Cz_gE5_1 (hP : Cz_P pc tc rc fc qc pa ta ra pl tl wc wa ya) (hA : wok A (Cz_d pc tc rc fc qc pa ta ra pl tl wc wa ya) m) (hc : ¬ 0 < ra) : pm_gf pm_tab (wput A (Cz_d pc tc rc fc qc pa ta ra pl tl wc wa ya) S h) (A (5, 0, 0)) 63 1 = some (.ref (A (91, 0, 0))) := (w_g (f := (2, if 0 < ra then (6, 0, 0) else (91, 0, 0))) hA (Cz_d5) rfl rfl).trans (by rw [if_neg hc]; rfl)
theorem Cz_g5_2 (hP : Cz_P pc tc rc fc qc pa ta ra pl tl wc wa ya) (hA : wok A (Cz_d pc tc rc fc qc pa ta ra pl tl wc wa ya) m) : pm_gf pm_tab (wput A (Cz_d pc tc rc fc qc pa ta ra pl tl wc wa ya) S h) (A (5, 0, 0)) 63 2 = some (.int (S.1 (5, 0, 0) 2)) := w_g (f := (0, (0, 0, 0))) hA (Cz_d5) rfl rfl
theorem Cz_p5_2 (hP : Cz_P pc tc rc fc qc pa ta ra pl tl wc wa ya) (hA : wok A (Cz_d pc tc rc fc qc pa ta ra pl tl wc wa ya) m) : pm_pf pm_tab (wput A (Cz_d pc tc rc fc qc pa ta ra pl tl wc wa ya) S h) (A (5, 0, 0)) 63 2 0 (.int v) = some (wput A (Cz_d pc tc rc fc qc pa ta ra pl tl wc wa ya) (sz S (5, 0, 0) 2 v) h) := w_p0 (q := (0, 0, 0)) (t := 0) hA (Cz_d5) rfl rfl (Nat.le_of_ble_eq_true rfl)
theorem Cz_l6 (hP : Cz_P pc tc rc fc qc pa ta ra pl tl wc wa ya) (hA : wok A (Cz_d pc tc rc fc qc pa ta ra pl tl wc wa ya) m) : pm_len (wput A (Cz_d pc tc rc fc qc pa ta ra pl tl wc wa ya) S h) (A (6, 0, 0)) = some (wn ra) := w_lenR hA (Cz_d6) (by decide)
theorem Cz_r6 (hP : Cz_P pc tc rc fc qc pa ta ra pl tl wc wa ya) (hA : wok A (Cz_d pc tc rc fc qc pa ta ra pl tl wc wa ya) m) (hx : 0 ≤ x ∧ x < ra) (hn : x < rc) : pm_rdR (wput A (Cz_d pc tc rc fc qc pa ta ra pl tl wc wa ya) S h) (A (6, 0, 0)) x = some (some (A (14, x, 0))) := ((w_rdR hA (Cz_d6) rfl (wn_le _)).trans (if_pos (wn_in (hP.2.2.2.2.2.2.2.1) hx))).trans (congrArg some (congrArg (Option.map A) (if_pos hn)))
theorem Cz_c14 (hP : Cz_P pc tc rc fc qc pa ta ra pl tl wc wa ya) (hA : wok A (Cz_d pc tc rc fc qc pa ta ra pl tl wc wa ya) m) (h0 : 0 ≤ i ∧ i < rc) : pm_cls (wput A (Cz_d pc tc rc fc qc pa ta ra pl tl wc wa ya) S h) (A (14, i, 0)) = some 63 := w_cls hA (Cz_d14 h0)
theorem Cz_k14 {cl : pm_C} {k b c : Nat} {r : List Instr} {ls s : List Value} (hP : Cz_P pc tc rc fc qc pa ta ra pl tl wc wa ya) (hA : wok A (Cz_d pc tc rc fc qc pa ta ra pl tl wc wa ya) m) (h0 : 0 ≤ i ∧ i < rc) (h2 : pm_sub 63 c = true) : pm_ev pm_prog cl k b (.checkcast c :: r) ls (.ref (A (14, i, 0)) :: s) (wput A (Cz_d pc tc rc fc qc pa ta ra pl tl wc wa ya) S h) = pm_ev pm_prog cl k b r ls (.ref (A (14, i, 0)) :: s) (wput A (Cz_d pc tc rc fc qc pa ta ra pl tl wc wa ya) S h) := pe_checkcast (w_cls hA (Cz_d14 h0)) h2
theorem Cz_g14_0 (hP : Cz_P pc tc rc fc qc pa ta ra pl tl wc wa ya) (hA : wok A (Cz_d pc tc rc fc qc pa ta ra pl tl wc wa ya) m) (h0 : 0 ≤ i ∧ i < rc) : pm_gf pm_tab (wput A (Cz_d pc tc rc fc qc pa ta ra pl tl wc wa ya) S h) (A (14, i, 0)) 63 0 = some (.int (S.1 (14, i, 0) 0)) := w_g (f := (0, (0, 0, 0))) hA (Cz_d14 h0) rfl rfl
theorem Cz_p14_0 (hP : Cz_P pc tc rc fc qc pa ta ra pl tl wc wa ya) (hA : wok A (Cz_d pc tc rc fc qc pa ta ra pl tl wc wa ya) m) (h0 : 0 ≤ i ∧ i < rc) : pm_pf pm_tab (wput A (Cz_d pc tc rc fc qc pa ta ra pl tl wc wa ya) S h) (A (14, i, 0)) 63 0 0 (.int v) = some (wput A (Cz_d pc tc rc fc qc pa ta ra pl tl wc wa ya) (sz S (14, i, 0) 0 v) h) := w_p0 (q := (0, 0, 0)) (t := 0) hA (Cz_d14 h0) rfl rfl (Nat.le_of_ble_eq_true rfl)
theorem Cz_g14_1 (hP : Cz_P pc tc rc fc qc pa ta ra pl tl wc wa ya) (hA : wok A (Cz_d pc tc rc fc qc pa ta ra pl tl wc wa ya) m) (h0 : 0 ≤ i ∧ i < rc) (hc : 0 < (wa i)) : pm_gf pm_tab (wput A (Cz_d pc tc rc fc qc pa ta ra pl tl wc wa ya) S h) (A (14, i, 0)) 63 1 = some (.ref (A (15, i, 0))) := (w_g (f := (2, if 0 < (wa i) then (15, i, 0) else (91, 0, 0))) hA (Cz_d14 h0) rfl rfl).trans (by rw [if_pos hc]; rfl)
theorem Cz_gE14_1 (hP : Cz_P pc tc rc fc qc pa ta ra pl tl wc wa ya) (hA : wok A (Cz_d pc tc rc fc qc pa ta ra pl tl wc wa ya) m) (h0 : 0 ≤ i ∧ i < rc) (hc : ¬ 0 < (wa i)) : pm_gf pm_tab (wput A (Cz_d pc tc rc fc qc pa ta ra pl tl wc wa ya) S h) (A (14, i, 0)) 63 1 = some (.ref (A (91, 0, 0))) := (w_g (f := (2, if 0 < (wa i) then (15, i, 0) else (91, 0, 0))) hA (Cz_d14 h0) rfl rfl).trans (by rw [if_neg hc]; rfl)
theorem Cz_g14_2 (hP : Cz_P pc tc rc fc qc pa ta ra pl tl wc wa ya) (hA : wok A (Cz_d pc tc rc fc qc pa ta ra pl tl wc wa ya) m) (h0 : 0 ≤ i ∧ i < rc) : pm_gf pm_tab (wput A (Cz_d pc tc rc fc qc pa ta ra pl tl wc wa ya) S h) (A (14, i, 0)) 63 2 = some (.int (S.1 (14, i, 0) 2)) := w_g (f := (0, (0, 0, 0))) hA (Cz_d14 h0) rfl rfl
theorem Cz_p14_2 (hP : Cz_P pc tc rc fc qc pa ta ra pl tl wc wa ya) (hA : wok A (Cz_d pc tc rc fc qc pa ta ra pl tl wc wa ya) m) (h0 : 0 ≤ i ∧ i < rc) : pm_pf pm_tab (wput A (Cz_d pc tc rc fc qc pa ta ra pl tl wc wa ya) S h) (A (14, i, 0)) 63 2 0 (.int v) = some (wput A (Cz_d pc tc rc fc qc pa ta ra pl tl wc wa ya) (sz S (14, i, 0) 2 v) h) := w_p0 (q := (0, 0, 0)) (t := 0) hA (Cz_d14 h0) rfl rfl (Nat.le_of_ble_eq_true rfl)
theorem Cz_l15 (hP : Cz_P pc tc rc fc qc pa ta ra pl tl wc wa ya) (hA : wok A (Cz_d pc tc rc fc qc pa ta ra pl tl wc wa ya) m) (h0 : 0 ≤ i ∧ i < rc) : pm_len (wput A (Cz_d pc tc rc fc qc pa ta ra pl tl wc wa ya) S h) (A (15, i, 0)) = some (wn (wa i)) := w_lenR hA (Cz_d15 h0) (by decide)
theorem Cz_r15 (hP : Cz_P pc tc rc fc qc pa ta ra pl tl wc wa ya) (hA : wok A (Cz_d pc tc rc fc qc pa ta ra pl tl wc wa ya) m) (h0 : 0 ≤ i ∧ i < rc) (hx : 0 ≤ x ∧ x < (wa i)) (hn : x < (wc i)) : pm_rdR (wput A (Cz_d pc tc rc fc qc pa ta ra pl tl wc wa ya) S h) (A (15, i, 0)) x = some (some (A (16, i, x))) := ((w_rdR hA (Cz_d15 h0) rfl (wn_le _)).trans (if_pos (wn_in (hP.2.2.2.2.2.2.2.2.2.2.2.1 i) hx))).trans (congrArg some (congrArg (Option.map A) (if_pos hn)))
theorem Cz_c16 (hP : Cz_P pc tc rc fc qc pa ta ra pl tl wc wa ya) (hA : wok A (Cz_d pc tc rc fc qc pa ta ra pl tl wc wa ya) m) (h0 : 0 ≤ i ∧ i < rc) (h1 : 0 ≤ j ∧ j < (wc i)) : pm_cls (wput A (Cz_d pc tc rc fc qc pa ta ra pl tl wc wa ya) S h) (A (16, i, j)) = some 45 := w_cls hA (Cz_d16 h0 h1)
theorem Cz_k16 {cl : pm_C} {k b c : Nat} {r : List Instr} {ls s : List Value} (hP : Cz_P pc tc rc fc qc pa ta ra pl tl wc wa ya) (hA : wok A (Cz_d pc tc rc fc qc pa ta ra pl tl wc wa ya) m) (h0 : 0 ≤ i ∧ i < rc) (h1 : 0 ≤ j ∧ j < (wc i)) (h2 : pm_sub 45 c = true) : pm_ev pm_prog cl k b (.checkcast c :: r) ls (.ref (A (16, i, j)) :: s) (wput A (Cz_d pc tc rc fc qc pa ta ra pl tl wc wa ya) S h) = pm_ev pm_prog cl k b r ls (.ref (A (16, i, j)) :: s) (wput A (Cz_d pc tc rc fc qc pa ta ra pl tl wc wa ya) S h) := pe_checkcast (w_cls hA (Cz_d16 h0 h1)) h2
theorem Cz_g16_0 (hP : Cz_P pc tc rc fc qc pa ta ra pl tl wc wa ya) (hA : wok A (Cz_d pc tc rc fc qc pa ta ra pl tl wc wa ya) m) (h0 : 0 ≤ i ∧ i < rc) (h1 : 0 ≤ j ∧ j < (wc i)) : pm_gf pm_tab (wput A (Cz_d pc tc rc fc qc pa ta ra pl tl wc wa ya) S h) (A (16, i, j)) 45 0 = some (.long (S.2 (16, i, j) 0)) := w_g (f := (1, (0, 0, 0))) hA (Cz_d16 h0 h1) rfl rfl
theorem Cz_p16_0 (hP : Cz_P pc tc rc fc qc pa ta ra pl tl wc wa ya) (hA : wok A (Cz_d pc tc rc fc qc pa ta ra pl tl wc wa ya) m) (h0 : 0 ≤ i ∧ i < rc) (h1 : 0 ≤ j ∧ j < (wc i)) : pm_pf pm_tab (wput A (Cz_d pc tc rc fc qc pa ta ra pl tl wc wa ya) S h) (A (16, i, j)) 45 0 1 (.long u) = some (wput A (Cz_d pc tc rc fc qc pa ta ra pl tl wc wa ya) (sl S (16, i, j) 0 u) h) := w_p1 (q := (0, 0, 0)) hA (Cz_d16 h0 h1) rfl rfl (Nat.le_of_ble_eq_true rfl)
theorem Cz_g16_1 (hP : Cz_P pc tc rc fc qc pa ta ra pl tl wc wa ya) (hA : wok A (Cz_d pc tc rc fc qc pa ta ra pl tl wc wa ya) m) (h0 : 0 ≤ i ∧ i < rc) (h1 : 0 ≤ j ∧ j < (wc i)) : pm_gf pm_tab (wput A (Cz_d pc tc rc fc qc pa ta ra pl tl wc wa ya) S h) (A (16, i, j)) 45 1 = some (.long (S.2 (16, i, j) 1)) := w_g (f := (1, (0, 0, 0))) hA (Cz_d16 h0 h1) rfl rfl
theorem Cz_p16_1 (hP : Cz_P pc tc rc fc qc pa ta ra pl tl wc wa ya) (hA : wok A (Cz_d pc tc rc fc qc pa ta ra pl tl wc wa ya) m) (h0 : 0 ≤ i ∧ i < rc) (h1 : 0 ≤ j ∧ j < (wc i)) : pm_pf pm_tab (wput A (Cz_d pc tc rc fc qc pa ta ra pl tl wc wa ya) S h) (A (16, i, j)) 45 1 1 (.long u) = some (wput A (Cz_d pc tc rc fc qc pa ta ra pl tl wc wa ya) (sl S (16, i, j) 1 u) h) := w_p1 (q := (0, 0, 0)) hA (Cz_d16 h0 h1) rfl rfl (Nat.le_of_ble_eq_true rfl)
theorem Cz_l7 (hP : Cz_P pc tc rc fc qc pa ta ra pl tl wc wa ya) (hA : wok A (Cz_d pc tc rc fc qc pa ta ra pl tl wc wa ya) m) : pm_len (wput A (Cz_d pc tc rc fc qc pa ta ra pl tl wc wa ya) S h) (A (7, 0, 0)) = some 8 := w_len hA (Cz_d7) (by decide)
theorem Cz_r7 (hP : Cz_P pc tc rc fc qc pa ta ra pl tl wc wa ya) (hA : wok A (Cz_d pc tc rc fc qc pa ta ra pl tl wc wa ya) m) (hx : 0 ≤ x ∧ x < 8) : pm_rd pm_isI (wput A (Cz_d pc tc rc fc qc pa ta ra pl tl wc wa ya) S h) (A (7, 0, 0)) x = some (S.1 (7, 0, 0) x) := (w_rd (t := .int) hA (Cz_d7) rfl (by decide) (by decide)).trans (if_pos hx)
theorem Cz_w7 (hP : Cz_P pc tc rc fc qc pa ta ra pl tl wc wa ya) (hA : wok A (Cz_d pc tc rc fc qc pa ta ra pl tl wc wa ya) m) (hx : 0 ≤ x ∧ x < 8) : pm_wr pm_wI (wput A (Cz_d pc tc rc fc qc pa ta ra pl tl wc wa ya) S h) (A (7, 0, 0)) x v = some (wput A (Cz_d pc tc rc fc qc pa ta ra pl tl wc wa ya) (sz S (7, 0, 0) x v) h) := (w_wr (t := .int) hA (Cz_d7) rfl (by decide) (by decide)).trans (if_pos hx)
theorem Cz_l8 (hP : Cz_P pc tc rc fc qc pa ta ra pl tl wc wa ya) (hA : wok A (Cz_d pc tc rc fc qc pa ta ra pl tl wc wa ya) m) : pm_len (wput A (Cz_d pc tc rc fc qc pa ta ra pl tl wc wa ya) S h) (A (8, 0, 0)) = some 8 := w_len hA (Cz_d8) (by decide)
theorem Cz_r8 (hP : Cz_P pc tc rc fc qc pa ta ra pl tl wc wa ya) (hA : wok A (Cz_d pc tc rc fc qc pa ta ra pl tl wc wa ya) m) (hx : 0 ≤ x ∧ x < 8) : pm_rd pm_isI (wput A (Cz_d pc tc rc fc qc pa ta ra pl tl wc wa ya) S h) (A (8, 0, 0)) x = some (S.1 (8, 0, 0) x) := (w_rd (t := .int) hA (Cz_d8) rfl (by decide) (by decide)).trans (if_pos hx)
theorem Cz_w8 (hP : Cz_P pc tc rc fc qc pa ta ra pl tl wc wa ya) (hA : wok A (Cz_d pc tc rc fc qc pa ta ra pl tl wc wa ya) m) (hx : 0 ≤ x ∧ x < 8) : pm_wr pm_wI (wput A (Cz_d pc tc rc fc qc pa ta ra pl tl wc wa ya) S h) (A (8, 0, 0)) x v = some (wput A (Cz_d pc tc rc fc qc pa ta ra pl tl wc wa ya) (sz S (8, 0, 0) x v) h) := (w_wr (t := .int) hA (Cz_d8) rfl (by decide) (by decide)).trans (if_pos hx)
theorem Cz_c30 (hP : Cz_P pc tc rc fc qc pa ta ra pl tl wc wa ya) (hA : wok A (Cz_d pc tc rc fc qc pa ta ra pl tl wc wa ya) m) (h0 : 0 ≤ i ∧ i < fc) : pm_cls (wput A (Cz_d pc tc rc fc qc pa ta ra pl tl wc wa ya) S h) (A (30, i, 0)) = some 39 := w_cls hA (Cz_d30 h0)
theorem Cz_k30 {cl : pm_C} {k b c : Nat} {r : List Instr} {ls s : List Value} (hP : Cz_P pc tc rc fc qc pa ta ra pl tl wc wa ya) (hA : wok A (Cz_d pc tc rc fc qc pa ta ra pl tl wc wa ya) m) (h0 : 0 ≤ i ∧ i < fc) (h2 : pm_sub 39 c = true) : pm_ev pm_prog cl k b (.checkcast c :: r) ls (.ref (A (30, i, 0)) :: s) (wput A (Cz_d pc tc rc fc qc pa ta ra pl tl wc wa ya) S h) = pm_ev pm_prog cl k b r ls (.ref (A (30, i, 0)) :: s) (wput A (Cz_d pc tc rc fc qc pa ta ra pl tl wc wa ya) S h) := pe_checkcast (w_cls hA (Cz_d30 h0)) h2
theorem Cz_g30_0 (hP : Cz_P pc tc rc fc qc pa ta ra pl tl wc wa ya) (hA : wok A (Cz_d pc tc rc fc qc pa ta ra pl tl wc wa ya) m) (h0 : 0 ≤ i ∧ i < fc) : pm_gf pm_tab (wput A (Cz_d pc tc rc fc qc pa ta ra pl tl wc wa ya) S h) (A (30, i, 0)) 39 0 = some (.ref (A (32, i, 0))) := w_g (f := (2, (32, i, 0))) hA (Cz_d30 h0) rfl rfl
theorem Cz_g30_1 (hP : Cz_P pc tc rc fc qc pa ta ra pl tl wc wa ya) (hA : wok A (Cz_d pc tc rc fc qc pa ta ra pl tl wc wa ya) m) (h0 : 0 ≤ i ∧ i < fc) : pm_gf pm_tab (wput A (Cz_d pc tc rc fc qc pa ta ra pl tl wc wa ya) S h) (A (30, i, 0)) 39 1 = some (.int (S.1 (30, i, 0) 1)) := w_g (f := (0, (0, 0, 0))) hA (Cz_d30 h0) rfl rfl
theorem Cz_p30_1 (hP : Cz_P pc tc rc fc qc pa ta ra pl tl wc wa ya) (hA : wok A (Cz_d pc tc rc fc qc pa ta ra pl tl wc wa ya) m) (h0 : 0 ≤ i ∧ i < fc) : pm_pf pm_tab (wput A (Cz_d pc tc rc fc qc pa ta ra pl tl wc wa ya) S h) (A (30, i, 0)) 39 1 0 (.int v) = some (wput A (Cz_d pc tc rc fc qc pa ta ra pl tl wc wa ya) (sz S (30, i, 0) 1 v) h) := w_p0 (q := (0, 0, 0)) (t := 0) hA (Cz_d30 h0) rfl rfl (Nat.le_of_ble_eq_true rfl)
theorem Cz_g30_2 (hP : Cz_P pc tc rc fc qc pa ta ra pl tl wc wa ya) (hA : wok A (Cz_d pc tc rc fc qc pa ta ra pl tl wc wa ya) m) (h0 : 0 ≤ i ∧ i < fc) : pm_gf pm_tab (wput A (Cz_d pc tc rc fc qc pa ta ra pl tl wc wa ya) S h) (A (30, i, 0)) 39 2 = some (.int (S.1 (30, i, 0) 2)) := w_g (f := (0, (0, 0, 0))) hA (Cz_d30 h0) rfl rfl
theorem Cz_p30_2 (hP : Cz_P pc tc rc fc qc pa ta ra pl tl wc wa ya) (hA : wok A (Cz_d pc tc rc fc qc pa ta ra pl tl wc wa ya) m) (h0 : 0 ≤ i ∧ i < fc) : pm_pf pm_tab (wput A (Cz_d pc tc rc fc qc pa ta ra pl tl wc wa ya) S h) (A (30, i, 0)) 39 2 0 (.int v) = some (wput A (Cz_d pc tc rc fc qc pa ta ra pl tl wc wa ya) (sz S (30, i, 0) 2 v) h) := w_p0 (q := (0, 0, 0)) (t := 0) hA (Cz_d30 h0) rfl rfl (Nat.le_of_ble_eq_true rfl)
theorem Cz_c32 (hP : Cz_P pc tc rc fc qc pa ta ra pl tl wc wa ya) (hA : wok A (Cz_d pc tc rc fc qc pa ta ra pl tl wc wa ya) m) (h0 : 0 ≤ i ∧ i < fc) : pm_cls (wput A (Cz_d pc tc rc fc qc pa ta ra pl tl wc wa ya) S h) (A (32, i, 0)) = some 63 := w_cls hA (Cz_d32 h0)
theorem Cz_k32 {cl : pm_C} {k b c : Nat} {r : List Instr} {ls s : List Value} (hP : Cz_P pc tc rc fc qc pa ta ra pl tl wc wa ya) (hA : wok A (Cz_d pc tc rc fc qc pa ta ra pl tl wc wa ya) m) (h0 : 0 ≤ i ∧ i < fc) (h2 : pm_sub 63 c = true) : pm_ev pm_prog cl k b (.checkcast c :: r) ls (.ref (A (32, i, 0)) :: s) (wput A (Cz_d pc tc rc fc qc pa ta ra pl tl wc wa ya) S h) = pm_ev pm_prog cl k b r ls (.ref (A (32, i, 0)) :: s) (wput A (Cz_d pc tc rc fc qc pa ta ra pl tl wc wa ya) S h) := pe_checkcast (w_cls hA (Cz_d32 h0)) h2
theorem Cz_g32_0 (hP : Cz_P pc tc rc fc qc pa ta ra pl tl wc wa ya) (hA : wok A (Cz_d pc tc rc fc qc pa ta ra pl tl wc wa ya) m) (h0 : 0 ≤ i ∧ i < fc) : pm_gf pm_tab (wput A (Cz_d pc tc rc fc qc pa ta ra pl tl wc wa ya) S h) (A (32, i, 0)) 63 0 = some (.int (S.1 (32, i, 0) 0)) := w_g (f := (0, (0, 0, 0))) hA (Cz_d32 h0) rfl rfl
theorem Cz_p32_0 (hP : Cz_P pc tc rc fc qc pa ta ra pl tl wc wa ya) (hA : wok A (Cz_d pc tc rc fc qc pa ta ra pl tl wc wa ya) m) (h0 : 0 ≤ i ∧ i < fc) : pm_pf pm_tab (wput A (Cz_d pc tc rc fc qc pa ta ra pl tl wc wa ya) S h) (A (32, i, 0)) 63 0 0 (.int v) = some (wput A (Cz_d pc tc rc fc qc pa ta ra pl tl wc wa ya) (sz S (32, i, 0) 0 v) h) := w_p0 (q := (0, 0, 0)) (t := 0) hA (Cz_d32 h0) rfl rfl (Nat.le_of_ble_eq_true rfl)
theorem Cz_g32_1 (hP : Cz_P pc tc rc fc qc pa ta ra pl tl wc wa ya) (hA : wok A (Cz_d pc tc rc fc qc pa ta ra pl tl wc wa ya) m) (h0 : 0 ≤ i ∧ i < fc) (hc : 0 < (ya i)) : pm_gf pm_tab (wput A (Cz_d pc tc rc fc qc pa ta ra pl tl wc wa ya) S h) (A (32, i, 0)) 63 1 = some (.ref (A (33, i, 0))) := (w_g (f := (2, if 0 < (ya i) then (33, i, 0) else (91, 0, 0))) hA (Cz_d32 h0) rfl rfl).trans (by rw [if_pos hc]; rfl)
theorem Cz_gE32_1 (hP : Cz_P pc tc rc fc qc pa ta ra pl tl wc wa ya) (hA : wok A (Cz_d pc tc rc fc qc pa ta ra pl tl wc wa ya) m) (h0 : 0 ≤ i ∧ i < fc) (hc : ¬ 0 < (ya i)) : pm_gf pm_tab (wput A (Cz_d pc tc rc fc qc pa ta ra pl tl wc wa ya) S h) (A (32, i, 0)) 63 1 = some (.ref (A (91, 0, 0))) := (w_g (f := (2, if 0 < (ya i) then (33, i, 0) else (91, 0, 0))) hA (Cz_d32 h0) rfl rfl).trans (by rw [if_neg hc]; rfl)
theorem Cz_g32_2 (hP : Cz_P pc tc rc fc qc pa ta ra pl tl wc wa ya) (hA : wok A (Cz_d pc tc rc fc qc pa ta ra pl tl wc wa ya) m) (h0 : 0 ≤ i ∧ i < fc) : pm_gf pm_tab (wput A (Cz_d pc tc rc fc qc pa ta ra pl tl wc wa ya) S h) (A (32, i, 0)) 63 2 = some (.int (S.1 (32, i, 0) 2)) := w_g (f := (0, (0, 0, 0))) hA (Cz_d32 h0) rfl rfl
theorem Cz_p32_2 (hP : Cz_P pc tc rc fc qc pa ta ra pl tl wc wa ya) (hA : wok A (Cz_d pc tc rc fc qc pa ta ra pl tl wc wa ya) m) (h0 : 0 ≤ i ∧ i < fc) : pm_pf pm_tab (wput A (Cz_d pc tc rc fc qc pa ta ra pl tl wc wa ya) S h) (A (32, i, 0)) 63 2 0 (.int v) = some (wput A (Cz_d pc tc rc fc qc pa ta ra pl tl wc wa ya) (sz S (32, i, 0) 2 v) h) := w_p0 (q := (0, 0, 0)) (t := 0) hA (Cz_d32 h0) rfl rfl (Nat.le_of_ble_eq_true rfl)
theorem Cz_l33 (hP : Cz_P pc tc rc fc qc pa ta ra pl tl wc wa ya) (hA : wok A (Cz_d pc tc rc fc qc pa ta ra pl tl wc wa ya) m) (h0 : 0 ≤ i ∧ i < fc) : pm_len (wput A (Cz_d pc tc rc fc qc pa ta ra pl tl wc wa ya) S h) (A (33, i, 0)) = some (wn (ya i)) := w_lenE hA (Cz_d33 h0) (by decide)
theorem Cz_r33 (hP : Cz_P pc tc rc fc qc pa ta ra pl tl wc wa ya) (hA : wok A (Cz_d pc tc rc fc qc pa ta ra pl tl wc wa ya) m) (h0 : 0 ≤ i ∧ i < fc) (hx : 0 ≤ x ∧ x < (ya i)) : pm_rdR (wput A (Cz_d pc tc rc fc qc pa ta ra pl tl wc wa ya) S h) (A (33, i, 0)) x = some (we A 31 (S.1 (33, i, 0) x)) := (w_rdE hA (Cz_d33 h0) rfl (wn_le _)).trans (if_pos (wn_in (hP.2.2.2.2.2.2.2.2.2.2.2.2 i) hx))
theorem Cz_w33 (hP : Cz_P pc tc rc fc qc pa ta ra pl tl wc wa ya) (hA : wok A (Cz_d pc tc rc fc qc pa ta ra pl tl wc wa ya) m) (h0 : 0 ≤ i ∧ i < fc) (hx : 0 ≤ x ∧ x < (ya i)) (hv : 0 ≤ v ∧ v < qc) : pm_wrR pm_tab (wput A (Cz_d pc tc rc fc qc pa ta ra pl tl wc wa ya) S h) (A (33, i, 0)) x (some (A (31, v, 0))) = some (wput A (Cz_d pc tc rc fc qc pa ta ra pl tl wc wa ya) (sz S (33, i, 0) x v) h) := w_wrE hA (Cz_d33 h0) rfl (wn_le _) (we_p (wz_lt hv)).symm (fun b hb => by
    cases hb; rw [show (wput A (Cz_d pc tc rc fc qc pa ta ra pl tl wc wa ya) S h).2.2 (A (31, v, 0)) = _ from wp_at hA (w_some (Cz_d31 hv)), wM_at (Cz_d31 hv)]; rfl) (wn_in (hP.2.2.2.2.2.2.2.2.2.2.2.2 i) hx)
theorem Cz_wN33 (hP : Cz_P pc tc rc fc qc pa ta ra pl tl wc wa ya) (hA : wok A (Cz_d pc tc rc fc qc pa ta ra pl tl wc wa ya) m) (h0 : 0 ≤ i ∧ i < fc) (hx : 0 ≤ x ∧ x < (ya i)) : pm_wrR pm_tab (wput A (Cz_d pc tc rc fc qc pa ta ra pl tl wc wa ya) S h) (A (33, i, 0)) x none = some (wput A (Cz_d pc tc rc fc qc pa ta ra pl tl wc wa ya) (sz S (33, i, 0) x (-1)) h) := w_wrE hA (Cz_d33 h0) rfl (wn_le _) we_m1.symm (fun b hb => by cases hb) (wn_in (hP.2.2.2.2.2.2.2.2.2.2.2.2 i) hx)
theorem Cz_c31 (hP : Cz_P pc tc rc fc qc pa ta ra pl tl wc wa ya) (hA : wok A (Cz_d pc tc rc fc qc pa ta ra pl tl wc wa ya) m) (h0 : 0 ≤ i ∧ i < qc) : pm_cls (wput A (Cz_d pc tc rc fc qc pa ta ra pl tl wc wa ya) S h) (A (31, i, 0)) = some 45 := w_cls hA (Cz_d31 h0)
theorem Cz_k31 {cl : pm_C} {k b c : Nat} {r : List Instr} {ls s : List Value} (hP : Cz_P pc tc rc fc qc pa ta ra pl tl wc wa ya) (hA : wok A (Cz_d pc tc rc fc qc pa ta ra pl tl wc wa ya) m) (h0 : 0 ≤ i ∧ i < qc) (h2 : pm_sub 45 c = true) : pm_ev pm_prog cl k b (.checkcast c :: r) ls (.ref (A (31, i, 0)) :: s) (wput A (Cz_d pc tc rc fc qc pa ta ra pl tl wc wa ya) S h) = pm_ev pm_prog cl k b r ls (.ref (A (31, i, 0)) :: s) (wput A (Cz_d pc tc rc fc qc pa ta ra pl tl wc wa ya) S h) := pe_checkcast (w_cls hA (Cz_d31 h0)) h2
theorem Cz_g31_0 (hP : Cz_P pc tc rc fc qc pa ta ra pl tl wc wa ya) (hA : wok A (Cz_d pc tc rc fc qc pa ta ra pl tl wc wa ya) m) (h0 : 0 ≤ i ∧ i < qc) : pm_gf pm_tab (wput A (Cz_d pc tc rc fc qc pa ta ra pl tl wc wa ya) S h) (A (31, i, 0)) 45 0 = some (.long (S.2 (31, i, 0) 0)) := w_g (f := (1, (0, 0, 0))) hA (Cz_d31 h0) rfl rfl
theorem Cz_p31_0 (hP : Cz_P pc tc rc fc qc pa ta ra pl tl wc wa ya) (hA : wok A (Cz_d pc tc rc fc qc pa ta ra pl tl wc wa ya) m) (h0 : 0 ≤ i ∧ i < qc) : pm_pf pm_tab (wput A (Cz_d pc tc rc fc qc pa ta ra pl tl wc wa ya) S h) (A (31, i, 0)) 45 0 1 (.long u) = some (wput A (Cz_d pc tc rc fc qc pa ta ra pl tl wc wa ya) (sl S (31, i, 0) 0 u) h) := w_p1 (q := (0, 0, 0)) hA (Cz_d31 h0) rfl rfl (Nat.le_of_ble_eq_true rfl)
theorem Cz_g31_1 (hP : Cz_P pc tc rc fc qc pa ta ra pl tl wc wa ya) (hA : wok A (Cz_d pc tc rc fc qc pa ta ra pl tl wc wa ya) m) (h0 : 0 ≤ i ∧ i < qc) : pm_gf pm_tab (wput A (Cz_d pc tc rc fc qc pa ta ra pl tl wc wa ya) S h) (A (31, i, 0)) 45 1 = some (.long (S.2 (31, i, 0) 1)) := w_g (f := (1, (0, 0, 0))) hA (Cz_d31 h0) rfl rfl
theorem Cz_p31_1 (hP : Cz_P pc tc rc fc qc pa ta ra pl tl wc wa ya) (hA : wok A (Cz_d pc tc rc fc qc pa ta ra pl tl wc wa ya) m) (h0 : 0 ≤ i ∧ i < qc) : pm_pf pm_tab (wput A (Cz_d pc tc rc fc qc pa ta ra pl tl wc wa ya) S h) (A (31, i, 0)) 45 1 1 (.long u) = some (wput A (Cz_d pc tc rc fc qc pa ta ra pl tl wc wa ya) (sl S (31, i, 0) 1 u) h) := w_p1 (q := (0, 0, 0)) hA (Cz_d31 h0) rfl rfl (Nat.le_of_ble_eq_true rfl)
theorem Cz_l91 (hP : Cz_P pc tc rc fc qc pa ta ra pl tl wc wa ya) (hA : wok A (Cz_d pc tc rc fc qc pa ta ra pl tl wc wa ya) m) : pm_len (wput A (Cz_d pc tc rc fc qc pa ta ra pl tl wc wa ya) S h) (A (91, 0, 0)) = some 0 := w_lenE hA (Cz_d91) (by decide)
theorem Cz_r91 (hP : Cz_P pc tc rc fc qc pa ta ra pl tl wc wa ya) (hA : wok A (Cz_d pc tc rc fc qc pa ta ra pl tl wc wa ya) m) (hx : 0 ≤ x ∧ x < 0) : pm_rdR (wput A (Cz_d pc tc rc fc qc pa ta ra pl tl wc wa ya) S h) (A (91, 0, 0)) x = some (we A 31 (S.1 (91, 0, 0) x)) := (w_rdE hA (Cz_d91) rfl (by decide)).trans (if_pos hx)
theorem Cz_w91 (hP : Cz_P pc tc rc fc qc pa ta ra pl tl wc wa ya) (hA : wok A (Cz_d pc tc rc fc qc pa ta ra pl tl wc wa ya) m) (hx : 0 ≤ x ∧ x < 0) (hv : 0 ≤ v ∧ v < qc) : pm_wrR pm_tab (wput A (Cz_d pc tc rc fc qc pa ta ra pl tl wc wa ya) S h) (A (91, 0, 0)) x (some (A (31, v, 0))) = some (wput A (Cz_d pc tc rc fc qc pa ta ra pl tl wc wa ya) (sz S (91, 0, 0) x v) h) := w_wrE hA (Cz_d91) rfl (by decide) (we_p (wz_lt hv)).symm (fun b hb => by
    cases hb; rw [show (wput A (Cz_d pc tc rc fc qc pa ta ra pl tl wc wa ya) S h).2.2 (A (31, v, 0)) = _ from wp_at hA (w_some (Cz_d31 hv)), wM_at (Cz_d31 hv)]; rfl) hx
theorem Cz_wN91 (hP : Cz_P pc tc rc fc qc pa ta ra pl tl wc wa ya) (hA : wok A (Cz_d pc tc rc fc qc pa ta ra pl tl wc wa ya) m) (hx : 0 ≤ x ∧ x < 0) : pm_wrR pm_tab (wput A (Cz_d pc tc rc fc qc pa ta ra pl tl wc wa ya) S h) (A (91, 0, 0)) x none = some (wput A (Cz_d pc tc rc fc qc pa ta ra pl tl wc wa ya) (sz S (91, 0, 0) x (-1)) h) := w_wrE hA (Cz_d91) rfl (by decide) we_m1.symm (fun b hb => by cases hb) hx
end
/-- java/util/ArrayList.size()I -/
noncomputable def f4033z (pc : Int32) (tc : Int32) (rc : Int32) (fc : Int32) (qc : Int32) (pa : Int32) (ta : Int32) (ra : Int32) (pl : Int32 → Int32) (tl : Int32 → Int32) (wc : Int32 → Int32) (wa : Int32 → Int32) (ya : Int32 → Int32) (S : wS) : Option (Int32) :=
  some (S.1 (1, 0, 0) 2)
theorem x4033z {pc : Int32} {tc : Int32} {rc : Int32} {fc : Int32} {qc : Int32} {pa : Int32} {ta : Int32} {ra : Int32} {pl : Int32 → Int32} {tl : Int32 → Int32} {wc : Int32 → Int32} {wa : Int32 → Int32} {ya : Int32 → Int32} {A : wK → Nat} {h : pm_H} {D : Nat} {S : wS} {r : Int32} (hP : Cz_P pc tc rc fc qc pa ta ra pl tl wc wa ya) (hA : wok A (Cz_d pc tc rc fc qc pa ta ra pl tl wc wa ya) h.1) (hD : 1 ≤ D) (e : f4033z pc tc rc fc qc pa ta ra pl tl wc wa ya S = some r) : pm_call pm_prog D 4033 [.ref (A (1, 0, 0))] (wput A (Cz_d pc tc rc fc qc pa ta ra pl tl wc wa ya) S h) = some (Outcome.returned (some (.int r)), (wput A (Cz_d pc tc rc fc qc pa ta ra pl tl wc wa ya) S h)) := by
  obtain ⟨D, rfl⟩ : ∃ D', D = D' + 1 := ⟨D - 1, by omega⟩
  have hD : 0 ≤ D := by omega
  simp only [f4033z] at e
  rw [c4033 (Cz_c1 hP hA), b4033_0]
  have e := Option.some.inj e; subst e
  simp -implicitDefEqProofs (disch := first | assumption | exact Nat.le_of_ble_eq_true rfl | decide) only [b4033_0, pe_aload0, pe_getfield, pe_aloadN0, pe_aastoreN, pe_areturnN, pe_null, pm_prog_1, pm_ob_some, Nat.reduceDiv, Nat.reduceMod, Nat.reduceMul, Nat.reduceAdd, Int.reduceToNat, pm_kill_i, pm_kill_r, pm_kill_n, pm_kill_j, pm_kill_l, pm_kill_d, pm_cats_nil, pm_cats_i, pm_cats_r, pm_cats_n, pm_cats_l, pm_cats_d, sz_1, sz_2, sl_1, sl_2, lc_0, lc_lt, lc_le, li_ne, va_rf, wr_m1, we_m1, pm_kill_w, Int32.reduceOfInt, Int64.reduceOfInt, Int32.reduceOfNat, Int32.reduceLT, Int32.reduceLE, Prod.mk.injEq, Nat.reduceEqDiff, reduceCtorEq, and_true, true_and, and_false, false_and, and_self, ite_true, ite_false, ↓reduceIte, not_true_eq_false, not_false_eq_true, pe_ri, pe_rz, pe_rc, Cz_g1_2 hP hA]
/-- TimberHouse$LathePieces.isIn(III)Z -/
theorem c643 {d : Nat} {h : pm_H} {x0 : Int32} {x1 : Int32} {x2 : Int32} : pm_call pm_prog (d + 1) 643 [.int x0, .int x1, .int x2] h = pm_ev pm_prog (pm_call pm_prog d) 643 0 b643_0 [.int x0, .int x1, .int x2] [] h := pm_cal (pm_rc0 rfl) rfl rfl rfl
theorem g643_1 {cl : pm_C} {ls st : List Value} {h : pm_H} : pm_go pm_prog cl 643 1 ls st h = pm_ev pm_prog cl 643 1 b643_1 ls st h := pm_go_eq pm_prog cl 643 1 ls st h
theorem g643_2 {cl : pm_C} {ls st : List Value} {h : pm_H} : pm_go pm_prog cl 643 2 ls st h = pm_ev pm_prog cl 643 2 b643_2 ls st h := pm_go_eq pm_prog cl 643 2 ls st h
/-- TimberHouse$LathePieces.isIn(III)Z -/
noncomputable def f643 (x0 : Int32) (x1 : Int32) (x2 : Int32) : Option (Int32) :=
  if x0 < x1 then
    some 0
  else
    if x0 ≤ x2 then
      some 1
    else
      some 0
theorem x643 {h : pm_H} {D : Nat} {x0 : Int32} {x1 : Int32} {x2 : Int32} {r : Int32} (hD : 1 ≤ D) (e : f643 x0 x1 x2 = some r) : pm_call pm_prog D 643 [.int x0, .int x1, .int x2] h = some (Outcome.returned (some (.int r)), h) := by
  obtain ⟨D, rfl⟩ : ∃ D', D = D' + 1 := ⟨D - 1, by omega⟩
  have hD : 0 ≤ D := by omega
  simp only [f643] at e
  rw [c643, b643_0]
  by_cases k1 : x0 < x1
  · rw [if_pos k1] at e
    have e := Option.some.inj e; subst e
    simp -implicitDefEqProofs (disch := first | assumption | exact Nat.le_of_ble_eq_true rfl | decide) only [b643_0, g643_1, b643_1, g643_2, b643_2, pe_iload0, pe_iload1, pe_icmp_lt, pe_iload2, pe_icmp_gt, pe_sipush, pe_goto, pe_goto_w, pe_aastoreN, pe_areturnN, pe_null, pm_prog_1, pm_ob_some, Nat.reduceDiv, Nat.reduceMod, Nat.reduceMul, Nat.reduceAdd, Int.reduceToNat, pm_kill_i, pm_kill_r, pm_kill_n, pm_kill_j, pm_kill_l, pm_kill_d, pm_cats_nil, pm_cats_i, pm_cats_r, pm_cats_n, pm_cats_l, pm_cats_d, sz_1, sz_2, sl_1, sl_2, lc_0, lc_lt, lc_le, li_ne, va_rf, wr_m1, we_m1, pm_kill_w, Int32.reduceOfInt, Int64.reduceOfInt, Int32.reduceOfNat, Int32.reduceLT, Int32.reduceLE, Prod.mk.injEq, Nat.reduceEqDiff, reduceCtorEq, and_true, true_and, and_false, false_and, and_self, ite_true, ite_false, ↓reduceIte, not_true_eq_false, not_false_eq_true, pe_ri, pe_rz, pe_rc, eq_true k1]
  · rw [if_neg k1] at e
    by_cases k2 : x0 ≤ x2
    · rw [if_pos k2] at e
      have e := Option.some.inj e; subst e
      simp -implicitDefEqProofs (disch := first | assumption | exact Nat.le_of_ble_eq_true rfl | decide) only [b643_0, g643_1, b643_1, g643_2, b643_2, pe_iload0, pe_iload1, pe_icmp_lt, pe_iload2, pe_icmp_gt, pe_sipush, pe_goto, pe_goto_w, pe_aastoreN, pe_areturnN, pe_null, pm_prog_1, pm_ob_some, Nat.reduceDiv, Nat.reduceMod, Nat.reduceMul, Nat.reduceAdd, Int.reduceToNat, pm_kill_i, pm_kill_r, pm_kill_n, pm_kill_j, pm_kill_l, pm_kill_d, pm_cats_nil, pm_cats_i, pm_cats_r, pm_cats_n, pm_cats_l, pm_cats_d, sz_1, sz_2, sl_1, sl_2, lc_0, lc_lt, lc_le, li_ne, va_rf, wr_m1, we_m1, pm_kill_w, Int32.reduceOfInt, Int64.reduceOfInt, Int32.reduceOfNat, Int32.reduceLT, Int32.reduceLE, Prod.mk.injEq, Nat.reduceEqDiff, reduceCtorEq, and_true, true_and, and_false, false_and, and_self, ite_true, ite_false, ↓reduceIte, not_true_eq_false, not_false_eq_true, pe_ri, pe_rz, pe_rc, eq_false k1, eq_true k2]
    · rw [if_neg k2] at e
      have e := Option.some.inj e; subst e
      simp -implicitDefEqProofs (disch := first | assumption | exact Nat.le_of_ble_eq_true rfl | decide) only [b643_0, g643_1, b643_1, g643_2, b643_2, pe_iload0, pe_iload1, pe_icmp_lt, pe_iload2, pe_icmp_gt, pe_sipush, pe_goto, pe_goto_w, pe_aastoreN, pe_areturnN, pe_null, pm_prog_1, pm_ob_some, Nat.reduceDiv, Nat.reduceMod, Nat.reduceMul, Nat.reduceAdd, Int.reduceToNat, pm_kill_i, pm_kill_r, pm_kill_n, pm_kill_j, pm_kill_l, pm_kill_d, pm_cats_nil, pm_cats_i, pm_cats_r, pm_cats_n, pm_cats_l, pm_cats_d, sz_1, sz_2, sl_1, sl_2, lc_0, lc_lt, lc_le, li_ne, va_rf, wr_m1, we_m1, pm_kill_w, Int32.reduceOfInt, Int64.reduceOfInt, Int32.reduceOfNat, Int32.reduceLT, Int32.reduceLE, Prod.mk.injEq, Nat.reduceEqDiff, reduceCtorEq, and_true, true_and, and_false, false_and, and_self, ite_true, ite_false, ↓reduceIte, not_true_eq_false, not_false_eq_true, pe_ri, pe_rz, pe_rc, eq_false k1, eq_false k2]
/-- TimberHouse$LathePieces.inside(Z)V -/
theorem c644 {d : Nat} {h : pm_H} {x0 : Int32} : pm_call pm_prog (d + 1) 644 [.int x0] h = pm_ev pm_prog (pm_call pm_prog d) 644 0 b644_0 [.int x0] [] h := pm_cal (pm_rc0 rfl) rfl rfl rfl
theorem g644_1 {cl : pm_C} {ls st : List Value} {h : pm_H} : pm_go pm_prog cl 644 1 ls st h = pm_ev pm_prog cl 644 1 b644_1 ls st h := pm_go_eq pm_prog cl 644 1 ls st h
theorem t644 {cl : pm_C} {j : Nat} {ls : List Value} {c : Nat} {h : pm_H} : pm_thr pm_prog cl 644 j ls c h = some (.threw c, h) := rfl
/-- TimberHouse$LathePieces.inside(Z)V -/
noncomputable def f644 (x0 : Int32) : Option (Nat ⊕ (Unit)) :=
  if x0 = 0 then
    some (.inl 67)
  else
    some (.inr ())
theorem x644 {h : pm_H} {D : Nat} {x0 : Int32} {r : Nat ⊕ (Unit)} (hD : 1 ≤ D) (e : f644 x0 = some r) : pm_call pm_prog D 644 [.int x0] h = some (match (generalizing := false) r with | .inl c => (Outcome.threw c, (pm_new h 6 (.inr (c, [])))) | .inr _ => (Outcome.returned none, h)) := by
  obtain ⟨D, rfl⟩ : ∃ D', D = D' + 1 := ⟨D - 1, by omega⟩
  have hD : 0 ≤ D := by omega
  simp only [f644] at e
  rw [c644, b644_0]
  by_cases k1 : x0 = 0
  · rw [if_pos k1] at e
    have e := Option.some.inj e; subst e
    simp -implicitDefEqProofs (disch := first | assumption | exact Nat.le_of_ble_eq_true rfl | decide) only [b644_0, g644_1, b644_1, pe_iload0, pe_if_ne, pe_return, pe_aastoreN, pe_areturnN, pe_null, pm_prog_1, pm_ob_some, Nat.reduceDiv, Nat.reduceMod, Nat.reduceMul, Nat.reduceAdd, Int.reduceToNat, pm_kill_i, pm_kill_r, pm_kill_n, pm_kill_j, pm_kill_l, pm_kill_d, pm_cats_nil, pm_cats_i, pm_cats_r, pm_cats_n, pm_cats_l, pm_cats_d, sz_1, sz_2, sl_1, sl_2, lc_0, lc_lt, lc_le, li_ne, va_rf, wr_m1, we_m1, pm_kill_w, Int32.reduceOfInt, Int64.reduceOfInt, Int32.reduceOfNat, Int32.reduceLT, Int32.reduceLE, Prod.mk.injEq, Nat.reduceEqDiff, reduceCtorEq, and_true, true_and, and_false, false_and, and_self, ite_true, ite_false, ↓reduceIte, not_true_eq_false, not_false_eq_true, pe_ri, pe_rz, pe_rc, p_throw, t644, eq_true k1]
  · rw [if_neg k1] at e
    have e := Option.some.inj e; subst e
    simp -implicitDefEqProofs (disch := first | assumption | exact Nat.le_of_ble_eq_true rfl | decide) only [b644_0, g644_1, b644_1, pe_iload0, pe_if_ne, pe_return, pe_aastoreN, pe_areturnN, pe_null, pm_prog_1, pm_ob_some, Nat.reduceDiv, Nat.reduceMod, Nat.reduceMul, Nat.reduceAdd, Int.reduceToNat, pm_kill_i, pm_kill_r, pm_kill_n, pm_kill_j, pm_kill_l, pm_kill_d, pm_cats_nil, pm_cats_i, pm_cats_r, pm_cats_n, pm_cats_l, pm_cats_d, sz_1, sz_2, sl_1, sl_2, lc_0, lc_lt, lc_le, li_ne, va_rf, wr_m1, we_m1, pm_kill_w, Int32.reduceOfInt, Int64.reduceOfInt, Int32.reduceOfNat, Int32.reduceLT, Int32.reduceLE, Prod.mk.injEq, Nat.reduceEqDiff, reduceCtorEq, and_true, true_and, and_false, false_and, and_self, ite_true, ite_false, ↓reduceIte, not_true_eq_false, not_false_eq_true, pe_ri, pe_rz, pe_rc, p_throw, t644, eq_false k1]
/-- java/util/ArrayList.elementData(I)Ljava/lang/Object; -/
noncomputable def f4035z (pc : Int32) (tc : Int32) (rc : Int32) (fc : Int32) (qc : Int32) (pa : Int32) (ta : Int32) (ra : Int32) (pl : Int32 → Int32) (tl : Int32 → Int32) (wc : Int32 → Int32) (wa : Int32 → Int32) (ya : Int32 → Int32) (S : wS) (x1 : Int32) : Option (Int32) :=
  if 0 < pa then
    if 0 ≤ x1 ∧ x1 < pa then
      if x1 < pc then
        if 0 ≤ x1 ∧ x1 < pc then
          some x1
        else none
      else none
    else none
  else none
theorem x4035z {pc : Int32} {tc : Int32} {rc : Int32} {fc : Int32} {qc : Int32} {pa : Int32} {ta : Int32} {ra : Int32} {pl : Int32 → Int32} {tl : Int32 → Int32} {wc : Int32 → Int32} {wa : Int32 → Int32} {ya : Int32 → Int32} {A : wK → Nat} {h : pm_H} {D : Nat} {S : wS} {x1 : Int32} {r : Int32} (hP : Cz_P pc tc rc fc qc pa ta ra pl tl wc wa ya) (hA : wok A (Cz_d pc tc rc fc qc pa ta ra pl tl wc wa ya) h.1) (hD : 1 ≤ D) (e : f4035z pc tc rc fc qc pa ta ra pl tl wc wa ya S x1 = some r) : pm_call pm_prog D 4035 [.ref (A (1, 0, 0)), .int x1] (wput A (Cz_d pc tc rc fc qc pa ta ra pl tl wc wa ya) S h) = some (Outcome.returned (some (.ref (A (10, r, 0)))), (wput A (Cz_d pc tc rc fc qc pa ta ra pl tl wc wa ya) S h)) := by
  obtain ⟨D, rfl⟩ : ∃ D', D = D' + 1 := ⟨D - 1, by omega⟩
  have hD : 0 ≤ D := by omega
  simp only [f4035z] at e
  rw [c4035 (Cz_c1 hP hA), b4035_0]
  by_cases k1 : 0 < pa
  · rw [if_pos k1] at e
    by_cases k2 : 0 ≤ x1 ∧ x1 < pa
    · rw [if_pos k2] at e
      by_cases k3 : x1 < pc
      · rw [if_pos k3] at e
        by_cases k4 : 0 ≤ x1 ∧ x1 < pc
        · rw [if_pos k4] at e
          have e := Option.some.inj e; subst e
          simp -implicitDefEqProofs (disch := first | assumption | exact Nat.le_of_ble_eq_true rfl | decide) only [b4035_0, pe_aload0, pe_getfield, pe_iload1, pe_aaload, pe_areturn, pe_aloadN0, pe_aastoreN, pe_areturnN, pe_null, pm_prog_1, pm_ob_some, Nat.reduceDiv, Nat.reduceMod, Nat.reduceMul, Nat.reduceAdd, Int.reduceToNat, pm_kill_i, pm_kill_r, pm_kill_n, pm_kill_j, pm_kill_l, pm_kill_d, pm_cats_nil, pm_cats_i, pm_cats_r, pm_cats_n, pm_cats_l, pm_cats_d, sz_1, sz_2, sl_1, sl_2, lc_0, lc_lt, lc_le, li_ne, va_rf, wr_m1, we_m1, pm_kill_w, Int32.reduceOfInt, Int64.reduceOfInt, Int32.reduceOfNat, Int32.reduceLT, Int32.reduceLE, Prod.mk.injEq, Nat.reduceEqDiff, reduceCtorEq, and_true, true_and, and_false, false_and, and_self, ite_true, ite_false, ↓reduceIte, not_true_eq_false, not_false_eq_true, pe_ri, pe_rz, pe_rc, Cz_g1_1 hP hA, Cz_r2 hP hA]
        · rw [if_neg k4] at e; cases e
      · rw [if_neg k3] at e; cases e
    · rw [if_neg k2] at e; cases e
  · rw [if_neg k1] at e; cases e
/-- java/util/ArrayList.get(I)Ljava/lang/Object; -/
noncomputable def f4034z (pc : Int32) (tc : Int32) (rc : Int32) (fc : Int32) (qc : Int32) (pa : Int32) (ta : Int32) (ra : Int32) (pl : Int32 → Int32) (tl : Int32 → Int32) (wc : Int32 → Int32) (wa : Int32 → Int32) (ya : Int32 → Int32) (S : wS) (x1 : Int32) : Option (Int32) :=
  (f4736 x1 (S.1 (1, 0, 0) 2)).bind fun v1 =>
  (f4035z pc tc rc fc qc pa ta ra pl tl wc wa ya S x1).bind fun v2i =>
  if 0 ≤ v2i ∧ v2i < pc then
    some v2i
  else none
theorem x4034z {pc : Int32} {tc : Int32} {rc : Int32} {fc : Int32} {qc : Int32} {pa : Int32} {ta : Int32} {ra : Int32} {pl : Int32 → Int32} {tl : Int32 → Int32} {wc : Int32 → Int32} {wa : Int32 → Int32} {ya : Int32 → Int32} {A : wK → Nat} {h : pm_H} {D : Nat} {S : wS} {x1 : Int32} {r : Int32} (hP : Cz_P pc tc rc fc qc pa ta ra pl tl wc wa ya) (hA : wok A (Cz_d pc tc rc fc qc pa ta ra pl tl wc wa ya) h.1) (hD : 3 ≤ D) (e : f4034z pc tc rc fc qc pa ta ra pl tl wc wa ya S x1 = some r) : pm_call pm_prog D 4034 [.ref (A (1, 0, 0)), .int x1] (wput A (Cz_d pc tc rc fc qc pa ta ra pl tl wc wa ya) S h) = some (Outcome.returned (some (.ref (A (10, r, 0)))), (wput A (Cz_d pc tc rc fc qc pa ta ra pl tl wc wa ya) S h)) := by
  obtain ⟨D, rfl⟩ : ∃ D', D = D' + 1 := ⟨D - 1, by omega⟩
  have hD : 2 ≤ D := by omega
  simp only [f4034z] at e
  rw [c4034 (Cz_c1 hP hA), b4034_0]
  obtain ⟨v1, k1, e⟩ := Option.bind_eq_some_iff.mp e
  try dsimp only at e
  have z1 := fun h => x4736 (D := D) (h := h) (by omega) k1
  obtain ⟨v2i, k2, e⟩ := Option.bind_eq_some_iff.mp e
  try dsimp only at e
  have z2 := x4035z (D := D) (h := h) hP hA (by omega) k2
  by_cases k3 : 0 ≤ v2i ∧ v2i < pc
  · rw [if_pos k3] at e
    have e := Option.some.inj e; subst e
    simp -implicitDefEqProofs (disch := first | assumption | exact Nat.le_of_ble_eq_true rfl | decide) only [b4034_0, pe_iload1, pe_aload0, pe_getfield, pe_call2, pm_af_ret, pm_af_void, pm_af_thr, pe_pop_i, pe_pop_r, pe_areturn, pe_aloadN0, pe_aastoreN, pe_areturnN, pe_null, pm_prog_1, pm_ob_some, Nat.reduceDiv, Nat.reduceMod, Nat.reduceMul, Nat.reduceAdd, Int.reduceToNat, pm_kill_i, pm_kill_r, pm_kill_n, pm_kill_j, pm_kill_l, pm_kill_d, pm_cats_nil, pm_cats_i, pm_cats_r, pm_cats_n, pm_cats_l, pm_cats_d, sz_1, sz_2, sl_1, sl_2, lc_0, lc_lt, lc_le, li_ne, va_rf, wr_m1, we_m1, pm_kill_w, Int32.reduceOfInt, Int64.reduceOfInt, Int32.reduceOfNat, Int32.reduceLT, Int32.reduceLE, Prod.mk.injEq, Nat.reduceEqDiff, reduceCtorEq, and_true, true_and, and_false, false_and, and_self, ite_true, ite_false, ↓reduceIte, not_true_eq_false, not_false_eq_true, pe_ri, pe_rz, pe_rc, Cz_g1_2 hP hA, z1, z2]
  · rw [if_neg k3] at e; cases e
/-- TimberHouse$LathePieces.pieceOf(I)LTimberHouse$LathePieces$Piece; -/
theorem c642 {d : Nat} {h : pm_H} {a : Nat} {x0 : Int32} (hc : pm_cls h a = some 10) : pm_call pm_prog (d + 1) 642 [.ref a, .int x0] h = pm_ev pm_prog (pm_call pm_prog d) 642 0 b642_0 [.ref a, .int x0] [] h := pm_cal (pm_rc1 hc rfl) rfl rfl rfl
theorem t642 {cl : pm_C} {j : Nat} {ls : List Value} {c : Nat} {h : pm_H} : pm_thr pm_prog cl 642 j ls c h = some (.threw c, h) := rfl
/-- TimberHouse$LathePieces.pieceOf(I)LTimberHouse$LathePieces$Piece; -/
noncomputable def f642 (pc : Int32) (tc : Int32) (rc : Int32) (fc : Int32) (qc : Int32) (pa : Int32) (ta : Int32) (ra : Int32) (pl : Int32 → Int32) (tl : Int32 → Int32) (wc : Int32 → Int32) (wa : Int32 → Int32) (ya : Int32 → Int32) (S : wS) (x1 : Int32) : Option (Nat ⊕ (Int32)) :=
  (f4033z pc tc rc fc qc pa ta ra pl tl wc wa ya S).bind fun v1 =>
  (f643 x1 0 (v1 - 1)).bind fun v2 =>
  (f644 v2).bind fun r => match r with
  | .inl c4 =>
    some (.inl c4)
  | .inr _ =>
  (f4034z pc tc rc fc qc pa ta ra pl tl wc wa ya S x1).bind fun v3i =>
  if 0 ≤ v3i ∧ v3i < pc then
    some (.inr v3i)
  else none
theorem x642 {pc : Int32} {tc : Int32} {rc : Int32} {fc : Int32} {qc : Int32} {pa : Int32} {ta : Int32} {ra : Int32} {pl : Int32 → Int32} {tl : Int32 → Int32} {wc : Int32 → Int32} {wa : Int32 → Int32} {ya : Int32 → Int32} {A : wK → Nat} {h : pm_H} {D : Nat} {S : wS} {x1 : Int32} {r : Nat ⊕ (Int32)} (hP : Cz_P pc tc rc fc qc pa ta ra pl tl wc wa ya) (hA : wok A (Cz_d pc tc rc fc qc pa ta ra pl tl wc wa ya) h.1) (hD : 4 ≤ D) (e : f642 pc tc rc fc qc pa ta ra pl tl wc wa ya S x1 = some r) : pm_call pm_prog D 642 [.ref (A (0, 0, 0)), .int x1] (wput A (Cz_d pc tc rc fc qc pa ta ra pl tl wc wa ya) S h) = some (match (generalizing := false) r with | .inl c => (Outcome.threw c, (wput A (Cz_d pc tc rc fc qc pa ta ra pl tl wc wa ya) S (pm_new h 6 (.inr (c, []))))) | .inr w0 => (Outcome.returned (some (.ref (A (10, w0, 0)))), (wput A (Cz_d pc tc rc fc qc pa ta ra pl tl wc wa ya) S h))) := by
  obtain ⟨D, rfl⟩ : ∃ D', D = D' + 1 := ⟨D - 1, by omega⟩
  have hD : 3 ≤ D := by omega
  simp only [f642] at e
  rw [c642 (Cz_c0 hP hA), b642_0]
  obtain ⟨v1, k1, e⟩ := Option.bind_eq_some_iff.mp e
  try dsimp only at e
  have z1 := x4033z (D := D) (h := h) hP hA (by omega) k1
  obtain ⟨v2, k2, e⟩ := Option.bind_eq_some_iff.mp e
  try dsimp only at e
  have z2 := fun h => x643 (D := D) (h := h) (by omega) k2
  obtain ⟨r, k3, e⟩ := Option.bind_eq_some_iff.mp e
  have z3 := fun h => x644 (D := D) (h := h) (by omega) k3
  rcases r with c4 | _
  · dsimp only at e z3
    have e := Option.some.inj e; subst e
    simp -implicitDefEqProofs (disch := first | assumption | exact Nat.le_of_ble_eq_true rfl | decide) only [b642_0, pe_iload1, pe_sipush, pe_aload0, pe_getfield, pe_call1, pm_af_ret, pm_af_void, pm_af_thr, pe_isub, pe_call3, pe_call2, pe_areturn, pe_aloadN0, pe_aastoreN, pe_areturnN, pe_null, pm_prog_1, pm_ob_some, Nat.reduceDiv, Nat.reduceMod, Nat.reduceMul, Nat.reduceAdd, Int.reduceToNat, pm_kill_i, pm_kill_r, pm_kill_n, pm_kill_j, pm_kill_l, pm_kill_d, pm_cats_nil, pm_cats_i, pm_cats_r, pm_cats_n, pm_cats_l, pm_cats_d, sz_1, sz_2, sl_1, sl_2, lc_0, lc_lt, lc_le, li_ne, va_rf, wr_m1, we_m1, pm_kill_w, Int32.reduceOfInt, Int64.reduceOfInt, Int32.reduceOfNat, Int32.reduceLT, Int32.reduceLE, Prod.mk.injEq, Nat.reduceEqDiff, reduceCtorEq, and_true, true_and, and_false, false_and, and_self, ite_true, ite_false, ↓reduceIte, not_true_eq_false, not_false_eq_true, pe_ri, pe_rz, pe_rc, p_throw, t642, w_junk hA, Cz_g0_1 hP hA, Cz_k10 hP hA, z1, z2, z3]
  · dsimp only at e z3
    obtain ⟨v3i, k4, e⟩ := Option.bind_eq_some_iff.mp e
    try dsimp only at e
    have z4 := x4034z (D := D) (h := h) hP hA (by omega) k4
    by_cases k5 : 0 ≤ v3i ∧ v3i < pc
    · rw [if_pos k5] at e
      have e := Option.some.inj e; subst e
      simp -implicitDefEqProofs (disch := first | assumption | exact Nat.le_of_ble_eq_true rfl | decide) only [b642_0, pe_iload1, pe_sipush, pe_aload0, pe_getfield, pe_call1, pm_af_ret, pm_af_void, pm_af_thr, pe_isub, pe_call3, pe_call2, pe_areturn, pe_aloadN0, pe_aastoreN, pe_areturnN, pe_null, pm_prog_1, pm_ob_some, Nat.reduceDiv, Nat.reduceMod, Nat.reduceMul, Nat.reduceAdd, Int.reduceToNat, pm_kill_i, pm_kill_r, pm_kill_n, pm_kill_j, pm_kill_l, pm_kill_d, pm_cats_nil, pm_cats_i, pm_cats_r, pm_cats_n, pm_cats_l, pm_cats_d, sz_1, sz_2, sl_1, sl_2, lc_0, lc_lt, lc_le, li_ne, va_rf, wr_m1, we_m1, pm_kill_w, Int32.reduceOfInt, Int64.reduceOfInt, Int32.reduceOfNat, Int32.reduceLT, Int32.reduceLE, Prod.mk.injEq, Nat.reduceEqDiff, reduceCtorEq, and_true, true_and, and_false, false_and, and_self, ite_true, ite_false, ↓reduceIte, not_true_eq_false, not_false_eq_true, pe_ri, pe_rz, pe_rc, p_throw, t642, w_junk hA, Cz_g0_1 hP hA, Cz_k10 hP hA, z1, z2, z3, z4]
    · rw [if_neg k5] at e; cases e
/-- java/util/ArrayList.size()I -/
noncomputable def f4033zv1 (pc : Int32) (tc : Int32) (rc : Int32) (fc : Int32) (qc : Int32) (pa : Int32) (ta : Int32) (ra : Int32) (pl : Int32 → Int32) (tl : Int32 → Int32) (wc : Int32 → Int32) (wa : Int32 → Int32) (ya : Int32 → Int32) (S : wS) : Option (Int32) :=
  some (S.1 (3, 0, 0) 2)
theorem x4033zv1 {pc : Int32} {tc : Int32} {rc : Int32} {fc : Int32} {qc : Int32} {pa : Int32} {ta : Int32} {ra : Int32} {pl : Int32 → Int32} {tl : Int32 → Int32} {wc : Int32 → Int32} {wa : Int32 → Int32} {ya : Int32 → Int32} {A : wK → Nat} {h : pm_H} {D : Nat} {S : wS} {r : Int32} (hP : Cz_P pc tc rc fc qc pa ta ra pl tl wc wa ya) (hA : wok A (Cz_d pc tc rc fc qc pa ta ra pl tl wc wa ya) h.1) (hD : 1 ≤ D) (e : f4033zv1 pc tc rc fc qc pa ta ra pl tl wc wa ya S = some r) : pm_call pm_prog D 4033 [.ref (A (3, 0, 0))] (wput A (Cz_d pc tc rc fc qc pa ta ra pl tl wc wa ya) S h) = some (Outcome.returned (some (.int r)), (wput A (Cz_d pc tc rc fc qc pa ta ra pl tl wc wa ya) S h)) := by
  obtain ⟨D, rfl⟩ : ∃ D', D = D' + 1 := ⟨D - 1, by omega⟩
  have hD : 0 ≤ D := by omega
  simp only [f4033zv1] at e
  rw [c4033 (Cz_c3 hP hA), b4033_0]
  have e := Option.some.inj e; subst e
  simp -implicitDefEqProofs (disch := first | assumption | exact Nat.le_of_ble_eq_true rfl | decide) only [b4033_0, pe_aload0, pe_getfield, pe_aloadN0, pe_aastoreN, pe_areturnN, pe_null, pm_prog_1, pm_ob_some, Nat.reduceDiv, Nat.reduceMod, Nat.reduceMul, Nat.reduceAdd, Int.reduceToNat, pm_kill_i, pm_kill_r, pm_kill_n, pm_kill_j, pm_kill_l, pm_kill_d, pm_cats_nil, pm_cats_i, pm_cats_r, pm_cats_n, pm_cats_l, pm_cats_d, sz_1, sz_2, sl_1, sl_2, lc_0, lc_lt, lc_le, li_ne, va_rf, wr_m1, we_m1, pm_kill_w, Int32.reduceOfInt, Int64.reduceOfInt, Int32.reduceOfNat, Int32.reduceLT, Int32.reduceLE, Prod.mk.injEq, Nat.reduceEqDiff, reduceCtorEq, and_true, true_and, and_false, false_and, and_self, ite_true, ite_false, ↓reduceIte, not_true_eq_false, not_false_eq_true, pe_ri, pe_rz, pe_rc, Cz_g3_2 hP hA]
/-- java/util/ArrayList.elementData(I)Ljava/lang/Object; -/
noncomputable def f4035zv1 (pc : Int32) (tc : Int32) (rc : Int32) (fc : Int32) (qc : Int32) (pa : Int32) (ta : Int32) (ra : Int32) (pl : Int32 → Int32) (tl : Int32 → Int32) (wc : Int32 → Int32) (wa : Int32 → Int32) (ya : Int32 → Int32) (S : wS) (x1 : Int32) : Option (Int32) :=
  if 0 < ta then
    if 0 ≤ x1 ∧ x1 < ta then
      if x1 < tc then
        if 0 ≤ x1 ∧ x1 < tc then
          some x1
        else none
      else none
    else none
  else none
theorem x4035zv1 {pc : Int32} {tc : Int32} {rc : Int32} {fc : Int32} {qc : Int32} {pa : Int32} {ta : Int32} {ra : Int32} {pl : Int32 → Int32} {tl : Int32 → Int32} {wc : Int32 → Int32} {wa : Int32 → Int32} {ya : Int32 → Int32} {A : wK → Nat} {h : pm_H} {D : Nat} {S : wS} {x1 : Int32} {r : Int32} (hP : Cz_P pc tc rc fc qc pa ta ra pl tl wc wa ya) (hA : wok A (Cz_d pc tc rc fc qc pa ta ra pl tl wc wa ya) h.1) (hD : 1 ≤ D) (e : f4035zv1 pc tc rc fc qc pa ta ra pl tl wc wa ya S x1 = some r) : pm_call pm_prog D 4035 [.ref (A (3, 0, 0)), .int x1] (wput A (Cz_d pc tc rc fc qc pa ta ra pl tl wc wa ya) S h) = some (Outcome.returned (some (.ref (A (12, r, 0)))), (wput A (Cz_d pc tc rc fc qc pa ta ra pl tl wc wa ya) S h)) := by
  obtain ⟨D, rfl⟩ : ∃ D', D = D' + 1 := ⟨D - 1, by omega⟩
  have hD : 0 ≤ D := by omega
  simp only [f4035zv1] at e
  rw [c4035 (Cz_c3 hP hA), b4035_0]
  by_cases k1 : 0 < ta
  · rw [if_pos k1] at e
    by_cases k2 : 0 ≤ x1 ∧ x1 < ta
    · rw [if_pos k2] at e
      by_cases k3 : x1 < tc
      · rw [if_pos k3] at e
        by_cases k4 : 0 ≤ x1 ∧ x1 < tc
        · rw [if_pos k4] at e
          have e := Option.some.inj e; subst e
          simp -implicitDefEqProofs (disch := first | assumption | exact Nat.le_of_ble_eq_true rfl | decide) only [b4035_0, pe_aload0, pe_getfield, pe_iload1, pe_aaload, pe_areturn, pe_aloadN0, pe_aastoreN, pe_areturnN, pe_null, pm_prog_1, pm_ob_some, Nat.reduceDiv, Nat.reduceMod, Nat.reduceMul, Nat.reduceAdd, Int.reduceToNat, pm_kill_i, pm_kill_r, pm_kill_n, pm_kill_j, pm_kill_l, pm_kill_d, pm_cats_nil, pm_cats_i, pm_cats_r, pm_cats_n, pm_cats_l, pm_cats_d, sz_1, sz_2, sl_1, sl_2, lc_0, lc_lt, lc_le, li_ne, va_rf, wr_m1, we_m1, pm_kill_w, Int32.reduceOfInt, Int64.reduceOfInt, Int32.reduceOfNat, Int32.reduceLT, Int32.reduceLE, Prod.mk.injEq, Nat.reduceEqDiff, reduceCtorEq, and_true, true_and, and_false, false_and, and_self, ite_true, ite_false, ↓reduceIte, not_true_eq_false, not_false_eq_true, pe_ri, pe_rz, pe_rc, Cz_g3_1 hP hA, Cz_r4 hP hA]
        · rw [if_neg k4] at e; cases e
      · rw [if_neg k3] at e; cases e
    · rw [if_neg k2] at e; cases e
  · rw [if_neg k1] at e; cases e
/-- java/util/ArrayList.get(I)Ljava/lang/Object; -/
noncomputable def f4034zv1 (pc : Int32) (tc : Int32) (rc : Int32) (fc : Int32) (qc : Int32) (pa : Int32) (ta : Int32) (ra : Int32) (pl : Int32 → Int32) (tl : Int32 → Int32) (wc : Int32 → Int32) (wa : Int32 → Int32) (ya : Int32 → Int32) (S : wS) (x1 : Int32) : Option (Int32) :=
  (f4736 x1 (S.1 (3, 0, 0) 2)).bind fun v1 =>
  (f4035zv1 pc tc rc fc qc pa ta ra pl tl wc wa ya S x1).bind fun v2i =>
  if 0 ≤ v2i ∧ v2i < tc then
    some v2i
  else none
theorem x4034zv1 {pc : Int32} {tc : Int32} {rc : Int32} {fc : Int32} {qc : Int32} {pa : Int32} {ta : Int32} {ra : Int32} {pl : Int32 → Int32} {tl : Int32 → Int32} {wc : Int32 → Int32} {wa : Int32 → Int32} {ya : Int32 → Int32} {A : wK → Nat} {h : pm_H} {D : Nat} {S : wS} {x1 : Int32} {r : Int32} (hP : Cz_P pc tc rc fc qc pa ta ra pl tl wc wa ya) (hA : wok A (Cz_d pc tc rc fc qc pa ta ra pl tl wc wa ya) h.1) (hD : 3 ≤ D) (e : f4034zv1 pc tc rc fc qc pa ta ra pl tl wc wa ya S x1 = some r) : pm_call pm_prog D 4034 [.ref (A (3, 0, 0)), .int x1] (wput A (Cz_d pc tc rc fc qc pa ta ra pl tl wc wa ya) S h) = some (Outcome.returned (some (.ref (A (12, r, 0)))), (wput A (Cz_d pc tc rc fc qc pa ta ra pl tl wc wa ya) S h)) := by
  obtain ⟨D, rfl⟩ : ∃ D', D = D' + 1 := ⟨D - 1, by omega⟩
  have hD : 2 ≤ D := by omega
  simp only [f4034zv1] at e
  rw [c4034 (Cz_c3 hP hA), b4034_0]
  obtain ⟨v1, k1, e⟩ := Option.bind_eq_some_iff.mp e
  try dsimp only at e
  have z1 := fun h => x4736 (D := D) (h := h) (by omega) k1
  obtain ⟨v2i, k2, e⟩ := Option.bind_eq_some_iff.mp e
  try dsimp only at e
  have z2 := x4035zv1 (D := D) (h := h) hP hA (by omega) k2
  by_cases k3 : 0 ≤ v2i ∧ v2i < tc
  · rw [if_pos k3] at e
    have e := Option.some.inj e; subst e
    simp -implicitDefEqProofs (disch := first | assumption | exact Nat.le_of_ble_eq_true rfl | decide) only [b4034_0, pe_iload1, pe_aload0, pe_getfield, pe_call2, pm_af_ret, pm_af_void, pm_af_thr, pe_pop_i, pe_pop_r, pe_areturn, pe_aloadN0, pe_aastoreN, pe_areturnN, pe_null, pm_prog_1, pm_ob_some, Nat.reduceDiv, Nat.reduceMod, Nat.reduceMul, Nat.reduceAdd, Int.reduceToNat, pm_kill_i, pm_kill_r, pm_kill_n, pm_kill_j, pm_kill_l, pm_kill_d, pm_cats_nil, pm_cats_i, pm_cats_r, pm_cats_n, pm_cats_l, pm_cats_d, sz_1, sz_2, sl_1, sl_2, lc_0, lc_lt, lc_le, li_ne, va_rf, wr_m1, we_m1, pm_kill_w, Int32.reduceOfInt, Int64.reduceOfInt, Int32.reduceOfNat, Int32.reduceLT, Int32.reduceLE, Prod.mk.injEq, Nat.reduceEqDiff, reduceCtorEq, and_true, true_and, and_false, false_and, and_self, ite_true, ite_false, ↓reduceIte, not_true_eq_false, not_false_eq_true, pe_ri, pe_rz, pe_rc, Cz_g3_2 hP hA, z1, z2]
  · rw [if_neg k3] at e; cases e
/-- TimberHouse$LathePieces.toolOf(I)LTimberHouse$LathePieces$Tool; -/
theorem c645 {d : Nat} {h : pm_H} {a : Nat} {x0 : Int32} (hc : pm_cls h a = some 10) : pm_call pm_prog (d + 1) 645 [.ref a, .int x0] h = pm_ev pm_prog (pm_call pm_prog d) 645 0 b645_0 [.ref a, .int x0] [] h := pm_cal (pm_rc1 hc rfl) rfl rfl rfl
theorem t645 {cl : pm_C} {j : Nat} {ls : List Value} {c : Nat} {h : pm_H} : pm_thr pm_prog cl 645 j ls c h = some (.threw c, h) := rfl
/-- TimberHouse$LathePieces.toolOf(I)LTimberHouse$LathePieces$Tool; -/
noncomputable def f645 (pc : Int32) (tc : Int32) (rc : Int32) (fc : Int32) (qc : Int32) (pa : Int32) (ta : Int32) (ra : Int32) (pl : Int32 → Int32) (tl : Int32 → Int32) (wc : Int32 → Int32) (wa : Int32 → Int32) (ya : Int32 → Int32) (S : wS) (x1 : Int32) : Option (Nat ⊕ (Int32)) :=
  (f4033zv1 pc tc rc fc qc pa ta ra pl tl wc wa ya S).bind fun v1 =>
  (f643 x1 0 (v1 - 1)).bind fun v2 =>
  (f644 v2).bind fun r => match r with
  | .inl c4 =>
    some (.inl c4)
  | .inr _ =>
  (f4034zv1 pc tc rc fc qc pa ta ra pl tl wc wa ya S x1).bind fun v3i =>
  if 0 ≤ v3i ∧ v3i < tc then
    some (.inr v3i)
  else none
theorem x645 {pc : Int32} {tc : Int32} {rc : Int32} {fc : Int32} {qc : Int32} {pa : Int32} {ta : Int32} {ra : Int32} {pl : Int32 → Int32} {tl : Int32 → Int32} {wc : Int32 → Int32} {wa : Int32 → Int32} {ya : Int32 → Int32} {A : wK → Nat} {h : pm_H} {D : Nat} {S : wS} {x1 : Int32} {r : Nat ⊕ (Int32)} (hP : Cz_P pc tc rc fc qc pa ta ra pl tl wc wa ya) (hA : wok A (Cz_d pc tc rc fc qc pa ta ra pl tl wc wa ya) h.1) (hD : 4 ≤ D) (e : f645 pc tc rc fc qc pa ta ra pl tl wc wa ya S x1 = some r) : pm_call pm_prog D 645 [.ref (A (0, 0, 0)), .int x1] (wput A (Cz_d pc tc rc fc qc pa ta ra pl tl wc wa ya) S h) = some (match (generalizing := false) r with | .inl c => (Outcome.threw c, (wput A (Cz_d pc tc rc fc qc pa ta ra pl tl wc wa ya) S (pm_new h 6 (.inr (c, []))))) | .inr w0 => (Outcome.returned (some (.ref (A (12, w0, 0)))), (wput A (Cz_d pc tc rc fc qc pa ta ra pl tl wc wa ya) S h))) := by
  obtain ⟨D, rfl⟩ : ∃ D', D = D' + 1 := ⟨D - 1, by omega⟩
  have hD : 3 ≤ D := by omega
  simp only [f645] at e
  rw [c645 (Cz_c0 hP hA), b645_0]
  obtain ⟨v1, k1, e⟩ := Option.bind_eq_some_iff.mp e
  try dsimp only at e
  have z1 := x4033zv1 (D := D) (h := h) hP hA (by omega) k1
  obtain ⟨v2, k2, e⟩ := Option.bind_eq_some_iff.mp e
  try dsimp only at e
  have z2 := fun h => x643 (D := D) (h := h) (by omega) k2
  obtain ⟨r, k3, e⟩ := Option.bind_eq_some_iff.mp e
  have z3 := fun h => x644 (D := D) (h := h) (by omega) k3
  rcases r with c4 | _
  · dsimp only at e z3
    have e := Option.some.inj e; subst e
    simp -implicitDefEqProofs (disch := first | assumption | exact Nat.le_of_ble_eq_true rfl | decide) only [b645_0, pe_iload1, pe_sipush, pe_aload0, pe_getfield, pe_call1, pm_af_ret, pm_af_void, pm_af_thr, pe_isub, pe_call3, pe_call2, pe_areturn, pe_aloadN0, pe_aastoreN, pe_areturnN, pe_null, pm_prog_1, pm_ob_some, Nat.reduceDiv, Nat.reduceMod, Nat.reduceMul, Nat.reduceAdd, Int.reduceToNat, pm_kill_i, pm_kill_r, pm_kill_n, pm_kill_j, pm_kill_l, pm_kill_d, pm_cats_nil, pm_cats_i, pm_cats_r, pm_cats_n, pm_cats_l, pm_cats_d, sz_1, sz_2, sl_1, sl_2, lc_0, lc_lt, lc_le, li_ne, va_rf, wr_m1, we_m1, pm_kill_w, Int32.reduceOfInt, Int64.reduceOfInt, Int32.reduceOfNat, Int32.reduceLT, Int32.reduceLE, Prod.mk.injEq, Nat.reduceEqDiff, reduceCtorEq, and_true, true_and, and_false, false_and, and_self, ite_true, ite_false, ↓reduceIte, not_true_eq_false, not_false_eq_true, pe_ri, pe_rz, pe_rc, p_throw, t645, w_junk hA, Cz_g0_2 hP hA, Cz_k12 hP hA, z1, z2, z3]
  · dsimp only at e z3
    obtain ⟨v3i, k4, e⟩ := Option.bind_eq_some_iff.mp e
    try dsimp only at e
    have z4 := x4034zv1 (D := D) (h := h) hP hA (by omega) k4
    by_cases k5 : 0 ≤ v3i ∧ v3i < tc
    · rw [if_pos k5] at e
      have e := Option.some.inj e; subst e
      simp -implicitDefEqProofs (disch := first | assumption | exact Nat.le_of_ble_eq_true rfl | decide) only [b645_0, pe_iload1, pe_sipush, pe_aload0, pe_getfield, pe_call1, pm_af_ret, pm_af_void, pm_af_thr, pe_isub, pe_call3, pe_call2, pe_areturn, pe_aloadN0, pe_aastoreN, pe_areturnN, pe_null, pm_prog_1, pm_ob_some, Nat.reduceDiv, Nat.reduceMod, Nat.reduceMul, Nat.reduceAdd, Int.reduceToNat, pm_kill_i, pm_kill_r, pm_kill_n, pm_kill_j, pm_kill_l, pm_kill_d, pm_cats_nil, pm_cats_i, pm_cats_r, pm_cats_n, pm_cats_l, pm_cats_d, sz_1, sz_2, sl_1, sl_2, lc_0, lc_lt, lc_le, li_ne, va_rf, wr_m1, we_m1, pm_kill_w, Int32.reduceOfInt, Int64.reduceOfInt, Int32.reduceOfNat, Int32.reduceLT, Int32.reduceLE, Prod.mk.injEq, Nat.reduceEqDiff, reduceCtorEq, and_true, true_and, and_false, false_and, and_self, ite_true, ite_false, ↓reduceIte, not_true_eq_false, not_false_eq_true, pe_ri, pe_rz, pe_rc, p_throw, t645, w_junk hA, Cz_g0_2 hP hA, Cz_k12 hP hA, z1, z2, z3, z4]
    · rw [if_neg k5] at e; cases e
/-- TimberHouse$LathePieces.need(Z)V -/
theorem c646 {d : Nat} {h : pm_H} {x0 : Int32} : pm_call pm_prog (d + 1) 646 [.int x0] h = pm_ev pm_prog (pm_call pm_prog d) 646 0 b646_0 [.int x0] [] h := pm_cal (pm_rc0 rfl) rfl rfl rfl
theorem g646_1 {cl : pm_C} {ls st : List Value} {h : pm_H} : pm_go pm_prog cl 646 1 ls st h = pm_ev pm_prog cl 646 1 b646_1 ls st h := pm_go_eq pm_prog cl 646 1 ls st h
theorem t646 {cl : pm_C} {j : Nat} {ls : List Value} {c : Nat} {h : pm_H} : pm_thr pm_prog cl 646 j ls c h = some (.threw c, h) := rfl
/-- TimberHouse$LathePieces.need(Z)V -/
noncomputable def f646 (x0 : Int32) : Option (Nat ⊕ (Unit)) :=
  if x0 = 0 then
    some (.inl 70)
  else
    some (.inr ())
theorem x646 {h : pm_H} {D : Nat} {x0 : Int32} {r : Nat ⊕ (Unit)} (hD : 1 ≤ D) (e : f646 x0 = some r) : pm_call pm_prog D 646 [.int x0] h = some (match (generalizing := false) r with | .inl c => (Outcome.threw c, (pm_new h 6 (.inr (c, [])))) | .inr _ => (Outcome.returned none, h)) := by
  obtain ⟨D, rfl⟩ : ∃ D', D = D' + 1 := ⟨D - 1, by omega⟩
  have hD : 0 ≤ D := by omega
  simp only [f646] at e
  rw [c646, b646_0]
  by_cases k1 : x0 = 0
  · rw [if_pos k1] at e
    have e := Option.some.inj e; subst e
    simp -implicitDefEqProofs (disch := first | assumption | exact Nat.le_of_ble_eq_true rfl | decide) only [b646_0, g646_1, b646_1, pe_iload0, pe_if_ne, pe_return, pe_aastoreN, pe_areturnN, pe_null, pm_prog_1, pm_ob_some, Nat.reduceDiv, Nat.reduceMod, Nat.reduceMul, Nat.reduceAdd, Int.reduceToNat, pm_kill_i, pm_kill_r, pm_kill_n, pm_kill_j, pm_kill_l, pm_kill_d, pm_cats_nil, pm_cats_i, pm_cats_r, pm_cats_n, pm_cats_l, pm_cats_d, sz_1, sz_2, sl_1, sl_2, lc_0, lc_lt, lc_le, li_ne, va_rf, wr_m1, we_m1, pm_kill_w, Int32.reduceOfInt, Int64.reduceOfInt, Int32.reduceOfNat, Int32.reduceLT, Int32.reduceLE, Prod.mk.injEq, Nat.reduceEqDiff, reduceCtorEq, and_true, true_and, and_false, false_and, and_self, ite_true, ite_false, ↓reduceIte, not_true_eq_false, not_false_eq_true, pe_ri, pe_rz, pe_rc, p_throw, t646, eq_true k1]
  · rw [if_neg k1] at e
    have e := Option.some.inj e; subst e
    simp -implicitDefEqProofs (disch := first | assumption | exact Nat.le_of_ble_eq_true rfl | decide) only [b646_0, g646_1, b646_1, pe_iload0, pe_if_ne, pe_return, pe_aastoreN, pe_areturnN, pe_null, pm_prog_1, pm_ob_some, Nat.reduceDiv, Nat.reduceMod, Nat.reduceMul, Nat.reduceAdd, Int.reduceToNat, pm_kill_i, pm_kill_r, pm_kill_n, pm_kill_j, pm_kill_l, pm_kill_d, pm_cats_nil, pm_cats_i, pm_cats_r, pm_cats_n, pm_cats_l, pm_cats_d, sz_1, sz_2, sl_1, sl_2, lc_0, lc_lt, lc_le, li_ne, va_rf, wr_m1, we_m1, pm_kill_w, Int32.reduceOfInt, Int64.reduceOfInt, Int32.reduceOfNat, Int32.reduceLT, Int32.reduceLE, Prod.mk.injEq, Nat.reduceEqDiff, reduceCtorEq, and_true, true_and, and_false, false_and, and_self, ite_true, ite_false, ↓reduceIte, not_true_eq_false, not_false_eq_true, pe_ri, pe_rz, pe_rc, p_throw, t646, eq_false k1]
/-- TimberHouse$LathePieces$Piece.length()I -/
theorem c2752 {d : Nat} {h : pm_H} {a : Nat} (hc : pm_cls h a = some 43) : pm_call pm_prog (d + 1) 2752 [.ref a] h = pm_ev pm_prog (pm_call pm_prog d) 2752 0 b2752_0 [.ref a] [] h := pm_cal (pm_rc1 hc rfl) rfl rfl rfl
/-- TimberHouse$LathePieces$Piece.length()I -/
noncomputable def f2752 (pc : Int32) (tc : Int32) (rc : Int32) (fc : Int32) (qc : Int32) (pa : Int32) (ta : Int32) (ra : Int32) (pl : Int32 → Int32) (tl : Int32 → Int32) (wc : Int32 → Int32) (wa : Int32 → Int32) (ya : Int32 → Int32) (S : wS) (x0i : Int32) : Option (Int32) :=
  if 0 ≤ x0i ∧ x0i < pc then
    some ((pl x0i) - 1)
  else none
theorem x2752 {pc : Int32} {tc : Int32} {rc : Int32} {fc : Int32} {qc : Int32} {pa : Int32} {ta : Int32} {ra : Int32} {pl : Int32 → Int32} {tl : Int32 → Int32} {wc : Int32 → Int32} {wa : Int32 → Int32} {ya : Int32 → Int32} {A : wK → Nat} {h : pm_H} {D : Nat} {S : wS} {x0i : Int32} {r : Int32} (hP : Cz_P pc tc rc fc qc pa ta ra pl tl wc wa ya) (hA : wok A (Cz_d pc tc rc fc qc pa ta ra pl tl wc wa ya) h.1) (hD : 1 ≤ D) (e : f2752 pc tc rc fc qc pa ta ra pl tl wc wa ya S x0i = some r) : pm_call pm_prog D 2752 [.ref (A (10, x0i, 0))] (wput A (Cz_d pc tc rc fc qc pa ta ra pl tl wc wa ya) S h) = some (Outcome.returned (some (.int r)), (wput A (Cz_d pc tc rc fc qc pa ta ra pl tl wc wa ya) S h)) := by
  obtain ⟨D, rfl⟩ : ∃ D', D = D' + 1 := ⟨D - 1, by omega⟩
  have hD : 0 ≤ D := by omega
  simp only [f2752] at e
  have k1 : 0 ≤ x0i ∧ x0i < pc := by
    by_cases q : 0 ≤ x0i ∧ x0i < pc
    · exact q
    · rw [if_neg q] at e; cases e
  rw [if_pos k1] at e
  rw [c2752 (Cz_c10 hP hA k1), b2752_0]
  have e := Option.some.inj e; subst e
  simp -implicitDefEqProofs (disch := first | assumption | exact Nat.le_of_ble_eq_true rfl | decide) only [b2752_0, pe_aload0, pe_getfield, pe_arraylength, pe_sipush, pe_isub, pe_aloadN0, pe_aastoreN, pe_areturnN, pe_null, pm_prog_1, pm_ob_some, Nat.reduceDiv, Nat.reduceMod, Nat.reduceMul, Nat.reduceAdd, Int.reduceToNat, pm_kill_i, pm_kill_r, pm_kill_n, pm_kill_j, pm_kill_l, pm_kill_d, pm_cats_nil, pm_cats_i, pm_cats_r, pm_cats_n, pm_cats_l, pm_cats_d, sz_1, sz_2, sl_1, sl_2, lc_0, lc_lt, lc_le, li_ne, va_rf, wr_m1, we_m1, pm_kill_w, Int32.reduceOfInt, Int64.reduceOfInt, Int32.reduceOfNat, Int32.reduceLT, Int32.reduceLE, Prod.mk.injEq, Nat.reduceEqDiff, reduceCtorEq, and_true, true_and, and_false, false_and, and_self, ite_true, ite_false, ↓reduceIte, not_true_eq_false, not_false_eq_true, pe_ri, pe_rz, pe_rc, Cz_g10_0 hP hA, Cz_l11 hP hA, Cz_n0 hP , Cz_n1 hP , Cz_n2 hP , Cz_n3 hP , Cz_n4 hP , Cz_n5 hP , Cz_n6 hP ]
/-- TimberHouse$LathePieces$Piece.blank()I -/
theorem c2753 {d : Nat} {h : pm_H} {a : Nat} (hc : pm_cls h a = some 43) : pm_call pm_prog (d + 1) 2753 [.ref a] h = pm_ev pm_prog (pm_call pm_prog d) 2753 0 b2753_0 [.ref a, pm_junk, pm_junk, pm_junk, pm_junk, pm_junk] [] h := pm_cal (pm_rc1 hc rfl) rfl rfl rfl
theorem g2753_1 {cl : pm_C} {ls st : List Value} {h : pm_H} : pm_go pm_prog cl 2753 1 ls st h = pm_ev pm_prog cl 2753 1 b2753_1 ls st h := pm_go_eq pm_prog cl 2753 1 ls st h
theorem g2753_2 {cl : pm_C} {ls st : List Value} {h : pm_H} : pm_go pm_prog cl 2753 2 ls st h = pm_ev pm_prog cl 2753 2 b2753_2 ls st h := pm_go_eq pm_prog cl 2753 2 ls st h
noncomputable def f2753_b1 (pc : Int32) (tc : Int32) (rc : Int32) (fc : Int32) (qc : Int32) (pa : Int32) (ta : Int32) (ra : Int32) (pl : Int32 → Int32) (tl : Int32 → Int32) (wc : Int32 → Int32) (wa : Int32 → Int32) (ya : Int32 → Int32) (S : wS) : Int32 × Int32 × Int32 × Int32 → Option ((Int32 × Int32 × Int32 × Int32) ⊕ ((Int32))) := fun (x1, x2i, x3, x4) =>
  if 0 ≤ x2i ∧ x2i < pc then
    if x4 < x3 then
      if 0 ≤ x4 ∧ x4 < (pl x2i) then
        (f3841 x1 (S.1 (11, x2i, 0) x4)).bind fun v1 =>
        some (.inl (v1, x2i, x3, (x4 + 1)))
      else none
    else
      some (.inr x1)
  else none
/-- TimberHouse$LathePieces$Piece.blank()I -/
noncomputable def f2753 (pc : Int32) (tc : Int32) (rc : Int32) (fc : Int32) (qc : Int32) (pa : Int32) (ta : Int32) (ra : Int32) (pl : Int32 → Int32) (tl : Int32 → Int32) (wc : Int32 → Int32) (wa : Int32 → Int32) (ya : Int32 → Int32) (S : wS) (x0i : Int32) : Option (Int32) :=
  if 0 ≤ x0i ∧ x0i < pc then
    (lp (f2753_b1 pc tc rc fc qc pa ta ra pl tl wc wa ya S) FU (0, x0i, (pl x0i), 0)).bind fun v2 =>
    some (v2 + 3)
  else none
def go2753_1 (pc : Int32) (tc : Int32) (rc : Int32) (fc : Int32) (qc : Int32) (pa : Int32) (ta : Int32) (ra : Int32) (pl : Int32 → Int32) (tl : Int32 → Int32) (wc : Int32 → Int32) (wa : Int32 → Int32) (ya : Int32 → Int32) (A : wK → Nat) (h : pm_H) (D : Nat) (R : Outcome × pm_H) (S : wS) : Int32 × Int32 × Int32 × Int32 → Prop := fun (x1, x2i, x3, x4) => ∀ q0 q5 : Value, pm_go pm_prog (pm_call pm_prog D) 2753 1 [q0, .int x1, .ref (A (11, x2i, 0)), .int x3, .int x4, q5] [] (wput A (Cz_d pc tc rc fc qc pa ta ra pl tl wc wa ya) S h) = some R
def ex2753_1 (pc : Int32) (tc : Int32) (rc : Int32) (fc : Int32) (qc : Int32) (pa : Int32) (ta : Int32) (ra : Int32) (pl : Int32 → Int32) (tl : Int32 → Int32) (wc : Int32 → Int32) (wa : Int32 → Int32) (ya : Int32 → Int32) (A : wK → Nat) (h : pm_H) (D : Nat) (R : Outcome × pm_H) (S : wS) : (Int32) → Prop := fun x1 => ∀ q0 q2 q3 q4 q5 : Value, pm_go pm_prog (pm_call pm_prog D) 2753 2 [q0, .int x1, q2, q3, q4, q5] [] (wput A (Cz_d pc tc rc fc qc pa ta ra pl tl wc wa ya) S h) = some R
theorem y2753_b1 {pc : Int32} {tc : Int32} {rc : Int32} {fc : Int32} {qc : Int32} {pa : Int32} {ta : Int32} {ra : Int32} {pl : Int32 → Int32} {tl : Int32 → Int32} {wc : Int32 → Int32} {wa : Int32 → Int32} {ya : Int32 → Int32} {A : wK → Nat} {h : pm_H} {D : Nat} {R : Outcome × pm_H} {S : wS} (hP : Cz_P pc tc rc fc qc pa ta ra pl tl wc wa ya) (hA : wok A (Cz_d pc tc rc fc qc pa ta ra pl tl wc wa ya) h.1) (hD : 1 ≤ D) (a : Int32 × Int32 × Int32 × Int32) (r : (Int32 × Int32 × Int32 × Int32) ⊕ ((Int32))) (e : f2753_b1 pc tc rc fc qc pa ta ra pl tl wc wa ya S a = some r) (hc : Sum.elim (go2753_1 pc tc rc fc qc pa ta ra pl tl wc wa ya A h D R S) (ex2753_1 pc tc rc fc qc pa ta ra pl tl wc wa ya A h D R S) r) : go2753_1 pc tc rc fc qc pa ta ra pl tl wc wa ya A h D R S a := by
  obtain ⟨x1, x2i, x3, x4⟩ := a
  dsimp only [go2753_1]
  intro q0 q5
  simp only [f2753_b1] at e
  rw [g2753_1, b2753_1]
  by_cases k1 : 0 ≤ x2i ∧ x2i < pc
  · rw [if_pos k1] at e
    by_cases k2 : x4 < x3
    · rw [if_pos k2] at e
      by_cases k3 : 0 ≤ x4 ∧ x4 < (pl x2i)
      · rw [if_pos k3] at e
        obtain ⟨v1, k4, e⟩ := Option.bind_eq_some_iff.mp e
        try dsimp only at e
        have z4 := fun h => x3841 (D := D) (h := h) (by omega) k4
        have e := Option.some.inj e; subst e
        dsimp only [Sum.elim_inl, go2753_1] at hc
        simp -implicitDefEqProofs (disch := first | assumption | exact Nat.le_of_ble_eq_true rfl | decide) only [b2753_0, g2753_2, b2753_2, pe_sipush, pe_istore1, pe_aload0, pe_getfield, pe_astore2, pe_aload2, pe_arraylength, pe_istore3, pe_istore4, pe_goto_w, pe_iload4, pe_iload3, pe_icmp_ge, pe_iaload, pe_istore5, pe_iload1, pe_iload5, pe_call2, pm_af_ret, pm_af_void, pm_af_thr, pe_iinc4, pe_goto, pe_iadd, pe_aloadN0, pe_astoreN2, pe_aloadN2, pe_aastoreN, pe_areturnN, pe_null, pm_prog_1, pm_ob_some, Nat.reduceDiv, Nat.reduceMod, Nat.reduceMul, Nat.reduceAdd, Int.reduceToNat, pm_kill_i, pm_kill_r, pm_kill_n, pm_kill_j, pm_kill_l, pm_kill_d, pm_cats_nil, pm_cats_i, pm_cats_r, pm_cats_n, pm_cats_l, pm_cats_d, sz_1, sz_2, sl_1, sl_2, lc_0, lc_lt, lc_le, li_ne, va_rf, wr_m1, we_m1, pm_kill_w, Int32.reduceOfInt, Int64.reduceOfInt, Int32.reduceOfNat, Int32.reduceLT, Int32.reduceLE, Prod.mk.injEq, Nat.reduceEqDiff, reduceCtorEq, and_true, true_and, and_false, false_and, and_self, ite_true, ite_false, ↓reduceIte, not_true_eq_false, not_false_eq_true, pe_ri, pe_rz, pe_rc, Cz_g10_0 hP hA, Cz_l11 hP hA, Cz_r11 hP hA, Cz_n0 hP , Cz_n1 hP , Cz_n2 hP , Cz_n3 hP , Cz_n4 hP , Cz_n5 hP , Cz_n6 hP , eq_true k2, z4, hc]
      · rw [if_neg k3] at e; cases e
    · rw [if_neg k2] at e
      have e := Option.some.inj e; subst e
      dsimp only [Sum.elim_inr, ex2753_1] at hc
      simp -implicitDefEqProofs (disch := first | assumption | exact Nat.le_of_ble_eq_true rfl | decide) only [b2753_0, g2753_2, b2753_2, pe_sipush, pe_istore1, pe_aload0, pe_getfield, pe_astore2, pe_aload2, pe_arraylength, pe_istore3, pe_istore4, pe_goto_w, pe_iload4, pe_iload3, pe_icmp_ge, pe_iaload, pe_istore5, pe_iload1, pe_iload5, pe_call2, pm_af_ret, pm_af_void, pm_af_thr, pe_iinc4, pe_goto, pe_iadd, pe_aloadN0, pe_astoreN2, pe_aloadN2, pe_aastoreN, pe_areturnN, pe_null, pm_prog_1, pm_ob_some, Nat.reduceDiv, Nat.reduceMod, Nat.reduceMul, Nat.reduceAdd, Int.reduceToNat, pm_kill_i, pm_kill_r, pm_kill_n, pm_kill_j, pm_kill_l, pm_kill_d, pm_cats_nil, pm_cats_i, pm_cats_r, pm_cats_n, pm_cats_l, pm_cats_d, sz_1, sz_2, sl_1, sl_2, lc_0, lc_lt, lc_le, li_ne, va_rf, wr_m1, we_m1, pm_kill_w, Int32.reduceOfInt, Int64.reduceOfInt, Int32.reduceOfNat, Int32.reduceLT, Int32.reduceLE, Prod.mk.injEq, Nat.reduceEqDiff, reduceCtorEq, and_true, true_and, and_false, false_and, and_self, ite_true, ite_false, ↓reduceIte, not_true_eq_false, not_false_eq_true, pe_ri, pe_rz, pe_rc, Cz_g10_0 hP hA, Cz_l11 hP hA, Cz_r11 hP hA, Cz_n0 hP , Cz_n1 hP , Cz_n2 hP , Cz_n3 hP , Cz_n4 hP , Cz_n5 hP , Cz_n6 hP , eq_false k2, hc]
  · rw [if_neg k1] at e; cases e
theorem z2753_1 {pc : Int32} {tc : Int32} {rc : Int32} {fc : Int32} {qc : Int32} {pa : Int32} {ta : Int32} {ra : Int32} {pl : Int32 → Int32} {tl : Int32 → Int32} {wc : Int32 → Int32} {wa : Int32 → Int32} {ya : Int32 → Int32} {A : wK → Nat} {h : pm_H} {D : Nat} {R : Outcome × pm_H} {S : wS} (hP : Cz_P pc tc rc fc qc pa ta ra pl tl wc wa ya) (hA : wok A (Cz_d pc tc rc fc qc pa ta ra pl tl wc wa ya) h.1) (hD : 1 ≤ D) {n : Nat} {a : Int32 × Int32 × Int32 × Int32} {b : (Int32)} (e : lp (f2753_b1 pc tc rc fc qc pa ta ra pl tl wc wa ya S) n a = some b) (hx : ex2753_1 pc tc rc fc qc pa ta ra pl tl wc wa ya A h D R S b) : go2753_1 pc tc rc fc qc pa ta ra pl tl wc wa ya A h D R S a := lp_run (fun a r => y2753_b1 hP hA hD a r) n a b e hx
theorem x2753 {pc : Int32} {tc : Int32} {rc : Int32} {fc : Int32} {qc : Int32} {pa : Int32} {ta : Int32} {ra : Int32} {pl : Int32 → Int32} {tl : Int32 → Int32} {wc : Int32 → Int32} {wa : Int32 → Int32} {ya : Int32 → Int32} {A : wK → Nat} {h : pm_H} {D : Nat} {S : wS} {x0i : Int32} {r : Int32} (hP : Cz_P pc tc rc fc qc pa ta ra pl tl wc wa ya) (hA : wok A (Cz_d pc tc rc fc qc pa ta ra pl tl wc wa ya) h.1) (hD : 2 ≤ D) (e : f2753 pc tc rc fc qc pa ta ra pl tl wc wa ya S x0i = some r) : pm_call pm_prog D 2753 [.ref (A (10, x0i, 0))] (wput A (Cz_d pc tc rc fc qc pa ta ra pl tl wc wa ya) S h) = some (Outcome.returned (some (.int r)), (wput A (Cz_d pc tc rc fc qc pa ta ra pl tl wc wa ya) S h)) := by
  obtain ⟨D, rfl⟩ : ∃ D', D = D' + 1 := ⟨D - 1, by omega⟩
  have hD : 1 ≤ D := by omega
  simp only [f2753] at e
  have k1 : 0 ≤ x0i ∧ x0i < pc := by
    by_cases q : 0 ≤ x0i ∧ x0i < pc
    · exact q
    · rw [if_neg q] at e; cases e
  rw [if_pos k1] at e
  rw [c2753 (Cz_c10 hP hA k1), b2753_0]
  obtain ⟨v2, k2, e⟩ := Option.bind_eq_some_iff.mp e
  try dsimp only at e
  try simp -implicitDefEqProofs (disch := first | assumption | exact Nat.le_of_ble_eq_true rfl | decide) only [b2753_0, g2753_2, b2753_2, pe_sipush, pe_istore1, pe_aload0, pe_getfield, pe_astore2, pe_aload2, pe_arraylength, pe_istore3, pe_istore4, pe_goto_w, pe_iload4, pe_iload3, pe_icmp_ge, pe_iaload, pe_istore5, pe_iload1, pe_iload5, pe_call2, pm_af_ret, pm_af_void, pm_af_thr, pe_iinc4, pe_goto, pe_iadd, pe_aloadN0, pe_astoreN2, pe_aloadN2, pe_aastoreN, pe_areturnN, pe_null, pm_prog_1, pm_ob_some, Nat.reduceDiv, Nat.reduceMod, Nat.reduceMul, Nat.reduceAdd, Int.reduceToNat, pm_kill_i, pm_kill_r, pm_kill_n, pm_kill_j, pm_kill_l, pm_kill_d, pm_cats_nil, pm_cats_i, pm_cats_r, pm_cats_n, pm_cats_l, pm_cats_d, sz_1, sz_2, sl_1, sl_2, lc_0, lc_lt, lc_le, li_ne, va_rf, wr_m1, we_m1, pm_kill_w, Int32.reduceOfInt, Int64.reduceOfInt, Int32.reduceOfNat, Int32.reduceLT, Int32.reduceLE, Prod.mk.injEq, Nat.reduceEqDiff, reduceCtorEq, and_true, true_and, and_false, false_and, and_self, ite_true, ite_false, ↓reduceIte, not_true_eq_false, not_false_eq_true, pe_ri, pe_rz, pe_rc, Cz_g10_0 hP hA, Cz_l11 hP hA, Cz_r11 hP hA, Cz_n0 hP , Cz_n1 hP , Cz_n2 hP , Cz_n3 hP , Cz_n4 hP , Cz_n5 hP , Cz_n6 hP ]
  refine z2753_1 hP hA hD k2 ?_ _ _
  dsimp only [ex2753_1]
  intro q0 q2 q3 q4 q5
  have e := Option.some.inj e; subst e
  simp -implicitDefEqProofs (disch := first | assumption | exact Nat.le_of_ble_eq_true rfl | decide) only [b2753_0, g2753_2, b2753_2, pe_sipush, pe_istore1, pe_aload0, pe_getfield, pe_astore2, pe_aload2, pe_arraylength, pe_istore3, pe_istore4, pe_goto_w, pe_iload4, pe_iload3, pe_icmp_ge, pe_iaload, pe_istore5, pe_iload1, pe_iload5, pe_call2, pm_af_ret, pm_af_void, pm_af_thr, pe_iinc4, pe_goto, pe_iadd, pe_aloadN0, pe_astoreN2, pe_aloadN2, pe_aastoreN, pe_areturnN, pe_null, pm_prog_1, pm_ob_some, Nat.reduceDiv, Nat.reduceMod, Nat.reduceMul, Nat.reduceAdd, Int.reduceToNat, pm_kill_i, pm_kill_r, pm_kill_n, pm_kill_j, pm_kill_l, pm_kill_d, pm_cats_nil, pm_cats_i, pm_cats_r, pm_cats_n, pm_cats_l, pm_cats_d, sz_1, sz_2, sl_1, sl_2, lc_0, lc_lt, lc_le, li_ne, va_rf, wr_m1, we_m1, pm_kill_w, Int32.reduceOfInt, Int64.reduceOfInt, Int32.reduceOfNat, Int32.reduceLT, Int32.reduceLE, Prod.mk.injEq, Nat.reduceEqDiff, reduceCtorEq, and_true, true_and, and_false, false_and, and_self, ite_true, ite_false, ↓reduceIte, not_true_eq_false, not_false_eq_true, pe_ri, pe_rz, pe_rc, Cz_g10_0 hP hA, Cz_l11 hP hA, Cz_r11 hP hA, Cz_n0 hP , Cz_n1 hP , Cz_n2 hP , Cz_n3 hP , Cz_n4 hP , Cz_n5 hP , Cz_n6 hP ]
/-- TimberHouse$LathePieces$Tool.first(I)I -/
theorem c2817 {d : Nat} {h : pm_H} {a : Nat} {x0 : Int32} (hc : pm_cls h a = some 44) : pm_call pm_prog (d + 1) 2817 [.ref a, .int x0] h = pm_ev pm_prog (pm_call pm_prog d) 2817 0 b2817_0 [.ref a, .int x0] [] h := pm_cal (pm_rc1 hc rfl) rfl rfl rfl
theorem g2817_1 {cl : pm_C} {ls st : List Value} {h : pm_H} : pm_go pm_prog cl 2817 1 ls st h = pm_ev pm_prog cl 2817 1 b2817_1 ls st h := pm_go_eq pm_prog cl 2817 1 ls st h
theorem g2817_2 {cl : pm_C} {ls st : List Value} {h : pm_H} : pm_go pm_prog cl 2817 2 ls st h = pm_ev pm_prog cl 2817 2 b2817_2 ls st h := pm_go_eq pm_prog cl 2817 2 ls st h
/-- TimberHouse$LathePieces$Tool.first(I)I -/
noncomputable def f2817 (pc : Int32) (tc : Int32) (rc : Int32) (fc : Int32) (qc : Int32) (pa : Int32) (ta : Int32) (ra : Int32) (pl : Int32 → Int32) (tl : Int32 → Int32) (wc : Int32 → Int32) (wa : Int32 → Int32) (ya : Int32 → Int32) (S : wS) (x0i : Int32) (x1 : Int32) : Option (Int32) :=
  if 0 ≤ x0i ∧ x0i < tc then
    if x1 < (S.1 (12, x0i, 0) 0) then
      some 0
    else
      some (x1 - (S.1 (12, x0i, 0) 0))
  else none
theorem x2817 {pc : Int32} {tc : Int32} {rc : Int32} {fc : Int32} {qc : Int32} {pa : Int32} {ta : Int32} {ra : Int32} {pl : Int32 → Int32} {tl : Int32 → Int32} {wc : Int32 → Int32} {wa : Int32 → Int32} {ya : Int32 → Int32} {A : wK → Nat} {h : pm_H} {D : Nat} {S : wS} {x0i : Int32} {x1 : Int32} {r : Int32} (hP : Cz_P pc tc rc fc qc pa ta ra pl tl wc wa ya) (hA : wok A (Cz_d pc tc rc fc qc pa ta ra pl tl wc wa ya) h.1) (hD : 1 ≤ D) (e : f2817 pc tc rc fc qc pa ta ra pl tl wc wa ya S x0i x1 = some r) : pm_call pm_prog D 2817 [.ref (A (12, x0i, 0)), .int x1] (wput A (Cz_d pc tc rc fc qc pa ta ra pl tl wc wa ya) S h) = some (Outcome.returned (some (.int r)), (wput A (Cz_d pc tc rc fc qc pa ta ra pl tl wc wa ya) S h)) := by
  obtain ⟨D, rfl⟩ : ∃ D', D = D' + 1 := ⟨D - 1, by omega⟩
  have hD : 0 ≤ D := by omega
  simp only [f2817] at e
  have k1 : 0 ≤ x0i ∧ x0i < tc := by
    by_cases q : 0 ≤ x0i ∧ x0i < tc
    · exact q
    · rw [if_neg q] at e; cases e
  rw [if_pos k1] at e
  rw [c2817 (Cz_c12 hP hA k1), b2817_0]
  by_cases k2 : x1 < (S.1 (12, x0i, 0) 0)
  · rw [if_pos k2] at e
    have e := Option.some.inj e; subst e
    simp -implicitDefEqProofs (disch := first | assumption | exact Nat.le_of_ble_eq_true rfl | decide) only [b2817_0, g2817_1, b2817_1, g2817_2, b2817_2, pe_iload1, pe_aload0, pe_getfield, pe_icmp_ge, pe_sipush, pe_goto, pe_isub, pe_goto_w, pe_aloadN0, pe_aastoreN, pe_areturnN, pe_null, pm_prog_1, pm_ob_some, Nat.reduceDiv, Nat.reduceMod, Nat.reduceMul, Nat.reduceAdd, Int.reduceToNat, pm_kill_i, pm_kill_r, pm_kill_n, pm_kill_j, pm_kill_l, pm_kill_d, pm_cats_nil, pm_cats_i, pm_cats_r, pm_cats_n, pm_cats_l, pm_cats_d, sz_1, sz_2, sl_1, sl_2, lc_0, lc_lt, lc_le, li_ne, va_rf, wr_m1, we_m1, pm_kill_w, Int32.reduceOfInt, Int64.reduceOfInt, Int32.reduceOfNat, Int32.reduceLT, Int32.reduceLE, Prod.mk.injEq, Nat.reduceEqDiff, reduceCtorEq, and_true, true_and, and_false, false_and, and_self, ite_true, ite_false, ↓reduceIte, not_true_eq_false, not_false_eq_true, pe_ri, pe_rz, pe_rc, Cz_g12_0 hP hA, eq_true k2]
  · rw [if_neg k2] at e
    have e := Option.some.inj e; subst e
    simp -implicitDefEqProofs (disch := first | assumption | exact Nat.le_of_ble_eq_true rfl | decide) only [b2817_0, g2817_1, b2817_1, g2817_2, b2817_2, pe_iload1, pe_aload0, pe_getfield, pe_icmp_ge, pe_sipush, pe_goto, pe_isub, pe_goto_w, pe_aloadN0, pe_aastoreN, pe_areturnN, pe_null, pm_prog_1, pm_ob_some, Nat.reduceDiv, Nat.reduceMod, Nat.reduceMul, Nat.reduceAdd, Int.reduceToNat, pm_kill_i, pm_kill_r, pm_kill_n, pm_kill_j, pm_kill_l, pm_kill_d, pm_cats_nil, pm_cats_i, pm_cats_r, pm_cats_n, pm_cats_l, pm_cats_d, sz_1, sz_2, sl_1, sl_2, lc_0, lc_lt, lc_le, li_ne, va_rf, wr_m1, we_m1, pm_kill_w, Int32.reduceOfInt, Int64.reduceOfInt, Int32.reduceOfNat, Int32.reduceLT, Int32.reduceLE, Prod.mk.injEq, Nat.reduceEqDiff, reduceCtorEq, and_true, true_and, and_false, false_and, and_self, ite_true, ite_false, ↓reduceIte, not_true_eq_false, not_false_eq_true, pe_ri, pe_rz, pe_rc, Cz_g12_0 hP hA, eq_false k2]
/-- TimberHouse$LathePieces$Tool.last(II)I -/
theorem c2818 {d : Nat} {h : pm_H} {a : Nat} {x0 : Int32} {x1 : Int32} (hc : pm_cls h a = some 44) : pm_call pm_prog (d + 1) 2818 [.ref a, .int x0, .int x1] h = pm_ev pm_prog (pm_call pm_prog d) 2818 0 b2818_0 [.ref a, .int x0, .int x1] [] h := pm_cal (pm_rc1 hc rfl) rfl rfl rfl
theorem g2818_1 {cl : pm_C} {ls st : List Value} {h : pm_H} : pm_go pm_prog cl 2818 1 ls st h = pm_ev pm_prog cl 2818 1 b2818_1 ls st h := pm_go_eq pm_prog cl 2818 1 ls st h
theorem g2818_2 {cl : pm_C} {ls st : List Value} {h : pm_H} : pm_go pm_prog cl 2818 2 ls st h = pm_ev pm_prog cl 2818 2 b2818_2 ls st h := pm_go_eq pm_prog cl 2818 2 ls st h
/-- TimberHouse$LathePieces$Tool.last(II)I -/
noncomputable def f2818 (pc : Int32) (tc : Int32) (rc : Int32) (fc : Int32) (qc : Int32) (pa : Int32) (ta : Int32) (ra : Int32) (pl : Int32 → Int32) (tl : Int32 → Int32) (wc : Int32 → Int32) (wa : Int32 → Int32) (ya : Int32 → Int32) (S : wS) (x0i : Int32) (x1 : Int32) (x2 : Int32) : Option (Int32) :=
  if 0 ≤ x0i ∧ x0i < tc then
    if (x1 + (S.1 (12, x0i, 0) 0)) ≤ x2 then
      some (x1 + (S.1 (12, x0i, 0) 0))
    else
      some x2
  else none
theorem x2818 {pc : Int32} {tc : Int32} {rc : Int32} {fc : Int32} {qc : Int32} {pa : Int32} {ta : Int32} {ra : Int32} {pl : Int32 → Int32} {tl : Int32 → Int32} {wc : Int32 → Int32} {wa : Int32 → Int32} {ya : Int32 → Int32} {A : wK → Nat} {h : pm_H} {D : Nat} {S : wS} {x0i : Int32} {x1 : Int32} {x2 : Int32} {r : Int32} (hP : Cz_P pc tc rc fc qc pa ta ra pl tl wc wa ya) (hA : wok A (Cz_d pc tc rc fc qc pa ta ra pl tl wc wa ya) h.1) (hD : 1 ≤ D) (e : f2818 pc tc rc fc qc pa ta ra pl tl wc wa ya S x0i x1 x2 = some r) : pm_call pm_prog D 2818 [.ref (A (12, x0i, 0)), .int x1, .int x2] (wput A (Cz_d pc tc rc fc qc pa ta ra pl tl wc wa ya) S h) = some (Outcome.returned (some (.int r)), (wput A (Cz_d pc tc rc fc qc pa ta ra pl tl wc wa ya) S h)) := by
  obtain ⟨D, rfl⟩ : ∃ D', D = D' + 1 := ⟨D - 1, by omega⟩
  have hD : 0 ≤ D := by omega
  simp only [f2818] at e
  have k1 : 0 ≤ x0i ∧ x0i < tc := by
    by_cases q : 0 ≤ x0i ∧ x0i < tc
    · exact q
    · rw [if_neg q] at e; cases e
  rw [if_pos k1] at e
  rw [c2818 (Cz_c12 hP hA k1), b2818_0]
  by_cases k2 : (x1 + (S.1 (12, x0i, 0) 0)) ≤ x2
  · rw [if_pos k2] at e
    have e := Option.some.inj e; subst e
    simp -implicitDefEqProofs (disch := first | assumption | exact Nat.le_of_ble_eq_true rfl | decide) only [b2818_0, g2818_1, b2818_1, g2818_2, b2818_2, pe_iload1, pe_aload0, pe_getfield, pe_iadd, pe_iload2, pe_icmp_le, pe_goto, pe_goto_w, pe_aloadN0, pe_aastoreN, pe_areturnN, pe_null, pm_prog_1, pm_ob_some, Nat.reduceDiv, Nat.reduceMod, Nat.reduceMul, Nat.reduceAdd, Int.reduceToNat, pm_kill_i, pm_kill_r, pm_kill_n, pm_kill_j, pm_kill_l, pm_kill_d, pm_cats_nil, pm_cats_i, pm_cats_r, pm_cats_n, pm_cats_l, pm_cats_d, sz_1, sz_2, sl_1, sl_2, lc_0, lc_lt, lc_le, li_ne, va_rf, wr_m1, we_m1, pm_kill_w, Int32.reduceOfInt, Int64.reduceOfInt, Int32.reduceOfNat, Int32.reduceLT, Int32.reduceLE, Prod.mk.injEq, Nat.reduceEqDiff, reduceCtorEq, and_true, true_and, and_false, false_and, and_self, ite_true, ite_false, ↓reduceIte, not_true_eq_false, not_false_eq_true, pe_ri, pe_rz, pe_rc, Cz_g12_0 hP hA, eq_true k2]
  · rw [if_neg k2] at e
    have e := Option.some.inj e; subst e
    simp -implicitDefEqProofs (disch := first | assumption | exact Nat.le_of_ble_eq_true rfl | decide) only [b2818_0, g2818_1, b2818_1, g2818_2, b2818_2, pe_iload1, pe_aload0, pe_getfield, pe_iadd, pe_iload2, pe_icmp_le, pe_goto, pe_goto_w, pe_aloadN0, pe_aastoreN, pe_areturnN, pe_null, pm_prog_1, pm_ob_some, Nat.reduceDiv, Nat.reduceMod, Nat.reduceMul, Nat.reduceAdd, Int.reduceToNat, pm_kill_i, pm_kill_r, pm_kill_n, pm_kill_j, pm_kill_l, pm_kill_d, pm_cats_nil, pm_cats_i, pm_cats_r, pm_cats_n, pm_cats_l, pm_cats_d, sz_1, sz_2, sl_1, sl_2, lc_0, lc_lt, lc_le, li_ne, va_rf, wr_m1, we_m1, pm_kill_w, Int32.reduceOfInt, Int64.reduceOfInt, Int32.reduceOfNat, Int32.reduceLT, Int32.reduceLE, Prod.mk.injEq, Nat.reduceEqDiff, reduceCtorEq, and_true, true_and, and_false, false_and, and_self, ite_true, ite_false, ↓reduceIte, not_true_eq_false, not_false_eq_true, pe_ri, pe_rz, pe_rc, Cz_g12_0 hP hA, eq_false k2]
/-- TimberHouse$LathePieces$Tool.height(II)I -/
theorem c2820 {d : Nat} {h : pm_H} {a : Nat} {x0 : Int32} {x1 : Int32} (hc : pm_cls h a = some 44) : pm_call pm_prog (d + 1) 2820 [.ref a, .int x0, .int x1] h = pm_ev pm_prog (pm_call pm_prog d) 2820 0 b2820_0 [.ref a, .int x0, .int x1] [] h := pm_cal (pm_rc1 hc rfl) rfl rfl rfl
theorem g2820_1 {cl : pm_C} {ls st : List Value} {h : pm_H} : pm_go pm_prog cl 2820 1 ls st h = pm_ev pm_prog cl 2820 1 b2820_1 ls st h := pm_go_eq pm_prog cl 2820 1 ls st h
theorem g2820_2 {cl : pm_C} {ls st : List Value} {h : pm_H} : pm_go pm_prog cl 2820 2 ls st h = pm_ev pm_prog cl 2820 2 b2820_2 ls st h := pm_go_eq pm_prog cl 2820 2 ls st h
/-- TimberHouse$LathePieces$Tool.height(II)I -/
noncomputable def f2820 (pc : Int32) (tc : Int32) (rc : Int32) (fc : Int32) (qc : Int32) (pa : Int32) (ta : Int32) (ra : Int32) (pl : Int32 → Int32) (tl : Int32 → Int32) (wc : Int32 → Int32) (wa : Int32 → Int32) (ya : Int32 → Int32) (S : wS) (x0i : Int32) (x1 : Int32) (x2 : Int32) : Option (Int32) :=
  if 0 ≤ x0i ∧ x0i < tc then
    if x1 < x2 then
      if 0 ≤ (x2 - x1) ∧ (x2 - x1) < (tl x0i) then
        some (S.1 (13, x0i, 0) (x2 - x1))
      else none
    else
      if 0 ≤ (x1 - x2) ∧ (x1 - x2) < (tl x0i) then
        some (S.1 (13, x0i, 0) (x1 - x2))
      else none
  else none
theorem x2820 {pc : Int32} {tc : Int32} {rc : Int32} {fc : Int32} {qc : Int32} {pa : Int32} {ta : Int32} {ra : Int32} {pl : Int32 → Int32} {tl : Int32 → Int32} {wc : Int32 → Int32} {wa : Int32 → Int32} {ya : Int32 → Int32} {A : wK → Nat} {h : pm_H} {D : Nat} {S : wS} {x0i : Int32} {x1 : Int32} {x2 : Int32} {r : Int32} (hP : Cz_P pc tc rc fc qc pa ta ra pl tl wc wa ya) (hA : wok A (Cz_d pc tc rc fc qc pa ta ra pl tl wc wa ya) h.1) (hD : 1 ≤ D) (e : f2820 pc tc rc fc qc pa ta ra pl tl wc wa ya S x0i x1 x2 = some r) : pm_call pm_prog D 2820 [.ref (A (12, x0i, 0)), .int x1, .int x2] (wput A (Cz_d pc tc rc fc qc pa ta ra pl tl wc wa ya) S h) = some (Outcome.returned (some (.int r)), (wput A (Cz_d pc tc rc fc qc pa ta ra pl tl wc wa ya) S h)) := by
  obtain ⟨D, rfl⟩ : ∃ D', D = D' + 1 := ⟨D - 1, by omega⟩
  have hD : 0 ≤ D := by omega
  simp only [f2820] at e
  have k1 : 0 ≤ x0i ∧ x0i < tc := by
    by_cases q : 0 ≤ x0i ∧ x0i < tc
    · exact q
    · rw [if_neg q] at e; cases e
  rw [if_pos k1] at e
  rw [c2820 (Cz_c12 hP hA k1), b2820_0]
  by_cases k2 : x1 < x2
  · rw [if_pos k2] at e
    by_cases k3 : 0 ≤ (x2 - x1) ∧ (x2 - x1) < (tl x0i)
    · rw [if_pos k3] at e
      have e := Option.some.inj e; subst e
      simp -implicitDefEqProofs (disch := first | assumption | exact Nat.le_of_ble_eq_true rfl | decide) only [b2820_0, g2820_1, b2820_1, g2820_2, b2820_2, pe_aload0, pe_getfield, pe_iload1, pe_iload2, pe_icmp_ge, pe_isub, pe_goto, pe_goto_w, pe_iaload, pe_aloadN0, pe_aastoreN, pe_areturnN, pe_null, pm_prog_1, pm_ob_some, Nat.reduceDiv, Nat.reduceMod, Nat.reduceMul, Nat.reduceAdd, Int.reduceToNat, pm_kill_i, pm_kill_r, pm_kill_n, pm_kill_j, pm_kill_l, pm_kill_d, pm_cats_nil, pm_cats_i, pm_cats_r, pm_cats_n, pm_cats_l, pm_cats_d, sz_1, sz_2, sl_1, sl_2, lc_0, lc_lt, lc_le, li_ne, va_rf, wr_m1, we_m1, pm_kill_w, Int32.reduceOfInt, Int64.reduceOfInt, Int32.reduceOfNat, Int32.reduceLT, Int32.reduceLE, Prod.mk.injEq, Nat.reduceEqDiff, reduceCtorEq, and_true, true_and, and_false, false_and, and_self, ite_true, ite_false, ↓reduceIte, not_true_eq_false, not_false_eq_true, pe_ri, pe_rz, pe_rc, Cz_g12_1 hP hA, Cz_r13 hP hA, eq_true k2]
    · rw [if_neg k3] at e; cases e
  · rw [if_neg k2] at e
    by_cases k4 : 0 ≤ (x1 - x2) ∧ (x1 - x2) < (tl x0i)
    · rw [if_pos k4] at e
      have e := Option.some.inj e; subst e
      simp -implicitDefEqProofs (disch := first | assumption | exact Nat.le_of_ble_eq_true rfl | decide) only [b2820_0, g2820_1, b2820_1, g2820_2, b2820_2, pe_aload0, pe_getfield, pe_iload1, pe_iload2, pe_icmp_ge, pe_isub, pe_goto, pe_goto_w, pe_iaload, pe_aloadN0, pe_aastoreN, pe_areturnN, pe_null, pm_prog_1, pm_ob_some, Nat.reduceDiv, Nat.reduceMod, Nat.reduceMul, Nat.reduceAdd, Int.reduceToNat, pm_kill_i, pm_kill_r, pm_kill_n, pm_kill_j, pm_kill_l, pm_kill_d, pm_cats_nil, pm_cats_i, pm_cats_r, pm_cats_n, pm_cats_l, pm_cats_d, sz_1, sz_2, sl_1, sl_2, lc_0, lc_lt, lc_le, li_ne, va_rf, wr_m1, we_m1, pm_kill_w, Int32.reduceOfInt, Int64.reduceOfInt, Int32.reduceOfNat, Int32.reduceLT, Int32.reduceLE, Prod.mk.injEq, Nat.reduceEqDiff, reduceCtorEq, and_true, true_and, and_false, false_and, and_self, ite_true, ite_false, ↓reduceIte, not_true_eq_false, not_false_eq_true, pe_ri, pe_rz, pe_rc, Cz_g12_1 hP hA, Cz_r13 hP hA, eq_false k2]
    · rw [if_neg k4] at e; cases e
/-- TimberHouse$LathePieces$Tool.lift(LTimberHouse$LathePieces$Piece;I)I -/
theorem c2819 {d : Nat} {h : pm_H} {a : Nat} {r0 : Nat} {x1 : Int32} (hc : pm_cls h a = some 44) : pm_call pm_prog (d + 1) 2819 [.ref a, .ref r0, .int x1] h = pm_ev pm_prog (pm_call pm_prog d) 2819 0 b2819_0 [.ref a, .ref r0, .int x1, pm_junk, pm_junk] [] h := pm_cal (pm_rc1 hc rfl) rfl rfl rfl
theorem g2819_1 {cl : pm_C} {ls st : List Value} {h : pm_H} : pm_go pm_prog cl 2819 1 ls st h = pm_ev pm_prog cl 2819 1 b2819_1 ls st h := pm_go_eq pm_prog cl 2819 1 ls st h
theorem g2819_2 {cl : pm_C} {ls st : List Value} {h : pm_H} : pm_go pm_prog cl 2819 2 ls st h = pm_ev pm_prog cl 2819 2 b2819_2 ls st h := pm_go_eq pm_prog cl 2819 2 ls st h
noncomputable def f2819_b1 (pc : Int32) (tc : Int32) (rc : Int32) (fc : Int32) (qc : Int32) (pa : Int32) (ta : Int32) (ra : Int32) (pl : Int32 → Int32) (tl : Int32 → Int32) (wc : Int32 → Int32) (wa : Int32 → Int32) (ya : Int32 → Int32) (S : wS) : Int32 × Int32 × Int32 × Int32 × Int32 → Option ((Int32 × Int32 × Int32 × Int32 × Int32) ⊕ ((Int32))) := fun (x0i, x1i, x2, x3, x4) =>
  if 0 ≤ x0i ∧ x0i < tc then
    if 0 ≤ x1i ∧ x1i < pc then
      (f2752 pc tc rc fc qc pa ta ra pl tl wc wa ya S x1i).bind fun v2 =>
      (f2818 pc tc rc fc qc pa ta ra pl tl wc wa ya S x0i x2 v2).bind fun v3 =>
      if x4 ≤ v3 then
        if 0 ≤ x4 ∧ x4 < (pl x1i) then
          (f2820 pc tc rc fc qc pa ta ra pl tl wc wa ya S x0i x2 x4).bind fun v4 =>
          (f3841 x3 ((S.1 (11, x1i, 0) x4) + v4)).bind fun v5 =>
          some (.inl (x0i, x1i, x2, v5, (x4 + 1)))
        else none
      else
        some (.inr x3)
    else none
  else none
/-- TimberHouse$LathePieces$Tool.lift(LTimberHouse$LathePieces$Piece;I)I -/
noncomputable def f2819 (pc : Int32) (tc : Int32) (rc : Int32) (fc : Int32) (qc : Int32) (pa : Int32) (ta : Int32) (ra : Int32) (pl : Int32 → Int32) (tl : Int32 → Int32) (wc : Int32 → Int32) (wa : Int32 → Int32) (ya : Int32 → Int32) (S : wS) (x0i : Int32) (x1i : Int32) (x2 : Int32) : Option (Int32) :=
  if 0 ≤ x0i ∧ x0i < tc then
    if 0 ≤ x1i ∧ x1i < pc then
      (f2817 pc tc rc fc qc pa ta ra pl tl wc wa ya S x0i x2).bind fun v1 =>
      (lp (f2819_b1 pc tc rc fc qc pa ta ra pl tl wc wa ya S) FU (x0i, x1i, x2, 0, v1)).bind fun v6 =>
      some v6
    else none
  else none
def go2819_1 (pc : Int32) (tc : Int32) (rc : Int32) (fc : Int32) (qc : Int32) (pa : Int32) (ta : Int32) (ra : Int32) (pl : Int32 → Int32) (tl : Int32 → Int32) (wc : Int32 → Int32) (wa : Int32 → Int32) (ya : Int32 → Int32) (A : wK → Nat) (h : pm_H) (D : Nat) (R : Outcome × pm_H) (S : wS) : Int32 × Int32 × Int32 × Int32 × Int32 → Prop := fun (x0i, x1i, x2, x3, x4) => pm_go pm_prog (pm_call pm_prog D) 2819 1 [.ref (A (12, x0i, 0)), .ref (A (10, x1i, 0)), .int x2, .int x3, .int x4] [] (wput A (Cz_d pc tc rc fc qc pa ta ra pl tl wc wa ya) S h) = some R
def ex2819_1 (pc : Int32) (tc : Int32) (rc : Int32) (fc : Int32) (qc : Int32) (pa : Int32) (ta : Int32) (ra : Int32) (pl : Int32 → Int32) (tl : Int32 → Int32) (wc : Int32 → Int32) (wa : Int32 → Int32) (ya : Int32 → Int32) (A : wK → Nat) (h : pm_H) (D : Nat) (R : Outcome × pm_H) (S : wS) : (Int32) → Prop := fun x3 => ∀ q0 q1 q2 q4 : Value, pm_go pm_prog (pm_call pm_prog D) 2819 2 [q0, q1, q2, .int x3, q4] [] (wput A (Cz_d pc tc rc fc qc pa ta ra pl tl wc wa ya) S h) = some R
theorem y2819_b1 {pc : Int32} {tc : Int32} {rc : Int32} {fc : Int32} {qc : Int32} {pa : Int32} {ta : Int32} {ra : Int32} {pl : Int32 → Int32} {tl : Int32 → Int32} {wc : Int32 → Int32} {wa : Int32 → Int32} {ya : Int32 → Int32} {A : wK → Nat} {h : pm_H} {D : Nat} {R : Outcome × pm_H} {S : wS} (hP : Cz_P pc tc rc fc qc pa ta ra pl tl wc wa ya) (hA : wok A (Cz_d pc tc rc fc qc pa ta ra pl tl wc wa ya) h.1) (hD : 1 ≤ D) (a : Int32 × Int32 × Int32 × Int32 × Int32) (r : (Int32 × Int32 × Int32 × Int32 × Int32) ⊕ ((Int32))) (e : f2819_b1 pc tc rc fc qc pa ta ra pl tl wc wa ya S a = some r) (hc : Sum.elim (go2819_1 pc tc rc fc qc pa ta ra pl tl wc wa ya A h D R S) (ex2819_1 pc tc rc fc qc pa ta ra pl tl wc wa ya A h D R S) r) : go2819_1 pc tc rc fc qc pa ta ra pl tl wc wa ya A h D R S a := by
  obtain ⟨x0i, x1i, x2, x3, x4⟩ := a
  dsimp only [go2819_1]
  simp only [f2819_b1] at e
  rw [g2819_1, b2819_1]
  by_cases k1 : 0 ≤ x0i ∧ x0i < tc
  · rw [if_pos k1] at e
    by_cases k2 : 0 ≤ x1i ∧ x1i < pc
    · rw [if_pos k2] at e
      obtain ⟨v2, k3, e⟩ := Option.bind_eq_some_iff.mp e
      try dsimp only at e
      have z3 := x2752 (D := D) (h := h) hP hA (by omega) k3
      obtain ⟨v3, k4, e⟩ := Option.bind_eq_some_iff.mp e
      try dsimp only at e
      have z4 := x2818 (D := D) (h := h) hP hA (by omega) k4
      by_cases k5 : x4 ≤ v3
      · rw [if_pos k5] at e
        by_cases k6 : 0 ≤ x4 ∧ x4 < (pl x1i)
        · rw [if_pos k6] at e
          obtain ⟨v4, k7, e⟩ := Option.bind_eq_some_iff.mp e
          try dsimp only at e
          have z7 := x2820 (D := D) (h := h) hP hA (by omega) k7
          obtain ⟨v5, k8, e⟩ := Option.bind_eq_some_iff.mp e
          try dsimp only at e
          have z8 := fun h => x3841 (D := D) (h := h) (by omega) k8
          have e := Option.some.inj e; subst e
          dsimp only [Sum.elim_inl, go2819_1] at hc
          simp -implicitDefEqProofs (disch := first | assumption | exact Nat.le_of_ble_eq_true rfl | decide) only [b2819_0, g2819_2, b2819_2, pe_sipush, pe_istore3, pe_aload0, pe_iload2, pe_call2, pm_af_ret, pm_af_void, pm_af_thr, pe_istore4, pe_goto_w, pe_iload4, pe_aload1, pe_call1, pe_call3, pe_icmp_gt, pe_iload3, pe_getfield, pe_iaload, pe_iadd, pe_iinc4, pe_goto, pe_aloadN0, pe_aloadN1, pe_aastoreN, pe_areturnN, pe_null, pm_prog_1, pm_ob_some, Nat.reduceDiv, Nat.reduceMod, Nat.reduceMul, Nat.reduceAdd, Int.reduceToNat, pm_kill_i, pm_kill_r, pm_kill_n, pm_kill_j, pm_kill_l, pm_kill_d, pm_cats_nil, pm_cats_i, pm_cats_r, pm_cats_n, pm_cats_l, pm_cats_d, sz_1, sz_2, sl_1, sl_2, lc_0, lc_lt, lc_le, li_ne, va_rf, wr_m1, we_m1, pm_kill_w, Int32.reduceOfInt, Int64.reduceOfInt, Int32.reduceOfNat, Int32.reduceLT, Int32.reduceLE, Prod.mk.injEq, Nat.reduceEqDiff, reduceCtorEq, and_true, true_and, and_false, false_and, and_self, ite_true, ite_false, ↓reduceIte, not_true_eq_false, not_false_eq_true, pe_ri, pe_rz, pe_rc, Cz_g10_0 hP hA, Cz_r11 hP hA, z3, z4, eq_true k5, z7, z8, hc]
        · rw [if_neg k6] at e; cases e
      · rw [if_neg k5] at e
        have e := Option.some.inj e; subst e
        dsimp only [Sum.elim_inr, ex2819_1] at hc
        simp -implicitDefEqProofs (disch := first | assumption | exact Nat.le_of_ble_eq_true rfl | decide) only [b2819_0, g2819_2, b2819_2, pe_sipush, pe_istore3, pe_aload0, pe_iload2, pe_call2, pm_af_ret, pm_af_void, pm_af_thr, pe_istore4, pe_goto_w, pe_iload4, pe_aload1, pe_call1, pe_call3, pe_icmp_gt, pe_iload3, pe_getfield, pe_iaload, pe_iadd, pe_iinc4, pe_goto, pe_aloadN0, pe_aloadN1, pe_aastoreN, pe_areturnN, pe_null, pm_prog_1, pm_ob_some, Nat.reduceDiv, Nat.reduceMod, Nat.reduceMul, Nat.reduceAdd, Int.reduceToNat, pm_kill_i, pm_kill_r, pm_kill_n, pm_kill_j, pm_kill_l, pm_kill_d, pm_cats_nil, pm_cats_i, pm_cats_r, pm_cats_n, pm_cats_l, pm_cats_d, sz_1, sz_2, sl_1, sl_2, lc_0, lc_lt, lc_le, li_ne, va_rf, wr_m1, we_m1, pm_kill_w, Int32.reduceOfInt, Int64.reduceOfInt, Int32.reduceOfNat, Int32.reduceLT, Int32.reduceLE, Prod.mk.injEq, Nat.reduceEqDiff, reduceCtorEq, and_true, true_and, and_false, false_and, and_self, ite_true, ite_false, ↓reduceIte, not_true_eq_false, not_false_eq_true, pe_ri, pe_rz, pe_rc, Cz_g10_0 hP hA, Cz_r11 hP hA, z3, z4, eq_false k5, hc]
    · rw [if_neg k2] at e; cases e
  · rw [if_neg k1] at e; cases e
theorem z2819_1 {pc : Int32} {tc : Int32} {rc : Int32} {fc : Int32} {qc : Int32} {pa : Int32} {ta : Int32} {ra : Int32} {pl : Int32 → Int32} {tl : Int32 → Int32} {wc : Int32 → Int32} {wa : Int32 → Int32} {ya : Int32 → Int32} {A : wK → Nat} {h : pm_H} {D : Nat} {R : Outcome × pm_H} {S : wS} (hP : Cz_P pc tc rc fc qc pa ta ra pl tl wc wa ya) (hA : wok A (Cz_d pc tc rc fc qc pa ta ra pl tl wc wa ya) h.1) (hD : 1 ≤ D) {n : Nat} {a : Int32 × Int32 × Int32 × Int32 × Int32} {b : (Int32)} (e : lp (f2819_b1 pc tc rc fc qc pa ta ra pl tl wc wa ya S) n a = some b) (hx : ex2819_1 pc tc rc fc qc pa ta ra pl tl wc wa ya A h D R S b) : go2819_1 pc tc rc fc qc pa ta ra pl tl wc wa ya A h D R S a := lp_run (fun a r => y2819_b1 hP hA hD a r) n a b e hx
theorem x2819 {pc : Int32} {tc : Int32} {rc : Int32} {fc : Int32} {qc : Int32} {pa : Int32} {ta : Int32} {ra : Int32} {pl : Int32 → Int32} {tl : Int32 → Int32} {wc : Int32 → Int32} {wa : Int32 → Int32} {ya : Int32 → Int32} {A : wK → Nat} {h : pm_H} {D : Nat} {S : wS} {x0i : Int32} {x1i : Int32} {x2 : Int32} {r : Int32} (hP : Cz_P pc tc rc fc qc pa ta ra pl tl wc wa ya) (hA : wok A (Cz_d pc tc rc fc qc pa ta ra pl tl wc wa ya) h.1) (hD : 2 ≤ D) (e : f2819 pc tc rc fc qc pa ta ra pl tl wc wa ya S x0i x1i x2 = some r) : pm_call pm_prog D 2819 [.ref (A (12, x0i, 0)), .ref (A (10, x1i, 0)), .int x2] (wput A (Cz_d pc tc rc fc qc pa ta ra pl tl wc wa ya) S h) = some (Outcome.returned (some (.int r)), (wput A (Cz_d pc tc rc fc qc pa ta ra pl tl wc wa ya) S h)) := by
  obtain ⟨D, rfl⟩ : ∃ D', D = D' + 1 := ⟨D - 1, by omega⟩
  have hD : 1 ≤ D := by omega
  simp only [f2819] at e
  have k1 : 0 ≤ x0i ∧ x0i < tc := by
    by_cases q : 0 ≤ x0i ∧ x0i < tc
    · exact q
    · rw [if_neg q] at e; cases e
  rw [if_pos k1] at e
  have k2 : 0 ≤ x1i ∧ x1i < pc := by
    by_cases q : 0 ≤ x1i ∧ x1i < pc
    · exact q
    · rw [if_neg q] at e; cases e
  rw [if_pos k2] at e
  rw [c2819 (Cz_c12 hP hA k1), b2819_0]
  obtain ⟨v1, k3, e⟩ := Option.bind_eq_some_iff.mp e
  try dsimp only at e
  have z3 := x2817 (D := D) (h := h) hP hA (by omega) k3
  obtain ⟨v6, k4, e⟩ := Option.bind_eq_some_iff.mp e
  try dsimp only at e
  try simp -implicitDefEqProofs (disch := first | assumption | exact Nat.le_of_ble_eq_true rfl | decide) only [b2819_0, g2819_2, b2819_2, pe_sipush, pe_istore3, pe_aload0, pe_iload2, pe_call2, pm_af_ret, pm_af_void, pm_af_thr, pe_istore4, pe_goto_w, pe_iload4, pe_aload1, pe_call1, pe_call3, pe_icmp_gt, pe_iload3, pe_getfield, pe_iaload, pe_iadd, pe_iinc4, pe_goto, pe_aloadN0, pe_aloadN1, pe_aastoreN, pe_areturnN, pe_null, pm_prog_1, pm_ob_some, Nat.reduceDiv, Nat.reduceMod, Nat.reduceMul, Nat.reduceAdd, Int.reduceToNat, pm_kill_i, pm_kill_r, pm_kill_n, pm_kill_j, pm_kill_l, pm_kill_d, pm_cats_nil, pm_cats_i, pm_cats_r, pm_cats_n, pm_cats_l, pm_cats_d, sz_1, sz_2, sl_1, sl_2, lc_0, lc_lt, lc_le, li_ne, va_rf, wr_m1, we_m1, pm_kill_w, Int32.reduceOfInt, Int64.reduceOfInt, Int32.reduceOfNat, Int32.reduceLT, Int32.reduceLE, Prod.mk.injEq, Nat.reduceEqDiff, reduceCtorEq, and_true, true_and, and_false, false_and, and_self, ite_true, ite_false, ↓reduceIte, not_true_eq_false, not_false_eq_true, pe_ri, pe_rz, pe_rc, Cz_g10_0 hP hA, Cz_r11 hP hA, z3]
  refine z2819_1 hP hA hD k4 ?_
  dsimp only [ex2819_1]
  intro q0 q1 q2 q4
  have e := Option.some.inj e; subst e
  simp -implicitDefEqProofs (disch := first | assumption | exact Nat.le_of_ble_eq_true rfl | decide) only [b2819_0, g2819_2, b2819_2, pe_sipush, pe_istore3, pe_aload0, pe_iload2, pe_call2, pm_af_ret, pm_af_void, pm_af_thr, pe_istore4, pe_goto_w, pe_iload4, pe_aload1, pe_call1, pe_call3, pe_icmp_gt, pe_iload3, pe_getfield, pe_iaload, pe_iadd, pe_iinc4, pe_goto, pe_aloadN0, pe_aloadN1, pe_aastoreN, pe_areturnN, pe_null, pm_prog_1, pm_ob_some, Nat.reduceDiv, Nat.reduceMod, Nat.reduceMul, Nat.reduceAdd, Int.reduceToNat, pm_kill_i, pm_kill_r, pm_kill_n, pm_kill_j, pm_kill_l, pm_kill_d, pm_cats_nil, pm_cats_i, pm_cats_r, pm_cats_n, pm_cats_l, pm_cats_d, sz_1, sz_2, sl_1, sl_2, lc_0, lc_lt, lc_le, li_ne, va_rf, wr_m1, we_m1, pm_kill_w, Int32.reduceOfInt, Int64.reduceOfInt, Int32.reduceOfNat, Int32.reduceLT, Int32.reduceLE, Prod.mk.injEq, Nat.reduceEqDiff, reduceCtorEq, and_true, true_and, and_false, false_and, and_self, ite_true, ite_false, ↓reduceIte, not_true_eq_false, not_false_eq_true, pe_ri, pe_rz, pe_rc, Cz_g10_0 hP hA, Cz_r11 hP hA, z3]
/-- TimberHouse$LathePieces$Tool.reached(LTimberHouse$LathePieces$Piece;I)I -/
theorem c2816 {d : Nat} {h : pm_H} {a : Nat} {r0 : Nat} {x1 : Int32} (hc : pm_cls h a = some 44) : pm_call pm_prog (d + 1) 2816 [.ref a, .ref r0, .int x1] h = pm_ev pm_prog (pm_call pm_prog d) 2816 0 b2816_0 [.ref a, .ref r0, .int x1, pm_junk, pm_junk] [] h := pm_cal (pm_rc1 hc rfl) rfl rfl rfl
theorem g2816_1 {cl : pm_C} {ls st : List Value} {h : pm_H} : pm_go pm_prog cl 2816 1 ls st h = pm_ev pm_prog cl 2816 1 b2816_1 ls st h := pm_go_eq pm_prog cl 2816 1 ls st h
theorem g2816_2 {cl : pm_C} {ls st : List Value} {h : pm_H} : pm_go pm_prog cl 2816 2 ls st h = pm_ev pm_prog cl 2816 2 b2816_2 ls st h := pm_go_eq pm_prog cl 2816 2 ls st h
noncomputable def f2816_b1 (pc : Int32) (tc : Int32) (rc : Int32) (fc : Int32) (qc : Int32) (pa : Int32) (ta : Int32) (ra : Int32) (pl : Int32 → Int32) (tl : Int32 → Int32) (wc : Int32 → Int32) (wa : Int32 → Int32) (ya : Int32 → Int32) (S : wS) : Int32 × Int32 × Int32 × Int32 × Int32 → Option ((Int32 × Int32 × Int32 × Int32 × Int32) ⊕ ((Int32))) := fun (x0i, x1i, x2, x3, x4) =>
  if 0 ≤ x0i ∧ x0i < tc then
    if 0 ≤ x1i ∧ x1i < pc then
      (f2752 pc tc rc fc qc pa ta ra pl tl wc wa ya S x1i).bind fun v2 =>
      (f2818 pc tc rc fc qc pa ta ra pl tl wc wa ya S x0i x2 v2).bind fun v3 =>
      if x4 ≤ v3 then
        (f2819 pc tc rc fc qc pa ta ra pl tl wc wa ya S x0i x1i x4).bind fun v4 =>
        (f2820 pc tc rc fc qc pa ta ra pl tl wc wa ya S x0i x2 x4).bind fun v5 =>
        (f3840 x3 (v4 - v5)).bind fun v6 =>
        some (.inl (x0i, x1i, x2, v6, (x4 + 1)))
      else
        some (.inr x3)
    else none
  else none
/-- TimberHouse$LathePieces$Tool.reached(LTimberHouse$LathePieces$Piece;I)I -/
noncomputable def f2816 (pc : Int32) (tc : Int32) (rc : Int32) (fc : Int32) (qc : Int32) (pa : Int32) (ta : Int32) (ra : Int32) (pl : Int32 → Int32) (tl : Int32 → Int32) (wc : Int32 → Int32) (wa : Int32 → Int32) (ya : Int32 → Int32) (S : wS) (x0i : Int32) (x1i : Int32) (x2 : Int32) : Option (Int32) :=
  if 0 ≤ x0i ∧ x0i < tc then
    if 0 ≤ x1i ∧ x1i < pc then
      (f2817 pc tc rc fc qc pa ta ra pl tl wc wa ya S x0i x2).bind fun v1 =>
      (lp (f2816_b1 pc tc rc fc qc pa ta ra pl tl wc wa ya S) FU (x0i, x1i, x2, 2147483647, v1)).bind fun v7 =>
      some v7
    else none
  else none
def go2816_1 (pc : Int32) (tc : Int32) (rc : Int32) (fc : Int32) (qc : Int32) (pa : Int32) (ta : Int32) (ra : Int32) (pl : Int32 → Int32) (tl : Int32 → Int32) (wc : Int32 → Int32) (wa : Int32 → Int32) (ya : Int32 → Int32) (A : wK → Nat) (h : pm_H) (D : Nat) (R : Outcome × pm_H) (S : wS) : Int32 × Int32 × Int32 × Int32 × Int32 → Prop := fun (x0i, x1i, x2, x3, x4) => pm_go pm_prog (pm_call pm_prog D) 2816 1 [.ref (A (12, x0i, 0)), .ref (A (10, x1i, 0)), .int x2, .int x3, .int x4] [] (wput A (Cz_d pc tc rc fc qc pa ta ra pl tl wc wa ya) S h) = some R
def ex2816_1 (pc : Int32) (tc : Int32) (rc : Int32) (fc : Int32) (qc : Int32) (pa : Int32) (ta : Int32) (ra : Int32) (pl : Int32 → Int32) (tl : Int32 → Int32) (wc : Int32 → Int32) (wa : Int32 → Int32) (ya : Int32 → Int32) (A : wK → Nat) (h : pm_H) (D : Nat) (R : Outcome × pm_H) (S : wS) : (Int32) → Prop := fun x3 => ∀ q0 q1 q2 q4 : Value, pm_go pm_prog (pm_call pm_prog D) 2816 2 [q0, q1, q2, .int x3, q4] [] (wput A (Cz_d pc tc rc fc qc pa ta ra pl tl wc wa ya) S h) = some R
theorem y2816_b1 {pc : Int32} {tc : Int32} {rc : Int32} {fc : Int32} {qc : Int32} {pa : Int32} {ta : Int32} {ra : Int32} {pl : Int32 → Int32} {tl : Int32 → Int32} {wc : Int32 → Int32} {wa : Int32 → Int32} {ya : Int32 → Int32} {A : wK → Nat} {h : pm_H} {D : Nat} {R : Outcome × pm_H} {S : wS} (hP : Cz_P pc tc rc fc qc pa ta ra pl tl wc wa ya) (hA : wok A (Cz_d pc tc rc fc qc pa ta ra pl tl wc wa ya) h.1) (hD : 2 ≤ D) (a : Int32 × Int32 × Int32 × Int32 × Int32) (r : (Int32 × Int32 × Int32 × Int32 × Int32) ⊕ ((Int32))) (e : f2816_b1 pc tc rc fc qc pa ta ra pl tl wc wa ya S a = some r) (hc : Sum.elim (go2816_1 pc tc rc fc qc pa ta ra pl tl wc wa ya A h D R S) (ex2816_1 pc tc rc fc qc pa ta ra pl tl wc wa ya A h D R S) r) : go2816_1 pc tc rc fc qc pa ta ra pl tl wc wa ya A h D R S a := by
  obtain ⟨x0i, x1i, x2, x3, x4⟩ := a
  dsimp only [go2816_1]
  simp only [f2816_b1] at e
  rw [g2816_1, b2816_1]
  by_cases k1 : 0 ≤ x0i ∧ x0i < tc
  · rw [if_pos k1] at e
    by_cases k2 : 0 ≤ x1i ∧ x1i < pc
    · rw [if_pos k2] at e
      obtain ⟨v2, k3, e⟩ := Option.bind_eq_some_iff.mp e
      try dsimp only at e
      have z3 := x2752 (D := D) (h := h) hP hA (by omega) k3
      obtain ⟨v3, k4, e⟩ := Option.bind_eq_some_iff.mp e
      try dsimp only at e
      have z4 := x2818 (D := D) (h := h) hP hA (by omega) k4
      by_cases k5 : x4 ≤ v3
      · rw [if_pos k5] at e
        obtain ⟨v4, k6, e⟩ := Option.bind_eq_some_iff.mp e
        try dsimp only at e
        have z6 := x2819 (D := D) (h := h) hP hA (by omega) k6
        obtain ⟨v5, k7, e⟩ := Option.bind_eq_some_iff.mp e
        try dsimp only at e
        have z7 := x2820 (D := D) (h := h) hP hA (by omega) k7
        obtain ⟨v6, k8, e⟩ := Option.bind_eq_some_iff.mp e
        try dsimp only at e
        have z8 := fun h => x3840 (D := D) (h := h) (by omega) k8
        have e := Option.some.inj e; subst e
        dsimp only [Sum.elim_inl, go2816_1] at hc
        simp -implicitDefEqProofs (disch := first | assumption | exact Nat.le_of_ble_eq_true rfl | decide) only [b2816_0, g2816_2, b2816_2, pe_sipush, pe_istore3, pe_aload0, pe_iload2, pe_call2, pm_af_ret, pm_af_void, pm_af_thr, pe_istore4, pe_goto_w, pe_iload4, pe_aload1, pe_call1, pe_call3, pe_icmp_gt, pe_iload3, pe_isub, pe_iinc4, pe_goto, pe_aloadN0, pe_aloadN1, pe_aastoreN, pe_areturnN, pe_null, pm_prog_1, pm_ob_some, Nat.reduceDiv, Nat.reduceMod, Nat.reduceMul, Nat.reduceAdd, Int.reduceToNat, pm_kill_i, pm_kill_r, pm_kill_n, pm_kill_j, pm_kill_l, pm_kill_d, pm_cats_nil, pm_cats_i, pm_cats_r, pm_cats_n, pm_cats_l, pm_cats_d, sz_1, sz_2, sl_1, sl_2, lc_0, lc_lt, lc_le, li_ne, va_rf, wr_m1, we_m1, pm_kill_w, Int32.reduceOfInt, Int64.reduceOfInt, Int32.reduceOfNat, Int32.reduceLT, Int32.reduceLE, Prod.mk.injEq, Nat.reduceEqDiff, reduceCtorEq, and_true, true_and, and_false, false_and, and_self, ite_true, ite_false, ↓reduceIte, not_true_eq_false, not_false_eq_true, pe_ri, pe_rz, pe_rc, z3, z4, eq_true k5, z6, z7, z8, hc]
      · rw [if_neg k5] at e
        have e := Option.some.inj e; subst e
        dsimp only [Sum.elim_inr, ex2816_1] at hc
        simp -implicitDefEqProofs (disch := first | assumption | exact Nat.le_of_ble_eq_true rfl | decide) only [b2816_0, g2816_2, b2816_2, pe_sipush, pe_istore3, pe_aload0, pe_iload2, pe_call2, pm_af_ret, pm_af_void, pm_af_thr, pe_istore4, pe_goto_w, pe_iload4, pe_aload1, pe_call1, pe_call3, pe_icmp_gt, pe_iload3, pe_isub, pe_iinc4, pe_goto, pe_aloadN0, pe_aloadN1, pe_aastoreN, pe_areturnN, pe_null, pm_prog_1, pm_ob_some, Nat.reduceDiv, Nat.reduceMod, Nat.reduceMul, Nat.reduceAdd, Int.reduceToNat, pm_kill_i, pm_kill_r, pm_kill_n, pm_kill_j, pm_kill_l, pm_kill_d, pm_cats_nil, pm_cats_i, pm_cats_r, pm_cats_n, pm_cats_l, pm_cats_d, sz_1, sz_2, sl_1, sl_2, lc_0, lc_lt, lc_le, li_ne, va_rf, wr_m1, we_m1, pm_kill_w, Int32.reduceOfInt, Int64.reduceOfInt, Int32.reduceOfNat, Int32.reduceLT, Int32.reduceLE, Prod.mk.injEq, Nat.reduceEqDiff, reduceCtorEq, and_true, true_and, and_false, false_and, and_self, ite_true, ite_false, ↓reduceIte, not_true_eq_false, not_false_eq_true, pe_ri, pe_rz, pe_rc, z3, z4, eq_false k5, hc]
    · rw [if_neg k2] at e; cases e
  · rw [if_neg k1] at e; cases e
theorem z2816_1 {pc : Int32} {tc : Int32} {rc : Int32} {fc : Int32} {qc : Int32} {pa : Int32} {ta : Int32} {ra : Int32} {pl : Int32 → Int32} {tl : Int32 → Int32} {wc : Int32 → Int32} {wa : Int32 → Int32} {ya : Int32 → Int32} {A : wK → Nat} {h : pm_H} {D : Nat} {R : Outcome × pm_H} {S : wS} (hP : Cz_P pc tc rc fc qc pa ta ra pl tl wc wa ya) (hA : wok A (Cz_d pc tc rc fc qc pa ta ra pl tl wc wa ya) h.1) (hD : 2 ≤ D) {n : Nat} {a : Int32 × Int32 × Int32 × Int32 × Int32} {b : (Int32)} (e : lp (f2816_b1 pc tc rc fc qc pa ta ra pl tl wc wa ya S) n a = some b) (hx : ex2816_1 pc tc rc fc qc pa ta ra pl tl wc wa ya A h D R S b) : go2816_1 pc tc rc fc qc pa ta ra pl tl wc wa ya A h D R S a := lp_run (fun a r => y2816_b1 hP hA hD a r) n a b e hx
theorem x2816 {pc : Int32} {tc : Int32} {rc : Int32} {fc : Int32} {qc : Int32} {pa : Int32} {ta : Int32} {ra : Int32} {pl : Int32 → Int32} {tl : Int32 → Int32} {wc : Int32 → Int32} {wa : Int32 → Int32} {ya : Int32 → Int32} {A : wK → Nat} {h : pm_H} {D : Nat} {S : wS} {x0i : Int32} {x1i : Int32} {x2 : Int32} {r : Int32} (hP : Cz_P pc tc rc fc qc pa ta ra pl tl wc wa ya) (hA : wok A (Cz_d pc tc rc fc qc pa ta ra pl tl wc wa ya) h.1) (hD : 3 ≤ D) (e : f2816 pc tc rc fc qc pa ta ra pl tl wc wa ya S x0i x1i x2 = some r) : pm_call pm_prog D 2816 [.ref (A (12, x0i, 0)), .ref (A (10, x1i, 0)), .int x2] (wput A (Cz_d pc tc rc fc qc pa ta ra pl tl wc wa ya) S h) = some (Outcome.returned (some (.int r)), (wput A (Cz_d pc tc rc fc qc pa ta ra pl tl wc wa ya) S h)) := by
  obtain ⟨D, rfl⟩ : ∃ D', D = D' + 1 := ⟨D - 1, by omega⟩
  have hD : 2 ≤ D := by omega
  simp only [f2816] at e
  have k1 : 0 ≤ x0i ∧ x0i < tc := by
    by_cases q : 0 ≤ x0i ∧ x0i < tc
    · exact q
    · rw [if_neg q] at e; cases e
  rw [if_pos k1] at e
  have k2 : 0 ≤ x1i ∧ x1i < pc := by
    by_cases q : 0 ≤ x1i ∧ x1i < pc
    · exact q
    · rw [if_neg q] at e; cases e
  rw [if_pos k2] at e
  rw [c2816 (Cz_c12 hP hA k1), b2816_0]
  obtain ⟨v1, k3, e⟩ := Option.bind_eq_some_iff.mp e
  try dsimp only at e
  have z3 := x2817 (D := D) (h := h) hP hA (by omega) k3
  obtain ⟨v7, k4, e⟩ := Option.bind_eq_some_iff.mp e
  try dsimp only at e
  try simp -implicitDefEqProofs (disch := first | assumption | exact Nat.le_of_ble_eq_true rfl | decide) only [b2816_0, g2816_2, b2816_2, pe_sipush, pe_istore3, pe_aload0, pe_iload2, pe_call2, pm_af_ret, pm_af_void, pm_af_thr, pe_istore4, pe_goto_w, pe_iload4, pe_aload1, pe_call1, pe_call3, pe_icmp_gt, pe_iload3, pe_isub, pe_iinc4, pe_goto, pe_aloadN0, pe_aloadN1, pe_aastoreN, pe_areturnN, pe_null, pm_prog_1, pm_ob_some, Nat.reduceDiv, Nat.reduceMod, Nat.reduceMul, Nat.reduceAdd, Int.reduceToNat, pm_kill_i, pm_kill_r, pm_kill_n, pm_kill_j, pm_kill_l, pm_kill_d, pm_cats_nil, pm_cats_i, pm_cats_r, pm_cats_n, pm_cats_l, pm_cats_d, sz_1, sz_2, sl_1, sl_2, lc_0, lc_lt, lc_le, li_ne, va_rf, wr_m1, we_m1, pm_kill_w, Int32.reduceOfInt, Int64.reduceOfInt, Int32.reduceOfNat, Int32.reduceLT, Int32.reduceLE, Prod.mk.injEq, Nat.reduceEqDiff, reduceCtorEq, and_true, true_and, and_false, false_and, and_self, ite_true, ite_false, ↓reduceIte, not_true_eq_false, not_false_eq_true, pe_ri, pe_rz, pe_rc, z3]
  refine z2816_1 hP hA hD k4 ?_
  dsimp only [ex2816_1]
  intro q0 q1 q2 q4
  have e := Option.some.inj e; subst e
  simp -implicitDefEqProofs (disch := first | assumption | exact Nat.le_of_ble_eq_true rfl | decide) only [b2816_0, g2816_2, b2816_2, pe_sipush, pe_istore3, pe_aload0, pe_iload2, pe_call2, pm_af_ret, pm_af_void, pm_af_thr, pe_istore4, pe_goto_w, pe_iload4, pe_aload1, pe_call1, pe_call3, pe_icmp_gt, pe_iload3, pe_isub, pe_iinc4, pe_goto, pe_aloadN0, pe_aloadN1, pe_aastoreN, pe_areturnN, pe_null, pm_prog_1, pm_ob_some, Nat.reduceDiv, Nat.reduceMod, Nat.reduceMul, Nat.reduceAdd, Int.reduceToNat, pm_kill_i, pm_kill_r, pm_kill_n, pm_kill_j, pm_kill_l, pm_kill_d, pm_cats_nil, pm_cats_i, pm_cats_r, pm_cats_n, pm_cats_l, pm_cats_d, sz_1, sz_2, sl_1, sl_2, lc_0, lc_lt, lc_le, li_ne, va_rf, wr_m1, we_m1, pm_kill_w, Int32.reduceOfInt, Int64.reduceOfInt, Int32.reduceOfNat, Int32.reduceLT, Int32.reduceLE, Prod.mk.injEq, Nat.reduceEqDiff, reduceCtorEq, and_true, true_and, and_false, false_and, and_self, ite_true, ite_false, ↓reduceIte, not_true_eq_false, not_false_eq_true, pe_ri, pe_rz, pe_rc, z3]
/-- TimberHouse$LathePieces.deep(LTimberHouse$LathePieces$Piece;LTimberHouse$LathePieces$Tool;II)I -/
theorem c647 {d : Nat} {h : pm_H} {r0 : Nat} {r1 : Nat} {x2 : Int32} {x3 : Int32} : pm_call pm_prog (d + 1) 647 [.ref r0, .ref r1, .int x2, .int x3] h = pm_ev pm_prog (pm_call pm_prog d) 647 0 b647_0 [.ref r0, .ref r1, .int x2, .int x3] [] h := pm_cal (pm_rc0 rfl) rfl rfl rfl
/-- TimberHouse$LathePieces.deep(LTimberHouse$LathePieces$Piece;LTimberHouse$LathePieces$Tool;II)I -/
noncomputable def f647 (pc : Int32) (tc : Int32) (rc : Int32) (fc : Int32) (qc : Int32) (pa : Int32) (ta : Int32) (ra : Int32) (pl : Int32 → Int32) (tl : Int32 → Int32) (wc : Int32 → Int32) (wa : Int32 → Int32) (ya : Int32 → Int32) (S : wS) (x0i : Int32) (x1i : Int32) (x2 : Int32) (x3 : Int32) : Option (Int32) :=
  if 0 ≤ x0i ∧ x0i < pc then
    if 0 ≤ x1i ∧ x1i < tc then
      (f2753 pc tc rc fc qc pa ta ra pl tl wc wa ya S x0i).bind fun v1 =>
      (f2816 pc tc rc fc qc pa ta ra pl tl wc wa ya S x1i x0i x3).bind fun v2 =>
      (f3841 0 ((v1 - v2) - x2)).bind fun v3 =>
      some v3
    else none
  else none
theorem x647 {pc : Int32} {tc : Int32} {rc : Int32} {fc : Int32} {qc : Int32} {pa : Int32} {ta : Int32} {ra : Int32} {pl : Int32 → Int32} {tl : Int32 → Int32} {wc : Int32 → Int32} {wa : Int32 → Int32} {ya : Int32 → Int32} {A : wK → Nat} {h : pm_H} {D : Nat} {S : wS} {x0i : Int32} {x1i : Int32} {x2 : Int32} {x3 : Int32} {r : Int32} (hP : Cz_P pc tc rc fc qc pa ta ra pl tl wc wa ya) (hA : wok A (Cz_d pc tc rc fc qc pa ta ra pl tl wc wa ya) h.1) (hD : 4 ≤ D) (e : f647 pc tc rc fc qc pa ta ra pl tl wc wa ya S x0i x1i x2 x3 = some r) : pm_call pm_prog D 647 [.ref (A (10, x0i, 0)), .ref (A (12, x1i, 0)), .int x2, .int x3] (wput A (Cz_d pc tc rc fc qc pa ta ra pl tl wc wa ya) S h) = some (Outcome.returned (some (.int r)), (wput A (Cz_d pc tc rc fc qc pa ta ra pl tl wc wa ya) S h)) := by
  obtain ⟨D, rfl⟩ : ∃ D', D = D' + 1 := ⟨D - 1, by omega⟩
  have hD : 3 ≤ D := by omega
  simp only [f647] at e
  have k1 : 0 ≤ x0i ∧ x0i < pc := by
    by_cases q : 0 ≤ x0i ∧ x0i < pc
    · exact q
    · rw [if_neg q] at e; cases e
  rw [if_pos k1] at e
  have k2 : 0 ≤ x1i ∧ x1i < tc := by
    by_cases q : 0 ≤ x1i ∧ x1i < tc
    · exact q
    · rw [if_neg q] at e; cases e
  rw [if_pos k2] at e
  rw [c647, b647_0]
  obtain ⟨v1, k3, e⟩ := Option.bind_eq_some_iff.mp e
  try dsimp only at e
  have z3 := x2753 (D := D) (h := h) hP hA (by omega) k3
  obtain ⟨v2, k4, e⟩ := Option.bind_eq_some_iff.mp e
  try dsimp only at e
  have z4 := x2816 (D := D) (h := h) hP hA (by omega) k4
  obtain ⟨v3, k5, e⟩ := Option.bind_eq_some_iff.mp e
  try dsimp only at e
  have z5 := fun h => x3841 (D := D) (h := h) (by omega) k5
  have e := Option.some.inj e; subst e
  simp -implicitDefEqProofs (disch := first | assumption | exact Nat.le_of_ble_eq_true rfl | decide) only [b647_0, pe_sipush, pe_aload0, pe_call1, pm_af_ret, pm_af_void, pm_af_thr, pe_aload1, pe_iload3, pe_call3, pe_isub, pe_iload2, pe_call2, pe_aloadN0, pe_aloadN1, pe_aastoreN, pe_areturnN, pe_null, pm_prog_1, pm_ob_some, Nat.reduceDiv, Nat.reduceMod, Nat.reduceMul, Nat.reduceAdd, Int.reduceToNat, pm_kill_i, pm_kill_r, pm_kill_n, pm_kill_j, pm_kill_l, pm_kill_d, pm_cats_nil, pm_cats_i, pm_cats_r, pm_cats_n, pm_cats_l, pm_cats_d, sz_1, sz_2, sl_1, sl_2, lc_0, lc_lt, lc_le, li_ne, va_rf, wr_m1, we_m1, pm_kill_w, Int32.reduceOfInt, Int64.reduceOfInt, Int32.reduceOfNat, Int32.reduceLT, Int32.reduceLE, Prod.mk.injEq, Nat.reduceEqDiff, reduceCtorEq, and_true, true_and, and_false, false_and, and_self, ite_true, ite_false, ↓reduceIte, not_true_eq_false, not_false_eq_true, pe_ri, pe_rz, pe_rc, z3, z4, z5]
/-- TimberHouse$LathePieces.passes(IIII)I -/
theorem c641 {d : Nat} {h : pm_H} {a : Nat} {x0 : Int32} {x1 : Int32} {x2 : Int32} {x3 : Int32} (hc : pm_cls h a = some 10) : pm_call pm_prog (d + 1) 641 [.ref a, .int x0, .int x1, .int x2, .int x3] h = pm_ev pm_prog (pm_call pm_prog d) 641 0 b641_0 [.ref a, .int x0, .int x1, .int x2, .int x3, pm_junk, pm_junk, pm_junk, pm_junk] [] h := pm_cal (pm_rc1 hc rfl) rfl rfl rfl
theorem g641_1 {cl : pm_C} {ls st : List Value} {h : pm_H} : pm_go pm_prog cl 641 1 ls st h = pm_ev pm_prog cl 641 1 b641_1 ls st h := pm_go_eq pm_prog cl 641 1 ls st h
theorem g641_2 {cl : pm_C} {ls st : List Value} {h : pm_H} : pm_go pm_prog cl 641 2 ls st h = pm_ev pm_prog cl 641 2 b641_2 ls st h := pm_go_eq pm_prog cl 641 2 ls st h
theorem g641_3 {cl : pm_C} {ls st : List Value} {h : pm_H} : pm_go pm_prog cl 641 3 ls st h = pm_ev pm_prog cl 641 3 b641_3 ls st h := pm_go_eq pm_prog cl 641 3 ls st h
theorem g641_4 {cl : pm_C} {ls st : List Value} {h : pm_H} : pm_go pm_prog cl 641 4 ls st h = pm_ev pm_prog cl 641 4 b641_4 ls st h := pm_go_eq pm_prog cl 641 4 ls st h
theorem t641 {cl : pm_C} {j : Nat} {ls : List Value} {c : Nat} {h : pm_H} : pm_thr pm_prog cl 641 j ls c h = some (.threw c, h) := rfl
noncomputable def f641_b3 (pc : Int32) (tc : Int32) (rc : Int32) (fc : Int32) (qc : Int32) (pa : Int32) (ta : Int32) (ra : Int32) (pl : Int32 → Int32) (tl : Int32 → Int32) (wc : Int32 → Int32) (wa : Int32 → Int32) (ya : Int32 → Int32) (S : wS) : Int32 × Int32 × Int32 × Int32 × Int32 × Int32 → Option ((Int32 × Int32 × Int32 × Int32 × Int32 × Int32) ⊕ ((Int32 × Int32))) := fun (x3, x4, x5i, x6i, x7, x8) =>
  if 0 ≤ x5i ∧ x5i < pc then
    if 0 ≤ x6i ∧ x6i < tc then
      (f2752 pc tc rc fc qc pa ta ra pl tl wc wa ya S x5i).bind fun v4 =>
      if x8 ≤ v4 then
        (f647 pc tc rc fc qc pa ta ra pl tl wc wa ya S x5i x6i x4 x8).bind fun v5 =>
        (f3841 x7 v5).bind fun v6 =>
        some (.inl (x3, x4, x5i, x6i, v6, (x8 + 1)))
      else
        some (.inr (x3, x7))
    else none
  else none
noncomputable def f641_2 (pc : Int32) (tc : Int32) (rc : Int32) (fc : Int32) (qc : Int32) (pa : Int32) (ta : Int32) (ra : Int32) (pl : Int32 → Int32) (tl : Int32 → Int32) (wc : Int32 → Int32) (wa : Int32 → Int32) (ya : Int32 → Int32) (S : wS) (x3 : Int32) (x4 : Int32) (x5i : Int32) (x6i : Int32) (y0 : Int32) : Option (Nat ⊕ (Int32)) :=
  if 0 ≤ x5i ∧ x5i < pc then
    if 0 ≤ x6i ∧ x6i < tc then
      (f646 y0).bind fun r => match r with
      | .inl c9 =>
        some (.inl c9)
      | .inr _ =>
      (lp (f641_b3 pc tc rc fc qc pa ta ra pl tl wc wa ya S) FU (x3, x4, x5i, x6i, 0, 0)).bind fun (v7, v8) =>
      if ¬ v7 = 0 then
        some (.inr (((v8 + v7) - 1) / v7))
      else none
    else none
  else none
/-- TimberHouse$LathePieces.passes(IIII)I -/
noncomputable def f641 (pc : Int32) (tc : Int32) (rc : Int32) (fc : Int32) (qc : Int32) (pa : Int32) (ta : Int32) (ra : Int32) (pl : Int32 → Int32) (tl : Int32 → Int32) (wc : Int32 → Int32) (wa : Int32 → Int32) (ya : Int32 → Int32) (S : wS) (x1 : Int32) (x2 : Int32) (x3 : Int32) (x4 : Int32) : Option (Nat ⊕ (Int32)) :=
  (f642 pc tc rc fc qc pa ta ra pl tl wc wa ya S x1).bind fun r => match r with
  | .inl c12 =>
    some (.inl c12)
  | .inr v1i =>
  if 0 ≤ v1i ∧ v1i < pc then
    (f645 pc tc rc fc qc pa ta ra pl tl wc wa ya S x2).bind fun r => match r with
    | .inl c11 =>
      some (.inl c11)
    | .inr v2i =>
    if 0 ≤ v2i ∧ v2i < tc then
      (f643 x3 1 100).bind fun v3 =>
      if v3 = 0 then
        f641_2 pc tc rc fc qc pa ta ra pl tl wc wa ya S x3 x4 v1i v2i 0
      else
        (f643 x4 0 50).bind fun v10 =>
        if v10 = 0 then
          f641_2 pc tc rc fc qc pa ta ra pl tl wc wa ya S x3 x4 v1i v2i 0
        else
          f641_2 pc tc rc fc qc pa ta ra pl tl wc wa ya S x3 x4 v1i v2i 1
    else none
  else none
def go641_3 (pc : Int32) (tc : Int32) (rc : Int32) (fc : Int32) (qc : Int32) (pa : Int32) (ta : Int32) (ra : Int32) (pl : Int32 → Int32) (tl : Int32 → Int32) (wc : Int32 → Int32) (wa : Int32 → Int32) (ya : Int32 → Int32) (A : wK → Nat) (h : pm_H) (D : Nat) (R : Outcome × pm_H) (S : wS) : Int32 × Int32 × Int32 × Int32 × Int32 × Int32 → Prop := fun (x3, x4, x5i, x6i, x7, x8) => ∀ q0 q1 q2 : Value, pm_go pm_prog (pm_call pm_prog D) 641 3 [q0, q1, q2, .int x3, .int x4, .ref (A (10, x5i, 0)), .ref (A (12, x6i, 0)), .int x7, .int x8] [] (wput A (Cz_d pc tc rc fc qc pa ta ra pl tl wc wa ya) S h) = some R
def ex641_3 (pc : Int32) (tc : Int32) (rc : Int32) (fc : Int32) (qc : Int32) (pa : Int32) (ta : Int32) (ra : Int32) (pl : Int32 → Int32) (tl : Int32 → Int32) (wc : Int32 → Int32) (wa : Int32 → Int32) (ya : Int32 → Int32) (A : wK → Nat) (h : pm_H) (D : Nat) (R : Outcome × pm_H) (S : wS) : (Int32 × Int32) → Prop := fun (x3, x7) => ∀ q0 q1 q2 q4 q5 q6 q8 : Value, pm_go pm_prog (pm_call pm_prog D) 641 4 [q0, q1, q2, .int x3, q4, q5, q6, .int x7, q8] [] (wput A (Cz_d pc tc rc fc qc pa ta ra pl tl wc wa ya) S h) = some R
theorem y641_b3 {pc : Int32} {tc : Int32} {rc : Int32} {fc : Int32} {qc : Int32} {pa : Int32} {ta : Int32} {ra : Int32} {pl : Int32 → Int32} {tl : Int32 → Int32} {wc : Int32 → Int32} {wa : Int32 → Int32} {ya : Int32 → Int32} {A : wK → Nat} {h : pm_H} {D : Nat} {R : Outcome × pm_H} {S : wS} (hP : Cz_P pc tc rc fc qc pa ta ra pl tl wc wa ya) (hA : wok A (Cz_d pc tc rc fc qc pa ta ra pl tl wc wa ya) h.1) (hD : 4 ≤ D) (a : Int32 × Int32 × Int32 × Int32 × Int32 × Int32) (r : (Int32 × Int32 × Int32 × Int32 × Int32 × Int32) ⊕ ((Int32 × Int32))) (e : f641_b3 pc tc rc fc qc pa ta ra pl tl wc wa ya S a = some r) (hc : Sum.elim (go641_3 pc tc rc fc qc pa ta ra pl tl wc wa ya A h D R S) (ex641_3 pc tc rc fc qc pa ta ra pl tl wc wa ya A h D R S) r) : go641_3 pc tc rc fc qc pa ta ra pl tl wc wa ya A h D R S a := by
  obtain ⟨x3, x4, x5i, x6i, x7, x8⟩ := a
  dsimp only [go641_3]
  intro q0 q1 q2
  simp only [f641_b3] at e
  rw [g641_3, b641_3]
  by_cases k1 : 0 ≤ x5i ∧ x5i < pc
  · rw [if_pos k1] at e
    by_cases k2 : 0 ≤ x6i ∧ x6i < tc
    · rw [if_pos k2] at e
      obtain ⟨v4, k3, e⟩ := Option.bind_eq_some_iff.mp e
      try dsimp only at e
      have z3 := x2752 (D := D) (h := h) hP hA (by omega) k3
      by_cases k4 : x8 ≤ v4
      · rw [if_pos k4] at e
        obtain ⟨v5, k5, e⟩ := Option.bind_eq_some_iff.mp e
        try dsimp only at e
        have z5 := x647 (D := D) (h := h) hP hA (by omega) k5
        obtain ⟨v6, k6, e⟩ := Option.bind_eq_some_iff.mp e
        try dsimp only at e
        have z6 := fun h => x3841 (D := D) (h := h) (by omega) k6
        have e := Option.some.inj e; subst e
        dsimp only [Sum.elim_inl, go641_3] at hc
        simp -implicitDefEqProofs (disch := first | assumption | exact Nat.le_of_ble_eq_true rfl | decide) only [b641_0, g641_1, b641_1, g641_4, b641_4, pe_aload0, pe_iload1, pe_call2, pm_af_ret, pm_af_void, pm_af_thr, pe_astore5, pe_iload2, pe_astore6, pe_iload3, pe_sipush, pe_call3, pe_if_eq, pe_iload4, pe_goto, pe_goto_w, pe_call1, pe_istore7, pe_istore8, pe_iload8, pe_aload5, pe_icmp_gt, pe_iload7, pe_aload6, pe_call4, pe_iinc8, pe_iadd, pe_isub, pe_idiv, pe_aloadN0, pe_astoreN5, pe_astoreN6, pe_aloadN5, pe_aloadN6, pe_aastoreN, pe_areturnN, pe_null, pm_prog_1, pm_ob_some, Nat.reduceDiv, Nat.reduceMod, Nat.reduceMul, Nat.reduceAdd, Int.reduceToNat, pm_kill_i, pm_kill_r, pm_kill_n, pm_kill_j, pm_kill_l, pm_kill_d, pm_cats_nil, pm_cats_i, pm_cats_r, pm_cats_n, pm_cats_l, pm_cats_d, sz_1, sz_2, sl_1, sl_2, lc_0, lc_lt, lc_le, li_ne, va_rf, wr_m1, we_m1, pm_kill_w, Int32.reduceOfInt, Int64.reduceOfInt, Int32.reduceOfNat, Int32.reduceLT, Int32.reduceLE, Prod.mk.injEq, Nat.reduceEqDiff, reduceCtorEq, and_true, true_and, and_false, false_and, and_self, ite_true, ite_false, ↓reduceIte, not_true_eq_false, not_false_eq_true, pe_ri, pe_rz, pe_rc, p_throw, t641, w_junk hA, z3, eq_true k4, z5, z6, hc]
      · rw [if_neg k4] at e
        have e := Option.some.inj e; subst e
        dsimp only [Sum.elim_inr, ex641_3] at hc
        simp -implicitDefEqProofs (disch := first | assumption | exact Nat.le_of_ble_eq_true rfl | decide) only [b641_0, g641_1, b641_1, g641_4, b641_4, pe_aload0, pe_iload1, pe_call2, pm_af_ret, pm_af_void, pm_af_thr, pe_astore5, pe_iload2, pe_astore6, pe_iload3, pe_sipush, pe_call3, pe_if_eq, pe_iload4, pe_goto, pe_goto_w, pe_call1, pe_istore7, pe_istore8, pe_iload8, pe_aload5, pe_icmp_gt, pe_iload7, pe_aload6, pe_call4, pe_iinc8, pe_iadd, pe_isub, pe_idiv, pe_aloadN0, pe_astoreN5, pe_astoreN6, pe_aloadN5, pe_aloadN6, pe_aastoreN, pe_areturnN, pe_null, pm_prog_1, pm_ob_some, Nat.reduceDiv, Nat.reduceMod, Nat.reduceMul, Nat.reduceAdd, Int.reduceToNat, pm_kill_i, pm_kill_r, pm_kill_n, pm_kill_j, pm_kill_l, pm_kill_d, pm_cats_nil, pm_cats_i, pm_cats_r, pm_cats_n, pm_cats_l, pm_cats_d, sz_1, sz_2, sl_1, sl_2, lc_0, lc_lt, lc_le, li_ne, va_rf, wr_m1, we_m1, pm_kill_w, Int32.reduceOfInt, Int64.reduceOfInt, Int32.reduceOfNat, Int32.reduceLT, Int32.reduceLE, Prod.mk.injEq, Nat.reduceEqDiff, reduceCtorEq, and_true, true_and, and_false, false_and, and_self, ite_true, ite_false, ↓reduceIte, not_true_eq_false, not_false_eq_true, pe_ri, pe_rz, pe_rc, p_throw, t641, w_junk hA, z3, eq_false k4, hc]
    · rw [if_neg k2] at e; cases e
  · rw [if_neg k1] at e; cases e
theorem z641_3 {pc : Int32} {tc : Int32} {rc : Int32} {fc : Int32} {qc : Int32} {pa : Int32} {ta : Int32} {ra : Int32} {pl : Int32 → Int32} {tl : Int32 → Int32} {wc : Int32 → Int32} {wa : Int32 → Int32} {ya : Int32 → Int32} {A : wK → Nat} {h : pm_H} {D : Nat} {R : Outcome × pm_H} {S : wS} (hP : Cz_P pc tc rc fc qc pa ta ra pl tl wc wa ya) (hA : wok A (Cz_d pc tc rc fc qc pa ta ra pl tl wc wa ya) h.1) (hD : 4 ≤ D) {n : Nat} {a : Int32 × Int32 × Int32 × Int32 × Int32 × Int32} {b : (Int32 × Int32)} (e : lp (f641_b3 pc tc rc fc qc pa ta ra pl tl wc wa ya S) n a = some b) (hx : ex641_3 pc tc rc fc qc pa ta ra pl tl wc wa ya A h D R S b) : go641_3 pc tc rc fc qc pa ta ra pl tl wc wa ya A h D R S a := lp_run (fun a r => y641_b3 hP hA hD a r) n a b e hx
theorem y641_2 {pc : Int32} {tc : Int32} {rc : Int32} {fc : Int32} {qc : Int32} {pa : Int32} {ta : Int32} {ra : Int32} {pl : Int32 → Int32} {tl : Int32 → Int32} {wc : Int32 → Int32} {wa : Int32 → Int32} {ya : Int32 → Int32} {A : wK → Nat} {h : pm_H} {D : Nat} {S : wS} {x3 : Int32} {x4 : Int32} {x5i : Int32} {x6i : Int32} {y0 : Int32} {r : Nat ⊕ (Int32)} (hP : Cz_P pc tc rc fc qc pa ta ra pl tl wc wa ya) (hA : wok A (Cz_d pc tc rc fc qc pa ta ra pl tl wc wa ya) h.1) (hD : 4 ≤ D) (e : f641_2 pc tc rc fc qc pa ta ra pl tl wc wa ya S x3 x4 x5i x6i y0 = some r) : ∀ q0 q1 q2 q7 q8 : Value, pm_go pm_prog (pm_call pm_prog D) 641 2 [q0, q1, q2, .int x3, .int x4, .ref (A (10, x5i, 0)), .ref (A (12, x6i, 0)), q7, q8] [.int y0] (wput A (Cz_d pc tc rc fc qc pa ta ra pl tl wc wa ya) S h) = some (match (generalizing := false) r with | .inl c => (Outcome.threw c, (wput A (Cz_d pc tc rc fc qc pa ta ra pl tl wc wa ya) S (pm_new h 6 (.inr (c, []))))) | .inr w0 => (Outcome.returned (some (.int w0)), (wput A (Cz_d pc tc rc fc qc pa ta ra pl tl wc wa ya) S h))) := by
  intro q0 q1 q2 q7 q8
  simp only [f641_2] at e
  rw [g641_2, b641_2]
  by_cases k1 : 0 ≤ x5i ∧ x5i < pc
  · rw [if_pos k1] at e
    by_cases k2 : 0 ≤ x6i ∧ x6i < tc
    · rw [if_pos k2] at e
      obtain ⟨r, k3, e⟩ := Option.bind_eq_some_iff.mp e
      have z3 := fun h => x646 (D := D) (h := h) (by omega) k3
      rcases r with c9 | _
      · dsimp only at e z3
        have e := Option.some.inj e; subst e
        simp -implicitDefEqProofs (disch := first | assumption | exact Nat.le_of_ble_eq_true rfl | decide) only [b641_0, g641_1, b641_1, g641_4, b641_4, pe_aload0, pe_iload1, pe_call2, pm_af_ret, pm_af_void, pm_af_thr, pe_astore5, pe_iload2, pe_astore6, pe_iload3, pe_sipush, pe_call3, pe_if_eq, pe_iload4, pe_goto, pe_goto_w, pe_call1, pe_istore7, pe_istore8, pe_iload8, pe_aload5, pe_icmp_gt, pe_iload7, pe_aload6, pe_call4, pe_iinc8, pe_iadd, pe_isub, pe_idiv, pe_aloadN0, pe_astoreN5, pe_astoreN6, pe_aloadN5, pe_aloadN6, pe_aastoreN, pe_areturnN, pe_null, pm_prog_1, pm_ob_some, Nat.reduceDiv, Nat.reduceMod, Nat.reduceMul, Nat.reduceAdd, Int.reduceToNat, pm_kill_i, pm_kill_r, pm_kill_n, pm_kill_j, pm_kill_l, pm_kill_d, pm_cats_nil, pm_cats_i, pm_cats_r, pm_cats_n, pm_cats_l, pm_cats_d, sz_1, sz_2, sl_1, sl_2, lc_0, lc_lt, lc_le, li_ne, va_rf, wr_m1, we_m1, pm_kill_w, Int32.reduceOfInt, Int64.reduceOfInt, Int32.reduceOfNat, Int32.reduceLT, Int32.reduceLE, Prod.mk.injEq, Nat.reduceEqDiff, reduceCtorEq, and_true, true_and, and_false, false_and, and_self, ite_true, ite_false, ↓reduceIte, not_true_eq_false, not_false_eq_true, pe_ri, pe_rz, pe_rc, p_throw, t641, w_junk hA, z3]
      · dsimp only at e z3
        obtain ⟨⟨v7, v8⟩, k4, e⟩ := Option.bind_eq_some_iff.mp e
        try dsimp only at e
        try simp -implicitDefEqProofs (disch := first | assumption | exact Nat.le_of_ble_eq_true rfl | decide) only [b641_0, g641_1, b641_1, g641_4, b641_4, pe_aload0, pe_iload1, pe_call2, pm_af_ret, pm_af_void, pm_af_thr, pe_astore5, pe_iload2, pe_astore6, pe_iload3, pe_sipush, pe_call3, pe_if_eq, pe_iload4, pe_goto, pe_goto_w, pe_call1, pe_istore7, pe_istore8, pe_iload8, pe_aload5, pe_icmp_gt, pe_iload7, pe_aload6, pe_call4, pe_iinc8, pe_iadd, pe_isub, pe_idiv, pe_aloadN0, pe_astoreN5, pe_astoreN6, pe_aloadN5, pe_aloadN6, pe_aastoreN, pe_areturnN, pe_null, pm_prog_1, pm_ob_some, Nat.reduceDiv, Nat.reduceMod, Nat.reduceMul, Nat.reduceAdd, Int.reduceToNat, pm_kill_i, pm_kill_r, pm_kill_n, pm_kill_j, pm_kill_l, pm_kill_d, pm_cats_nil, pm_cats_i, pm_cats_r, pm_cats_n, pm_cats_l, pm_cats_d, sz_1, sz_2, sl_1, sl_2, lc_0, lc_lt, lc_le, li_ne, va_rf, wr_m1, we_m1, pm_kill_w, Int32.reduceOfInt, Int64.reduceOfInt, Int32.reduceOfNat, Int32.reduceLT, Int32.reduceLE, Prod.mk.injEq, Nat.reduceEqDiff, reduceCtorEq, and_true, true_and, and_false, false_and, and_self, ite_true, ite_false, ↓reduceIte, not_true_eq_false, not_false_eq_true, pe_ri, pe_rz, pe_rc, p_throw, t641, w_junk hA, z3]
        refine z641_3 hP hA hD k4 ?_ _ _ _
        dsimp only [ex641_3]
        intro q0 q1 q2 q4 q5 q6 q8
        by_cases k5 : ¬ v7 = 0
        · rw [if_pos k5] at e
          have e := Option.some.inj e; subst e
          simp -implicitDefEqProofs (disch := first | assumption | exact Nat.le_of_ble_eq_true rfl | decide) only [b641_0, g641_1, b641_1, g641_4, b641_4, pe_aload0, pe_iload1, pe_call2, pm_af_ret, pm_af_void, pm_af_thr, pe_astore5, pe_iload2, pe_astore6, pe_iload3, pe_sipush, pe_call3, pe_if_eq, pe_iload4, pe_goto, pe_goto_w, pe_call1, pe_istore7, pe_istore8, pe_iload8, pe_aload5, pe_icmp_gt, pe_iload7, pe_aload6, pe_call4, pe_iinc8, pe_iadd, pe_isub, pe_idiv, pe_aloadN0, pe_astoreN5, pe_astoreN6, pe_aloadN5, pe_aloadN6, pe_aastoreN, pe_areturnN, pe_null, pm_prog_1, pm_ob_some, Nat.reduceDiv, Nat.reduceMod, Nat.reduceMul, Nat.reduceAdd, Int.reduceToNat, pm_kill_i, pm_kill_r, pm_kill_n, pm_kill_j, pm_kill_l, pm_kill_d, pm_cats_nil, pm_cats_i, pm_cats_r, pm_cats_n, pm_cats_l, pm_cats_d, sz_1, sz_2, sl_1, sl_2, lc_0, lc_lt, lc_le, li_ne, va_rf, wr_m1, we_m1, pm_kill_w, Int32.reduceOfInt, Int64.reduceOfInt, Int32.reduceOfNat, Int32.reduceLT, Int32.reduceLE, Prod.mk.injEq, Nat.reduceEqDiff, reduceCtorEq, and_true, true_and, and_false, false_and, and_self, ite_true, ite_false, ↓reduceIte, not_true_eq_false, not_false_eq_true, pe_ri, pe_rz, pe_rc, p_throw, t641, w_junk hA, z3]
        · rw [if_neg k5] at e; cases e
    · rw [if_neg k2] at e; cases e
  · rw [if_neg k1] at e; cases e
theorem x641 {pc : Int32} {tc : Int32} {rc : Int32} {fc : Int32} {qc : Int32} {pa : Int32} {ta : Int32} {ra : Int32} {pl : Int32 → Int32} {tl : Int32 → Int32} {wc : Int32 → Int32} {wa : Int32 → Int32} {ya : Int32 → Int32} {A : wK → Nat} {h : pm_H} {D : Nat} {S : wS} {x1 : Int32} {x2 : Int32} {x3 : Int32} {x4 : Int32} {r : Nat ⊕ (Int32)} (hP : Cz_P pc tc rc fc qc pa ta ra pl tl wc wa ya) (hA : wok A (Cz_d pc tc rc fc qc pa ta ra pl tl wc wa ya) h.1) (hD : 5 ≤ D) (e : f641 pc tc rc fc qc pa ta ra pl tl wc wa ya S x1 x2 x3 x4 = some r) : pm_call pm_prog D 641 [.ref (A (0, 0, 0)), .int x1, .int x2, .int x3, .int x4] (wput A (Cz_d pc tc rc fc qc pa ta ra pl tl wc wa ya) S h) = some (match (generalizing := false) r with | .inl c => (Outcome.threw c, (wput A (Cz_d pc tc rc fc qc pa ta ra pl tl wc wa ya) S (pm_new h 6 (.inr (c, []))))) | .inr w0 => (Outcome.returned (some (.int w0)), (wput A (Cz_d pc tc rc fc qc pa ta ra pl tl wc wa ya) S h))) := by
  obtain ⟨D, rfl⟩ : ∃ D', D = D' + 1 := ⟨D - 1, by omega⟩
  have hD : 4 ≤ D := by omega
  simp only [f641] at e
  rw [c641 (Cz_c0 hP hA), b641_0]
  obtain ⟨r, k1, e⟩ := Option.bind_eq_some_iff.mp e
  have z1 := x642 (D := D) (h := h) hP hA (by omega) k1
  rcases r with c12 | v1i
  · dsimp only at e z1
    have e := Option.some.inj e; subst e
    simp -implicitDefEqProofs (disch := first | assumption | exact Nat.le_of_ble_eq_true rfl | decide) only [b641_0, g641_1, b641_1, g641_4, b641_4, pe_aload0, pe_iload1, pe_call2, pm_af_ret, pm_af_void, pm_af_thr, pe_astore5, pe_iload2, pe_astore6, pe_iload3, pe_sipush, pe_call3, pe_if_eq, pe_iload4, pe_goto, pe_goto_w, pe_call1, pe_istore7, pe_istore8, pe_iload8, pe_aload5, pe_icmp_gt, pe_iload7, pe_aload6, pe_call4, pe_iinc8, pe_iadd, pe_isub, pe_idiv, pe_aloadN0, pe_astoreN5, pe_astoreN6, pe_aloadN5, pe_aloadN6, pe_aastoreN, pe_areturnN, pe_null, pm_prog_1, pm_ob_some, Nat.reduceDiv, Nat.reduceMod, Nat.reduceMul, Nat.reduceAdd, Int.reduceToNat, pm_kill_i, pm_kill_r, pm_kill_n, pm_kill_j, pm_kill_l, pm_kill_d, pm_cats_nil, pm_cats_i, pm_cats_r, pm_cats_n, pm_cats_l, pm_cats_d, sz_1, sz_2, sl_1, sl_2, lc_0, lc_lt, lc_le, li_ne, va_rf, wr_m1, we_m1, pm_kill_w, Int32.reduceOfInt, Int64.reduceOfInt, Int32.reduceOfNat, Int32.reduceLT, Int32.reduceLE, Prod.mk.injEq, Nat.reduceEqDiff, reduceCtorEq, and_true, true_and, and_false, false_and, and_self, ite_true, ite_false, ↓reduceIte, not_true_eq_false, not_false_eq_true, pe_ri, pe_rz, pe_rc, p_throw, t641, w_junk hA, z1]
  · dsimp only at e z1
    by_cases k2 : 0 ≤ v1i ∧ v1i < pc
    · rw [if_pos k2] at e
      obtain ⟨r, k3, e⟩ := Option.bind_eq_some_iff.mp e
      have z3 := x645 (D := D) (h := h) hP hA (by omega) k3
      rcases r with c11 | v2i
      · dsimp only at e z3
        have e := Option.some.inj e; subst e
        simp -implicitDefEqProofs (disch := first | assumption | exact Nat.le_of_ble_eq_true rfl | decide) only [b641_0, g641_1, b641_1, g641_4, b641_4, pe_aload0, pe_iload1, pe_call2, pm_af_ret, pm_af_void, pm_af_thr, pe_astore5, pe_iload2, pe_astore6, pe_iload3, pe_sipush, pe_call3, pe_if_eq, pe_iload4, pe_goto, pe_goto_w, pe_call1, pe_istore7, pe_istore8, pe_iload8, pe_aload5, pe_icmp_gt, pe_iload7, pe_aload6, pe_call4, pe_iinc8, pe_iadd, pe_isub, pe_idiv, pe_aloadN0, pe_astoreN5, pe_astoreN6, pe_aloadN5, pe_aloadN6, pe_aastoreN, pe_areturnN, pe_null, pm_prog_1, pm_ob_some, Nat.reduceDiv, Nat.reduceMod, Nat.reduceMul, Nat.reduceAdd, Int.reduceToNat, pm_kill_i, pm_kill_r, pm_kill_n, pm_kill_j, pm_kill_l, pm_kill_d, pm_cats_nil, pm_cats_i, pm_cats_r, pm_cats_n, pm_cats_l, pm_cats_d, sz_1, sz_2, sl_1, sl_2, lc_0, lc_lt, lc_le, li_ne, va_rf, wr_m1, we_m1, pm_kill_w, Int32.reduceOfInt, Int64.reduceOfInt, Int32.reduceOfNat, Int32.reduceLT, Int32.reduceLE, Prod.mk.injEq, Nat.reduceEqDiff, reduceCtorEq, and_true, true_and, and_false, false_and, and_self, ite_true, ite_false, ↓reduceIte, not_true_eq_false, not_false_eq_true, pe_ri, pe_rz, pe_rc, p_throw, t641, w_junk hA, z1, z3]
      · dsimp only at e z3
        by_cases k4 : 0 ≤ v2i ∧ v2i < tc
        · rw [if_pos k4] at e
          obtain ⟨v3, k5, e⟩ := Option.bind_eq_some_iff.mp e
          try dsimp only at e
          have z5 := fun h => x643 (D := D) (h := h) (by omega) k5
          by_cases k6 : v3 = 0
          · rw [if_pos k6] at e
            have k7 := y641_2 (h := h) hP hA hD e
            simp -implicitDefEqProofs (disch := first | assumption | exact Nat.le_of_ble_eq_true rfl | decide) only [b641_0, g641_1, b641_1, g641_4, b641_4, pe_aload0, pe_iload1, pe_call2, pm_af_ret, pm_af_void, pm_af_thr, pe_astore5, pe_iload2, pe_astore6, pe_iload3, pe_sipush, pe_call3, pe_if_eq, pe_iload4, pe_goto, pe_goto_w, pe_call1, pe_istore7, pe_istore8, pe_iload8, pe_aload5, pe_icmp_gt, pe_iload7, pe_aload6, pe_call4, pe_iinc8, pe_iadd, pe_isub, pe_idiv, pe_aloadN0, pe_astoreN5, pe_astoreN6, pe_aloadN5, pe_aloadN6, pe_aastoreN, pe_areturnN, pe_null, pm_prog_1, pm_ob_some, Nat.reduceDiv, Nat.reduceMod, Nat.reduceMul, Nat.reduceAdd, Int.reduceToNat, pm_kill_i, pm_kill_r, pm_kill_n, pm_kill_j, pm_kill_l, pm_kill_d, pm_cats_nil, pm_cats_i, pm_cats_r, pm_cats_n, pm_cats_l, pm_cats_d, sz_1, sz_2, sl_1, sl_2, lc_0, lc_lt, lc_le, li_ne, va_rf, wr_m1, we_m1, pm_kill_w, Int32.reduceOfInt, Int64.reduceOfInt, Int32.reduceOfNat, Int32.reduceLT, Int32.reduceLE, Prod.mk.injEq, Nat.reduceEqDiff, reduceCtorEq, and_true, true_and, and_false, false_and, and_self, ite_true, ite_false, ↓reduceIte, not_true_eq_false, not_false_eq_true, pe_ri, pe_rz, pe_rc, p_throw, t641, w_junk hA, z1, z3, z5, eq_true k6, k7]
          · rw [if_neg k6] at e
            obtain ⟨v10, k8, e⟩ := Option.bind_eq_some_iff.mp e
            try dsimp only at e
            have z8 := fun h => x643 (D := D) (h := h) (by omega) k8
            by_cases k9 : v10 = 0
            · rw [if_pos k9] at e
              have k10 := y641_2 (h := h) hP hA hD e
              simp -implicitDefEqProofs (disch := first | assumption | exact Nat.le_of_ble_eq_true rfl | decide) only [b641_0, g641_1, b641_1, g641_4, b641_4, pe_aload0, pe_iload1, pe_call2, pm_af_ret, pm_af_void, pm_af_thr, pe_astore5, pe_iload2, pe_astore6, pe_iload3, pe_sipush, pe_call3, pe_if_eq, pe_iload4, pe_goto, pe_goto_w, pe_call1, pe_istore7, pe_istore8, pe_iload8, pe_aload5, pe_icmp_gt, pe_iload7, pe_aload6, pe_call4, pe_iinc8, pe_iadd, pe_isub, pe_idiv, pe_aloadN0, pe_astoreN5, pe_astoreN6, pe_aloadN5, pe_aloadN6, pe_aastoreN, pe_areturnN, pe_null, pm_prog_1, pm_ob_some, Nat.reduceDiv, Nat.reduceMod, Nat.reduceMul, Nat.reduceAdd, Int.reduceToNat, pm_kill_i, pm_kill_r, pm_kill_n, pm_kill_j, pm_kill_l, pm_kill_d, pm_cats_nil, pm_cats_i, pm_cats_r, pm_cats_n, pm_cats_l, pm_cats_d, sz_1, sz_2, sl_1, sl_2, lc_0, lc_lt, lc_le, li_ne, va_rf, wr_m1, we_m1, pm_kill_w, Int32.reduceOfInt, Int64.reduceOfInt, Int32.reduceOfNat, Int32.reduceLT, Int32.reduceLE, Prod.mk.injEq, Nat.reduceEqDiff, reduceCtorEq, and_true, true_and, and_false, false_and, and_self, ite_true, ite_false, ↓reduceIte, not_true_eq_false, not_false_eq_true, pe_ri, pe_rz, pe_rc, p_throw, t641, w_junk hA, z1, z3, z5, eq_false k6, z8, eq_true k9, k10]
            · rw [if_neg k9] at e
              have k11 := y641_2 (h := h) hP hA hD e
              simp -implicitDefEqProofs (disch := first | assumption | exact Nat.le_of_ble_eq_true rfl | decide) only [b641_0, g641_1, b641_1, g641_4, b641_4, pe_aload0, pe_iload1, pe_call2, pm_af_ret, pm_af_void, pm_af_thr, pe_astore5, pe_iload2, pe_astore6, pe_iload3, pe_sipush, pe_call3, pe_if_eq, pe_iload4, pe_goto, pe_goto_w, pe_call1, pe_istore7, pe_istore8, pe_iload8, pe_aload5, pe_icmp_gt, pe_iload7, pe_aload6, pe_call4, pe_iinc8, pe_iadd, pe_isub, pe_idiv, pe_aloadN0, pe_astoreN5, pe_astoreN6, pe_aloadN5, pe_aloadN6, pe_aastoreN, pe_areturnN, pe_null, pm_prog_1, pm_ob_some, Nat.reduceDiv, Nat.reduceMod, Nat.reduceMul, Nat.reduceAdd, Int.reduceToNat, pm_kill_i, pm_kill_r, pm_kill_n, pm_kill_j, pm_kill_l, pm_kill_d, pm_cats_nil, pm_cats_i, pm_cats_r, pm_cats_n, pm_cats_l, pm_cats_d, sz_1, sz_2, sl_1, sl_2, lc_0, lc_lt, lc_le, li_ne, va_rf, wr_m1, we_m1, pm_kill_w, Int32.reduceOfInt, Int64.reduceOfInt, Int32.reduceOfNat, Int32.reduceLT, Int32.reduceLE, Prod.mk.injEq, Nat.reduceEqDiff, reduceCtorEq, and_true, true_and, and_false, false_and, and_self, ite_true, ite_false, ↓reduceIte, not_true_eq_false, not_false_eq_true, pe_ri, pe_rz, pe_rc, p_throw, t641, w_junk hA, z1, z3, z5, eq_false k6, z8, eq_false k9, k11]
        · rw [if_neg k4] at e; cases e
    · rw [if_neg k2] at e; cases e
/-- TimberHouse$LathePieces.room(Z)V -/
theorem c651 {d : Nat} {h : pm_H} {x0 : Int32} : pm_call pm_prog (d + 1) 651 [.int x0] h = pm_ev pm_prog (pm_call pm_prog d) 651 0 b651_0 [.int x0] [] h := pm_cal (pm_rc0 rfl) rfl rfl rfl
theorem g651_1 {cl : pm_C} {ls st : List Value} {h : pm_H} : pm_go pm_prog cl 651 1 ls st h = pm_ev pm_prog cl 651 1 b651_1 ls st h := pm_go_eq pm_prog cl 651 1 ls st h
theorem t651 {cl : pm_C} {j : Nat} {ls : List Value} {c : Nat} {h : pm_H} : pm_thr pm_prog cl 651 j ls c h = some (.threw c, h) := rfl
/-- TimberHouse$LathePieces.room(Z)V -/
noncomputable def f651 (x0 : Int32) : Option (Nat ⊕ (Unit)) :=
  if x0 = 0 then
    some (.inl 71)
  else
    some (.inr ())
theorem x651 {h : pm_H} {D : Nat} {x0 : Int32} {r : Nat ⊕ (Unit)} (hD : 1 ≤ D) (e : f651 x0 = some r) : pm_call pm_prog D 651 [.int x0] h = some (match (generalizing := false) r with | .inl c => (Outcome.threw c, (pm_new h 6 (.inr (c, [])))) | .inr _ => (Outcome.returned none, h)) := by
  obtain ⟨D, rfl⟩ : ∃ D', D = D' + 1 := ⟨D - 1, by omega⟩
  have hD : 0 ≤ D := by omega
  simp only [f651] at e
  rw [c651, b651_0]
  by_cases k1 : x0 = 0
  · rw [if_pos k1] at e
    have e := Option.some.inj e; subst e
    simp -implicitDefEqProofs (disch := first | assumption | exact Nat.le_of_ble_eq_true rfl | decide) only [b651_0, g651_1, b651_1, pe_iload0, pe_if_ne, pe_return, pe_aastoreN, pe_areturnN, pe_null, pm_prog_1, pm_ob_some, Nat.reduceDiv, Nat.reduceMod, Nat.reduceMul, Nat.reduceAdd, Int.reduceToNat, pm_kill_i, pm_kill_r, pm_kill_n, pm_kill_j, pm_kill_l, pm_kill_d, pm_cats_nil, pm_cats_i, pm_cats_r, pm_cats_n, pm_cats_l, pm_cats_d, sz_1, sz_2, sl_1, sl_2, lc_0, lc_lt, lc_le, li_ne, va_rf, wr_m1, we_m1, pm_kill_w, Int32.reduceOfInt, Int64.reduceOfInt, Int32.reduceOfNat, Int32.reduceLT, Int32.reduceLE, Prod.mk.injEq, Nat.reduceEqDiff, reduceCtorEq, and_true, true_and, and_false, false_and, and_self, ite_true, ite_false, ↓reduceIte, not_true_eq_false, not_false_eq_true, pe_ri, pe_rz, pe_rc, p_throw, t651, eq_true k1]
  · rw [if_neg k1] at e
    have e := Option.some.inj e; subst e
    simp -implicitDefEqProofs (disch := first | assumption | exact Nat.le_of_ble_eq_true rfl | decide) only [b651_0, g651_1, b651_1, pe_iload0, pe_if_ne, pe_return, pe_aastoreN, pe_areturnN, pe_null, pm_prog_1, pm_ob_some, Nat.reduceDiv, Nat.reduceMod, Nat.reduceMul, Nat.reduceAdd, Int.reduceToNat, pm_kill_i, pm_kill_r, pm_kill_n, pm_kill_j, pm_kill_l, pm_kill_d, pm_cats_nil, pm_cats_i, pm_cats_r, pm_cats_n, pm_cats_l, pm_cats_d, sz_1, sz_2, sl_1, sl_2, lc_0, lc_lt, lc_le, li_ne, va_rf, wr_m1, we_m1, pm_kill_w, Int32.reduceOfInt, Int64.reduceOfInt, Int32.reduceOfNat, Int32.reduceLT, Int32.reduceLE, Prod.mk.injEq, Nat.reduceEqDiff, reduceCtorEq, and_true, true_and, and_false, false_and, and_self, ite_true, ite_false, ↓reduceIte, not_true_eq_false, not_false_eq_true, pe_ri, pe_rz, pe_rc, p_throw, t651, eq_false k1]
/-- TimberHouse$LathePieces.ends(IIZ)V -/
theorem c650 {d : Nat} {h : pm_H} {a : Nat} {x0 : Int32} {x1 : Int32} {x2 : Int32} (hc : pm_cls h a = some 10) : pm_call pm_prog (d + 1) 650 [.ref a, .int x0, .int x1, .int x2] h = pm_ev pm_prog (pm_call pm_prog d) 650 0 b650_0 [.ref a, .int x0, .int x1, .int x2] [] h := pm_cal (pm_rc1 hc rfl) rfl rfl rfl
theorem g650_1 {cl : pm_C} {ls st : List Value} {h : pm_H} : pm_go pm_prog cl 650 1 ls st h = pm_ev pm_prog cl 650 1 b650_1 ls st h := pm_go_eq pm_prog cl 650 1 ls st h
theorem g650_2 {cl : pm_C} {ls st : List Value} {h : pm_H} : pm_go pm_prog cl 650 2 ls st h = pm_ev pm_prog cl 650 2 b650_2 ls st h := pm_go_eq pm_prog cl 650 2 ls st h
theorem g650_3 {cl : pm_C} {ls st : List Value} {h : pm_H} : pm_go pm_prog cl 650 3 ls st h = pm_ev pm_prog cl 650 3 b650_3 ls st h := pm_go_eq pm_prog cl 650 3 ls st h
theorem g650_4 {cl : pm_C} {ls st : List Value} {h : pm_H} : pm_go pm_prog cl 650 4 ls st h = pm_ev pm_prog cl 650 4 b650_4 ls st h := pm_go_eq pm_prog cl 650 4 ls st h
theorem g650_5 {cl : pm_C} {ls st : List Value} {h : pm_H} : pm_go pm_prog cl 650 5 ls st h = pm_ev pm_prog cl 650 5 b650_5 ls st h := pm_go_eq pm_prog cl 650 5 ls st h
theorem t650 {cl : pm_C} {j : Nat} {ls : List Value} {c : Nat} {h : pm_H} : pm_thr pm_prog cl 650 j ls c h = some (.threw c, h) := rfl
noncomputable def f650_5 (pc : Int32) (tc : Int32) (rc : Int32) (fc : Int32) (qc : Int32) (pa : Int32) (ta : Int32) (ra : Int32) (pl : Int32 → Int32) (tl : Int32 → Int32) (wc : Int32 → Int32) (wa : Int32 → Int32) (ya : Int32 → Int32) (S : wS) (y0 : Int32) : Option (Nat ⊕ (Unit)) :=
  (f651 y0).bind fun r => match r with
  | .inl c2 =>
    some (.inl c2)
  | .inr _ =>
  some (.inr ())
noncomputable def f650_3 (pc : Int32) (tc : Int32) (rc : Int32) (fc : Int32) (qc : Int32) (pa : Int32) (ta : Int32) (ra : Int32) (pl : Int32 → Int32) (tl : Int32 → Int32) (wc : Int32 → Int32) (wa : Int32 → Int32) (ya : Int32 → Int32) (S : wS) (y0 : Int32) : Option (Nat ⊕ (Unit)) :=
  (f646 y0).bind fun r => match r with
  | .inl c3 =>
    some (.inl c3)
  | .inr _ =>
  if (S.1 (0, 0, 0) 0) < 0 then
    f650_5 pc tc rc fc qc pa ta ra pl tl wc wa ya S 0
  else
    f650_5 pc tc rc fc qc pa ta ra pl tl wc wa ya S 1
/-- TimberHouse$LathePieces.ends(IIZ)V -/
noncomputable def f650 (pc : Int32) (tc : Int32) (rc : Int32) (fc : Int32) (qc : Int32) (pa : Int32) (ta : Int32) (ra : Int32) (pl : Int32 → Int32) (tl : Int32 → Int32) (wc : Int32 → Int32) (wa : Int32 → Int32) (ya : Int32 → Int32) (S : wS) (x1 : Int32) (x2 : Int32) (x3 : Int32) : Option (Nat ⊕ (Unit)) :=
  (f643 x1 1 64).bind fun v1 =>
  if v1 = 0 then
    f650_3 pc tc rc fc qc pa ta ra pl tl wc wa ya S 0
  else
    (f643 x2 0 500).bind fun v4 =>
    if v4 = 0 then
      f650_3 pc tc rc fc qc pa ta ra pl tl wc wa ya S 0
    else
      if x3 = 0 then
        f650_3 pc tc rc fc qc pa ta ra pl tl wc wa ya S 0
      else
        if (S.1 (0, 0, 0) 0) < 0 then
          f650_3 pc tc rc fc qc pa ta ra pl tl wc wa ya S 1
        else
          if 0 ≤ (S.1 (0, 0, 0) 0) ∧ (S.1 (0, 0, 0) 0) < fc then
            if x1 ≤ (S.1 (30, (S.1 (0, 0, 0) 0), 0) 1) then
              f650_3 pc tc rc fc qc pa ta ra pl tl wc wa ya S 0
            else
              f650_3 pc tc rc fc qc pa ta ra pl tl wc wa ya S 1
          else none
theorem y650_5 {pc : Int32} {tc : Int32} {rc : Int32} {fc : Int32} {qc : Int32} {pa : Int32} {ta : Int32} {ra : Int32} {pl : Int32 → Int32} {tl : Int32 → Int32} {wc : Int32 → Int32} {wa : Int32 → Int32} {ya : Int32 → Int32} {A : wK → Nat} {h : pm_H} {D : Nat} {S : wS} {y0 : Int32} {r : Nat ⊕ (Unit)} (hP : Cz_P pc tc rc fc qc pa ta ra pl tl wc wa ya) (hA : wok A (Cz_d pc tc rc fc qc pa ta ra pl tl wc wa ya) h.1) (hD : 1 ≤ D) (e : f650_5 pc tc rc fc qc pa ta ra pl tl wc wa ya S y0 = some r) : ∀ q0 q1 q2 q3 : Value, pm_go pm_prog (pm_call pm_prog D) 650 5 [q0, q1, q2, q3] [.int y0] (wput A (Cz_d pc tc rc fc qc pa ta ra pl tl wc wa ya) S h) = some (match (generalizing := false) r with | .inl c => (Outcome.threw c, (wput A (Cz_d pc tc rc fc qc pa ta ra pl tl wc wa ya) S (pm_new h 6 (.inr (c, []))))) | .inr _ => (Outcome.returned none, (wput A (Cz_d pc tc rc fc qc pa ta ra pl tl wc wa ya) S h))) := by
  intro q0 q1 q2 q3
  simp only [f650_5] at e
  rw [g650_5, b650_5]
  obtain ⟨r, k1, e⟩ := Option.bind_eq_some_iff.mp e
  have z1 := fun h => x651 (D := D) (h := h) (by omega) k1
  rcases r with c2 | _
  · dsimp only at e z1
    have e := Option.some.inj e; subst e
    simp -implicitDefEqProofs (disch := first | assumption | exact Nat.le_of_ble_eq_true rfl | decide) only [b650_0, g650_1, b650_1, g650_2, b650_2, g650_4, b650_4, pe_iload1, pe_sipush, pe_call3, pm_af_ret, pm_af_void, pm_af_thr, pe_if_eq, pe_iload2, pe_iload3, pe_aload0, pe_getfield, pe_ifnull_n, pe_ifnull_r, pe_icmp_le, pe_goto_w, pe_goto, pe_call1, pe_return, pe_aloadN0, pe_aastoreN, pe_areturnN, pe_null, pm_prog_1, pm_ob_some, Nat.reduceDiv, Nat.reduceMod, Nat.reduceMul, Nat.reduceAdd, Int.reduceToNat, pm_kill_i, pm_kill_r, pm_kill_n, pm_kill_j, pm_kill_l, pm_kill_d, pm_cats_nil, pm_cats_i, pm_cats_r, pm_cats_n, pm_cats_l, pm_cats_d, sz_1, sz_2, sl_1, sl_2, lc_0, lc_lt, lc_le, li_ne, va_rf, wr_m1, we_m1, pm_kill_w, Int32.reduceOfInt, Int64.reduceOfInt, Int32.reduceOfNat, Int32.reduceLT, Int32.reduceLE, Prod.mk.injEq, Nat.reduceEqDiff, reduceCtorEq, and_true, true_and, and_false, false_and, and_self, ite_true, ite_false, ↓reduceIte, not_true_eq_false, not_false_eq_true, pe_ri, pe_rz, pe_rc, p_throw, t650, w_junk hA, Cz_g0_0 hP hA, Cz_g30_1 hP hA, z1]
  · dsimp only at e z1
    have e := Option.some.inj e; subst e
    simp -implicitDefEqProofs (disch := first | assumption | exact Nat.le_of_ble_eq_true rfl | decide) only [b650_0, g650_1, b650_1, g650_2, b650_2, g650_4, b650_4, pe_iload1, pe_sipush, pe_call3, pm_af_ret, pm_af_void, pm_af_thr, pe_if_eq, pe_iload2, pe_iload3, pe_aload0, pe_getfield, pe_ifnull_n, pe_ifnull_r, pe_icmp_le, pe_goto_w, pe_goto, pe_call1, pe_return, pe_aloadN0, pe_aastoreN, pe_areturnN, pe_null, pm_prog_1, pm_ob_some, Nat.reduceDiv, Nat.reduceMod, Nat.reduceMul, Nat.reduceAdd, Int.reduceToNat, pm_kill_i, pm_kill_r, pm_kill_n, pm_kill_j, pm_kill_l, pm_kill_d, pm_cats_nil, pm_cats_i, pm_cats_r, pm_cats_n, pm_cats_l, pm_cats_d, sz_1, sz_2, sl_1, sl_2, lc_0, lc_lt, lc_le, li_ne, va_rf, wr_m1, we_m1, pm_kill_w, Int32.reduceOfInt, Int64.reduceOfInt, Int32.reduceOfNat, Int32.reduceLT, Int32.reduceLE, Prod.mk.injEq, Nat.reduceEqDiff, reduceCtorEq, and_true, true_and, and_false, false_and, and_self, ite_true, ite_false, ↓reduceIte, not_true_eq_false, not_false_eq_true, pe_ri, pe_rz, pe_rc, p_throw, t650, w_junk hA, Cz_g0_0 hP hA, Cz_g30_1 hP hA, z1]
theorem y650_3 {pc : Int32} {tc : Int32} {rc : Int32} {fc : Int32} {qc : Int32} {pa : Int32} {ta : Int32} {ra : Int32} {pl : Int32 → Int32} {tl : Int32 → Int32} {wc : Int32 → Int32} {wa : Int32 → Int32} {ya : Int32 → Int32} {A : wK → Nat} {h : pm_H} {D : Nat} {S : wS} {y0 : Int32} {r : Nat ⊕ (Unit)} (hP : Cz_P pc tc rc fc qc pa ta ra pl tl wc wa ya) (hA : wok A (Cz_d pc tc rc fc qc pa ta ra pl tl wc wa ya) h.1) (hD : 1 ≤ D) (e : f650_3 pc tc rc fc qc pa ta ra pl tl wc wa ya S y0 = some r) : ∀ q1 q2 q3 : Value, pm_go pm_prog (pm_call pm_prog D) 650 3 [.ref (A (0, 0, 0)), q1, q2, q3] [.int y0] (wput A (Cz_d pc tc rc fc qc pa ta ra pl tl wc wa ya) S h) = some (match (generalizing := false) r with | .inl c => (Outcome.threw c, (wput A (Cz_d pc tc rc fc qc pa ta ra pl tl wc wa ya) S (pm_new h 6 (.inr (c, []))))) | .inr _ => (Outcome.returned none, (wput A (Cz_d pc tc rc fc qc pa ta ra pl tl wc wa ya) S h))) := by
  intro q1 q2 q3
  simp only [f650_3] at e
  rw [g650_3, b650_3]
  obtain ⟨r, k1, e⟩ := Option.bind_eq_some_iff.mp e
  have z1 := fun h => x646 (D := D) (h := h) (by omega) k1
  rcases r with c3 | _
  · dsimp only at e z1
    have e := Option.some.inj e; subst e
    simp -implicitDefEqProofs (disch := first | assumption | exact Nat.le_of_ble_eq_true rfl | decide) only [b650_0, g650_1, b650_1, g650_2, b650_2, g650_4, b650_4, pe_iload1, pe_sipush, pe_call3, pm_af_ret, pm_af_void, pm_af_thr, pe_if_eq, pe_iload2, pe_iload3, pe_aload0, pe_getfield, pe_ifnull_n, pe_ifnull_r, pe_icmp_le, pe_goto_w, pe_goto, pe_call1, pe_return, pe_aloadN0, pe_aastoreN, pe_areturnN, pe_null, pm_prog_1, pm_ob_some, Nat.reduceDiv, Nat.reduceMod, Nat.reduceMul, Nat.reduceAdd, Int.reduceToNat, pm_kill_i, pm_kill_r, pm_kill_n, pm_kill_j, pm_kill_l, pm_kill_d, pm_cats_nil, pm_cats_i, pm_cats_r, pm_cats_n, pm_cats_l, pm_cats_d, sz_1, sz_2, sl_1, sl_2, lc_0, lc_lt, lc_le, li_ne, va_rf, wr_m1, we_m1, pm_kill_w, Int32.reduceOfInt, Int64.reduceOfInt, Int32.reduceOfNat, Int32.reduceLT, Int32.reduceLE, Prod.mk.injEq, Nat.reduceEqDiff, reduceCtorEq, and_true, true_and, and_false, false_and, and_self, ite_true, ite_false, ↓reduceIte, not_true_eq_false, not_false_eq_true, pe_ri, pe_rz, pe_rc, p_throw, t650, w_junk hA, Cz_g0_0 hP hA, Cz_g30_1 hP hA, z1]
  · dsimp only at e z1
    by_cases k2 : (S.1 (0, 0, 0) 0) < 0
    · rw [if_pos k2] at e
      have k3 := y650_5 (h := h) hP hA hD e
      try simp only [wr_m1, wr_n (A := A) (f := 30) k2] at k3
      simp -implicitDefEqProofs (disch := first | assumption | exact Nat.le_of_ble_eq_true rfl | decide) only [b650_0, g650_1, b650_1, g650_2, b650_2, g650_4, b650_4, pe_iload1, pe_sipush, pe_call3, pm_af_ret, pm_af_void, pm_af_thr, pe_if_eq, pe_iload2, pe_iload3, pe_aload0, pe_getfield, pe_ifnull_n, pe_ifnull_r, pe_icmp_le, pe_goto_w, pe_goto, pe_call1, pe_return, pe_aloadN0, pe_aastoreN, pe_areturnN, pe_null, pm_prog_1, pm_ob_some, Nat.reduceDiv, Nat.reduceMod, Nat.reduceMul, Nat.reduceAdd, Int.reduceToNat, pm_kill_i, pm_kill_r, pm_kill_n, pm_kill_j, pm_kill_l, pm_kill_d, pm_cats_nil, pm_cats_i, pm_cats_r, pm_cats_n, pm_cats_l, pm_cats_d, sz_1, sz_2, sl_1, sl_2, lc_0, lc_lt, lc_le, li_ne, va_rf, wr_m1, we_m1, pm_kill_w, Int32.reduceOfInt, Int64.reduceOfInt, Int32.reduceOfNat, Int32.reduceLT, Int32.reduceLE, Prod.mk.injEq, Nat.reduceEqDiff, reduceCtorEq, and_true, true_and, and_false, false_and, and_self, ite_true, ite_false, ↓reduceIte, not_true_eq_false, not_false_eq_true, pe_ri, pe_rz, pe_rc, p_throw, t650, w_junk hA, Cz_g0_0 hP hA, Cz_g30_1 hP hA, z1, wr_n (A := A) (f := 30) k2, we_n (A := A) (f := 30) k2, k3]
    · rw [if_neg k2] at e
      have k4 := y650_5 (h := h) hP hA hD e
      try simp only [wr_m1, wr_p (A := A) (f := 30) k2] at k4
      simp -implicitDefEqProofs (disch := first | assumption | exact Nat.le_of_ble_eq_true rfl | decide) only [b650_0, g650_1, b650_1, g650_2, b650_2, g650_4, b650_4, pe_iload1, pe_sipush, pe_call3, pm_af_ret, pm_af_void, pm_af_thr, pe_if_eq, pe_iload2, pe_iload3, pe_aload0, pe_getfield, pe_ifnull_n, pe_ifnull_r, pe_icmp_le, pe_goto_w, pe_goto, pe_call1, pe_return, pe_aloadN0, pe_aastoreN, pe_areturnN, pe_null, pm_prog_1, pm_ob_some, Nat.reduceDiv, Nat.reduceMod, Nat.reduceMul, Nat.reduceAdd, Int.reduceToNat, pm_kill_i, pm_kill_r, pm_kill_n, pm_kill_j, pm_kill_l, pm_kill_d, pm_cats_nil, pm_cats_i, pm_cats_r, pm_cats_n, pm_cats_l, pm_cats_d, sz_1, sz_2, sl_1, sl_2, lc_0, lc_lt, lc_le, li_ne, va_rf, wr_m1, we_m1, pm_kill_w, Int32.reduceOfInt, Int64.reduceOfInt, Int32.reduceOfNat, Int32.reduceLT, Int32.reduceLE, Prod.mk.injEq, Nat.reduceEqDiff, reduceCtorEq, and_true, true_and, and_false, false_and, and_self, ite_true, ite_false, ↓reduceIte, not_true_eq_false, not_false_eq_true, pe_ri, pe_rz, pe_rc, p_throw, t650, w_junk hA, Cz_g0_0 hP hA, Cz_g30_1 hP hA, z1, wr_p (A := A) (f := 30) k2, we_p (A := A) (f := 30) k2, k4]
theorem x650 {pc : Int32} {tc : Int32} {rc : Int32} {fc : Int32} {qc : Int32} {pa : Int32} {ta : Int32} {ra : Int32} {pl : Int32 → Int32} {tl : Int32 → Int32} {wc : Int32 → Int32} {wa : Int32 → Int32} {ya : Int32 → Int32} {A : wK → Nat} {h : pm_H} {D : Nat} {S : wS} {x1 : Int32} {x2 : Int32} {x3 : Int32} {r : Nat ⊕ (Unit)} (hP : Cz_P pc tc rc fc qc pa ta ra pl tl wc wa ya) (hA : wok A (Cz_d pc tc rc fc qc pa ta ra pl tl wc wa ya) h.1) (hD : 2 ≤ D) (e : f650 pc tc rc fc qc pa ta ra pl tl wc wa ya S x1 x2 x3 = some r) : pm_call pm_prog D 650 [.ref (A (0, 0, 0)), .int x1, .int x2, .int x3] (wput A (Cz_d pc tc rc fc qc pa ta ra pl tl wc wa ya) S h) = some (match (generalizing := false) r with | .inl c => (Outcome.threw c, (wput A (Cz_d pc tc rc fc qc pa ta ra pl tl wc wa ya) S (pm_new h 6 (.inr (c, []))))) | .inr _ => (Outcome.returned none, (wput A (Cz_d pc tc rc fc qc pa ta ra pl tl wc wa ya) S h))) := by
  obtain ⟨D, rfl⟩ : ∃ D', D = D' + 1 := ⟨D - 1, by omega⟩
  have hD : 1 ≤ D := by omega
  simp only [f650] at e
  rw [c650 (Cz_c0 hP hA), b650_0]
  obtain ⟨v1, k1, e⟩ := Option.bind_eq_some_iff.mp e
  try dsimp only at e
  have z1 := fun h => x643 (D := D) (h := h) (by omega) k1
  by_cases k2 : v1 = 0
  · rw [if_pos k2] at e
    have k3 := y650_3 (h := h) hP hA hD e
    simp -implicitDefEqProofs (disch := first | assumption | exact Nat.le_of_ble_eq_true rfl | decide) only [b650_0, g650_1, b650_1, g650_2, b650_2, g650_4, b650_4, pe_iload1, pe_sipush, pe_call3, pm_af_ret, pm_af_void, pm_af_thr, pe_if_eq, pe_iload2, pe_iload3, pe_aload0, pe_getfield, pe_ifnull_n, pe_ifnull_r, pe_icmp_le, pe_goto_w, pe_goto, pe_call1, pe_return, pe_aloadN0, pe_aastoreN, pe_areturnN, pe_null, pm_prog_1, pm_ob_some, Nat.reduceDiv, Nat.reduceMod, Nat.reduceMul, Nat.reduceAdd, Int.reduceToNat, pm_kill_i, pm_kill_r, pm_kill_n, pm_kill_j, pm_kill_l, pm_kill_d, pm_cats_nil, pm_cats_i, pm_cats_r, pm_cats_n, pm_cats_l, pm_cats_d, sz_1, sz_2, sl_1, sl_2, lc_0, lc_lt, lc_le, li_ne, va_rf, wr_m1, we_m1, pm_kill_w, Int32.reduceOfInt, Int64.reduceOfInt, Int32.reduceOfNat, Int32.reduceLT, Int32.reduceLE, Prod.mk.injEq, Nat.reduceEqDiff, reduceCtorEq, and_true, true_and, and_false, false_and, and_self, ite_true, ite_false, ↓reduceIte, not_true_eq_false, not_false_eq_true, pe_ri, pe_rz, pe_rc, p_throw, t650, w_junk hA, Cz_g0_0 hP hA, Cz_g30_1 hP hA, z1, eq_true k2, k3]
  · rw [if_neg k2] at e
    obtain ⟨v4, k4, e⟩ := Option.bind_eq_some_iff.mp e
    try dsimp only at e
    have z4 := fun h => x643 (D := D) (h := h) (by omega) k4
    by_cases k5 : v4 = 0
    · rw [if_pos k5] at e
      have k6 := y650_3 (h := h) hP hA hD e
      simp -implicitDefEqProofs (disch := first | assumption | exact Nat.le_of_ble_eq_true rfl | decide) only [b650_0, g650_1, b650_1, g650_2, b650_2, g650_4, b650_4, pe_iload1, pe_sipush, pe_call3, pm_af_ret, pm_af_void, pm_af_thr, pe_if_eq, pe_iload2, pe_iload3, pe_aload0, pe_getfield, pe_ifnull_n, pe_ifnull_r, pe_icmp_le, pe_goto_w, pe_goto, pe_call1, pe_return, pe_aloadN0, pe_aastoreN, pe_areturnN, pe_null, pm_prog_1, pm_ob_some, Nat.reduceDiv, Nat.reduceMod, Nat.reduceMul, Nat.reduceAdd, Int.reduceToNat, pm_kill_i, pm_kill_r, pm_kill_n, pm_kill_j, pm_kill_l, pm_kill_d, pm_cats_nil, pm_cats_i, pm_cats_r, pm_cats_n, pm_cats_l, pm_cats_d, sz_1, sz_2, sl_1, sl_2, lc_0, lc_lt, lc_le, li_ne, va_rf, wr_m1, we_m1, pm_kill_w, Int32.reduceOfInt, Int64.reduceOfInt, Int32.reduceOfNat, Int32.reduceLT, Int32.reduceLE, Prod.mk.injEq, Nat.reduceEqDiff, reduceCtorEq, and_true, true_and, and_false, false_and, and_self, ite_true, ite_false, ↓reduceIte, not_true_eq_false, not_false_eq_true, pe_ri, pe_rz, pe_rc, p_throw, t650, w_junk hA, Cz_g0_0 hP hA, Cz_g30_1 hP hA, z1, eq_false k2, z4, eq_true k5, k6]
    · rw [if_neg k5] at e
      by_cases k7 : x3 = 0
      · rw [if_pos k7] at e
        have k8 := y650_3 (h := h) hP hA hD e
        simp -implicitDefEqProofs (disch := first | assumption | exact Nat.le_of_ble_eq_true rfl | decide) only [b650_0, g650_1, b650_1, g650_2, b650_2, g650_4, b650_4, pe_iload1, pe_sipush, pe_call3, pm_af_ret, pm_af_void, pm_af_thr, pe_if_eq, pe_iload2, pe_iload3, pe_aload0, pe_getfield, pe_ifnull_n, pe_ifnull_r, pe_icmp_le, pe_goto_w, pe_goto, pe_call1, pe_return, pe_aloadN0, pe_aastoreN, pe_areturnN, pe_null, pm_prog_1, pm_ob_some, Nat.reduceDiv, Nat.reduceMod, Nat.reduceMul, Nat.reduceAdd, Int.reduceToNat, pm_kill_i, pm_kill_r, pm_kill_n, pm_kill_j, pm_kill_l, pm_kill_d, pm_cats_nil, pm_cats_i, pm_cats_r, pm_cats_n, pm_cats_l, pm_cats_d, sz_1, sz_2, sl_1, sl_2, lc_0, lc_lt, lc_le, li_ne, va_rf, wr_m1, we_m1, pm_kill_w, Int32.reduceOfInt, Int64.reduceOfInt, Int32.reduceOfNat, Int32.reduceLT, Int32.reduceLE, Prod.mk.injEq, Nat.reduceEqDiff, reduceCtorEq, and_true, true_and, and_false, false_and, and_self, ite_true, ite_false, ↓reduceIte, not_true_eq_false, not_false_eq_true, pe_ri, pe_rz, pe_rc, p_throw, t650, w_junk hA, Cz_g0_0 hP hA, Cz_g30_1 hP hA, z1, eq_false k2, z4, eq_false k5, eq_true k7, k8]
      · rw [if_neg k7] at e
        by_cases k9 : (S.1 (0, 0, 0) 0) < 0
        · rw [if_pos k9] at e
          have k10 := y650_3 (h := h) hP hA hD e
          try simp only [wr_m1, wr_n (A := A) (f := 30) k9] at k10
          simp -implicitDefEqProofs (disch := first | assumption | exact Nat.le_of_ble_eq_true rfl | decide) only [b650_0, g650_1, b650_1, g650_2, b650_2, g650_4, b650_4, pe_iload1, pe_sipush, pe_call3, pm_af_ret, pm_af_void, pm_af_thr, pe_if_eq, pe_iload2, pe_iload3, pe_aload0, pe_getfield, pe_ifnull_n, pe_ifnull_r, pe_icmp_le, pe_goto_w, pe_goto, pe_call1, pe_return, pe_aloadN0, pe_aastoreN, pe_areturnN, pe_null, pm_prog_1, pm_ob_some, Nat.reduceDiv, Nat.reduceMod, Nat.reduceMul, Nat.reduceAdd, Int.reduceToNat, pm_kill_i, pm_kill_r, pm_kill_n, pm_kill_j, pm_kill_l, pm_kill_d, pm_cats_nil, pm_cats_i, pm_cats_r, pm_cats_n, pm_cats_l, pm_cats_d, sz_1, sz_2, sl_1, sl_2, lc_0, lc_lt, lc_le, li_ne, va_rf, wr_m1, we_m1, pm_kill_w, Int32.reduceOfInt, Int64.reduceOfInt, Int32.reduceOfNat, Int32.reduceLT, Int32.reduceLE, Prod.mk.injEq, Nat.reduceEqDiff, reduceCtorEq, and_true, true_and, and_false, false_and, and_self, ite_true, ite_false, ↓reduceIte, not_true_eq_false, not_false_eq_true, pe_ri, pe_rz, pe_rc, p_throw, t650, w_junk hA, Cz_g0_0 hP hA, Cz_g30_1 hP hA, z1, eq_false k2, z4, eq_false k5, eq_false k7, wr_n (A := A) (f := 30) k9, we_n (A := A) (f := 30) k9, k10]
        · rw [if_neg k9] at e
          by_cases k11 : 0 ≤ (S.1 (0, 0, 0) 0) ∧ (S.1 (0, 0, 0) 0) < fc
          · rw [if_pos k11] at e
            by_cases k12 : x1 ≤ (S.1 (30, (S.1 (0, 0, 0) 0), 0) 1)
            · rw [if_pos k12] at e
              have k13 := y650_3 (h := h) hP hA hD e
              try simp only [wr_m1, wr_p (A := A) (f := 30) k9, wr_p (A := A) (f := 30) (wz_lt k11)] at k13
              simp -implicitDefEqProofs (disch := first | assumption | exact Nat.le_of_ble_eq_true rfl | decide) only [b650_0, g650_1, b650_1, g650_2, b650_2, g650_4, b650_4, pe_iload1, pe_sipush, pe_call3, pm_af_ret, pm_af_void, pm_af_thr, pe_if_eq, pe_iload2, pe_iload3, pe_aload0, pe_getfield, pe_ifnull_n, pe_ifnull_r, pe_icmp_le, pe_goto_w, pe_goto, pe_call1, pe_return, pe_aloadN0, pe_aastoreN, pe_areturnN, pe_null, pm_prog_1, pm_ob_some, Nat.reduceDiv, Nat.reduceMod, Nat.reduceMul, Nat.reduceAdd, Int.reduceToNat, pm_kill_i, pm_kill_r, pm_kill_n, pm_kill_j, pm_kill_l, pm_kill_d, pm_cats_nil, pm_cats_i, pm_cats_r, pm_cats_n, pm_cats_l, pm_cats_d, sz_1, sz_2, sl_1, sl_2, lc_0, lc_lt, lc_le, li_ne, va_rf, wr_m1, we_m1, pm_kill_w, Int32.reduceOfInt, Int64.reduceOfInt, Int32.reduceOfNat, Int32.reduceLT, Int32.reduceLE, Prod.mk.injEq, Nat.reduceEqDiff, reduceCtorEq, and_true, true_and, and_false, false_and, and_self, ite_true, ite_false, ↓reduceIte, not_true_eq_false, not_false_eq_true, pe_ri, pe_rz, pe_rc, p_throw, t650, w_junk hA, Cz_g0_0 hP hA, Cz_g30_1 hP hA, z1, eq_false k2, z4, eq_false k5, eq_false k7, wr_p (A := A) (f := 30) k9, we_p (A := A) (f := 30) k9, wr_p (A := A) (f := 30) (wz_lt k11), we_p (A := A) (f := 30) (wz_lt k11), eq_true k12, k13]
            · rw [if_neg k12] at e
              have k14 := y650_3 (h := h) hP hA hD e
              try simp only [wr_m1, wr_p (A := A) (f := 30) k9, wr_p (A := A) (f := 30) (wz_lt k11)] at k14
              simp -implicitDefEqProofs (disch := first | assumption | exact Nat.le_of_ble_eq_true rfl | decide) only [b650_0, g650_1, b650_1, g650_2, b650_2, g650_4, b650_4, pe_iload1, pe_sipush, pe_call3, pm_af_ret, pm_af_void, pm_af_thr, pe_if_eq, pe_iload2, pe_iload3, pe_aload0, pe_getfield, pe_ifnull_n, pe_ifnull_r, pe_icmp_le, pe_goto_w, pe_goto, pe_call1, pe_return, pe_aloadN0, pe_aastoreN, pe_areturnN, pe_null, pm_prog_1, pm_ob_some, Nat.reduceDiv, Nat.reduceMod, Nat.reduceMul, Nat.reduceAdd, Int.reduceToNat, pm_kill_i, pm_kill_r, pm_kill_n, pm_kill_j, pm_kill_l, pm_kill_d, pm_cats_nil, pm_cats_i, pm_cats_r, pm_cats_n, pm_cats_l, pm_cats_d, sz_1, sz_2, sl_1, sl_2, lc_0, lc_lt, lc_le, li_ne, va_rf, wr_m1, we_m1, pm_kill_w, Int32.reduceOfInt, Int64.reduceOfInt, Int32.reduceOfNat, Int32.reduceLT, Int32.reduceLE, Prod.mk.injEq, Nat.reduceEqDiff, reduceCtorEq, and_true, true_and, and_false, false_and, and_self, ite_true, ite_false, ↓reduceIte, not_true_eq_false, not_false_eq_true, pe_ri, pe_rz, pe_rc, p_throw, t650, w_junk hA, Cz_g0_0 hP hA, Cz_g30_1 hP hA, z1, eq_false k2, z4, eq_false k5, eq_false k7, wr_p (A := A) (f := 30) k9, we_p (A := A) (f := 30) k9, wr_p (A := A) (f := 30) (wz_lt k11), we_p (A := A) (f := 30) (wz_lt k11), eq_false k12, k14]
          · rw [if_neg k11] at e; cases e
/-- TimberHouse$LathePieces.square(I)I -/
theorem c653 {d : Nat} {h : pm_H} {x0 : Int32} : pm_call pm_prog (d + 1) 653 [.int x0] h = pm_ev pm_prog (pm_call pm_prog d) 653 0 b653_0 [.int x0] [] h := pm_cal (pm_rc0 rfl) rfl rfl rfl
/-- TimberHouse$LathePieces.square(I)I -/
noncomputable def f653 (x0 : Int32) : Option (Int32) :=
  some (x0 * x0)
theorem x653 {h : pm_H} {D : Nat} {x0 : Int32} {r : Int32} (hD : 1 ≤ D) (e : f653 x0 = some r) : pm_call pm_prog D 653 [.int x0] h = some (Outcome.returned (some (.int r)), h) := by
  obtain ⟨D, rfl⟩ : ∃ D', D = D' + 1 := ⟨D - 1, by omega⟩
  have hD : 0 ≤ D := by omega
  simp only [f653] at e
  rw [c653, b653_0]
  have e := Option.some.inj e; subst e
  simp -implicitDefEqProofs (disch := first | assumption | exact Nat.le_of_ble_eq_true rfl | decide) only [b653_0, pe_iload0, pe_imul, pe_aastoreN, pe_areturnN, pe_null, pm_prog_1, pm_ob_some, Nat.reduceDiv, Nat.reduceMod, Nat.reduceMul, Nat.reduceAdd, Int.reduceToNat, pm_kill_i, pm_kill_r, pm_kill_n, pm_kill_j, pm_kill_l, pm_kill_d, pm_cats_nil, pm_cats_i, pm_cats_r, pm_cats_n, pm_cats_l, pm_cats_d, sz_1, sz_2, sl_1, sl_2, lc_0, lc_lt, lc_le, li_ne, va_rf, wr_m1, we_m1, pm_kill_w, Int32.reduceOfInt, Int64.reduceOfInt, Int32.reduceOfNat, Int32.reduceLT, Int32.reduceLE, Prod.mk.injEq, Nat.reduceEqDiff, reduceCtorEq, and_true, true_and, and_false, false_and, and_self, ite_true, ite_false, ↓reduceIte, not_true_eq_false, not_false_eq_true, pe_ri, pe_rz, pe_rc]
/-- TimberHouse$LathePieces.root(I)I -/
theorem c655 {d : Nat} {h : pm_H} {x0 : Int32} : pm_call pm_prog (d + 1) 655 [.int x0] h = pm_ev pm_prog (pm_call pm_prog d) 655 0 b655_0 [.int x0, pm_junk, pm_junk] [] h := pm_cal (pm_rc0 rfl) rfl rfl rfl
theorem g655_1 {cl : pm_C} {ls st : List Value} {h : pm_H} : pm_go pm_prog cl 655 1 ls st h = pm_ev pm_prog cl 655 1 b655_1 ls st h := pm_go_eq pm_prog cl 655 1 ls st h
theorem g655_2 {cl : pm_C} {ls st : List Value} {h : pm_H} : pm_go pm_prog cl 655 2 ls st h = pm_ev pm_prog cl 655 2 b655_2 ls st h := pm_go_eq pm_prog cl 655 2 ls st h
theorem g655_3 {cl : pm_C} {ls st : List Value} {h : pm_H} : pm_go pm_prog cl 655 3 ls st h = pm_ev pm_prog cl 655 3 b655_3 ls st h := pm_go_eq pm_prog cl 655 3 ls st h
noncomputable def f655_b1 : Int32 × Int32 × Int32 → Option ((Int32 × Int32 × Int32) ⊕ ((Int32))) := fun (x0, x1, x2) =>
  if x2 ≤ 0 then
    some (.inr x1)
  else
    (f653 (x1 + x2)).bind fun v1 =>
    if v1 ≤ x0 then
      some (.inl (x0, (x1 + x2), (x2 >>> ((1 : Int32) &&& 31))))
    else
      some (.inl (x0, x1, (x2 >>> ((1 : Int32) &&& 31))))
/-- TimberHouse$LathePieces.root(I)I -/
noncomputable def f655 (x0 : Int32) : Option (Int32) :=
  (lp (f655_b1) FU (x0, 0, 4096)).bind fun v2 =>
  some v2
def go655_1 (h : pm_H) (D : Nat) (R : Outcome × pm_H) : Int32 × Int32 × Int32 → Prop := fun (x0, x1, x2) => pm_go pm_prog (pm_call pm_prog D) 655 1 [.int x0, .int x1, .int x2] [] h = some R
def ex655_1 (h : pm_H) (D : Nat) (R : Outcome × pm_H) : (Int32) → Prop := fun x1 => ∀ q0 q2 : Value, pm_go pm_prog (pm_call pm_prog D) 655 3 [q0, .int x1, q2] [] h = some R
theorem y655_b1 {h : pm_H} {D : Nat} {R : Outcome × pm_H} (hD : 1 ≤ D) (a : Int32 × Int32 × Int32) (r : (Int32 × Int32 × Int32) ⊕ ((Int32))) (e : f655_b1 a = some r) (hc : Sum.elim (go655_1 h D R) (ex655_1 h D R) r) : go655_1 h D R a := by
  obtain ⟨x0, x1, x2⟩ := a
  dsimp only [go655_1]
  simp only [f655_b1] at e
  rw [g655_1, b655_1]
  by_cases k1 : x2 ≤ 0
  · rw [if_pos k1] at e
    have e := Option.some.inj e; subst e
    dsimp only [Sum.elim_inr, ex655_1] at hc
    simp -implicitDefEqProofs (disch := first | assumption | exact Nat.le_of_ble_eq_true rfl | decide) only [b655_0, g655_2, b655_2, g655_3, b655_3, pe_sipush, pe_istore1, pe_istore2, pe_goto_w, pe_iload2, pe_if_le, pe_iload1, pe_iadd, pe_call1, pm_af_ret, pm_af_void, pm_af_thr, pe_iload0, pe_icmp_gt, pe_ishr, pe_goto, pe_aastoreN, pe_areturnN, pe_null, pm_prog_1, pm_ob_some, Nat.reduceDiv, Nat.reduceMod, Nat.reduceMul, Nat.reduceAdd, Int.reduceToNat, pm_kill_i, pm_kill_r, pm_kill_n, pm_kill_j, pm_kill_l, pm_kill_d, pm_cats_nil, pm_cats_i, pm_cats_r, pm_cats_n, pm_cats_l, pm_cats_d, sz_1, sz_2, sl_1, sl_2, lc_0, lc_lt, lc_le, li_ne, va_rf, wr_m1, we_m1, pm_kill_w, Int32.reduceOfInt, Int64.reduceOfInt, Int32.reduceOfNat, Int32.reduceLT, Int32.reduceLE, Prod.mk.injEq, Nat.reduceEqDiff, reduceCtorEq, and_true, true_and, and_false, false_and, and_self, ite_true, ite_false, ↓reduceIte, not_true_eq_false, not_false_eq_true, pe_ri, pe_rz, pe_rc, eq_true k1, hc]
  · rw [if_neg k1] at e
    obtain ⟨v1, k2, e⟩ := Option.bind_eq_some_iff.mp e
    try dsimp only at e
    have z2 := fun h => x653 (D := D) (h := h) (by omega) k2
    by_cases k3 : v1 ≤ x0
    · rw [if_pos k3] at e
      have e := Option.some.inj e; subst e
      dsimp only [Sum.elim_inl, go655_1] at hc
      simp -implicitDefEqProofs (disch := first | assumption | exact Nat.le_of_ble_eq_true rfl | decide) only [b655_0, g655_2, b655_2, g655_3, b655_3, pe_sipush, pe_istore1, pe_istore2, pe_goto_w, pe_iload2, pe_if_le, pe_iload1, pe_iadd, pe_call1, pm_af_ret, pm_af_void, pm_af_thr, pe_iload0, pe_icmp_gt, pe_ishr, pe_goto, pe_aastoreN, pe_areturnN, pe_null, pm_prog_1, pm_ob_some, Nat.reduceDiv, Nat.reduceMod, Nat.reduceMul, Nat.reduceAdd, Int.reduceToNat, pm_kill_i, pm_kill_r, pm_kill_n, pm_kill_j, pm_kill_l, pm_kill_d, pm_cats_nil, pm_cats_i, pm_cats_r, pm_cats_n, pm_cats_l, pm_cats_d, sz_1, sz_2, sl_1, sl_2, lc_0, lc_lt, lc_le, li_ne, va_rf, wr_m1, we_m1, pm_kill_w, Int32.reduceOfInt, Int64.reduceOfInt, Int32.reduceOfNat, Int32.reduceLT, Int32.reduceLE, Prod.mk.injEq, Nat.reduceEqDiff, reduceCtorEq, and_true, true_and, and_false, false_and, and_self, ite_true, ite_false, ↓reduceIte, not_true_eq_false, not_false_eq_true, pe_ri, pe_rz, pe_rc, eq_false k1, z2, eq_true k3, hc]
    · rw [if_neg k3] at e
      have e := Option.some.inj e; subst e
      dsimp only [Sum.elim_inl, go655_1] at hc
      simp -implicitDefEqProofs (disch := first | assumption | exact Nat.le_of_ble_eq_true rfl | decide) only [b655_0, g655_2, b655_2, g655_3, b655_3, pe_sipush, pe_istore1, pe_istore2, pe_goto_w, pe_iload2, pe_if_le, pe_iload1, pe_iadd, pe_call1, pm_af_ret, pm_af_void, pm_af_thr, pe_iload0, pe_icmp_gt, pe_ishr, pe_goto, pe_aastoreN, pe_areturnN, pe_null, pm_prog_1, pm_ob_some, Nat.reduceDiv, Nat.reduceMod, Nat.reduceMul, Nat.reduceAdd, Int.reduceToNat, pm_kill_i, pm_kill_r, pm_kill_n, pm_kill_j, pm_kill_l, pm_kill_d, pm_cats_nil, pm_cats_i, pm_cats_r, pm_cats_n, pm_cats_l, pm_cats_d, sz_1, sz_2, sl_1, sl_2, lc_0, lc_lt, lc_le, li_ne, va_rf, wr_m1, we_m1, pm_kill_w, Int32.reduceOfInt, Int64.reduceOfInt, Int32.reduceOfNat, Int32.reduceLT, Int32.reduceLE, Prod.mk.injEq, Nat.reduceEqDiff, reduceCtorEq, and_true, true_and, and_false, false_and, and_self, ite_true, ite_false, ↓reduceIte, not_true_eq_false, not_false_eq_true, pe_ri, pe_rz, pe_rc, eq_false k1, z2, eq_false k3, hc]
theorem z655_1 {h : pm_H} {D : Nat} {R : Outcome × pm_H} (hD : 1 ≤ D) {n : Nat} {a : Int32 × Int32 × Int32} {b : (Int32)} (e : lp (f655_b1) n a = some b) (hx : ex655_1 h D R b) : go655_1 h D R a := lp_run (fun a r => y655_b1 hD a r) n a b e hx
theorem x655 {h : pm_H} {D : Nat} {x0 : Int32} {r : Int32} (hD : 2 ≤ D) (e : f655 x0 = some r) : pm_call pm_prog D 655 [.int x0] h = some (Outcome.returned (some (.int r)), h) := by
  obtain ⟨D, rfl⟩ : ∃ D', D = D' + 1 := ⟨D - 1, by omega⟩
  have hD : 1 ≤ D := by omega
  simp only [f655] at e
  rw [c655, b655_0]
  obtain ⟨v2, k1, e⟩ := Option.bind_eq_some_iff.mp e
  try dsimp only at e
  try simp -implicitDefEqProofs (disch := first | assumption | exact Nat.le_of_ble_eq_true rfl | decide) only [b655_0, g655_2, b655_2, g655_3, b655_3, pe_sipush, pe_istore1, pe_istore2, pe_goto_w, pe_iload2, pe_if_le, pe_iload1, pe_iadd, pe_call1, pm_af_ret, pm_af_void, pm_af_thr, pe_iload0, pe_icmp_gt, pe_ishr, pe_goto, pe_aastoreN, pe_areturnN, pe_null, pm_prog_1, pm_ob_some, Nat.reduceDiv, Nat.reduceMod, Nat.reduceMul, Nat.reduceAdd, Int.reduceToNat, pm_kill_i, pm_kill_r, pm_kill_n, pm_kill_j, pm_kill_l, pm_kill_d, pm_cats_nil, pm_cats_i, pm_cats_r, pm_cats_n, pm_cats_l, pm_cats_d, sz_1, sz_2, sl_1, sl_2, lc_0, lc_lt, lc_le, li_ne, va_rf, wr_m1, we_m1, pm_kill_w, Int32.reduceOfInt, Int64.reduceOfInt, Int32.reduceOfNat, Int32.reduceLT, Int32.reduceLE, Prod.mk.injEq, Nat.reduceEqDiff, reduceCtorEq, and_true, true_and, and_false, false_and, and_self, ite_true, ite_false, ↓reduceIte, not_true_eq_false, not_false_eq_true, pe_ri, pe_rz, pe_rc]
  refine z655_1 hD k1 ?_
  dsimp only [ex655_1]
  intro q0 q2
  have e := Option.some.inj e; subst e
  simp -implicitDefEqProofs (disch := first | assumption | exact Nat.le_of_ble_eq_true rfl | decide) only [b655_0, g655_2, b655_2, g655_3, b655_3, pe_sipush, pe_istore1, pe_istore2, pe_goto_w, pe_iload2, pe_if_le, pe_iload1, pe_iadd, pe_call1, pm_af_ret, pm_af_void, pm_af_thr, pe_iload0, pe_icmp_gt, pe_ishr, pe_goto, pe_aastoreN, pe_areturnN, pe_null, pm_prog_1, pm_ob_some, Nat.reduceDiv, Nat.reduceMod, Nat.reduceMul, Nat.reduceAdd, Int.reduceToNat, pm_kill_i, pm_kill_r, pm_kill_n, pm_kill_j, pm_kill_l, pm_kill_d, pm_cats_nil, pm_cats_i, pm_cats_r, pm_cats_n, pm_cats_l, pm_cats_d, sz_1, sz_2, sl_1, sl_2, lc_0, lc_lt, lc_le, li_ne, va_rf, wr_m1, we_m1, pm_kill_w, Int32.reduceOfInt, Int64.reduceOfInt, Int32.reduceOfNat, Int32.reduceLT, Int32.reduceLE, Prod.mk.injEq, Nat.reduceEqDiff, reduceCtorEq, and_true, true_and, and_false, false_and, and_self, ite_true, ite_false, ↓reduceIte, not_true_eq_false, not_false_eq_true, pe_ri, pe_rz, pe_rc]
/-- TimberHouse$LathePieces.radius(II)I -/
theorem c656 {d : Nat} {h : pm_H} {a : Nat} {x0 : Int32} {x1 : Int32} (hc : pm_cls h a = some 10) : pm_call pm_prog (d + 1) 656 [.ref a, .int x0, .int x1] h = pm_ev pm_prog (pm_call pm_prog d) 656 0 b656_0 [.ref a, .int x0, .int x1, pm_junk] [] h := pm_cal (pm_rc1 hc rfl) rfl rfl rfl
theorem t656 {cl : pm_C} {j : Nat} {ls : List Value} {c : Nat} {h : pm_H} : pm_thr pm_prog cl 656 j ls c h = some (.threw c, h) := rfl
/-- TimberHouse$LathePieces.radius(II)I -/
noncomputable def f656 (pc : Int32) (tc : Int32) (rc : Int32) (fc : Int32) (qc : Int32) (pa : Int32) (ta : Int32) (ra : Int32) (pl : Int32 → Int32) (tl : Int32 → Int32) (wc : Int32 → Int32) (wa : Int32 → Int32) (ya : Int32 → Int32) (S : wS) (x1 : Int32) (x2 : Int32) : Option (Nat ⊕ (Int32)) :=
  (f642 pc tc rc fc qc pa ta ra pl tl wc wa ya S x1).bind fun r => match r with
  | .inl c5 =>
    some (.inl c5)
  | .inr v1i =>
  if 0 ≤ v1i ∧ v1i < pc then
    (f2752 pc tc rc fc qc pa ta ra pl tl wc wa ya S v1i).bind fun v2 =>
    (f643 x2 0 v2).bind fun v3 =>
    (f644 v3).bind fun r => match r with
    | .inl c4 =>
      some (.inl c4)
    | .inr _ =>
    if 0 ≤ x2 ∧ x2 < (pl v1i) then
      some (.inr (S.1 (11, v1i, 0) x2))
    else none
  else none
theorem x656 {pc : Int32} {tc : Int32} {rc : Int32} {fc : Int32} {qc : Int32} {pa : Int32} {ta : Int32} {ra : Int32} {pl : Int32 → Int32} {tl : Int32 → Int32} {wc : Int32 → Int32} {wa : Int32 → Int32} {ya : Int32 → Int32} {A : wK → Nat} {h : pm_H} {D : Nat} {S : wS} {x1 : Int32} {x2 : Int32} {r : Nat ⊕ (Int32)} (hP : Cz_P pc tc rc fc qc pa ta ra pl tl wc wa ya) (hA : wok A (Cz_d pc tc rc fc qc pa ta ra pl tl wc wa ya) h.1) (hD : 5 ≤ D) (e : f656 pc tc rc fc qc pa ta ra pl tl wc wa ya S x1 x2 = some r) : pm_call pm_prog D 656 [.ref (A (0, 0, 0)), .int x1, .int x2] (wput A (Cz_d pc tc rc fc qc pa ta ra pl tl wc wa ya) S h) = some (match (generalizing := false) r with | .inl c => (Outcome.threw c, (wput A (Cz_d pc tc rc fc qc pa ta ra pl tl wc wa ya) S (pm_new h 6 (.inr (c, []))))) | .inr w0 => (Outcome.returned (some (.int w0)), (wput A (Cz_d pc tc rc fc qc pa ta ra pl tl wc wa ya) S h))) := by
  obtain ⟨D, rfl⟩ : ∃ D', D = D' + 1 := ⟨D - 1, by omega⟩
  have hD : 4 ≤ D := by omega
  simp only [f656] at e
  rw [c656 (Cz_c0 hP hA), b656_0]
  obtain ⟨r, k1, e⟩ := Option.bind_eq_some_iff.mp e
  have z1 := x642 (D := D) (h := h) hP hA (by omega) k1
  rcases r with c5 | v1i
  · dsimp only at e z1
    have e := Option.some.inj e; subst e
    simp -implicitDefEqProofs (disch := first | assumption | exact Nat.le_of_ble_eq_true rfl | decide) only [b656_0, pe_aload0, pe_iload1, pe_call2, pm_af_ret, pm_af_void, pm_af_thr, pe_astore3, pe_iload2, pe_sipush, pe_aload3, pe_call1, pe_call3, pe_getfield, pe_iaload, pe_aloadN0, pe_astoreN3, pe_aloadN3, pe_aastoreN, pe_areturnN, pe_null, pm_prog_1, pm_ob_some, Nat.reduceDiv, Nat.reduceMod, Nat.reduceMul, Nat.reduceAdd, Int.reduceToNat, pm_kill_i, pm_kill_r, pm_kill_n, pm_kill_j, pm_kill_l, pm_kill_d, pm_cats_nil, pm_cats_i, pm_cats_r, pm_cats_n, pm_cats_l, pm_cats_d, sz_1, sz_2, sl_1, sl_2, lc_0, lc_lt, lc_le, li_ne, va_rf, wr_m1, we_m1, pm_kill_w, Int32.reduceOfInt, Int64.reduceOfInt, Int32.reduceOfNat, Int32.reduceLT, Int32.reduceLE, Prod.mk.injEq, Nat.reduceEqDiff, reduceCtorEq, and_true, true_and, and_false, false_and, and_self, ite_true, ite_false, ↓reduceIte, not_true_eq_false, not_false_eq_true, pe_ri, pe_rz, pe_rc, p_throw, t656, w_junk hA, Cz_g10_0 hP hA, Cz_r11 hP hA, z1]
  · dsimp only at e z1
    by_cases k2 : 0 ≤ v1i ∧ v1i < pc
    · rw [if_pos k2] at e
      obtain ⟨v2, k3, e⟩ := Option.bind_eq_some_iff.mp e
      try dsimp only at e
      have z3 := x2752 (D := D) (h := h) hP hA (by omega) k3
      obtain ⟨v3, k4, e⟩ := Option.bind_eq_some_iff.mp e
      try dsimp only at e
      have z4 := fun h => x643 (D := D) (h := h) (by omega) k4
      obtain ⟨r, k5, e⟩ := Option.bind_eq_some_iff.mp e
      have z5 := fun h => x644 (D := D) (h := h) (by omega) k5
      rcases r with c4 | _
      · dsimp only at e z5
        have e := Option.some.inj e; subst e
        simp -implicitDefEqProofs (disch := first | assumption | exact Nat.le_of_ble_eq_true rfl | decide) only [b656_0, pe_aload0, pe_iload1, pe_call2, pm_af_ret, pm_af_void, pm_af_thr, pe_astore3, pe_iload2, pe_sipush, pe_aload3, pe_call1, pe_call3, pe_getfield, pe_iaload, pe_aloadN0, pe_astoreN3, pe_aloadN3, pe_aastoreN, pe_areturnN, pe_null, pm_prog_1, pm_ob_some, Nat.reduceDiv, Nat.reduceMod, Nat.reduceMul, Nat.reduceAdd, Int.reduceToNat, pm_kill_i, pm_kill_r, pm_kill_n, pm_kill_j, pm_kill_l, pm_kill_d, pm_cats_nil, pm_cats_i, pm_cats_r, pm_cats_n, pm_cats_l, pm_cats_d, sz_1, sz_2, sl_1, sl_2, lc_0, lc_lt, lc_le, li_ne, va_rf, wr_m1, we_m1, pm_kill_w, Int32.reduceOfInt, Int64.reduceOfInt, Int32.reduceOfNat, Int32.reduceLT, Int32.reduceLE, Prod.mk.injEq, Nat.reduceEqDiff, reduceCtorEq, and_true, true_and, and_false, false_and, and_self, ite_true, ite_false, ↓reduceIte, not_true_eq_false, not_false_eq_true, pe_ri, pe_rz, pe_rc, p_throw, t656, w_junk hA, Cz_g10_0 hP hA, Cz_r11 hP hA, z1, z3, z4, z5]
      · dsimp only at e z5
        by_cases k6 : 0 ≤ x2 ∧ x2 < (pl v1i)
        · rw [if_pos k6] at e
          have e := Option.some.inj e; subst e
          simp -implicitDefEqProofs (disch := first | assumption | exact Nat.le_of_ble_eq_true rfl | decide) only [b656_0, pe_aload0, pe_iload1, pe_call2, pm_af_ret, pm_af_void, pm_af_thr, pe_astore3, pe_iload2, pe_sipush, pe_aload3, pe_call1, pe_call3, pe_getfield, pe_iaload, pe_aloadN0, pe_astoreN3, pe_aloadN3, pe_aastoreN, pe_areturnN, pe_null, pm_prog_1, pm_ob_some, Nat.reduceDiv, Nat.reduceMod, Nat.reduceMul, Nat.reduceAdd, Int.reduceToNat, pm_kill_i, pm_kill_r, pm_kill_n, pm_kill_j, pm_kill_l, pm_kill_d, pm_cats_nil, pm_cats_i, pm_cats_r, pm_cats_n, pm_cats_l, pm_cats_d, sz_1, sz_2, sl_1, sl_2, lc_0, lc_lt, lc_le, li_ne, va_rf, wr_m1, we_m1, pm_kill_w, Int32.reduceOfInt, Int64.reduceOfInt, Int32.reduceOfNat, Int32.reduceLT, Int32.reduceLE, Prod.mk.injEq, Nat.reduceEqDiff, reduceCtorEq, and_true, true_and, and_false, false_and, and_self, ite_true, ite_false, ↓reduceIte, not_true_eq_false, not_false_eq_true, pe_ri, pe_rz, pe_rc, p_throw, t656, w_junk hA, Cz_g10_0 hP hA, Cz_r11 hP hA, z1, z3, z4, z5]
        · rw [if_neg k6] at e; cases e
    · rw [if_neg k2] at e; cases e
/-- TimberHouse$LathePieces.about(II)I -/
theorem c657 {d : Nat} {h : pm_H} {a : Nat} {x0 : Int32} {x1 : Int32} (hc : pm_cls h a = some 10) : pm_call pm_prog (d + 1) 657 [.ref a, .int x0, .int x1] h = pm_ev pm_prog (pm_call pm_prog d) 657 0 b657_0 [.ref a, .int x0, .int x1, pm_junk] [] h := pm_cal (pm_rc1 hc rfl) rfl rfl rfl
theorem g657_1 {cl : pm_C} {ls st : List Value} {h : pm_H} : pm_go pm_prog cl 657 1 ls st h = pm_ev pm_prog cl 657 1 b657_1 ls st h := pm_go_eq pm_prog cl 657 1 ls st h
theorem g657_2 {cl : pm_C} {ls st : List Value} {h : pm_H} : pm_go pm_prog cl 657 2 ls st h = pm_ev pm_prog cl 657 2 b657_2 ls st h := pm_go_eq pm_prog cl 657 2 ls st h
theorem g657_3 {cl : pm_C} {ls st : List Value} {h : pm_H} : pm_go pm_prog cl 657 3 ls st h = pm_ev pm_prog cl 657 3 b657_3 ls st h := pm_go_eq pm_prog cl 657 3 ls st h
theorem t657 {cl : pm_C} {j : Nat} {ls : List Value} {c : Nat} {h : pm_H} : pm_thr pm_prog cl 657 j ls c h = some (.threw c, h) := rfl
/-- TimberHouse$LathePieces.about(II)I -/
noncomputable def f657 (pc : Int32) (tc : Int32) (rc : Int32) (fc : Int32) (qc : Int32) (pa : Int32) (ta : Int32) (ra : Int32) (pl : Int32 → Int32) (tl : Int32 → Int32) (wc : Int32 → Int32) (wa : Int32 → Int32) (ya : Int32 → Int32) (S : wS) (x1 : Int32) (x2 : Int32) : Option (Nat ⊕ (Int32)) :=
  (f642 pc tc rc fc qc pa ta ra pl tl wc wa ya S x1).bind fun r => match r with
  | .inl c6 =>
    some (.inl c6)
  | .inr v1i =>
  if 0 ≤ v1i ∧ v1i < pc then
    (f643 x2 0 2).bind fun v2 =>
    (f644 v2).bind fun r => match r with
    | .inl c5 =>
      some (.inl c5)
    | .inr _ =>
    if x2 = 0 then
      (f2752 pc tc rc fc qc pa ta ra pl tl wc wa ya S v1i).bind fun v3 =>
      some (.inr v3)
    else
      if x2 = 1 then
        (f2753 pc tc rc fc qc pa ta ra pl tl wc wa ya S v1i).bind fun v4 =>
        some (.inr v4)
      else
        some (.inr (S.1 (10, v1i, 0) 1))
  else none
theorem x657 {pc : Int32} {tc : Int32} {rc : Int32} {fc : Int32} {qc : Int32} {pa : Int32} {ta : Int32} {ra : Int32} {pl : Int32 → Int32} {tl : Int32 → Int32} {wc : Int32 → Int32} {wa : Int32 → Int32} {ya : Int32 → Int32} {A : wK → Nat} {h : pm_H} {D : Nat} {S : wS} {x1 : Int32} {x2 : Int32} {r : Nat ⊕ (Int32)} (hP : Cz_P pc tc rc fc qc pa ta ra pl tl wc wa ya) (hA : wok A (Cz_d pc tc rc fc qc pa ta ra pl tl wc wa ya) h.1) (hD : 5 ≤ D) (e : f657 pc tc rc fc qc pa ta ra pl tl wc wa ya S x1 x2 = some r) : pm_call pm_prog D 657 [.ref (A (0, 0, 0)), .int x1, .int x2] (wput A (Cz_d pc tc rc fc qc pa ta ra pl tl wc wa ya) S h) = some (match (generalizing := false) r with | .inl c => (Outcome.threw c, (wput A (Cz_d pc tc rc fc qc pa ta ra pl tl wc wa ya) S (pm_new h 6 (.inr (c, []))))) | .inr w0 => (Outcome.returned (some (.int w0)), (wput A (Cz_d pc tc rc fc qc pa ta ra pl tl wc wa ya) S h))) := by
  obtain ⟨D, rfl⟩ : ∃ D', D = D' + 1 := ⟨D - 1, by omega⟩
  have hD : 4 ≤ D := by omega
  simp only [f657] at e
  rw [c657 (Cz_c0 hP hA), b657_0]
  obtain ⟨r, k1, e⟩ := Option.bind_eq_some_iff.mp e
  have z1 := x642 (D := D) (h := h) hP hA (by omega) k1
  rcases r with c6 | v1i
  · dsimp only at e z1
    have e := Option.some.inj e; subst e
    simp -implicitDefEqProofs (disch := first | assumption | exact Nat.le_of_ble_eq_true rfl | decide) only [b657_0, g657_1, b657_1, g657_2, b657_2, g657_3, b657_3, pe_aload0, pe_iload1, pe_call2, pm_af_ret, pm_af_void, pm_af_thr, pe_astore3, pe_iload2, pe_sipush, pe_call3, pe_call1, pe_if_ne, pe_aload3, pe_goto, pe_icmp_ne, pe_getfield, pe_goto_w, pe_aloadN0, pe_astoreN3, pe_aloadN3, pe_aastoreN, pe_areturnN, pe_null, pm_prog_1, pm_ob_some, Nat.reduceDiv, Nat.reduceMod, Nat.reduceMul, Nat.reduceAdd, Int.reduceToNat, pm_kill_i, pm_kill_r, pm_kill_n, pm_kill_j, pm_kill_l, pm_kill_d, pm_cats_nil, pm_cats_i, pm_cats_r, pm_cats_n, pm_cats_l, pm_cats_d, sz_1, sz_2, sl_1, sl_2, lc_0, lc_lt, lc_le, li_ne, va_rf, wr_m1, we_m1, pm_kill_w, Int32.reduceOfInt, Int64.reduceOfInt, Int32.reduceOfNat, Int32.reduceLT, Int32.reduceLE, Prod.mk.injEq, Nat.reduceEqDiff, reduceCtorEq, and_true, true_and, and_false, false_and, and_self, ite_true, ite_false, ↓reduceIte, not_true_eq_false, not_false_eq_true, pe_ri, pe_rz, pe_rc, p_throw, t657, w_junk hA, Cz_g10_1 hP hA, z1]
  · dsimp only at e z1
    by_cases k2 : 0 ≤ v1i ∧ v1i < pc
    · rw [if_pos k2] at e
      obtain ⟨v2, k3, e⟩ := Option.bind_eq_some_iff.mp e
      try dsimp only at e
      have z3 := fun h => x643 (D := D) (h := h) (by omega) k3
      obtain ⟨r, k4, e⟩ := Option.bind_eq_some_iff.mp e
      have z4 := fun h => x644 (D := D) (h := h) (by omega) k4
      rcases r with c5 | _
      · dsimp only at e z4
        have e := Option.some.inj e; subst e
        simp -implicitDefEqProofs (disch := first | assumption | exact Nat.le_of_ble_eq_true rfl | decide) only [b657_0, g657_1, b657_1, g657_2, b657_2, g657_3, b657_3, pe_aload0, pe_iload1, pe_call2, pm_af_ret, pm_af_void, pm_af_thr, pe_astore3, pe_iload2, pe_sipush, pe_call3, pe_call1, pe_if_ne, pe_aload3, pe_goto, pe_icmp_ne, pe_getfield, pe_goto_w, pe_aloadN0, pe_astoreN3, pe_aloadN3, pe_aastoreN, pe_areturnN, pe_null, pm_prog_1, pm_ob_some, Nat.reduceDiv, Nat.reduceMod, Nat.reduceMul, Nat.reduceAdd, Int.reduceToNat, pm_kill_i, pm_kill_r, pm_kill_n, pm_kill_j, pm_kill_l, pm_kill_d, pm_cats_nil, pm_cats_i, pm_cats_r, pm_cats_n, pm_cats_l, pm_cats_d, sz_1, sz_2, sl_1, sl_2, lc_0, lc_lt, lc_le, li_ne, va_rf, wr_m1, we_m1, pm_kill_w, Int32.reduceOfInt, Int64.reduceOfInt, Int32.reduceOfNat, Int32.reduceLT, Int32.reduceLE, Prod.mk.injEq, Nat.reduceEqDiff, reduceCtorEq, and_true, true_and, and_false, false_and, and_self, ite_true, ite_false, ↓reduceIte, not_true_eq_false, not_false_eq_true, pe_ri, pe_rz, pe_rc, p_throw, t657, w_junk hA, Cz_g10_1 hP hA, z1, z3, z4]
      · dsimp only at e z4
        by_cases k5 : x2 = 0
        · rw [if_pos k5] at e
          obtain ⟨v3, k6, e⟩ := Option.bind_eq_some_iff.mp e
          try dsimp only at e
          have z6 := x2752 (D := D) (h := h) hP hA (by omega) k6
          have e := Option.some.inj e; subst e
          simp -implicitDefEqProofs (disch := first | assumption | exact Nat.le_of_ble_eq_true rfl | decide) only [b657_0, g657_1, b657_1, g657_2, b657_2, g657_3, b657_3, pe_aload0, pe_iload1, pe_call2, pm_af_ret, pm_af_void, pm_af_thr, pe_astore3, pe_iload2, pe_sipush, pe_call3, pe_call1, pe_if_ne, pe_aload3, pe_goto, pe_icmp_ne, pe_getfield, pe_goto_w, pe_aloadN0, pe_astoreN3, pe_aloadN3, pe_aastoreN, pe_areturnN, pe_null, pm_prog_1, pm_ob_some, Nat.reduceDiv, Nat.reduceMod, Nat.reduceMul, Nat.reduceAdd, Int.reduceToNat, pm_kill_i, pm_kill_r, pm_kill_n, pm_kill_j, pm_kill_l, pm_kill_d, pm_cats_nil, pm_cats_i, pm_cats_r, pm_cats_n, pm_cats_l, pm_cats_d, sz_1, sz_2, sl_1, sl_2, lc_0, lc_lt, lc_le, li_ne, va_rf, wr_m1, we_m1, pm_kill_w, Int32.reduceOfInt, Int64.reduceOfInt, Int32.reduceOfNat, Int32.reduceLT, Int32.reduceLE, Prod.mk.injEq, Nat.reduceEqDiff, reduceCtorEq, and_true, true_and, and_false, false_and, and_self, ite_true, ite_false, ↓reduceIte, not_true_eq_false, not_false_eq_true, pe_ri, pe_rz, pe_rc, p_throw, t657, w_junk hA, Cz_g10_1 hP hA, z1, z3, z4, eq_true k5, z6]
        · rw [if_neg k5] at e
          by_cases k7 : x2 = 1
          · rw [if_pos k7] at e
            obtain ⟨v4, k8, e⟩ := Option.bind_eq_some_iff.mp e
            try dsimp only at e
            have z8 := x2753 (D := D) (h := h) hP hA (by omega) k8
            have e := Option.some.inj e; subst e
            simp -implicitDefEqProofs (disch := first | assumption | exact Nat.le_of_ble_eq_true rfl | decide) only [b657_0, g657_1, b657_1, g657_2, b657_2, g657_3, b657_3, pe_aload0, pe_iload1, pe_call2, pm_af_ret, pm_af_void, pm_af_thr, pe_astore3, pe_iload2, pe_sipush, pe_call3, pe_call1, pe_if_ne, pe_aload3, pe_goto, pe_icmp_ne, pe_getfield, pe_goto_w, pe_aloadN0, pe_astoreN3, pe_aloadN3, pe_aastoreN, pe_areturnN, pe_null, pm_prog_1, pm_ob_some, Nat.reduceDiv, Nat.reduceMod, Nat.reduceMul, Nat.reduceAdd, Int.reduceToNat, pm_kill_i, pm_kill_r, pm_kill_n, pm_kill_j, pm_kill_l, pm_kill_d, pm_cats_nil, pm_cats_i, pm_cats_r, pm_cats_n, pm_cats_l, pm_cats_d, sz_1, sz_2, sl_1, sl_2, lc_0, lc_lt, lc_le, li_ne, va_rf, wr_m1, we_m1, pm_kill_w, Int32.reduceOfInt, Int64.reduceOfInt, Int32.reduceOfNat, Int32.reduceLT, Int32.reduceLE, Prod.mk.injEq, Nat.reduceEqDiff, reduceCtorEq, and_true, true_and, and_false, false_and, and_self, ite_true, ite_false, ↓reduceIte, not_true_eq_false, not_false_eq_true, pe_ri, pe_rz, pe_rc, p_throw, t657, w_junk hA, Cz_g10_1 hP hA, z1, z3, z4, eq_false k5, eq_true k7, z8]
          · rw [if_neg k7] at e
            have e := Option.some.inj e; subst e
            simp -implicitDefEqProofs (disch := first | assumption | exact Nat.le_of_ble_eq_true rfl | decide) only [b657_0, g657_1, b657_1, g657_2, b657_2, g657_3, b657_3, pe_aload0, pe_iload1, pe_call2, pm_af_ret, pm_af_void, pm_af_thr, pe_astore3, pe_iload2, pe_sipush, pe_call3, pe_call1, pe_if_ne, pe_aload3, pe_goto, pe_icmp_ne, pe_getfield, pe_goto_w, pe_aloadN0, pe_astoreN3, pe_aloadN3, pe_aastoreN, pe_areturnN, pe_null, pm_prog_1, pm_ob_some, Nat.reduceDiv, Nat.reduceMod, Nat.reduceMul, Nat.reduceAdd, Int.reduceToNat, pm_kill_i, pm_kill_r, pm_kill_n, pm_kill_j, pm_kill_l, pm_kill_d, pm_cats_nil, pm_cats_i, pm_cats_r, pm_cats_n, pm_cats_l, pm_cats_d, sz_1, sz_2, sl_1, sl_2, lc_0, lc_lt, lc_le, li_ne, va_rf, wr_m1, we_m1, pm_kill_w, Int32.reduceOfInt, Int64.reduceOfInt, Int32.reduceOfNat, Int32.reduceLT, Int32.reduceLE, Prod.mk.injEq, Nat.reduceEqDiff, reduceCtorEq, and_true, true_and, and_false, false_and, and_self, ite_true, ite_false, ↓reduceIte, not_true_eq_false, not_false_eq_true, pe_ri, pe_rz, pe_rc, p_throw, t657, w_junk hA, Cz_g10_1 hP hA, z1, z3, z4, eq_false k5, eq_false k7]
    · rw [if_neg k2] at e; cases e
/-- TimberHouse$LathePieces.reached(III)I -/
theorem c659 {d : Nat} {h : pm_H} {a : Nat} {x0 : Int32} {x1 : Int32} {x2 : Int32} (hc : pm_cls h a = some 10) : pm_call pm_prog (d + 1) 659 [.ref a, .int x0, .int x1, .int x2] h = pm_ev pm_prog (pm_call pm_prog d) 659 0 b659_0 [.ref a, .int x0, .int x1, .int x2, pm_junk, pm_junk] [] h := pm_cal (pm_rc1 hc rfl) rfl rfl rfl
theorem t659 {cl : pm_C} {j : Nat} {ls : List Value} {c : Nat} {h : pm_H} : pm_thr pm_prog cl 659 j ls c h = some (.threw c, h) := rfl
/-- TimberHouse$LathePieces.reached(III)I -/
noncomputable def f659 (pc : Int32) (tc : Int32) (rc : Int32) (fc : Int32) (qc : Int32) (pa : Int32) (ta : Int32) (ra : Int32) (pl : Int32 → Int32) (tl : Int32 → Int32) (wc : Int32 → Int32) (wa : Int32 → Int32) (ya : Int32 → Int32) (S : wS) (x1 : Int32) (x2 : Int32) (x3 : Int32) : Option (Nat ⊕ (Int32)) :=
  (f642 pc tc rc fc qc pa ta ra pl tl wc wa ya S x1).bind fun r => match r with
  | .inl c8 =>
    some (.inl c8)
  | .inr v1i =>
  if 0 ≤ v1i ∧ v1i < pc then
    (f645 pc tc rc fc qc pa ta ra pl tl wc wa ya S x2).bind fun r => match r with
    | .inl c7 =>
      some (.inl c7)
    | .inr v2i =>
    if 0 ≤ v2i ∧ v2i < tc then
      (f2752 pc tc rc fc qc pa ta ra pl tl wc wa ya S v1i).bind fun v3 =>
      (f643 x3 0 v3).bind fun v4 =>
      (f644 v4).bind fun r => match r with
      | .inl c6 =>
        some (.inl c6)
      | .inr _ =>
      (f2816 pc tc rc fc qc pa ta ra pl tl wc wa ya S v2i v1i x3).bind fun v5 =>
      some (.inr v5)
    else none
  else none
theorem x659 {pc : Int32} {tc : Int32} {rc : Int32} {fc : Int32} {qc : Int32} {pa : Int32} {ta : Int32} {ra : Int32} {pl : Int32 → Int32} {tl : Int32 → Int32} {wc : Int32 → Int32} {wa : Int32 → Int32} {ya : Int32 → Int32} {A : wK → Nat} {h : pm_H} {D : Nat} {S : wS} {x1 : Int32} {x2 : Int32} {x3 : Int32} {r : Nat ⊕ (Int32)} (hP : Cz_P pc tc rc fc qc pa ta ra pl tl wc wa ya) (hA : wok A (Cz_d pc tc rc fc qc pa ta ra pl tl wc wa ya) h.1) (hD : 5 ≤ D) (e : f659 pc tc rc fc qc pa ta ra pl tl wc wa ya S x1 x2 x3 = some r) : pm_call pm_prog D 659 [.ref (A (0, 0, 0)), .int x1, .int x2, .int x3] (wput A (Cz_d pc tc rc fc qc pa ta ra pl tl wc wa ya) S h) = some (match (generalizing := false) r with | .inl c => (Outcome.threw c, (wput A (Cz_d pc tc rc fc qc pa ta ra pl tl wc wa ya) S (pm_new h 6 (.inr (c, []))))) | .inr w0 => (Outcome.returned (some (.int w0)), (wput A (Cz_d pc tc rc fc qc pa ta ra pl tl wc wa ya) S h))) := by
  obtain ⟨D, rfl⟩ : ∃ D', D = D' + 1 := ⟨D - 1, by omega⟩
  have hD : 4 ≤ D := by omega
  simp only [f659] at e
  rw [c659 (Cz_c0 hP hA), b659_0]
  obtain ⟨r, k1, e⟩ := Option.bind_eq_some_iff.mp e
  have z1 := x642 (D := D) (h := h) hP hA (by omega) k1
  rcases r with c8 | v1i
  · dsimp only at e z1
    have e := Option.some.inj e; subst e
    simp -implicitDefEqProofs (disch := first | assumption | exact Nat.le_of_ble_eq_true rfl | decide) only [b659_0, pe_aload0, pe_iload1, pe_call2, pm_af_ret, pm_af_void, pm_af_thr, pe_astore4, pe_iload2, pe_astore5, pe_iload3, pe_sipush, pe_aload4, pe_call1, pe_call3, pe_aload5, pe_aloadN0, pe_astoreN4, pe_astoreN5, pe_aloadN4, pe_aloadN5, pe_aastoreN, pe_areturnN, pe_null, pm_prog_1, pm_ob_some, Nat.reduceDiv, Nat.reduceMod, Nat.reduceMul, Nat.reduceAdd, Int.reduceToNat, pm_kill_i, pm_kill_r, pm_kill_n, pm_kill_j, pm_kill_l, pm_kill_d, pm_cats_nil, pm_cats_i, pm_cats_r, pm_cats_n, pm_cats_l, pm_cats_d, sz_1, sz_2, sl_1, sl_2, lc_0, lc_lt, lc_le, li_ne, va_rf, wr_m1, we_m1, pm_kill_w, Int32.reduceOfInt, Int64.reduceOfInt, Int32.reduceOfNat, Int32.reduceLT, Int32.reduceLE, Prod.mk.injEq, Nat.reduceEqDiff, reduceCtorEq, and_true, true_and, and_false, false_and, and_self, ite_true, ite_false, ↓reduceIte, not_true_eq_false, not_false_eq_true, pe_ri, pe_rz, pe_rc, p_throw, t659, w_junk hA, z1]
  · dsimp only at e z1
    by_cases k2 : 0 ≤ v1i ∧ v1i < pc
    · rw [if_pos k2] at e
      obtain ⟨r, k3, e⟩ := Option.bind_eq_some_iff.mp e
      have z3 := x645 (D := D) (h := h) hP hA (by omega) k3
      rcases r with c7 | v2i
      · dsimp only at e z3
        have e := Option.some.inj e; subst e
        simp -implicitDefEqProofs (disch := first | assumption | exact Nat.le_of_ble_eq_true rfl | decide) only [b659_0, pe_aload0, pe_iload1, pe_call2, pm_af_ret, pm_af_void, pm_af_thr, pe_astore4, pe_iload2, pe_astore5, pe_iload3, pe_sipush, pe_aload4, pe_call1, pe_call3, pe_aload5, pe_aloadN0, pe_astoreN4, pe_astoreN5, pe_aloadN4, pe_aloadN5, pe_aastoreN, pe_areturnN, pe_null, pm_prog_1, pm_ob_some, Nat.reduceDiv, Nat.reduceMod, Nat.reduceMul, Nat.reduceAdd, Int.reduceToNat, pm_kill_i, pm_kill_r, pm_kill_n, pm_kill_j, pm_kill_l, pm_kill_d, pm_cats_nil, pm_cats_i, pm_cats_r, pm_cats_n, pm_cats_l, pm_cats_d, sz_1, sz_2, sl_1, sl_2, lc_0, lc_lt, lc_le, li_ne, va_rf, wr_m1, we_m1, pm_kill_w, Int32.reduceOfInt, Int64.reduceOfInt, Int32.reduceOfNat, Int32.reduceLT, Int32.reduceLE, Prod.mk.injEq, Nat.reduceEqDiff, reduceCtorEq, and_true, true_and, and_false, false_and, and_self, ite_true, ite_false, ↓reduceIte, not_true_eq_false, not_false_eq_true, pe_ri, pe_rz, pe_rc, p_throw, t659, w_junk hA, z1, z3]
      · dsimp only at e z3
        by_cases k4 : 0 ≤ v2i ∧ v2i < tc
        · rw [if_pos k4] at e
          obtain ⟨v3, k5, e⟩ := Option.bind_eq_some_iff.mp e
          try dsimp only at e
          have z5 := x2752 (D := D) (h := h) hP hA (by omega) k5
          obtain ⟨v4, k6, e⟩ := Option.bind_eq_some_iff.mp e
          try dsimp only at e
          have z6 := fun h => x643 (D := D) (h := h) (by omega) k6
          obtain ⟨r, k7, e⟩ := Option.bind_eq_some_iff.mp e
          have z7 := fun h => x644 (D := D) (h := h) (by omega) k7
          rcases r with c6 | _
          · dsimp only at e z7
            have e := Option.some.inj e; subst e
            simp -implicitDefEqProofs (disch := first | assumption | exact Nat.le_of_ble_eq_true rfl | decide) only [b659_0, pe_aload0, pe_iload1, pe_call2, pm_af_ret, pm_af_void, pm_af_thr, pe_astore4, pe_iload2, pe_astore5, pe_iload3, pe_sipush, pe_aload4, pe_call1, pe_call3, pe_aload5, pe_aloadN0, pe_astoreN4, pe_astoreN5, pe_aloadN4, pe_aloadN5, pe_aastoreN, pe_areturnN, pe_null, pm_prog_1, pm_ob_some, Nat.reduceDiv, Nat.reduceMod, Nat.reduceMul, Nat.reduceAdd, Int.reduceToNat, pm_kill_i, pm_kill_r, pm_kill_n, pm_kill_j, pm_kill_l, pm_kill_d, pm_cats_nil, pm_cats_i, pm_cats_r, pm_cats_n, pm_cats_l, pm_cats_d, sz_1, sz_2, sl_1, sl_2, lc_0, lc_lt, lc_le, li_ne, va_rf, wr_m1, we_m1, pm_kill_w, Int32.reduceOfInt, Int64.reduceOfInt, Int32.reduceOfNat, Int32.reduceLT, Int32.reduceLE, Prod.mk.injEq, Nat.reduceEqDiff, reduceCtorEq, and_true, true_and, and_false, false_and, and_self, ite_true, ite_false, ↓reduceIte, not_true_eq_false, not_false_eq_true, pe_ri, pe_rz, pe_rc, p_throw, t659, w_junk hA, z1, z3, z5, z6, z7]
          · dsimp only at e z7
            obtain ⟨v5, k8, e⟩ := Option.bind_eq_some_iff.mp e
            try dsimp only at e
            have z8 := x2816 (D := D) (h := h) hP hA (by omega) k8
            have e := Option.some.inj e; subst e
            simp -implicitDefEqProofs (disch := first | assumption | exact Nat.le_of_ble_eq_true rfl | decide) only [b659_0, pe_aload0, pe_iload1, pe_call2, pm_af_ret, pm_af_void, pm_af_thr, pe_astore4, pe_iload2, pe_astore5, pe_iload3, pe_sipush, pe_aload4, pe_call1, pe_call3, pe_aload5, pe_aloadN0, pe_astoreN4, pe_astoreN5, pe_aloadN4, pe_aloadN5, pe_aastoreN, pe_areturnN, pe_null, pm_prog_1, pm_ob_some, Nat.reduceDiv, Nat.reduceMod, Nat.reduceMul, Nat.reduceAdd, Int.reduceToNat, pm_kill_i, pm_kill_r, pm_kill_n, pm_kill_j, pm_kill_l, pm_kill_d, pm_cats_nil, pm_cats_i, pm_cats_r, pm_cats_n, pm_cats_l, pm_cats_d, sz_1, sz_2, sl_1, sl_2, lc_0, lc_lt, lc_le, li_ne, va_rf, wr_m1, we_m1, pm_kill_w, Int32.reduceOfInt, Int64.reduceOfInt, Int32.reduceOfNat, Int32.reduceLT, Int32.reduceLE, Prod.mk.injEq, Nat.reduceEqDiff, reduceCtorEq, and_true, true_and, and_false, false_and, and_self, ite_true, ite_false, ↓reduceIte, not_true_eq_false, not_false_eq_true, pe_ri, pe_rz, pe_rc, p_throw, t659, w_junk hA, z1, z3, z5, z6, z7, z8]
        · rw [if_neg k4] at e; cases e
    · rw [if_neg k2] at e; cases e
/-- TimberHouse$LathePieces.left(II)I -/
theorem c660 {d : Nat} {h : pm_H} {a : Nat} {x0 : Int32} {x1 : Int32} (hc : pm_cls h a = some 10) : pm_call pm_prog (d + 1) 660 [.ref a, .int x0, .int x1] h = pm_ev pm_prog (pm_call pm_prog d) 660 0 b660_0 [.ref a, .int x0, .int x1, pm_junk, pm_junk, pm_junk, pm_junk] [] h := pm_cal (pm_rc1 hc rfl) rfl rfl rfl
theorem g660_1 {cl : pm_C} {ls st : List Value} {h : pm_H} : pm_go pm_prog cl 660 1 ls st h = pm_ev pm_prog cl 660 1 b660_1 ls st h := pm_go_eq pm_prog cl 660 1 ls st h
theorem g660_2 {cl : pm_C} {ls st : List Value} {h : pm_H} : pm_go pm_prog cl 660 2 ls st h = pm_ev pm_prog cl 660 2 b660_2 ls st h := pm_go_eq pm_prog cl 660 2 ls st h
theorem g660_3 {cl : pm_C} {ls st : List Value} {h : pm_H} : pm_go pm_prog cl 660 3 ls st h = pm_ev pm_prog cl 660 3 b660_3 ls st h := pm_go_eq pm_prog cl 660 3 ls st h
theorem g660_4 {cl : pm_C} {ls st : List Value} {h : pm_H} : pm_go pm_prog cl 660 4 ls st h = pm_ev pm_prog cl 660 4 b660_4 ls st h := pm_go_eq pm_prog cl 660 4 ls st h
theorem t660 {cl : pm_C} {j : Nat} {ls : List Value} {c : Nat} {h : pm_H} : pm_thr pm_prog cl 660 j ls c h = some (.threw c, h) := rfl
noncomputable def f660_b1 (pc : Int32) (tc : Int32) (rc : Int32) (fc : Int32) (qc : Int32) (pa : Int32) (ta : Int32) (ra : Int32) (pl : Int32 → Int32) (tl : Int32 → Int32) (wc : Int32 → Int32) (wa : Int32 → Int32) (ya : Int32 → Int32) (S : wS) : Int32 × Int32 × Int32 × Int32 → Option ((Int32 × Int32 × Int32 × Int32) ⊕ ((Int32))) := fun (x3i, x4i, x5, x6) =>
  if 0 ≤ x3i ∧ x3i < pc then
    if 0 ≤ x4i ∧ x4i < tc then
      (f2752 pc tc rc fc qc pa ta ra pl tl wc wa ya S x3i).bind fun v3 =>
      if x6 ≤ v3 then
        (f2816 pc tc rc fc qc pa ta ra pl tl wc wa ya S x4i x3i x6).bind fun v4 =>
        if 0 ≤ x6 ∧ x6 < (pl x3i) then
          if v4 ≤ (S.1 (11, x3i, 0) x6) then
            some (.inl (x3i, x4i, (x5 + 0), (x6 + 1)))
          else
            some (.inl (x3i, x4i, (x5 + 1), (x6 + 1)))
        else none
      else
        some (.inr x5)
    else none
  else none
/-- TimberHouse$LathePieces.left(II)I -/
noncomputable def f660 (pc : Int32) (tc : Int32) (rc : Int32) (fc : Int32) (qc : Int32) (pa : Int32) (ta : Int32) (ra : Int32) (pl : Int32 → Int32) (tl : Int32 → Int32) (wc : Int32 → Int32) (wa : Int32 → Int32) (ya : Int32 → Int32) (S : wS) (x1 : Int32) (x2 : Int32) : Option (Nat ⊕ (Int32)) :=
  (f642 pc tc rc fc qc pa ta ra pl tl wc wa ya S x1).bind fun r => match r with
  | .inl c7 =>
    some (.inl c7)
  | .inr v1i =>
  if 0 ≤ v1i ∧ v1i < pc then
    (f645 pc tc rc fc qc pa ta ra pl tl wc wa ya S x2).bind fun r => match r with
    | .inl c6 =>
      some (.inl c6)
    | .inr v2i =>
    if 0 ≤ v2i ∧ v2i < tc then
      (lp (f660_b1 pc tc rc fc qc pa ta ra pl tl wc wa ya S) FU (v1i, v2i, 0, 0)).bind fun v5 =>
      some (.inr v5)
    else none
  else none
def go660_1 (pc : Int32) (tc : Int32) (rc : Int32) (fc : Int32) (qc : Int32) (pa : Int32) (ta : Int32) (ra : Int32) (pl : Int32 → Int32) (tl : Int32 → Int32) (wc : Int32 → Int32) (wa : Int32 → Int32) (ya : Int32 → Int32) (A : wK → Nat) (h : pm_H) (D : Nat) (R : Outcome × pm_H) (S : wS) : Int32 × Int32 × Int32 × Int32 → Prop := fun (x3i, x4i, x5, x6) => ∀ q0 q1 q2 : Value, pm_go pm_prog (pm_call pm_prog D) 660 1 [q0, q1, q2, .ref (A (10, x3i, 0)), .ref (A (12, x4i, 0)), .int x5, .int x6] [] (wput A (Cz_d pc tc rc fc qc pa ta ra pl tl wc wa ya) S h) = some R
def ex660_1 (pc : Int32) (tc : Int32) (rc : Int32) (fc : Int32) (qc : Int32) (pa : Int32) (ta : Int32) (ra : Int32) (pl : Int32 → Int32) (tl : Int32 → Int32) (wc : Int32 → Int32) (wa : Int32 → Int32) (ya : Int32 → Int32) (A : wK → Nat) (h : pm_H) (D : Nat) (R : Outcome × pm_H) (S : wS) : (Int32) → Prop := fun x5 => ∀ q0 q1 q2 q3 q4 q6 : Value, pm_go pm_prog (pm_call pm_prog D) 660 4 [q0, q1, q2, q3, q4, .int x5, q6] [] (wput A (Cz_d pc tc rc fc qc pa ta ra pl tl wc wa ya) S h) = some R
theorem y660_b1 {pc : Int32} {tc : Int32} {rc : Int32} {fc : Int32} {qc : Int32} {pa : Int32} {ta : Int32} {ra : Int32} {pl : Int32 → Int32} {tl : Int32 → Int32} {wc : Int32 → Int32} {wa : Int32 → Int32} {ya : Int32 → Int32} {A : wK → Nat} {h : pm_H} {D : Nat} {R : Outcome × pm_H} {S : wS} (hP : Cz_P pc tc rc fc qc pa ta ra pl tl wc wa ya) (hA : wok A (Cz_d pc tc rc fc qc pa ta ra pl tl wc wa ya) h.1) (hD : 4 ≤ D) (a : Int32 × Int32 × Int32 × Int32) (r : (Int32 × Int32 × Int32 × Int32) ⊕ ((Int32))) (e : f660_b1 pc tc rc fc qc pa ta ra pl tl wc wa ya S a = some r) (hc : Sum.elim (go660_1 pc tc rc fc qc pa ta ra pl tl wc wa ya A h D R S) (ex660_1 pc tc rc fc qc pa ta ra pl tl wc wa ya A h D R S) r) : go660_1 pc tc rc fc qc pa ta ra pl tl wc wa ya A h D R S a := by
  obtain ⟨x3i, x4i, x5, x6⟩ := a
  dsimp only [go660_1]
  intro q0 q1 q2
  simp only [f660_b1] at e
  rw [g660_1, b660_1]
  by_cases k1 : 0 ≤ x3i ∧ x3i < pc
  · rw [if_pos k1] at e
    by_cases k2 : 0 ≤ x4i ∧ x4i < tc
    · rw [if_pos k2] at e
      obtain ⟨v3, k3, e⟩ := Option.bind_eq_some_iff.mp e
      try dsimp only at e
      have z3 := x2752 (D := D) (h := h) hP hA (by omega) k3
      by_cases k4 : x6 ≤ v3
      · rw [if_pos k4] at e
        obtain ⟨v4, k5, e⟩ := Option.bind_eq_some_iff.mp e
        try dsimp only at e
        have z5 := x2816 (D := D) (h := h) hP hA (by omega) k5
        by_cases k6 : 0 ≤ x6 ∧ x6 < (pl x3i)
        · rw [if_pos k6] at e
          by_cases k7 : v4 ≤ (S.1 (11, x3i, 0) x6)
          · rw [if_pos k7] at e
            have e := Option.some.inj e; subst e
            dsimp only [Sum.elim_inl, go660_1] at hc
            simp -implicitDefEqProofs (disch := first | assumption | exact Nat.le_of_ble_eq_true rfl | decide) only [b660_0, g660_2, b660_2, g660_3, b660_3, g660_4, b660_4, pe_aload0, pe_iload1, pe_call2, pm_af_ret, pm_af_void, pm_af_thr, pe_astore3, pe_iload2, pe_astore4, pe_sipush, pe_istore5, pe_istore6, pe_goto_w, pe_iload6, pe_aload3, pe_call1, pe_icmp_gt, pe_iload5, pe_aload4, pe_call3, pe_getfield, pe_iaload, pe_icmp_le, pe_goto, pe_iadd, pe_iinc6, pe_aloadN0, pe_astoreN3, pe_astoreN4, pe_aloadN3, pe_aloadN4, pe_aastoreN, pe_areturnN, pe_null, pm_prog_1, pm_ob_some, Nat.reduceDiv, Nat.reduceMod, Nat.reduceMul, Nat.reduceAdd, Int.reduceToNat, pm_kill_i, pm_kill_r, pm_kill_n, pm_kill_j, pm_kill_l, pm_kill_d, pm_cats_nil, pm_cats_i, pm_cats_r, pm_cats_n, pm_cats_l, pm_cats_d, sz_1, sz_2, sl_1, sl_2, lc_0, lc_lt, lc_le, li_ne, va_rf, wr_m1, we_m1, pm_kill_w, Int32.reduceOfInt, Int64.reduceOfInt, Int32.reduceOfNat, Int32.reduceLT, Int32.reduceLE, Prod.mk.injEq, Nat.reduceEqDiff, reduceCtorEq, and_true, true_and, and_false, false_and, and_self, ite_true, ite_false, ↓reduceIte, not_true_eq_false, not_false_eq_true, pe_ri, pe_rz, pe_rc, p_throw, t660, w_junk hA, Cz_g10_0 hP hA, Cz_r11 hP hA, z3, eq_true k4, z5, eq_true k7, hc]
          · rw [if_neg k7] at e
            have e := Option.some.inj e; subst e
            dsimp only [Sum.elim_inl, go660_1] at hc
            simp -implicitDefEqProofs (disch := first | assumption | exact Nat.le_of_ble_eq_true rfl | decide) only [b660_0, g660_2, b660_2, g660_3, b660_3, g660_4, b660_4, pe_aload0, pe_iload1, pe_call2, pm_af_ret, pm_af_void, pm_af_thr, pe_astore3, pe_iload2, pe_astore4, pe_sipush, pe_istore5, pe_istore6, pe_goto_w, pe_iload6, pe_aload3, pe_call1, pe_icmp_gt, pe_iload5, pe_aload4, pe_call3, pe_getfield, pe_iaload, pe_icmp_le, pe_goto, pe_iadd, pe_iinc6, pe_aloadN0, pe_astoreN3, pe_astoreN4, pe_aloadN3, pe_aloadN4, pe_aastoreN, pe_areturnN, pe_null, pm_prog_1, pm_ob_some, Nat.reduceDiv, Nat.reduceMod, Nat.reduceMul, Nat.reduceAdd, Int.reduceToNat, pm_kill_i, pm_kill_r, pm_kill_n, pm_kill_j, pm_kill_l, pm_kill_d, pm_cats_nil, pm_cats_i, pm_cats_r, pm_cats_n, pm_cats_l, pm_cats_d, sz_1, sz_2, sl_1, sl_2, lc_0, lc_lt, lc_le, li_ne, va_rf, wr_m1, we_m1, pm_kill_w, Int32.reduceOfInt, Int64.reduceOfInt, Int32.reduceOfNat, Int32.reduceLT, Int32.reduceLE, Prod.mk.injEq, Nat.reduceEqDiff, reduceCtorEq, and_true, true_and, and_false, false_and, and_self, ite_true, ite_false, ↓reduceIte, not_true_eq_false, not_false_eq_true, pe_ri, pe_rz, pe_rc, p_throw, t660, w_junk hA, Cz_g10_0 hP hA, Cz_r11 hP hA, z3, eq_true k4, z5, eq_false k7, hc]
        · rw [if_neg k6] at e; cases e
      · rw [if_neg k4] at e
        have e := Option.some.inj e; subst e
        dsimp only [Sum.elim_inr, ex660_1] at hc
        simp -implicitDefEqProofs (disch := first | assumption | exact Nat.le_of_ble_eq_true rfl | decide) only [b660_0, g660_2, b660_2, g660_3, b660_3, g660_4, b660_4, pe_aload0, pe_iload1, pe_call2, pm_af_ret, pm_af_void, pm_af_thr, pe_astore3, pe_iload2, pe_astore4, pe_sipush, pe_istore5, pe_istore6, pe_goto_w, pe_iload6, pe_aload3, pe_call1, pe_icmp_gt, pe_iload5, pe_aload4, pe_call3, pe_getfield, pe_iaload, pe_icmp_le, pe_goto, pe_iadd, pe_iinc6, pe_aloadN0, pe_astoreN3, pe_astoreN4, pe_aloadN3, pe_aloadN4, pe_aastoreN, pe_areturnN, pe_null, pm_prog_1, pm_ob_some, Nat.reduceDiv, Nat.reduceMod, Nat.reduceMul, Nat.reduceAdd, Int.reduceToNat, pm_kill_i, pm_kill_r, pm_kill_n, pm_kill_j, pm_kill_l, pm_kill_d, pm_cats_nil, pm_cats_i, pm_cats_r, pm_cats_n, pm_cats_l, pm_cats_d, sz_1, sz_2, sl_1, sl_2, lc_0, lc_lt, lc_le, li_ne, va_rf, wr_m1, we_m1, pm_kill_w, Int32.reduceOfInt, Int64.reduceOfInt, Int32.reduceOfNat, Int32.reduceLT, Int32.reduceLE, Prod.mk.injEq, Nat.reduceEqDiff, reduceCtorEq, and_true, true_and, and_false, false_and, and_self, ite_true, ite_false, ↓reduceIte, not_true_eq_false, not_false_eq_true, pe_ri, pe_rz, pe_rc, p_throw, t660, w_junk hA, Cz_g10_0 hP hA, Cz_r11 hP hA, z3, eq_false k4, hc]
    · rw [if_neg k2] at e; cases e
  · rw [if_neg k1] at e; cases e
theorem z660_1 {pc : Int32} {tc : Int32} {rc : Int32} {fc : Int32} {qc : Int32} {pa : Int32} {ta : Int32} {ra : Int32} {pl : Int32 → Int32} {tl : Int32 → Int32} {wc : Int32 → Int32} {wa : Int32 → Int32} {ya : Int32 → Int32} {A : wK → Nat} {h : pm_H} {D : Nat} {R : Outcome × pm_H} {S : wS} (hP : Cz_P pc tc rc fc qc pa ta ra pl tl wc wa ya) (hA : wok A (Cz_d pc tc rc fc qc pa ta ra pl tl wc wa ya) h.1) (hD : 4 ≤ D) {n : Nat} {a : Int32 × Int32 × Int32 × Int32} {b : (Int32)} (e : lp (f660_b1 pc tc rc fc qc pa ta ra pl tl wc wa ya S) n a = some b) (hx : ex660_1 pc tc rc fc qc pa ta ra pl tl wc wa ya A h D R S b) : go660_1 pc tc rc fc qc pa ta ra pl tl wc wa ya A h D R S a := lp_run (fun a r => y660_b1 hP hA hD a r) n a b e hx
theorem x660 {pc : Int32} {tc : Int32} {rc : Int32} {fc : Int32} {qc : Int32} {pa : Int32} {ta : Int32} {ra : Int32} {pl : Int32 → Int32} {tl : Int32 → Int32} {wc : Int32 → Int32} {wa : Int32 → Int32} {ya : Int32 → Int32} {A : wK → Nat} {h : pm_H} {D : Nat} {S : wS} {x1 : Int32} {x2 : Int32} {r : Nat ⊕ (Int32)} (hP : Cz_P pc tc rc fc qc pa ta ra pl tl wc wa ya) (hA : wok A (Cz_d pc tc rc fc qc pa ta ra pl tl wc wa ya) h.1) (hD : 5 ≤ D) (e : f660 pc tc rc fc qc pa ta ra pl tl wc wa ya S x1 x2 = some r) : pm_call pm_prog D 660 [.ref (A (0, 0, 0)), .int x1, .int x2] (wput A (Cz_d pc tc rc fc qc pa ta ra pl tl wc wa ya) S h) = some (match (generalizing := false) r with | .inl c => (Outcome.threw c, (wput A (Cz_d pc tc rc fc qc pa ta ra pl tl wc wa ya) S (pm_new h 6 (.inr (c, []))))) | .inr w0 => (Outcome.returned (some (.int w0)), (wput A (Cz_d pc tc rc fc qc pa ta ra pl tl wc wa ya) S h))) := by
  obtain ⟨D, rfl⟩ : ∃ D', D = D' + 1 := ⟨D - 1, by omega⟩
  have hD : 4 ≤ D := by omega
  simp only [f660] at e
  rw [c660 (Cz_c0 hP hA), b660_0]
  obtain ⟨r, k1, e⟩ := Option.bind_eq_some_iff.mp e
  have z1 := x642 (D := D) (h := h) hP hA (by omega) k1
  rcases r with c7 | v1i
  · dsimp only at e z1
    have e := Option.some.inj e; subst e
    simp -implicitDefEqProofs (disch := first | assumption | exact Nat.le_of_ble_eq_true rfl | decide) only [b660_0, g660_2, b660_2, g660_3, b660_3, g660_4, b660_4, pe_aload0, pe_iload1, pe_call2, pm_af_ret, pm_af_void, pm_af_thr, pe_astore3, pe_iload2, pe_astore4, pe_sipush, pe_istore5, pe_istore6, pe_goto_w, pe_iload6, pe_aload3, pe_call1, pe_icmp_gt, pe_iload5, pe_aload4, pe_call3, pe_getfield, pe_iaload, pe_icmp_le, pe_goto, pe_iadd, pe_iinc6, pe_aloadN0, pe_astoreN3, pe_astoreN4, pe_aloadN3, pe_aloadN4, pe_aastoreN, pe_areturnN, pe_null, pm_prog_1, pm_ob_some, Nat.reduceDiv, Nat.reduceMod, Nat.reduceMul, Nat.reduceAdd, Int.reduceToNat, pm_kill_i, pm_kill_r, pm_kill_n, pm_kill_j, pm_kill_l, pm_kill_d, pm_cats_nil, pm_cats_i, pm_cats_r, pm_cats_n, pm_cats_l, pm_cats_d, sz_1, sz_2, sl_1, sl_2, lc_0, lc_lt, lc_le, li_ne, va_rf, wr_m1, we_m1, pm_kill_w, Int32.reduceOfInt, Int64.reduceOfInt, Int32.reduceOfNat, Int32.reduceLT, Int32.reduceLE, Prod.mk.injEq, Nat.reduceEqDiff, reduceCtorEq, and_true, true_and, and_false, false_and, and_self, ite_true, ite_false, ↓reduceIte, not_true_eq_false, not_false_eq_true, pe_ri, pe_rz, pe_rc, p_throw, t660, w_junk hA, Cz_g10_0 hP hA, Cz_r11 hP hA, z1]
  · dsimp only at e z1
    by_cases k2 : 0 ≤ v1i ∧ v1i < pc
    · rw [if_pos k2] at e
      obtain ⟨r, k3, e⟩ := Option.bind_eq_some_iff.mp e
      have z3 := x645 (D := D) (h := h) hP hA (by omega) k3
      rcases r with c6 | v2i
      · dsimp only at e z3
        have e := Option.some.inj e; subst e
        simp -implicitDefEqProofs (disch := first | assumption | exact Nat.le_of_ble_eq_true rfl | decide) only [b660_0, g660_2, b660_2, g660_3, b660_3, g660_4, b660_4, pe_aload0, pe_iload1, pe_call2, pm_af_ret, pm_af_void, pm_af_thr, pe_astore3, pe_iload2, pe_astore4, pe_sipush, pe_istore5, pe_istore6, pe_goto_w, pe_iload6, pe_aload3, pe_call1, pe_icmp_gt, pe_iload5, pe_aload4, pe_call3, pe_getfield, pe_iaload, pe_icmp_le, pe_goto, pe_iadd, pe_iinc6, pe_aloadN0, pe_astoreN3, pe_astoreN4, pe_aloadN3, pe_aloadN4, pe_aastoreN, pe_areturnN, pe_null, pm_prog_1, pm_ob_some, Nat.reduceDiv, Nat.reduceMod, Nat.reduceMul, Nat.reduceAdd, Int.reduceToNat, pm_kill_i, pm_kill_r, pm_kill_n, pm_kill_j, pm_kill_l, pm_kill_d, pm_cats_nil, pm_cats_i, pm_cats_r, pm_cats_n, pm_cats_l, pm_cats_d, sz_1, sz_2, sl_1, sl_2, lc_0, lc_lt, lc_le, li_ne, va_rf, wr_m1, we_m1, pm_kill_w, Int32.reduceOfInt, Int64.reduceOfInt, Int32.reduceOfNat, Int32.reduceLT, Int32.reduceLE, Prod.mk.injEq, Nat.reduceEqDiff, reduceCtorEq, and_true, true_and, and_false, false_and, and_self, ite_true, ite_false, ↓reduceIte, not_true_eq_false, not_false_eq_true, pe_ri, pe_rz, pe_rc, p_throw, t660, w_junk hA, Cz_g10_0 hP hA, Cz_r11 hP hA, z1, z3]
      · dsimp only at e z3
        by_cases k4 : 0 ≤ v2i ∧ v2i < tc
        · rw [if_pos k4] at e
          obtain ⟨v5, k5, e⟩ := Option.bind_eq_some_iff.mp e
          try dsimp only at e
          try simp -implicitDefEqProofs (disch := first | assumption | exact Nat.le_of_ble_eq_true rfl | decide) only [b660_0, g660_2, b660_2, g660_3, b660_3, g660_4, b660_4, pe_aload0, pe_iload1, pe_call2, pm_af_ret, pm_af_void, pm_af_thr, pe_astore3, pe_iload2, pe_astore4, pe_sipush, pe_istore5, pe_istore6, pe_goto_w, pe_iload6, pe_aload3, pe_call1, pe_icmp_gt, pe_iload5, pe_aload4, pe_call3, pe_getfield, pe_iaload, pe_icmp_le, pe_goto, pe_iadd, pe_iinc6, pe_aloadN0, pe_astoreN3, pe_astoreN4, pe_aloadN3, pe_aloadN4, pe_aastoreN, pe_areturnN, pe_null, pm_prog_1, pm_ob_some, Nat.reduceDiv, Nat.reduceMod, Nat.reduceMul, Nat.reduceAdd, Int.reduceToNat, pm_kill_i, pm_kill_r, pm_kill_n, pm_kill_j, pm_kill_l, pm_kill_d, pm_cats_nil, pm_cats_i, pm_cats_r, pm_cats_n, pm_cats_l, pm_cats_d, sz_1, sz_2, sl_1, sl_2, lc_0, lc_lt, lc_le, li_ne, va_rf, wr_m1, we_m1, pm_kill_w, Int32.reduceOfInt, Int64.reduceOfInt, Int32.reduceOfNat, Int32.reduceLT, Int32.reduceLE, Prod.mk.injEq, Nat.reduceEqDiff, reduceCtorEq, and_true, true_and, and_false, false_and, and_self, ite_true, ite_false, ↓reduceIte, not_true_eq_false, not_false_eq_true, pe_ri, pe_rz, pe_rc, p_throw, t660, w_junk hA, Cz_g10_0 hP hA, Cz_r11 hP hA, z1, z3]
          refine z660_1 hP hA hD k5 ?_ _ _ _
          dsimp only [ex660_1]
          intro q0 q1 q2 q3 q4 q6
          have e := Option.some.inj e; subst e
          simp -implicitDefEqProofs (disch := first | assumption | exact Nat.le_of_ble_eq_true rfl | decide) only [b660_0, g660_2, b660_2, g660_3, b660_3, g660_4, b660_4, pe_aload0, pe_iload1, pe_call2, pm_af_ret, pm_af_void, pm_af_thr, pe_astore3, pe_iload2, pe_astore4, pe_sipush, pe_istore5, pe_istore6, pe_goto_w, pe_iload6, pe_aload3, pe_call1, pe_icmp_gt, pe_iload5, pe_aload4, pe_call3, pe_getfield, pe_iaload, pe_icmp_le, pe_goto, pe_iadd, pe_iinc6, pe_aloadN0, pe_astoreN3, pe_astoreN4, pe_aloadN3, pe_aloadN4, pe_aastoreN, pe_areturnN, pe_null, pm_prog_1, pm_ob_some, Nat.reduceDiv, Nat.reduceMod, Nat.reduceMul, Nat.reduceAdd, Int.reduceToNat, pm_kill_i, pm_kill_r, pm_kill_n, pm_kill_j, pm_kill_l, pm_kill_d, pm_cats_nil, pm_cats_i, pm_cats_r, pm_cats_n, pm_cats_l, pm_cats_d, sz_1, sz_2, sl_1, sl_2, lc_0, lc_lt, lc_le, li_ne, va_rf, wr_m1, we_m1, pm_kill_w, Int32.reduceOfInt, Int64.reduceOfInt, Int32.reduceOfNat, Int32.reduceLT, Int32.reduceLE, Prod.mk.injEq, Nat.reduceEqDiff, reduceCtorEq, and_true, true_and, and_false, false_and, and_self, ite_true, ite_false, ↓reduceIte, not_true_eq_false, not_false_eq_true, pe_ri, pe_rz, pe_rc, p_throw, t660, w_junk hA, Cz_g10_0 hP hA, Cz_r11 hP hA, z1, z3]
        · rw [if_neg k4] at e; cases e
    · rw [if_neg k2] at e; cases e
/-- TimberHouse$LathePieces.cut(IIIII)I -/
theorem c661 {d : Nat} {h : pm_H} {a : Nat} {x0 : Int32} {x1 : Int32} {x2 : Int32} {x3 : Int32} {x4 : Int32} (hc : pm_cls h a = some 10) : pm_call pm_prog (d + 1) 661 [.ref a, .int x0, .int x1, .int x2, .int x3, .int x4] h = pm_ev pm_prog (pm_call pm_prog d) 661 0 b661_0 [.ref a, .int x0, .int x1, .int x2, .int x3, .int x4, pm_junk, pm_junk, pm_junk, pm_junk] [] h := pm_cal (pm_rc1 hc rfl) rfl rfl rfl
theorem g661_1 {cl : pm_C} {ls st : List Value} {h : pm_H} : pm_go pm_prog cl 661 1 ls st h = pm_ev pm_prog cl 661 1 b661_1 ls st h := pm_go_eq pm_prog cl 661 1 ls st h
theorem g661_2 {cl : pm_C} {ls st : List Value} {h : pm_H} : pm_go pm_prog cl 661 2 ls st h = pm_ev pm_prog cl 661 2 b661_2 ls st h := pm_go_eq pm_prog cl 661 2 ls st h
theorem g661_3 {cl : pm_C} {ls st : List Value} {h : pm_H} : pm_go pm_prog cl 661 3 ls st h = pm_ev pm_prog cl 661 3 b661_3 ls st h := pm_go_eq pm_prog cl 661 3 ls st h
theorem g661_4 {cl : pm_C} {ls st : List Value} {h : pm_H} : pm_go pm_prog cl 661 4 ls st h = pm_ev pm_prog cl 661 4 b661_4 ls st h := pm_go_eq pm_prog cl 661 4 ls st h
theorem g661_5 {cl : pm_C} {ls st : List Value} {h : pm_H} : pm_go pm_prog cl 661 5 ls st h = pm_ev pm_prog cl 661 5 b661_5 ls st h := pm_go_eq pm_prog cl 661 5 ls st h
theorem g661_6 {cl : pm_C} {ls st : List Value} {h : pm_H} : pm_go pm_prog cl 661 6 ls st h = pm_ev pm_prog cl 661 6 b661_6 ls st h := pm_go_eq pm_prog cl 661 6 ls st h
theorem t661 {cl : pm_C} {j : Nat} {ls : List Value} {c : Nat} {h : pm_H} : pm_thr pm_prog cl 661 j ls c h = some (.threw c, h) := rfl
noncomputable def f661_b3 (pc : Int32) (tc : Int32) (rc : Int32) (fc : Int32) (qc : Int32) (pa : Int32) (ta : Int32) (ra : Int32) (pl : Int32 → Int32) (tl : Int32 → Int32) (wc : Int32 → Int32) (wa : Int32 → Int32) (ya : Int32 → Int32) (S : wS) : Int32 × Int32 × Int32 × Int32 × Int32 × Int32 × Int32 → Option ((Int32 × Int32 × Int32 × Int32 × Int32 × Int32 × Int32) ⊕ ((Int32))) := fun (x3, x4, x5, x6i, x7i, x8, x9) =>
  if 0 ≤ x6i ∧ x6i < pc then
    if 0 ≤ x7i ∧ x7i < tc then
      (f2752 pc tc rc fc qc pa ta ra pl tl wc wa ya S x6i).bind fun v4 =>
      if x9 ≤ v4 then
        (f647 pc tc rc fc qc pa ta ra pl tl wc wa ya S x6i x7i x4 x9).bind fun v5 =>
        if (Int32.toInt64 v5) ≤ (((Int32.toInt64 x5) - 1) * (Int32.toInt64 x3)) then
          some (.inl (x3, x4, x5, x6i, x7i, (x8 + 0), (x9 + 1)))
        else
          some (.inl (x3, x4, x5, x6i, x7i, (x8 + 1), (x9 + 1)))
      else
        some (.inr x8)
    else none
  else none
noncomputable def f661_2 (pc : Int32) (tc : Int32) (rc : Int32) (fc : Int32) (qc : Int32) (pa : Int32) (ta : Int32) (ra : Int32) (pl : Int32 → Int32) (tl : Int32 → Int32) (wc : Int32 → Int32) (wa : Int32 → Int32) (ya : Int32 → Int32) (S : wS) (x3 : Int32) (x4 : Int32) (x5 : Int32) (x6i : Int32) (x7i : Int32) (y0 : Int32) : Option (Nat ⊕ (Int32)) :=
  if 0 ≤ x6i ∧ x6i < pc then
    if 0 ≤ x7i ∧ x7i < tc then
      (f646 y0).bind fun r => match r with
      | .inl c7 =>
        some (.inl c7)
      | .inr _ =>
      (lp (f661_b3 pc tc rc fc qc pa ta ra pl tl wc wa ya S) FU (x3, x4, x5, x6i, x7i, 0, 0)).bind fun v6 =>
      some (.inr v6)
    else none
  else none
/-- TimberHouse$LathePieces.cut(IIIII)I -/
noncomputable def f661 (pc : Int32) (tc : Int32) (rc : Int32) (fc : Int32) (qc : Int32) (pa : Int32) (ta : Int32) (ra : Int32) (pl : Int32 → Int32) (tl : Int32 → Int32) (wc : Int32 → Int32) (wa : Int32 → Int32) (ya : Int32 → Int32) (S : wS) (x1 : Int32) (x2 : Int32) (x3 : Int32) (x4 : Int32) (x5 : Int32) : Option (Nat ⊕ (Int32)) :=
  (f642 pc tc rc fc qc pa ta ra pl tl wc wa ya S x1).bind fun r => match r with
  | .inl c10 =>
    some (.inl c10)
  | .inr v1i =>
  if 0 ≤ v1i ∧ v1i < pc then
    (f645 pc tc rc fc qc pa ta ra pl tl wc wa ya S x2).bind fun r => match r with
    | .inl c9 =>
      some (.inl c9)
    | .inr v2i =>
    if 0 ≤ v2i ∧ v2i < tc then
      (f643 x3 1 100).bind fun v3 =>
      if v3 = 0 then
        f661_2 pc tc rc fc qc pa ta ra pl tl wc wa ya S x3 x4 x5 v1i v2i 0
      else
        (f643 x4 0 50).bind fun v8 =>
        if v8 = 0 then
          f661_2 pc tc rc fc qc pa ta ra pl tl wc wa ya S x3 x4 x5 v1i v2i 0
        else
          if x5 < 1 then
            f661_2 pc tc rc fc qc pa ta ra pl tl wc wa ya S x3 x4 x5 v1i v2i 0
          else
            f661_2 pc tc rc fc qc pa ta ra pl tl wc wa ya S x3 x4 x5 v1i v2i 1
    else none
  else none
def go661_3 (pc : Int32) (tc : Int32) (rc : Int32) (fc : Int32) (qc : Int32) (pa : Int32) (ta : Int32) (ra : Int32) (pl : Int32 → Int32) (tl : Int32 → Int32) (wc : Int32 → Int32) (wa : Int32 → Int32) (ya : Int32 → Int32) (A : wK → Nat) (h : pm_H) (D : Nat) (R : Outcome × pm_H) (S : wS) : Int32 × Int32 × Int32 × Int32 × Int32 × Int32 × Int32 → Prop := fun (x3, x4, x5, x6i, x7i, x8, x9) => ∀ q0 q1 q2 : Value, pm_go pm_prog (pm_call pm_prog D) 661 3 [q0, q1, q2, .int x3, .int x4, .int x5, .ref (A (10, x6i, 0)), .ref (A (12, x7i, 0)), .int x8, .int x9] [] (wput A (Cz_d pc tc rc fc qc pa ta ra pl tl wc wa ya) S h) = some R
def ex661_3 (pc : Int32) (tc : Int32) (rc : Int32) (fc : Int32) (qc : Int32) (pa : Int32) (ta : Int32) (ra : Int32) (pl : Int32 → Int32) (tl : Int32 → Int32) (wc : Int32 → Int32) (wa : Int32 → Int32) (ya : Int32 → Int32) (A : wK → Nat) (h : pm_H) (D : Nat) (R : Outcome × pm_H) (S : wS) : (Int32) → Prop := fun x8 => ∀ q0 q1 q2 q3 q4 q5 q6 q7 q9 : Value, pm_go pm_prog (pm_call pm_prog D) 661 6 [q0, q1, q2, q3, q4, q5, q6, q7, .int x8, q9] [] (wput A (Cz_d pc tc rc fc qc pa ta ra pl tl wc wa ya) S h) = some R
theorem y661_b3 {pc : Int32} {tc : Int32} {rc : Int32} {fc : Int32} {qc : Int32} {pa : Int32} {ta : Int32} {ra : Int32} {pl : Int32 → Int32} {tl : Int32 → Int32} {wc : Int32 → Int32} {wa : Int32 → Int32} {ya : Int32 → Int32} {A : wK → Nat} {h : pm_H} {D : Nat} {R : Outcome × pm_H} {S : wS} (hP : Cz_P pc tc rc fc qc pa ta ra pl tl wc wa ya) (hA : wok A (Cz_d pc tc rc fc qc pa ta ra pl tl wc wa ya) h.1) (hD : 4 ≤ D) (a : Int32 × Int32 × Int32 × Int32 × Int32 × Int32 × Int32) (r : (Int32 × Int32 × Int32 × Int32 × Int32 × Int32 × Int32) ⊕ ((Int32))) (e : f661_b3 pc tc rc fc qc pa ta ra pl tl wc wa ya S a = some r) (hc : Sum.elim (go661_3 pc tc rc fc qc pa ta ra pl tl wc wa ya A h D R S) (ex661_3 pc tc rc fc qc pa ta ra pl tl wc wa ya A h D R S) r) : go661_3 pc tc rc fc qc pa ta ra pl tl wc wa ya A h D R S a := by
  obtain ⟨x3, x4, x5, x6i, x7i, x8, x9⟩ := a
  dsimp only [go661_3]
  intro q0 q1 q2
  simp only [f661_b3] at e
  rw [g661_3, b661_3]
  by_cases k1 : 0 ≤ x6i ∧ x6i < pc
  · rw [if_pos k1] at e
    by_cases k2 : 0 ≤ x7i ∧ x7i < tc
    · rw [if_pos k2] at e
      obtain ⟨v4, k3, e⟩ := Option.bind_eq_some_iff.mp e
      try dsimp only at e
      have z3 := x2752 (D := D) (h := h) hP hA (by omega) k3
      by_cases k4 : x9 ≤ v4
      · rw [if_pos k4] at e
        obtain ⟨v5, k5, e⟩ := Option.bind_eq_some_iff.mp e
        try dsimp only at e
        have z5 := x647 (D := D) (h := h) hP hA (by omega) k5
        by_cases k6 : (Int32.toInt64 v5) ≤ (((Int32.toInt64 x5) - 1) * (Int32.toInt64 x3))
        · rw [if_pos k6] at e
          have e := Option.some.inj e; subst e
          dsimp only [Sum.elim_inl, go661_3] at hc
          simp -implicitDefEqProofs (disch := first | assumption | exact Nat.le_of_ble_eq_true rfl | decide) only [b661_0, g661_1, b661_1, g661_4, b661_4, g661_5, b661_5, g661_6, b661_6, pe_aload0, pe_iload1, pe_call2, pm_af_ret, pm_af_void, pm_af_thr, pe_astore6, pe_iload2, pe_astore7, pe_iload3, pe_sipush, pe_call3, pe_if_eq, pe_iload4, pe_iload5, pe_icmp_lt, pe_goto, pe_goto_w, pe_call1, pe_istore8, pe_istore9, pe_iload9, pe_aload6, pe_icmp_gt, pe_iload8, pe_aload7, pe_call4, pe_i2l, pe_bipush, pe_lsub, pe_lmul, pe_lcmp, pe_if_le, pe_iadd, pe_iinc9, pe_aloadN0, pe_astoreN6, pe_astoreN7, pe_aloadN6, pe_aloadN7, pe_aastoreN, pe_areturnN, pe_null, pm_prog_1, pm_ob_some, Nat.reduceDiv, Nat.reduceMod, Nat.reduceMul, Nat.reduceAdd, Int.reduceToNat, pm_kill_i, pm_kill_r, pm_kill_n, pm_kill_j, pm_kill_l, pm_kill_d, pm_cats_nil, pm_cats_i, pm_cats_r, pm_cats_n, pm_cats_l, pm_cats_d, sz_1, sz_2, sl_1, sl_2, lc_0, lc_lt, lc_le, li_ne, va_rf, wr_m1, we_m1, pm_kill_w, Int32.reduceOfInt, Int64.reduceOfInt, Int32.reduceOfNat, Int32.reduceLT, Int32.reduceLE, Prod.mk.injEq, Nat.reduceEqDiff, reduceCtorEq, and_true, true_and, and_false, false_and, and_self, ite_true, ite_false, ↓reduceIte, not_true_eq_false, not_false_eq_true, pe_ri, pe_rz, pe_rc, p_throw, t661, w_junk hA, z3, eq_true k4, z5, eq_true k6, hc]
        · rw [if_neg k6] at e
          have e := Option.some.inj e; subst e
          dsimp only [Sum.elim_inl, go661_3] at hc
          simp -implicitDefEqProofs (disch := first | assumption | exact Nat.le_of_ble_eq_true rfl | decide) only [b661_0, g661_1, b661_1, g661_4, b661_4, g661_5, b661_5, g661_6, b661_6, pe_aload0, pe_iload1, pe_call2, pm_af_ret, pm_af_void, pm_af_thr, pe_astore6, pe_iload2, pe_astore7, pe_iload3, pe_sipush, pe_call3, pe_if_eq, pe_iload4, pe_iload5, pe_icmp_lt, pe_goto, pe_goto_w, pe_call1, pe_istore8, pe_istore9, pe_iload9, pe_aload6, pe_icmp_gt, pe_iload8, pe_aload7, pe_call4, pe_i2l, pe_bipush, pe_lsub, pe_lmul, pe_lcmp, pe_if_le, pe_iadd, pe_iinc9, pe_aloadN0, pe_astoreN6, pe_astoreN7, pe_aloadN6, pe_aloadN7, pe_aastoreN, pe_areturnN, pe_null, pm_prog_1, pm_ob_some, Nat.reduceDiv, Nat.reduceMod, Nat.reduceMul, Nat.reduceAdd, Int.reduceToNat, pm_kill_i, pm_kill_r, pm_kill_n, pm_kill_j, pm_kill_l, pm_kill_d, pm_cats_nil, pm_cats_i, pm_cats_r, pm_cats_n, pm_cats_l, pm_cats_d, sz_1, sz_2, sl_1, sl_2, lc_0, lc_lt, lc_le, li_ne, va_rf, wr_m1, we_m1, pm_kill_w, Int32.reduceOfInt, Int64.reduceOfInt, Int32.reduceOfNat, Int32.reduceLT, Int32.reduceLE, Prod.mk.injEq, Nat.reduceEqDiff, reduceCtorEq, and_true, true_and, and_false, false_and, and_self, ite_true, ite_false, ↓reduceIte, not_true_eq_false, not_false_eq_true, pe_ri, pe_rz, pe_rc, p_throw, t661, w_junk hA, z3, eq_true k4, z5, eq_false k6, hc]
      · rw [if_neg k4] at e
        have e := Option.some.inj e; subst e
        dsimp only [Sum.elim_inr, ex661_3] at hc
        simp -implicitDefEqProofs (disch := first | assumption | exact Nat.le_of_ble_eq_true rfl | decide) only [b661_0, g661_1, b661_1, g661_4, b661_4, g661_5, b661_5, g661_6, b661_6, pe_aload0, pe_iload1, pe_call2, pm_af_ret, pm_af_void, pm_af_thr, pe_astore6, pe_iload2, pe_astore7, pe_iload3, pe_sipush, pe_call3, pe_if_eq, pe_iload4, pe_iload5, pe_icmp_lt, pe_goto, pe_goto_w, pe_call1, pe_istore8, pe_istore9, pe_iload9, pe_aload6, pe_icmp_gt, pe_iload8, pe_aload7, pe_call4, pe_i2l, pe_bipush, pe_lsub, pe_lmul, pe_lcmp, pe_if_le, pe_iadd, pe_iinc9, pe_aloadN0, pe_astoreN6, pe_astoreN7, pe_aloadN6, pe_aloadN7, pe_aastoreN, pe_areturnN, pe_null, pm_prog_1, pm_ob_some, Nat.reduceDiv, Nat.reduceMod, Nat.reduceMul, Nat.reduceAdd, Int.reduceToNat, pm_kill_i, pm_kill_r, pm_kill_n, pm_kill_j, pm_kill_l, pm_kill_d, pm_cats_nil, pm_cats_i, pm_cats_r, pm_cats_n, pm_cats_l, pm_cats_d, sz_1, sz_2, sl_1, sl_2, lc_0, lc_lt, lc_le, li_ne, va_rf, wr_m1, we_m1, pm_kill_w, Int32.reduceOfInt, Int64.reduceOfInt, Int32.reduceOfNat, Int32.reduceLT, Int32.reduceLE, Prod.mk.injEq, Nat.reduceEqDiff, reduceCtorEq, and_true, true_and, and_false, false_and, and_self, ite_true, ite_false, ↓reduceIte, not_true_eq_false, not_false_eq_true, pe_ri, pe_rz, pe_rc, p_throw, t661, w_junk hA, z3, eq_false k4, hc]
    · rw [if_neg k2] at e; cases e
  · rw [if_neg k1] at e; cases e
theorem z661_3 {pc : Int32} {tc : Int32} {rc : Int32} {fc : Int32} {qc : Int32} {pa : Int32} {ta : Int32} {ra : Int32} {pl : Int32 → Int32} {tl : Int32 → Int32} {wc : Int32 → Int32} {wa : Int32 → Int32} {ya : Int32 → Int32} {A : wK → Nat} {h : pm_H} {D : Nat} {R : Outcome × pm_H} {S : wS} (hP : Cz_P pc tc rc fc qc pa ta ra pl tl wc wa ya) (hA : wok A (Cz_d pc tc rc fc qc pa ta ra pl tl wc wa ya) h.1) (hD : 4 ≤ D) {n : Nat} {a : Int32 × Int32 × Int32 × Int32 × Int32 × Int32 × Int32} {b : (Int32)} (e : lp (f661_b3 pc tc rc fc qc pa ta ra pl tl wc wa ya S) n a = some b) (hx : ex661_3 pc tc rc fc qc pa ta ra pl tl wc wa ya A h D R S b) : go661_3 pc tc rc fc qc pa ta ra pl tl wc wa ya A h D R S a := lp_run (fun a r => y661_b3 hP hA hD a r) n a b e hx
theorem y661_2 {pc : Int32} {tc : Int32} {rc : Int32} {fc : Int32} {qc : Int32} {pa : Int32} {ta : Int32} {ra : Int32} {pl : Int32 → Int32} {tl : Int32 → Int32} {wc : Int32 → Int32} {wa : Int32 → Int32} {ya : Int32 → Int32} {A : wK → Nat} {h : pm_H} {D : Nat} {S : wS} {x3 : Int32} {x4 : Int32} {x5 : Int32} {x6i : Int32} {x7i : Int32} {y0 : Int32} {r : Nat ⊕ (Int32)} (hP : Cz_P pc tc rc fc qc pa ta ra pl tl wc wa ya) (hA : wok A (Cz_d pc tc rc fc qc pa ta ra pl tl wc wa ya) h.1) (hD : 4 ≤ D) (e : f661_2 pc tc rc fc qc pa ta ra pl tl wc wa ya S x3 x4 x5 x6i x7i y0 = some r) : ∀ q0 q1 q2 q8 q9 : Value, pm_go pm_prog (pm_call pm_prog D) 661 2 [q0, q1, q2, .int x3, .int x4, .int x5, .ref (A (10, x6i, 0)), .ref (A (12, x7i, 0)), q8, q9] [.int y0] (wput A (Cz_d pc tc rc fc qc pa ta ra pl tl wc wa ya) S h) = some (match (generalizing := false) r with | .inl c => (Outcome.threw c, (wput A (Cz_d pc tc rc fc qc pa ta ra pl tl wc wa ya) S (pm_new h 6 (.inr (c, []))))) | .inr w0 => (Outcome.returned (some (.int w0)), (wput A (Cz_d pc tc rc fc qc pa ta ra pl tl wc wa ya) S h))) := by
  intro q0 q1 q2 q8 q9
  simp only [f661_2] at e
  rw [g661_2, b661_2]
  by_cases k1 : 0 ≤ x6i ∧ x6i < pc
  · rw [if_pos k1] at e
    by_cases k2 : 0 ≤ x7i ∧ x7i < tc
    · rw [if_pos k2] at e
      obtain ⟨r, k3, e⟩ := Option.bind_eq_some_iff.mp e
      have z3 := fun h => x646 (D := D) (h := h) (by omega) k3
      rcases r with c7 | _
      · dsimp only at e z3
        have e := Option.some.inj e; subst e
        simp -implicitDefEqProofs (disch := first | assumption | exact Nat.le_of_ble_eq_true rfl | decide) only [b661_0, g661_1, b661_1, g661_4, b661_4, g661_5, b661_5, g661_6, b661_6, pe_aload0, pe_iload1, pe_call2, pm_af_ret, pm_af_void, pm_af_thr, pe_astore6, pe_iload2, pe_astore7, pe_iload3, pe_sipush, pe_call3, pe_if_eq, pe_iload4, pe_iload5, pe_icmp_lt, pe_goto, pe_goto_w, pe_call1, pe_istore8, pe_istore9, pe_iload9, pe_aload6, pe_icmp_gt, pe_iload8, pe_aload7, pe_call4, pe_i2l, pe_bipush, pe_lsub, pe_lmul, pe_lcmp, pe_if_le, pe_iadd, pe_iinc9, pe_aloadN0, pe_astoreN6, pe_astoreN7, pe_aloadN6, pe_aloadN7, pe_aastoreN, pe_areturnN, pe_null, pm_prog_1, pm_ob_some, Nat.reduceDiv, Nat.reduceMod, Nat.reduceMul, Nat.reduceAdd, Int.reduceToNat, pm_kill_i, pm_kill_r, pm_kill_n, pm_kill_j, pm_kill_l, pm_kill_d, pm_cats_nil, pm_cats_i, pm_cats_r, pm_cats_n, pm_cats_l, pm_cats_d, sz_1, sz_2, sl_1, sl_2, lc_0, lc_lt, lc_le, li_ne, va_rf, wr_m1, we_m1, pm_kill_w, Int32.reduceOfInt, Int64.reduceOfInt, Int32.reduceOfNat, Int32.reduceLT, Int32.reduceLE, Prod.mk.injEq, Nat.reduceEqDiff, reduceCtorEq, and_true, true_and, and_false, false_and, and_self, ite_true, ite_false, ↓reduceIte, not_true_eq_false, not_false_eq_true, pe_ri, pe_rz, pe_rc, p_throw, t661, w_junk hA, z3]
      · dsimp only at e z3
        obtain ⟨v6, k4, e⟩ := Option.bind_eq_some_iff.mp e
        try dsimp only at e
        try simp -implicitDefEqProofs (disch := first | assumption | exact Nat.le_of_ble_eq_true rfl | decide) only [b661_0, g661_1, b661_1, g661_4, b661_4, g661_5, b661_5, g661_6, b661_6, pe_aload0, pe_iload1, pe_call2, pm_af_ret, pm_af_void, pm_af_thr, pe_astore6, pe_iload2, pe_astore7, pe_iload3, pe_sipush, pe_call3, pe_if_eq, pe_iload4, pe_iload5, pe_icmp_lt, pe_goto, pe_goto_w, pe_call1, pe_istore8, pe_istore9, pe_iload9, pe_aload6, pe_icmp_gt, pe_iload8, pe_aload7, pe_call4, pe_i2l, pe_bipush, pe_lsub, pe_lmul, pe_lcmp, pe_if_le, pe_iadd, pe_iinc9, pe_aloadN0, pe_astoreN6, pe_astoreN7, pe_aloadN6, pe_aloadN7, pe_aastoreN, pe_areturnN, pe_null, pm_prog_1, pm_ob_some, Nat.reduceDiv, Nat.reduceMod, Nat.reduceMul, Nat.reduceAdd, Int.reduceToNat, pm_kill_i, pm_kill_r, pm_kill_n, pm_kill_j, pm_kill_l, pm_kill_d, pm_cats_nil, pm_cats_i, pm_cats_r, pm_cats_n, pm_cats_l, pm_cats_d, sz_1, sz_2, sl_1, sl_2, lc_0, lc_lt, lc_le, li_ne, va_rf, wr_m1, we_m1, pm_kill_w, Int32.reduceOfInt, Int64.reduceOfInt, Int32.reduceOfNat, Int32.reduceLT, Int32.reduceLE, Prod.mk.injEq, Nat.reduceEqDiff, reduceCtorEq, and_true, true_and, and_false, false_and, and_self, ite_true, ite_false, ↓reduceIte, not_true_eq_false, not_false_eq_true, pe_ri, pe_rz, pe_rc, p_throw, t661, w_junk hA, z3]
        refine z661_3 hP hA hD k4 ?_ _ _ _
        dsimp only [ex661_3]
        intro q0 q1 q2 q3 q4 q5 q6 q7 q9
        have e := Option.some.inj e; subst e
        simp -implicitDefEqProofs (disch := first | assumption | exact Nat.le_of_ble_eq_true rfl | decide) only [b661_0, g661_1, b661_1, g661_4, b661_4, g661_5, b661_5, g661_6, b661_6, pe_aload0, pe_iload1, pe_call2, pm_af_ret, pm_af_void, pm_af_thr, pe_astore6, pe_iload2, pe_astore7, pe_iload3, pe_sipush, pe_call3, pe_if_eq, pe_iload4, pe_iload5, pe_icmp_lt, pe_goto, pe_goto_w, pe_call1, pe_istore8, pe_istore9, pe_iload9, pe_aload6, pe_icmp_gt, pe_iload8, pe_aload7, pe_call4, pe_i2l, pe_bipush, pe_lsub, pe_lmul, pe_lcmp, pe_if_le, pe_iadd, pe_iinc9, pe_aloadN0, pe_astoreN6, pe_astoreN7, pe_aloadN6, pe_aloadN7, pe_aastoreN, pe_areturnN, pe_null, pm_prog_1, pm_ob_some, Nat.reduceDiv, Nat.reduceMod, Nat.reduceMul, Nat.reduceAdd, Int.reduceToNat, pm_kill_i, pm_kill_r, pm_kill_n, pm_kill_j, pm_kill_l, pm_kill_d, pm_cats_nil, pm_cats_i, pm_cats_r, pm_cats_n, pm_cats_l, pm_cats_d, sz_1, sz_2, sl_1, sl_2, lc_0, lc_lt, lc_le, li_ne, va_rf, wr_m1, we_m1, pm_kill_w, Int32.reduceOfInt, Int64.reduceOfInt, Int32.reduceOfNat, Int32.reduceLT, Int32.reduceLE, Prod.mk.injEq, Nat.reduceEqDiff, reduceCtorEq, and_true, true_and, and_false, false_and, and_self, ite_true, ite_false, ↓reduceIte, not_true_eq_false, not_false_eq_true, pe_ri, pe_rz, pe_rc, p_throw, t661, w_junk hA, z3]
    · rw [if_neg k2] at e; cases e
  · rw [if_neg k1] at e; cases e
theorem x661 {pc : Int32} {tc : Int32} {rc : Int32} {fc : Int32} {qc : Int32} {pa : Int32} {ta : Int32} {ra : Int32} {pl : Int32 → Int32} {tl : Int32 → Int32} {wc : Int32 → Int32} {wa : Int32 → Int32} {ya : Int32 → Int32} {A : wK → Nat} {h : pm_H} {D : Nat} {S : wS} {x1 : Int32} {x2 : Int32} {x3 : Int32} {x4 : Int32} {x5 : Int32} {r : Nat ⊕ (Int32)} (hP : Cz_P pc tc rc fc qc pa ta ra pl tl wc wa ya) (hA : wok A (Cz_d pc tc rc fc qc pa ta ra pl tl wc wa ya) h.1) (hD : 5 ≤ D) (e : f661 pc tc rc fc qc pa ta ra pl tl wc wa ya S x1 x2 x3 x4 x5 = some r) : pm_call pm_prog D 661 [.ref (A (0, 0, 0)), .int x1, .int x2, .int x3, .int x4, .int x5] (wput A (Cz_d pc tc rc fc qc pa ta ra pl tl wc wa ya) S h) = some (match (generalizing := false) r with | .inl c => (Outcome.threw c, (wput A (Cz_d pc tc rc fc qc pa ta ra pl tl wc wa ya) S (pm_new h 6 (.inr (c, []))))) | .inr w0 => (Outcome.returned (some (.int w0)), (wput A (Cz_d pc tc rc fc qc pa ta ra pl tl wc wa ya) S h))) := by
  obtain ⟨D, rfl⟩ : ∃ D', D = D' + 1 := ⟨D - 1, by omega⟩
  have hD : 4 ≤ D := by omega
  simp only [f661] at e
  rw [c661 (Cz_c0 hP hA), b661_0]
  obtain ⟨r, k1, e⟩ := Option.bind_eq_some_iff.mp e
  have z1 := x642 (D := D) (h := h) hP hA (by omega) k1
  rcases r with c10 | v1i
  · dsimp only at e z1
    have e := Option.some.inj e; subst e
    simp -implicitDefEqProofs (disch := first | assumption | exact Nat.le_of_ble_eq_true rfl | decide) only [b661_0, g661_1, b661_1, g661_4, b661_4, g661_5, b661_5, g661_6, b661_6, pe_aload0, pe_iload1, pe_call2, pm_af_ret, pm_af_void, pm_af_thr, pe_astore6, pe_iload2, pe_astore7, pe_iload3, pe_sipush, pe_call3, pe_if_eq, pe_iload4, pe_iload5, pe_icmp_lt, pe_goto, pe_goto_w, pe_call1, pe_istore8, pe_istore9, pe_iload9, pe_aload6, pe_icmp_gt, pe_iload8, pe_aload7, pe_call4, pe_i2l, pe_bipush, pe_lsub, pe_lmul, pe_lcmp, pe_if_le, pe_iadd, pe_iinc9, pe_aloadN0, pe_astoreN6, pe_astoreN7, pe_aloadN6, pe_aloadN7, pe_aastoreN, pe_areturnN, pe_null, pm_prog_1, pm_ob_some, Nat.reduceDiv, Nat.reduceMod, Nat.reduceMul, Nat.reduceAdd, Int.reduceToNat, pm_kill_i, pm_kill_r, pm_kill_n, pm_kill_j, pm_kill_l, pm_kill_d, pm_cats_nil, pm_cats_i, pm_cats_r, pm_cats_n, pm_cats_l, pm_cats_d, sz_1, sz_2, sl_1, sl_2, lc_0, lc_lt, lc_le, li_ne, va_rf, wr_m1, we_m1, pm_kill_w, Int32.reduceOfInt, Int64.reduceOfInt, Int32.reduceOfNat, Int32.reduceLT, Int32.reduceLE, Prod.mk.injEq, Nat.reduceEqDiff, reduceCtorEq, and_true, true_and, and_false, false_and, and_self, ite_true, ite_false, ↓reduceIte, not_true_eq_false, not_false_eq_true, pe_ri, pe_rz, pe_rc, p_throw, t661, w_junk hA, z1]
  · dsimp only at e z1
    by_cases k2 : 0 ≤ v1i ∧ v1i < pc
    · rw [if_pos k2] at e
      obtain ⟨r, k3, e⟩ := Option.bind_eq_some_iff.mp e
      have z3 := x645 (D := D) (h := h) hP hA (by omega) k3
      rcases r with c9 | v2i
      · dsimp only at e z3
        have e := Option.some.inj e; subst e
        simp -implicitDefEqProofs (disch := first | assumption | exact Nat.le_of_ble_eq_true rfl | decide) only [b661_0, g661_1, b661_1, g661_4, b661_4, g661_5, b661_5, g661_6, b661_6, pe_aload0, pe_iload1, pe_call2, pm_af_ret, pm_af_void, pm_af_thr, pe_astore6, pe_iload2, pe_astore7, pe_iload3, pe_sipush, pe_call3, pe_if_eq, pe_iload4, pe_iload5, pe_icmp_lt, pe_goto, pe_goto_w, pe_call1, pe_istore8, pe_istore9, pe_iload9, pe_aload6, pe_icmp_gt, pe_iload8, pe_aload7, pe_call4, pe_i2l, pe_bipush, pe_lsub, pe_lmul, pe_lcmp, pe_if_le, pe_iadd, pe_iinc9, pe_aloadN0, pe_astoreN6, pe_astoreN7, pe_aloadN6, pe_aloadN7, pe_aastoreN, pe_areturnN, pe_null, pm_prog_1, pm_ob_some, Nat.reduceDiv, Nat.reduceMod, Nat.reduceMul, Nat.reduceAdd, Int.reduceToNat, pm_kill_i, pm_kill_r, pm_kill_n, pm_kill_j, pm_kill_l, pm_kill_d, pm_cats_nil, pm_cats_i, pm_cats_r, pm_cats_n, pm_cats_l, pm_cats_d, sz_1, sz_2, sl_1, sl_2, lc_0, lc_lt, lc_le, li_ne, va_rf, wr_m1, we_m1, pm_kill_w, Int32.reduceOfInt, Int64.reduceOfInt, Int32.reduceOfNat, Int32.reduceLT, Int32.reduceLE, Prod.mk.injEq, Nat.reduceEqDiff, reduceCtorEq, and_true, true_and, and_false, false_and, and_self, ite_true, ite_false, ↓reduceIte, not_true_eq_false, not_false_eq_true, pe_ri, pe_rz, pe_rc, p_throw, t661, w_junk hA, z1, z3]
      · dsimp only at e z3
        by_cases k4 : 0 ≤ v2i ∧ v2i < tc
        · rw [if_pos k4] at e
          obtain ⟨v3, k5, e⟩ := Option.bind_eq_some_iff.mp e
          try dsimp only at e
          have z5 := fun h => x643 (D := D) (h := h) (by omega) k5
          by_cases k6 : v3 = 0
          · rw [if_pos k6] at e
            have k7 := y661_2 (h := h) hP hA hD e
            simp -implicitDefEqProofs (disch := first | assumption | exact Nat.le_of_ble_eq_true rfl | decide) only [b661_0, g661_1, b661_1, g661_4, b661_4, g661_5, b661_5, g661_6, b661_6, pe_aload0, pe_iload1, pe_call2, pm_af_ret, pm_af_void, pm_af_thr, pe_astore6, pe_iload2, pe_astore7, pe_iload3, pe_sipush, pe_call3, pe_if_eq, pe_iload4, pe_iload5, pe_icmp_lt, pe_goto, pe_goto_w, pe_call1, pe_istore8, pe_istore9, pe_iload9, pe_aload6, pe_icmp_gt, pe_iload8, pe_aload7, pe_call4, pe_i2l, pe_bipush, pe_lsub, pe_lmul, pe_lcmp, pe_if_le, pe_iadd, pe_iinc9, pe_aloadN0, pe_astoreN6, pe_astoreN7, pe_aloadN6, pe_aloadN7, pe_aastoreN, pe_areturnN, pe_null, pm_prog_1, pm_ob_some, Nat.reduceDiv, Nat.reduceMod, Nat.reduceMul, Nat.reduceAdd, Int.reduceToNat, pm_kill_i, pm_kill_r, pm_kill_n, pm_kill_j, pm_kill_l, pm_kill_d, pm_cats_nil, pm_cats_i, pm_cats_r, pm_cats_n, pm_cats_l, pm_cats_d, sz_1, sz_2, sl_1, sl_2, lc_0, lc_lt, lc_le, li_ne, va_rf, wr_m1, we_m1, pm_kill_w, Int32.reduceOfInt, Int64.reduceOfInt, Int32.reduceOfNat, Int32.reduceLT, Int32.reduceLE, Prod.mk.injEq, Nat.reduceEqDiff, reduceCtorEq, and_true, true_and, and_false, false_and, and_self, ite_true, ite_false, ↓reduceIte, not_true_eq_false, not_false_eq_true, pe_ri, pe_rz, pe_rc, p_throw, t661, w_junk hA, z1, z3, z5, eq_true k6, k7]
          · rw [if_neg k6] at e
            obtain ⟨v8, k8, e⟩ := Option.bind_eq_some_iff.mp e
            try dsimp only at e
            have z8 := fun h => x643 (D := D) (h := h) (by omega) k8
            by_cases k9 : v8 = 0
            · rw [if_pos k9] at e
              have k10 := y661_2 (h := h) hP hA hD e
              simp -implicitDefEqProofs (disch := first | assumption | exact Nat.le_of_ble_eq_true rfl | decide) only [b661_0, g661_1, b661_1, g661_4, b661_4, g661_5, b661_5, g661_6, b661_6, pe_aload0, pe_iload1, pe_call2, pm_af_ret, pm_af_void, pm_af_thr, pe_astore6, pe_iload2, pe_astore7, pe_iload3, pe_sipush, pe_call3, pe_if_eq, pe_iload4, pe_iload5, pe_icmp_lt, pe_goto, pe_goto_w, pe_call1, pe_istore8, pe_istore9, pe_iload9, pe_aload6, pe_icmp_gt, pe_iload8, pe_aload7, pe_call4, pe_i2l, pe_bipush, pe_lsub, pe_lmul, pe_lcmp, pe_if_le, pe_iadd, pe_iinc9, pe_aloadN0, pe_astoreN6, pe_astoreN7, pe_aloadN6, pe_aloadN7, pe_aastoreN, pe_areturnN, pe_null, pm_prog_1, pm_ob_some, Nat.reduceDiv, Nat.reduceMod, Nat.reduceMul, Nat.reduceAdd, Int.reduceToNat, pm_kill_i, pm_kill_r, pm_kill_n, pm_kill_j, pm_kill_l, pm_kill_d, pm_cats_nil, pm_cats_i, pm_cats_r, pm_cats_n, pm_cats_l, pm_cats_d, sz_1, sz_2, sl_1, sl_2, lc_0, lc_lt, lc_le, li_ne, va_rf, wr_m1, we_m1, pm_kill_w, Int32.reduceOfInt, Int64.reduceOfInt, Int32.reduceOfNat, Int32.reduceLT, Int32.reduceLE, Prod.mk.injEq, Nat.reduceEqDiff, reduceCtorEq, and_true, true_and, and_false, false_and, and_self, ite_true, ite_false, ↓reduceIte, not_true_eq_false, not_false_eq_true, pe_ri, pe_rz, pe_rc, p_throw, t661, w_junk hA, z1, z3, z5, eq_false k6, z8, eq_true k9, k10]
            · rw [if_neg k9] at e
              by_cases k11 : x5 < 1
              · rw [if_pos k11] at e
                have k12 := y661_2 (h := h) hP hA hD e
                simp -implicitDefEqProofs (disch := first | assumption | exact Nat.le_of_ble_eq_true rfl | decide) only [b661_0, g661_1, b661_1, g661_4, b661_4, g661_5, b661_5, g661_6, b661_6, pe_aload0, pe_iload1, pe_call2, pm_af_ret, pm_af_void, pm_af_thr, pe_astore6, pe_iload2, pe_astore7, pe_iload3, pe_sipush, pe_call3, pe_if_eq, pe_iload4, pe_iload5, pe_icmp_lt, pe_goto, pe_goto_w, pe_call1, pe_istore8, pe_istore9, pe_iload9, pe_aload6, pe_icmp_gt, pe_iload8, pe_aload7, pe_call4, pe_i2l, pe_bipush, pe_lsub, pe_lmul, pe_lcmp, pe_if_le, pe_iadd, pe_iinc9, pe_aloadN0, pe_astoreN6, pe_astoreN7, pe_aloadN6, pe_aloadN7, pe_aastoreN, pe_areturnN, pe_null, pm_prog_1, pm_ob_some, Nat.reduceDiv, Nat.reduceMod, Nat.reduceMul, Nat.reduceAdd, Int.reduceToNat, pm_kill_i, pm_kill_r, pm_kill_n, pm_kill_j, pm_kill_l, pm_kill_d, pm_cats_nil, pm_cats_i, pm_cats_r, pm_cats_n, pm_cats_l, pm_cats_d, sz_1, sz_2, sl_1, sl_2, lc_0, lc_lt, lc_le, li_ne, va_rf, wr_m1, we_m1, pm_kill_w, Int32.reduceOfInt, Int64.reduceOfInt, Int32.reduceOfNat, Int32.reduceLT, Int32.reduceLE, Prod.mk.injEq, Nat.reduceEqDiff, reduceCtorEq, and_true, true_and, and_false, false_and, and_self, ite_true, ite_false, ↓reduceIte, not_true_eq_false, not_false_eq_true, pe_ri, pe_rz, pe_rc, p_throw, t661, w_junk hA, z1, z3, z5, eq_false k6, z8, eq_false k9, eq_true k11, k12]
              · rw [if_neg k11] at e
                have k13 := y661_2 (h := h) hP hA hD e
                simp -implicitDefEqProofs (disch := first | assumption | exact Nat.le_of_ble_eq_true rfl | decide) only [b661_0, g661_1, b661_1, g661_4, b661_4, g661_5, b661_5, g661_6, b661_6, pe_aload0, pe_iload1, pe_call2, pm_af_ret, pm_af_void, pm_af_thr, pe_astore6, pe_iload2, pe_astore7, pe_iload3, pe_sipush, pe_call3, pe_if_eq, pe_iload4, pe_iload5, pe_icmp_lt, pe_goto, pe_goto_w, pe_call1, pe_istore8, pe_istore9, pe_iload9, pe_aload6, pe_icmp_gt, pe_iload8, pe_aload7, pe_call4, pe_i2l, pe_bipush, pe_lsub, pe_lmul, pe_lcmp, pe_if_le, pe_iadd, pe_iinc9, pe_aloadN0, pe_astoreN6, pe_astoreN7, pe_aloadN6, pe_aloadN7, pe_aastoreN, pe_areturnN, pe_null, pm_prog_1, pm_ob_some, Nat.reduceDiv, Nat.reduceMod, Nat.reduceMul, Nat.reduceAdd, Int.reduceToNat, pm_kill_i, pm_kill_r, pm_kill_n, pm_kill_j, pm_kill_l, pm_kill_d, pm_cats_nil, pm_cats_i, pm_cats_r, pm_cats_n, pm_cats_l, pm_cats_d, sz_1, sz_2, sl_1, sl_2, lc_0, lc_lt, lc_le, li_ne, va_rf, wr_m1, we_m1, pm_kill_w, Int32.reduceOfInt, Int64.reduceOfInt, Int32.reduceOfNat, Int32.reduceLT, Int32.reduceLE, Prod.mk.injEq, Nat.reduceEqDiff, reduceCtorEq, and_true, true_and, and_false, false_and, and_self, ite_true, ite_false, ↓reduceIte, not_true_eq_false, not_false_eq_true, pe_ri, pe_rz, pe_rc, p_throw, t661, w_junk hA, z1, z3, z5, eq_false k6, z8, eq_false k9, eq_false k11, k13]
        · rw [if_neg k4] at e; cases e
    · rw [if_neg k2] at e; cases e
/-- TimberHouse$LathePieces$Piece.held(II)I -/
theorem c2755 {d : Nat} {h : pm_H} {a : Nat} {x0 : Int32} {x1 : Int32} (hc : pm_cls h a = some 43) : pm_call pm_prog (d + 1) 2755 [.ref a, .int x0, .int x1] h = pm_ev pm_prog (pm_call pm_prog d) 2755 0 b2755_0 [.ref a, .int x0, .int x1, pm_junk, pm_junk, pm_junk] [] h := pm_cal (pm_rc1 hc rfl) rfl rfl rfl
theorem g2755_1 {cl : pm_C} {ls st : List Value} {h : pm_H} : pm_go pm_prog cl 2755 1 ls st h = pm_ev pm_prog cl 2755 1 b2755_1 ls st h := pm_go_eq pm_prog cl 2755 1 ls st h
theorem g2755_2 {cl : pm_C} {ls st : List Value} {h : pm_H} : pm_go pm_prog cl 2755 2 ls st h = pm_ev pm_prog cl 2755 2 b2755_2 ls st h := pm_go_eq pm_prog cl 2755 2 ls st h
theorem g2755_3 {cl : pm_C} {ls st : List Value} {h : pm_H} : pm_go pm_prog cl 2755 3 ls st h = pm_ev pm_prog cl 2755 3 b2755_3 ls st h := pm_go_eq pm_prog cl 2755 3 ls st h
noncomputable def f2755_b1 (pc : Int32) (tc : Int32) (rc : Int32) (fc : Int32) (qc : Int32) (pa : Int32) (ta : Int32) (ra : Int32) (pl : Int32 → Int32) (tl : Int32 → Int32) (wc : Int32 → Int32) (wa : Int32 → Int32) (ya : Int32 → Int32) (S : wS) : Int32 × Int32 × Int32 × Int32 × Int32 × Int32 → Option ((Int32 × Int32 × Int32 × Int32 × Int32 × Int32) ⊕ ((Int32))) := fun (x0i, x1, x2, x3, x4, x5) =>
  if 0 ≤ x0i ∧ x0i < pc then
    (f2752 pc tc rc fc qc pa ta ra pl tl wc wa ya S x0i).bind fun v1 =>
    if x5 ≤ v1 then
      if 0 ≤ x5 ∧ x5 < (pl x0i) then
        (f3840 x3 (S.1 (11, x0i, 0) x5)).bind fun v2 =>
        if ((x5 - x1) * x2) ≤ v2 then
          some (.inl (x0i, x1, x2, v2, x5, (x5 + 1)))
        else
          some (.inl (x0i, x1, x2, v2, x4, (x5 + 1)))
      else none
    else
      some (.inr x4)
  else none
/-- TimberHouse$LathePieces$Piece.held(II)I -/
noncomputable def f2755 (pc : Int32) (tc : Int32) (rc : Int32) (fc : Int32) (qc : Int32) (pa : Int32) (ta : Int32) (ra : Int32) (pl : Int32 → Int32) (tl : Int32 → Int32) (wc : Int32 → Int32) (wa : Int32 → Int32) (ya : Int32 → Int32) (S : wS) (x0i : Int32) (x1 : Int32) (x2 : Int32) : Option (Int32) :=
  if 0 ≤ x0i ∧ x0i < pc then
    if 0 ≤ x1 ∧ x1 < (pl x0i) then
      (lp (f2755_b1 pc tc rc fc qc pa ta ra pl tl wc wa ya S) FU (x0i, x1, x2, (S.1 (11, x0i, 0) x1), (x1 + 1), (x1 + 1))).bind fun v3 =>
      some v3
    else none
  else none
def go2755_1 (pc : Int32) (tc : Int32) (rc : Int32) (fc : Int32) (qc : Int32) (pa : Int32) (ta : Int32) (ra : Int32) (pl : Int32 → Int32) (tl : Int32 → Int32) (wc : Int32 → Int32) (wa : Int32 → Int32) (ya : Int32 → Int32) (A : wK → Nat) (h : pm_H) (D : Nat) (R : Outcome × pm_H) (S : wS) : Int32 × Int32 × Int32 × Int32 × Int32 × Int32 → Prop := fun (x0i, x1, x2, x3, x4, x5) => pm_go pm_prog (pm_call pm_prog D) 2755 1 [.ref (A (10, x0i, 0)), .int x1, .int x2, .int x3, .int x4, .int x5] [] (wput A (Cz_d pc tc rc fc qc pa ta ra pl tl wc wa ya) S h) = some R
def ex2755_1 (pc : Int32) (tc : Int32) (rc : Int32) (fc : Int32) (qc : Int32) (pa : Int32) (ta : Int32) (ra : Int32) (pl : Int32 → Int32) (tl : Int32 → Int32) (wc : Int32 → Int32) (wa : Int32 → Int32) (ya : Int32 → Int32) (A : wK → Nat) (h : pm_H) (D : Nat) (R : Outcome × pm_H) (S : wS) : (Int32) → Prop := fun x4 => ∀ q0 q1 q2 q3 q5 : Value, pm_go pm_prog (pm_call pm_prog D) 2755 3 [q0, q1, q2, q3, .int x4, q5] [] (wput A (Cz_d pc tc rc fc qc pa ta ra pl tl wc wa ya) S h) = some R
theorem y2755_b1 {pc : Int32} {tc : Int32} {rc : Int32} {fc : Int32} {qc : Int32} {pa : Int32} {ta : Int32} {ra : Int32} {pl : Int32 → Int32} {tl : Int32 → Int32} {wc : Int32 → Int32} {wa : Int32 → Int32} {ya : Int32 → Int32} {A : wK → Nat} {h : pm_H} {D : Nat} {R : Outcome × pm_H} {S : wS} (hP : Cz_P pc tc rc fc qc pa ta ra pl tl wc wa ya) (hA : wok A (Cz_d pc tc rc fc qc pa ta ra pl tl wc wa ya) h.1) (hD : 1 ≤ D) (a : Int32 × Int32 × Int32 × Int32 × Int32 × Int32) (r : (Int32 × Int32 × Int32 × Int32 × Int32 × Int32) ⊕ ((Int32))) (e : f2755_b1 pc tc rc fc qc pa ta ra pl tl wc wa ya S a = some r) (hc : Sum.elim (go2755_1 pc tc rc fc qc pa ta ra pl tl wc wa ya A h D R S) (ex2755_1 pc tc rc fc qc pa ta ra pl tl wc wa ya A h D R S) r) : go2755_1 pc tc rc fc qc pa ta ra pl tl wc wa ya A h D R S a := by
  obtain ⟨x0i, x1, x2, x3, x4, x5⟩ := a
  dsimp only [go2755_1]
  simp only [f2755_b1] at e
  rw [g2755_1, b2755_1]
  by_cases k1 : 0 ≤ x0i ∧ x0i < pc
  · rw [if_pos k1] at e
    obtain ⟨v1, k2, e⟩ := Option.bind_eq_some_iff.mp e
    try dsimp only at e
    have z2 := x2752 (D := D) (h := h) hP hA (by omega) k2
    by_cases k3 : x5 ≤ v1
    · rw [if_pos k3] at e
      by_cases k4 : 0 ≤ x5 ∧ x5 < (pl x0i)
      · rw [if_pos k4] at e
        obtain ⟨v2, k5, e⟩ := Option.bind_eq_some_iff.mp e
        try dsimp only at e
        have z5 := fun h => x3840 (D := D) (h := h) (by omega) k5
        by_cases k6 : ((x5 - x1) * x2) ≤ v2
        · rw [if_pos k6] at e
          have e := Option.some.inj e; subst e
          dsimp only [Sum.elim_inl, go2755_1] at hc
          simp -implicitDefEqProofs (disch := first | assumption | exact Nat.le_of_ble_eq_true rfl | decide) only [b2755_0, g2755_2, b2755_2, g2755_3, b2755_3, pe_aload0, pe_getfield, pe_iload1, pe_iaload, pe_istore3, pe_sipush, pe_iadd, pe_istore4, pe_istore5, pe_goto_w, pe_iload5, pe_call1, pm_af_ret, pm_af_void, pm_af_thr, pe_icmp_gt, pe_iload3, pe_call2, pe_isub, pe_iload2, pe_imul, pe_iinc5, pe_goto, pe_iload4, pe_aloadN0, pe_aastoreN, pe_areturnN, pe_null, pm_prog_1, pm_ob_some, Nat.reduceDiv, Nat.reduceMod, Nat.reduceMul, Nat.reduceAdd, Int.reduceToNat, pm_kill_i, pm_kill_r, pm_kill_n, pm_kill_j, pm_kill_l, pm_kill_d, pm_cats_nil, pm_cats_i, pm_cats_r, pm_cats_n, pm_cats_l, pm_cats_d, sz_1, sz_2, sl_1, sl_2, lc_0, lc_lt, lc_le, li_ne, va_rf, wr_m1, we_m1, pm_kill_w, Int32.reduceOfInt, Int64.reduceOfInt, Int32.reduceOfNat, Int32.reduceLT, Int32.reduceLE, Prod.mk.injEq, Nat.reduceEqDiff, reduceCtorEq, and_true, true_and, and_false, false_and, and_self, ite_true, ite_false, ↓reduceIte, not_true_eq_false, not_false_eq_true, pe_ri, pe_rz, pe_rc, Cz_g10_0 hP hA, Cz_r11 hP hA, z2, eq_true k3, z5, eq_true k6, hc]
        · rw [if_neg k6] at e
          have e := Option.some.inj e; subst e
          dsimp only [Sum.elim_inl, go2755_1] at hc
          simp -implicitDefEqProofs (disch := first | assumption | exact Nat.le_of_ble_eq_true rfl | decide) only [b2755_0, g2755_2, b2755_2, g2755_3, b2755_3, pe_aload0, pe_getfield, pe_iload1, pe_iaload, pe_istore3, pe_sipush, pe_iadd, pe_istore4, pe_istore5, pe_goto_w, pe_iload5, pe_call1, pm_af_ret, pm_af_void, pm_af_thr, pe_icmp_gt, pe_iload3, pe_call2, pe_isub, pe_iload2, pe_imul, pe_iinc5, pe_goto, pe_iload4, pe_aloadN0, pe_aastoreN, pe_areturnN, pe_null, pm_prog_1, pm_ob_some, Nat.reduceDiv, Nat.reduceMod, Nat.reduceMul, Nat.reduceAdd, Int.reduceToNat, pm_kill_i, pm_kill_r, pm_kill_n, pm_kill_j, pm_kill_l, pm_kill_d, pm_cats_nil, pm_cats_i, pm_cats_r, pm_cats_n, pm_cats_l, pm_cats_d, sz_1, sz_2, sl_1, sl_2, lc_0, lc_lt, lc_le, li_ne, va_rf, wr_m1, we_m1, pm_kill_w, Int32.reduceOfInt, Int64.reduceOfInt, Int32.reduceOfNat, Int32.reduceLT, Int32.reduceLE, Prod.mk.injEq, Nat.reduceEqDiff, reduceCtorEq, and_true, true_and, and_false, false_and, and_self, ite_true, ite_false, ↓reduceIte, not_true_eq_false, not_false_eq_true, pe_ri, pe_rz, pe_rc, Cz_g10_0 hP hA, Cz_r11 hP hA, z2, eq_true k3, z5, eq_false k6, hc]
      · rw [if_neg k4] at e; cases e
    · rw [if_neg k3] at e
      have e := Option.some.inj e; subst e
      dsimp only [Sum.elim_inr, ex2755_1] at hc
      simp -implicitDefEqProofs (disch := first | assumption | exact Nat.le_of_ble_eq_true rfl | decide) only [b2755_0, g2755_2, b2755_2, g2755_3, b2755_3, pe_aload0, pe_getfield, pe_iload1, pe_iaload, pe_istore3, pe_sipush, pe_iadd, pe_istore4, pe_istore5, pe_goto_w, pe_iload5, pe_call1, pm_af_ret, pm_af_void, pm_af_thr, pe_icmp_gt, pe_iload3, pe_call2, pe_isub, pe_iload2, pe_imul, pe_iinc5, pe_goto, pe_iload4, pe_aloadN0, pe_aastoreN, pe_areturnN, pe_null, pm_prog_1, pm_ob_some, Nat.reduceDiv, Nat.reduceMod, Nat.reduceMul, Nat.reduceAdd, Int.reduceToNat, pm_kill_i, pm_kill_r, pm_kill_n, pm_kill_j, pm_kill_l, pm_kill_d, pm_cats_nil, pm_cats_i, pm_cats_r, pm_cats_n, pm_cats_l, pm_cats_d, sz_1, sz_2, sl_1, sl_2, lc_0, lc_lt, lc_le, li_ne, va_rf, wr_m1, we_m1, pm_kill_w, Int32.reduceOfInt, Int64.reduceOfInt, Int32.reduceOfNat, Int32.reduceLT, Int32.reduceLE, Prod.mk.injEq, Nat.reduceEqDiff, reduceCtorEq, and_true, true_and, and_false, false_and, and_self, ite_true, ite_false, ↓reduceIte, not_true_eq_false, not_false_eq_true, pe_ri, pe_rz, pe_rc, Cz_g10_0 hP hA, Cz_r11 hP hA, z2, eq_false k3, hc]
  · rw [if_neg k1] at e; cases e
theorem z2755_1 {pc : Int32} {tc : Int32} {rc : Int32} {fc : Int32} {qc : Int32} {pa : Int32} {ta : Int32} {ra : Int32} {pl : Int32 → Int32} {tl : Int32 → Int32} {wc : Int32 → Int32} {wa : Int32 → Int32} {ya : Int32 → Int32} {A : wK → Nat} {h : pm_H} {D : Nat} {R : Outcome × pm_H} {S : wS} (hP : Cz_P pc tc rc fc qc pa ta ra pl tl wc wa ya) (hA : wok A (Cz_d pc tc rc fc qc pa ta ra pl tl wc wa ya) h.1) (hD : 1 ≤ D) {n : Nat} {a : Int32 × Int32 × Int32 × Int32 × Int32 × Int32} {b : (Int32)} (e : lp (f2755_b1 pc tc rc fc qc pa ta ra pl tl wc wa ya S) n a = some b) (hx : ex2755_1 pc tc rc fc qc pa ta ra pl tl wc wa ya A h D R S b) : go2755_1 pc tc rc fc qc pa ta ra pl tl wc wa ya A h D R S a := lp_run (fun a r => y2755_b1 hP hA hD a r) n a b e hx
theorem x2755 {pc : Int32} {tc : Int32} {rc : Int32} {fc : Int32} {qc : Int32} {pa : Int32} {ta : Int32} {ra : Int32} {pl : Int32 → Int32} {tl : Int32 → Int32} {wc : Int32 → Int32} {wa : Int32 → Int32} {ya : Int32 → Int32} {A : wK → Nat} {h : pm_H} {D : Nat} {S : wS} {x0i : Int32} {x1 : Int32} {x2 : Int32} {r : Int32} (hP : Cz_P pc tc rc fc qc pa ta ra pl tl wc wa ya) (hA : wok A (Cz_d pc tc rc fc qc pa ta ra pl tl wc wa ya) h.1) (hD : 2 ≤ D) (e : f2755 pc tc rc fc qc pa ta ra pl tl wc wa ya S x0i x1 x2 = some r) : pm_call pm_prog D 2755 [.ref (A (10, x0i, 0)), .int x1, .int x2] (wput A (Cz_d pc tc rc fc qc pa ta ra pl tl wc wa ya) S h) = some (Outcome.returned (some (.int r)), (wput A (Cz_d pc tc rc fc qc pa ta ra pl tl wc wa ya) S h)) := by
  obtain ⟨D, rfl⟩ : ∃ D', D = D' + 1 := ⟨D - 1, by omega⟩
  have hD : 1 ≤ D := by omega
  simp only [f2755] at e
  have k1 : 0 ≤ x0i ∧ x0i < pc := by
    by_cases q : 0 ≤ x0i ∧ x0i < pc
    · exact q
    · rw [if_neg q] at e; cases e
  rw [if_pos k1] at e
  rw [c2755 (Cz_c10 hP hA k1), b2755_0]
  by_cases k2 : 0 ≤ x1 ∧ x1 < (pl x0i)
  · rw [if_pos k2] at e
    obtain ⟨v3, k3, e⟩ := Option.bind_eq_some_iff.mp e
    try dsimp only at e
    try simp -implicitDefEqProofs (disch := first | assumption | exact Nat.le_of_ble_eq_true rfl | decide) only [b2755_0, g2755_2, b2755_2, g2755_3, b2755_3, pe_aload0, pe_getfield, pe_iload1, pe_iaload, pe_istore3, pe_sipush, pe_iadd, pe_istore4, pe_istore5, pe_goto_w, pe_iload5, pe_call1, pm_af_ret, pm_af_void, pm_af_thr, pe_icmp_gt, pe_iload3, pe_call2, pe_isub, pe_iload2, pe_imul, pe_iinc5, pe_goto, pe_iload4, pe_aloadN0, pe_aastoreN, pe_areturnN, pe_null, pm_prog_1, pm_ob_some, Nat.reduceDiv, Nat.reduceMod, Nat.reduceMul, Nat.reduceAdd, Int.reduceToNat, pm_kill_i, pm_kill_r, pm_kill_n, pm_kill_j, pm_kill_l, pm_kill_d, pm_cats_nil, pm_cats_i, pm_cats_r, pm_cats_n, pm_cats_l, pm_cats_d, sz_1, sz_2, sl_1, sl_2, lc_0, lc_lt, lc_le, li_ne, va_rf, wr_m1, we_m1, pm_kill_w, Int32.reduceOfInt, Int64.reduceOfInt, Int32.reduceOfNat, Int32.reduceLT, Int32.reduceLE, Prod.mk.injEq, Nat.reduceEqDiff, reduceCtorEq, and_true, true_and, and_false, false_and, and_self, ite_true, ite_false, ↓reduceIte, not_true_eq_false, not_false_eq_true, pe_ri, pe_rz, pe_rc, Cz_g10_0 hP hA, Cz_r11 hP hA]
    refine z2755_1 hP hA hD k3 ?_
    dsimp only [ex2755_1]
    intro q0 q1 q2 q3 q5
    have e := Option.some.inj e; subst e
    simp -implicitDefEqProofs (disch := first | assumption | exact Nat.le_of_ble_eq_true rfl | decide) only [b2755_0, g2755_2, b2755_2, g2755_3, b2755_3, pe_aload0, pe_getfield, pe_iload1, pe_iaload, pe_istore3, pe_sipush, pe_iadd, pe_istore4, pe_istore5, pe_goto_w, pe_iload5, pe_call1, pm_af_ret, pm_af_void, pm_af_thr, pe_icmp_gt, pe_iload3, pe_call2, pe_isub, pe_iload2, pe_imul, pe_iinc5, pe_goto, pe_iload4, pe_aloadN0, pe_aastoreN, pe_areturnN, pe_null, pm_prog_1, pm_ob_some, Nat.reduceDiv, Nat.reduceMod, Nat.reduceMul, Nat.reduceAdd, Int.reduceToNat, pm_kill_i, pm_kill_r, pm_kill_n, pm_kill_j, pm_kill_l, pm_kill_d, pm_cats_nil, pm_cats_i, pm_cats_r, pm_cats_n, pm_cats_l, pm_cats_d, sz_1, sz_2, sl_1, sl_2, lc_0, lc_lt, lc_le, li_ne, va_rf, wr_m1, we_m1, pm_kill_w, Int32.reduceOfInt, Int64.reduceOfInt, Int32.reduceOfNat, Int32.reduceLT, Int32.reduceLE, Prod.mk.injEq, Nat.reduceEqDiff, reduceCtorEq, and_true, true_and, and_false, false_and, and_self, ite_true, ite_false, ↓reduceIte, not_true_eq_false, not_false_eq_true, pe_ri, pe_rz, pe_rc, Cz_g10_0 hP hA, Cz_r11 hP hA]
  · rw [if_neg k2] at e; cases e
/-- TimberHouse$LathePieces.steady(III)I -/
theorem c662 {d : Nat} {h : pm_H} {a : Nat} {x0 : Int32} {x1 : Int32} {x2 : Int32} (hc : pm_cls h a = some 10) : pm_call pm_prog (d + 1) 662 [.ref a, .int x0, .int x1, .int x2] h = pm_ev pm_prog (pm_call pm_prog d) 662 0 b662_0 [.ref a, .int x0, .int x1, .int x2, pm_junk, pm_junk, pm_junk] [] h := pm_cal (pm_rc1 hc rfl) rfl rfl rfl
theorem g662_1 {cl : pm_C} {ls st : List Value} {h : pm_H} : pm_go pm_prog cl 662 1 ls st h = pm_ev pm_prog cl 662 1 b662_1 ls st h := pm_go_eq pm_prog cl 662 1 ls st h
theorem g662_2 {cl : pm_C} {ls st : List Value} {h : pm_H} : pm_go pm_prog cl 662 2 ls st h = pm_ev pm_prog cl 662 2 b662_2 ls st h := pm_go_eq pm_prog cl 662 2 ls st h
theorem g662_3 {cl : pm_C} {ls st : List Value} {h : pm_H} : pm_go pm_prog cl 662 3 ls st h = pm_ev pm_prog cl 662 3 b662_3 ls st h := pm_go_eq pm_prog cl 662 3 ls st h
theorem g662_4 {cl : pm_C} {ls st : List Value} {h : pm_H} : pm_go pm_prog cl 662 4 ls st h = pm_ev pm_prog cl 662 4 b662_4 ls st h := pm_go_eq pm_prog cl 662 4 ls st h
theorem g662_5 {cl : pm_C} {ls st : List Value} {h : pm_H} : pm_go pm_prog cl 662 5 ls st h = pm_ev pm_prog cl 662 5 b662_5 ls st h := pm_go_eq pm_prog cl 662 5 ls st h
theorem g662_6 {cl : pm_C} {ls st : List Value} {h : pm_H} : pm_go pm_prog cl 662 6 ls st h = pm_ev pm_prog cl 662 6 b662_6 ls st h := pm_go_eq pm_prog cl 662 6 ls st h
theorem t662 {cl : pm_C} {j : Nat} {ls : List Value} {c : Nat} {h : pm_H} : pm_thr pm_prog cl 662 j ls c h = some (.threw c, h) := rfl
noncomputable def f662_b3 (pc : Int32) (tc : Int32) (rc : Int32) (fc : Int32) (qc : Int32) (pa : Int32) (ta : Int32) (ra : Int32) (pl : Int32 → Int32) (tl : Int32 → Int32) (wc : Int32 → Int32) (wa : Int32 → Int32) (ya : Int32 → Int32) (S : wS) : Int32 × Int32 × Int32 × Int32 × Int32 → Option ((Int32 × Int32 × Int32 × Int32 × Int32) ⊕ ((Int32 × Int32))) := fun (x2, x3, x4i, x5, x6) =>
  if 0 ≤ x4i ∧ x4i < pc then
    if x6 < x3 then
      (f2752 pc tc rc fc qc pa ta ra pl tl wc wa ya S x4i).bind fun v4 =>
      if x5 < v4 then
        (f2755 pc tc rc fc qc pa ta ra pl tl wc wa ya S x4i x5 x2).bind fun v5 =>
        some (.inl (x2, x3, x4i, v5, (x6 + 1)))
      else
        some (.inr (x4i, x5))
    else
      some (.inr (x4i, x5))
  else none
noncomputable def f662_6 (pc : Int32) (tc : Int32) (rc : Int32) (fc : Int32) (qc : Int32) (pa : Int32) (ta : Int32) (ra : Int32) (pl : Int32 → Int32) (tl : Int32 → Int32) (wc : Int32 → Int32) (wa : Int32 → Int32) (ya : Int32 → Int32) (S : wS) (x5 : Int32) (y0 : Int32) : Option (Nat ⊕ (Int32)) :=
  (f651 y0).bind fun r => match r with
  | .inl c9 =>
    some (.inl c9)
  | .inr _ =>
  some (.inr x5)
noncomputable def f662_4 (pc : Int32) (tc : Int32) (rc : Int32) (fc : Int32) (qc : Int32) (pa : Int32) (ta : Int32) (ra : Int32) (pl : Int32 → Int32) (tl : Int32 → Int32) (wc : Int32 → Int32) (wa : Int32 → Int32) (ya : Int32 → Int32) (S : wS) (x4i : Int32) (x5 : Int32) : Option (Nat ⊕ (Int32)) :=
  if 0 ≤ x4i ∧ x4i < pc then
    (f2752 pc tc rc fc qc pa ta ra pl tl wc wa ya S x4i).bind fun v8 =>
    if x5 < v8 then
      f662_6 pc tc rc fc qc pa ta ra pl tl wc wa ya S x5 1
    else
      f662_6 pc tc rc fc qc pa ta ra pl tl wc wa ya S x5 0
  else none
noncomputable def f662_2 (pc : Int32) (tc : Int32) (rc : Int32) (fc : Int32) (qc : Int32) (pa : Int32) (ta : Int32) (ra : Int32) (pl : Int32 → Int32) (tl : Int32 → Int32) (wc : Int32 → Int32) (wa : Int32 → Int32) (ya : Int32 → Int32) (S : wS) (x2 : Int32) (x3 : Int32) (x4i : Int32) (y0 : Int32) : Option (Nat ⊕ (Int32)) :=
  if 0 ≤ x4i ∧ x4i < pc then
    (f646 y0).bind fun r => match r with
    | .inl c10 =>
      some (.inl c10)
    | .inr _ =>
    (f2755 pc tc rc fc qc pa ta ra pl tl wc wa ya S x4i 0 x2).bind fun v3 =>
    (lp (f662_b3 pc tc rc fc qc pa ta ra pl tl wc wa ya S) FU (x2, x3, x4i, v3, 0)).bind fun (v6i, v7) =>
    if 0 ≤ v6i ∧ v6i < pc then
      f662_4 pc tc rc fc qc pa ta ra pl tl wc wa ya S v6i v7
    else none
  else none
/-- TimberHouse$LathePieces.steady(III)I -/
noncomputable def f662 (pc : Int32) (tc : Int32) (rc : Int32) (fc : Int32) (qc : Int32) (pa : Int32) (ta : Int32) (ra : Int32) (pl : Int32 → Int32) (tl : Int32 → Int32) (wc : Int32 → Int32) (wa : Int32 → Int32) (ya : Int32 → Int32) (S : wS) (x1 : Int32) (x2 : Int32) (x3 : Int32) : Option (Nat ⊕ (Int32)) :=
  (f642 pc tc rc fc qc pa ta ra pl tl wc wa ya S x1).bind fun r => match r with
  | .inl c11 =>
    some (.inl c11)
  | .inr v1i =>
  if 0 ≤ v1i ∧ v1i < pc then
    (f643 x2 1 500).bind fun v2 =>
    if v2 = 0 then
      f662_2 pc tc rc fc qc pa ta ra pl tl wc wa ya S x2 x3 v1i 0
    else
      if x3 < 0 then
        f662_2 pc tc rc fc qc pa ta ra pl tl wc wa ya S x2 x3 v1i 0
      else
        f662_2 pc tc rc fc qc pa ta ra pl tl wc wa ya S x2 x3 v1i 1
  else none
def go662_3 (pc : Int32) (tc : Int32) (rc : Int32) (fc : Int32) (qc : Int32) (pa : Int32) (ta : Int32) (ra : Int32) (pl : Int32 → Int32) (tl : Int32 → Int32) (wc : Int32 → Int32) (wa : Int32 → Int32) (ya : Int32 → Int32) (A : wK → Nat) (h : pm_H) (D : Nat) (R : Outcome × pm_H) (S : wS) : Int32 × Int32 × Int32 × Int32 × Int32 → Prop := fun (x2, x3, x4i, x5, x6) => ∀ q0 q1 : Value, pm_go pm_prog (pm_call pm_prog D) 662 3 [q0, q1, .int x2, .int x3, .ref (A (10, x4i, 0)), .int x5, .int x6] [] (wput A (Cz_d pc tc rc fc qc pa ta ra pl tl wc wa ya) S h) = some R
def ex662_3 (pc : Int32) (tc : Int32) (rc : Int32) (fc : Int32) (qc : Int32) (pa : Int32) (ta : Int32) (ra : Int32) (pl : Int32 → Int32) (tl : Int32 → Int32) (wc : Int32 → Int32) (wa : Int32 → Int32) (ya : Int32 → Int32) (A : wK → Nat) (h : pm_H) (D : Nat) (R : Outcome × pm_H) (S : wS) : (Int32 × Int32) → Prop := fun (x4i, x5) => ∀ q0 q1 q2 q3 q6 : Value, pm_go pm_prog (pm_call pm_prog D) 662 4 [q0, q1, q2, q3, .ref (A (10, x4i, 0)), .int x5, q6] [] (wput A (Cz_d pc tc rc fc qc pa ta ra pl tl wc wa ya) S h) = some R
theorem y662_b3 {pc : Int32} {tc : Int32} {rc : Int32} {fc : Int32} {qc : Int32} {pa : Int32} {ta : Int32} {ra : Int32} {pl : Int32 → Int32} {tl : Int32 → Int32} {wc : Int32 → Int32} {wa : Int32 → Int32} {ya : Int32 → Int32} {A : wK → Nat} {h : pm_H} {D : Nat} {R : Outcome × pm_H} {S : wS} (hP : Cz_P pc tc rc fc qc pa ta ra pl tl wc wa ya) (hA : wok A (Cz_d pc tc rc fc qc pa ta ra pl tl wc wa ya) h.1) (hD : 4 ≤ D) (a : Int32 × Int32 × Int32 × Int32 × Int32) (r : (Int32 × Int32 × Int32 × Int32 × Int32) ⊕ ((Int32 × Int32))) (e : f662_b3 pc tc rc fc qc pa ta ra pl tl wc wa ya S a = some r) (hc : Sum.elim (go662_3 pc tc rc fc qc pa ta ra pl tl wc wa ya A h D R S) (ex662_3 pc tc rc fc qc pa ta ra pl tl wc wa ya A h D R S) r) : go662_3 pc tc rc fc qc pa ta ra pl tl wc wa ya A h D R S a := by
  obtain ⟨x2, x3, x4i, x5, x6⟩ := a
  dsimp only [go662_3]
  intro q0 q1
  simp only [f662_b3] at e
  rw [g662_3, b662_3]
  by_cases k1 : 0 ≤ x4i ∧ x4i < pc
  · rw [if_pos k1] at e
    by_cases k2 : x6 < x3
    · rw [if_pos k2] at e
      obtain ⟨v4, k3, e⟩ := Option.bind_eq_some_iff.mp e
      try dsimp only at e
      have z3 := x2752 (D := D) (h := h) hP hA (by omega) k3
      by_cases k4 : x5 < v4
      · rw [if_pos k4] at e
        obtain ⟨v5, k5, e⟩ := Option.bind_eq_some_iff.mp e
        try dsimp only at e
        have z5 := x2755 (D := D) (h := h) hP hA (by omega) k5
        have e := Option.some.inj e; subst e
        dsimp only [Sum.elim_inl, go662_3] at hc
        simp -implicitDefEqProofs (disch := first | assumption | exact Nat.le_of_ble_eq_true rfl | decide) only [b662_0, g662_1, b662_1, g662_5, b662_5, pe_aload0, pe_iload1, pe_call2, pm_af_ret, pm_af_void, pm_af_thr, pe_astore4, pe_iload2, pe_sipush, pe_call3, pe_if_eq, pe_iload3, pe_if_lt, pe_goto, pe_goto_w, pe_call1, pe_aload4, pe_istore5, pe_istore6, pe_iload6, pe_icmp_ge, pe_iload5, pe_iinc6, pe_aloadN0, pe_astoreN4, pe_aloadN4, pe_aastoreN, pe_areturnN, pe_null, pm_prog_1, pm_ob_some, Nat.reduceDiv, Nat.reduceMod, Nat.reduceMul, Nat.reduceAdd, Int.reduceToNat, pm_kill_i, pm_kill_r, pm_kill_n, pm_kill_j, pm_kill_l, pm_kill_d, pm_cats_nil, pm_cats_i, pm_cats_r, pm_cats_n, pm_cats_l, pm_cats_d, sz_1, sz_2, sl_1, sl_2, lc_0, lc_lt, lc_le, li_ne, va_rf, wr_m1, we_m1, pm_kill_w, Int32.reduceOfInt, Int64.reduceOfInt, Int32.reduceOfNat, Int32.reduceLT, Int32.reduceLE, Prod.mk.injEq, Nat.reduceEqDiff, reduceCtorEq, and_true, true_and, and_false, false_and, and_self, ite_true, ite_false, ↓reduceIte, not_true_eq_false, not_false_eq_true, pe_ri, pe_rz, pe_rc, p_throw, t662, w_junk hA, eq_true k2, z3, eq_true k4, z5, hc]
      · rw [if_neg k4] at e
        have e := Option.some.inj e; subst e
        dsimp only [Sum.elim_inr, ex662_3] at hc
        simp -implicitDefEqProofs (disch := first | assumption | exact Nat.le_of_ble_eq_true rfl | decide) only [b662_0, g662_1, b662_1, g662_5, b662_5, pe_aload0, pe_iload1, pe_call2, pm_af_ret, pm_af_void, pm_af_thr, pe_astore4, pe_iload2, pe_sipush, pe_call3, pe_if_eq, pe_iload3, pe_if_lt, pe_goto, pe_goto_w, pe_call1, pe_aload4, pe_istore5, pe_istore6, pe_iload6, pe_icmp_ge, pe_iload5, pe_iinc6, pe_aloadN0, pe_astoreN4, pe_aloadN4, pe_aastoreN, pe_areturnN, pe_null, pm_prog_1, pm_ob_some, Nat.reduceDiv, Nat.reduceMod, Nat.reduceMul, Nat.reduceAdd, Int.reduceToNat, pm_kill_i, pm_kill_r, pm_kill_n, pm_kill_j, pm_kill_l, pm_kill_d, pm_cats_nil, pm_cats_i, pm_cats_r, pm_cats_n, pm_cats_l, pm_cats_d, sz_1, sz_2, sl_1, sl_2, lc_0, lc_lt, lc_le, li_ne, va_rf, wr_m1, we_m1, pm_kill_w, Int32.reduceOfInt, Int64.reduceOfInt, Int32.reduceOfNat, Int32.reduceLT, Int32.reduceLE, Prod.mk.injEq, Nat.reduceEqDiff, reduceCtorEq, and_true, true_and, and_false, false_and, and_self, ite_true, ite_false, ↓reduceIte, not_true_eq_false, not_false_eq_true, pe_ri, pe_rz, pe_rc, p_throw, t662, w_junk hA, eq_true k2, z3, eq_false k4, hc]
    · rw [if_neg k2] at e
      have e := Option.some.inj e; subst e
      dsimp only [Sum.elim_inr, ex662_3] at hc
      simp -implicitDefEqProofs (disch := first | assumption | exact Nat.le_of_ble_eq_true rfl | decide) only [b662_0, g662_1, b662_1, g662_5, b662_5, pe_aload0, pe_iload1, pe_call2, pm_af_ret, pm_af_void, pm_af_thr, pe_astore4, pe_iload2, pe_sipush, pe_call3, pe_if_eq, pe_iload3, pe_if_lt, pe_goto, pe_goto_w, pe_call1, pe_aload4, pe_istore5, pe_istore6, pe_iload6, pe_icmp_ge, pe_iload5, pe_iinc6, pe_aloadN0, pe_astoreN4, pe_aloadN4, pe_aastoreN, pe_areturnN, pe_null, pm_prog_1, pm_ob_some, Nat.reduceDiv, Nat.reduceMod, Nat.reduceMul, Nat.reduceAdd, Int.reduceToNat, pm_kill_i, pm_kill_r, pm_kill_n, pm_kill_j, pm_kill_l, pm_kill_d, pm_cats_nil, pm_cats_i, pm_cats_r, pm_cats_n, pm_cats_l, pm_cats_d, sz_1, sz_2, sl_1, sl_2, lc_0, lc_lt, lc_le, li_ne, va_rf, wr_m1, we_m1, pm_kill_w, Int32.reduceOfInt, Int64.reduceOfInt, Int32.reduceOfNat, Int32.reduceLT, Int32.reduceLE, Prod.mk.injEq, Nat.reduceEqDiff, reduceCtorEq, and_true, true_and, and_false, false_and, and_self, ite_true, ite_false, ↓reduceIte, not_true_eq_false, not_false_eq_true, pe_ri, pe_rz, pe_rc, p_throw, t662, w_junk hA, eq_false k2, hc]
  · rw [if_neg k1] at e; cases e
theorem z662_3 {pc : Int32} {tc : Int32} {rc : Int32} {fc : Int32} {qc : Int32} {pa : Int32} {ta : Int32} {ra : Int32} {pl : Int32 → Int32} {tl : Int32 → Int32} {wc : Int32 → Int32} {wa : Int32 → Int32} {ya : Int32 → Int32} {A : wK → Nat} {h : pm_H} {D : Nat} {R : Outcome × pm_H} {S : wS} (hP : Cz_P pc tc rc fc qc pa ta ra pl tl wc wa ya) (hA : wok A (Cz_d pc tc rc fc qc pa ta ra pl tl wc wa ya) h.1) (hD : 4 ≤ D) {n : Nat} {a : Int32 × Int32 × Int32 × Int32 × Int32} {b : (Int32 × Int32)} (e : lp (f662_b3 pc tc rc fc qc pa ta ra pl tl wc wa ya S) n a = some b) (hx : ex662_3 pc tc rc fc qc pa ta ra pl tl wc wa ya A h D R S b) : go662_3 pc tc rc fc qc pa ta ra pl tl wc wa ya A h D R S a := lp_run (fun a r => y662_b3 hP hA hD a r) n a b e hx
theorem y662_6 {pc : Int32} {tc : Int32} {rc : Int32} {fc : Int32} {qc : Int32} {pa : Int32} {ta : Int32} {ra : Int32} {pl : Int32 → Int32} {tl : Int32 → Int32} {wc : Int32 → Int32} {wa : Int32 → Int32} {ya : Int32 → Int32} {A : wK → Nat} {h : pm_H} {D : Nat} {S : wS} {x5 : Int32} {y0 : Int32} {r : Nat ⊕ (Int32)} (hP : Cz_P pc tc rc fc qc pa ta ra pl tl wc wa ya) (hA : wok A (Cz_d pc tc rc fc qc pa ta ra pl tl wc wa ya) h.1) (hD : 4 ≤ D) (e : f662_6 pc tc rc fc qc pa ta ra pl tl wc wa ya S x5 y0 = some r) : ∀ q0 q1 q2 q3 q4 q6 : Value, pm_go pm_prog (pm_call pm_prog D) 662 6 [q0, q1, q2, q3, q4, .int x5, q6] [.int y0] (wput A (Cz_d pc tc rc fc qc pa ta ra pl tl wc wa ya) S h) = some (match (generalizing := false) r with | .inl c => (Outcome.threw c, (wput A (Cz_d pc tc rc fc qc pa ta ra pl tl wc wa ya) S (pm_new h 6 (.inr (c, []))))) | .inr w0 => (Outcome.returned (some (.int w0)), (wput A (Cz_d pc tc rc fc qc pa ta ra pl tl wc wa ya) S h))) := by
  intro q0 q1 q2 q3 q4 q6
  simp only [f662_6] at e
  rw [g662_6, b662_6]
  obtain ⟨r, k1, e⟩ := Option.bind_eq_some_iff.mp e
  have z1 := fun h => x651 (D := D) (h := h) (by omega) k1
  rcases r with c9 | _
  · dsimp only at e z1
    have e := Option.some.inj e; subst e
    simp -implicitDefEqProofs (disch := first | assumption | exact Nat.le_of_ble_eq_true rfl | decide) only [b662_0, g662_1, b662_1, g662_5, b662_5, pe_aload0, pe_iload1, pe_call2, pm_af_ret, pm_af_void, pm_af_thr, pe_astore4, pe_iload2, pe_sipush, pe_call3, pe_if_eq, pe_iload3, pe_if_lt, pe_goto, pe_goto_w, pe_call1, pe_aload4, pe_istore5, pe_istore6, pe_iload6, pe_icmp_ge, pe_iload5, pe_iinc6, pe_aloadN0, pe_astoreN4, pe_aloadN4, pe_aastoreN, pe_areturnN, pe_null, pm_prog_1, pm_ob_some, Nat.reduceDiv, Nat.reduceMod, Nat.reduceMul, Nat.reduceAdd, Int.reduceToNat, pm_kill_i, pm_kill_r, pm_kill_n, pm_kill_j, pm_kill_l, pm_kill_d, pm_cats_nil, pm_cats_i, pm_cats_r, pm_cats_n, pm_cats_l, pm_cats_d, sz_1, sz_2, sl_1, sl_2, lc_0, lc_lt, lc_le, li_ne, va_rf, wr_m1, we_m1, pm_kill_w, Int32.reduceOfInt, Int64.reduceOfInt, Int32.reduceOfNat, Int32.reduceLT, Int32.reduceLE, Prod.mk.injEq, Nat.reduceEqDiff, reduceCtorEq, and_true, true_and, and_false, false_and, and_self, ite_true, ite_false, ↓reduceIte, not_true_eq_false, not_false_eq_true, pe_ri, pe_rz, pe_rc, p_throw, t662, w_junk hA, z1]
  · dsimp only at e z1
    have e := Option.some.inj e; subst e
    simp -implicitDefEqProofs (disch := first | assumption | exact Nat.le_of_ble_eq_true rfl | decide) only [b662_0, g662_1, b662_1, g662_5, b662_5, pe_aload0, pe_iload1, pe_call2, pm_af_ret, pm_af_void, pm_af_thr, pe_astore4, pe_iload2, pe_sipush, pe_call3, pe_if_eq, pe_iload3, pe_if_lt, pe_goto, pe_goto_w, pe_call1, pe_aload4, pe_istore5, pe_istore6, pe_iload6, pe_icmp_ge, pe_iload5, pe_iinc6, pe_aloadN0, pe_astoreN4, pe_aloadN4, pe_aastoreN, pe_areturnN, pe_null, pm_prog_1, pm_ob_some, Nat.reduceDiv, Nat.reduceMod, Nat.reduceMul, Nat.reduceAdd, Int.reduceToNat, pm_kill_i, pm_kill_r, pm_kill_n, pm_kill_j, pm_kill_l, pm_kill_d, pm_cats_nil, pm_cats_i, pm_cats_r, pm_cats_n, pm_cats_l, pm_cats_d, sz_1, sz_2, sl_1, sl_2, lc_0, lc_lt, lc_le, li_ne, va_rf, wr_m1, we_m1, pm_kill_w, Int32.reduceOfInt, Int64.reduceOfInt, Int32.reduceOfNat, Int32.reduceLT, Int32.reduceLE, Prod.mk.injEq, Nat.reduceEqDiff, reduceCtorEq, and_true, true_and, and_false, false_and, and_self, ite_true, ite_false, ↓reduceIte, not_true_eq_false, not_false_eq_true, pe_ri, pe_rz, pe_rc, p_throw, t662, w_junk hA, z1]
theorem y662_4 {pc : Int32} {tc : Int32} {rc : Int32} {fc : Int32} {qc : Int32} {pa : Int32} {ta : Int32} {ra : Int32} {pl : Int32 → Int32} {tl : Int32 → Int32} {wc : Int32 → Int32} {wa : Int32 → Int32} {ya : Int32 → Int32} {A : wK → Nat} {h : pm_H} {D : Nat} {S : wS} {x4i : Int32} {x5 : Int32} {r : Nat ⊕ (Int32)} (hP : Cz_P pc tc rc fc qc pa ta ra pl tl wc wa ya) (hA : wok A (Cz_d pc tc rc fc qc pa ta ra pl tl wc wa ya) h.1) (hD : 4 ≤ D) (e : f662_4 pc tc rc fc qc pa ta ra pl tl wc wa ya S x4i x5 = some r) : ∀ q0 q1 q2 q3 q6 : Value, pm_go pm_prog (pm_call pm_prog D) 662 4 [q0, q1, q2, q3, .ref (A (10, x4i, 0)), .int x5, q6] [] (wput A (Cz_d pc tc rc fc qc pa ta ra pl tl wc wa ya) S h) = some (match (generalizing := false) r with | .inl c => (Outcome.threw c, (wput A (Cz_d pc tc rc fc qc pa ta ra pl tl wc wa ya) S (pm_new h 6 (.inr (c, []))))) | .inr w0 => (Outcome.returned (some (.int w0)), (wput A (Cz_d pc tc rc fc qc pa ta ra pl tl wc wa ya) S h))) := by
  intro q0 q1 q2 q3 q6
  simp only [f662_4] at e
  rw [g662_4, b662_4]
  by_cases k1 : 0 ≤ x4i ∧ x4i < pc
  · rw [if_pos k1] at e
    obtain ⟨v8, k2, e⟩ := Option.bind_eq_some_iff.mp e
    try dsimp only at e
    have z2 := x2752 (D := D) (h := h) hP hA (by omega) k2
    by_cases k3 : x5 < v8
    · rw [if_pos k3] at e
      have k4 := y662_6 (h := h) hP hA hD e
      simp -implicitDefEqProofs (disch := first | assumption | exact Nat.le_of_ble_eq_true rfl | decide) only [b662_0, g662_1, b662_1, g662_5, b662_5, pe_aload0, pe_iload1, pe_call2, pm_af_ret, pm_af_void, pm_af_thr, pe_astore4, pe_iload2, pe_sipush, pe_call3, pe_if_eq, pe_iload3, pe_if_lt, pe_goto, pe_goto_w, pe_call1, pe_aload4, pe_istore5, pe_istore6, pe_iload6, pe_icmp_ge, pe_iload5, pe_iinc6, pe_aloadN0, pe_astoreN4, pe_aloadN4, pe_aastoreN, pe_areturnN, pe_null, pm_prog_1, pm_ob_some, Nat.reduceDiv, Nat.reduceMod, Nat.reduceMul, Nat.reduceAdd, Int.reduceToNat, pm_kill_i, pm_kill_r, pm_kill_n, pm_kill_j, pm_kill_l, pm_kill_d, pm_cats_nil, pm_cats_i, pm_cats_r, pm_cats_n, pm_cats_l, pm_cats_d, sz_1, sz_2, sl_1, sl_2, lc_0, lc_lt, lc_le, li_ne, va_rf, wr_m1, we_m1, pm_kill_w, Int32.reduceOfInt, Int64.reduceOfInt, Int32.reduceOfNat, Int32.reduceLT, Int32.reduceLE, Prod.mk.injEq, Nat.reduceEqDiff, reduceCtorEq, and_true, true_and, and_false, false_and, and_self, ite_true, ite_false, ↓reduceIte, not_true_eq_false, not_false_eq_true, pe_ri, pe_rz, pe_rc, p_throw, t662, w_junk hA, z2, eq_true k3, k4]
    · rw [if_neg k3] at e
      have k5 := y662_6 (h := h) hP hA hD e
      simp -implicitDefEqProofs (disch := first | assumption | exact Nat.le_of_ble_eq_true rfl | decide) only [b662_0, g662_1, b662_1, g662_5, b662_5, pe_aload0, pe_iload1, pe_call2, pm_af_ret, pm_af_void, pm_af_thr, pe_astore4, pe_iload2, pe_sipush, pe_call3, pe_if_eq, pe_iload3, pe_if_lt, pe_goto, pe_goto_w, pe_call1, pe_aload4, pe_istore5, pe_istore6, pe_iload6, pe_icmp_ge, pe_iload5, pe_iinc6, pe_aloadN0, pe_astoreN4, pe_aloadN4, pe_aastoreN, pe_areturnN, pe_null, pm_prog_1, pm_ob_some, Nat.reduceDiv, Nat.reduceMod, Nat.reduceMul, Nat.reduceAdd, Int.reduceToNat, pm_kill_i, pm_kill_r, pm_kill_n, pm_kill_j, pm_kill_l, pm_kill_d, pm_cats_nil, pm_cats_i, pm_cats_r, pm_cats_n, pm_cats_l, pm_cats_d, sz_1, sz_2, sl_1, sl_2, lc_0, lc_lt, lc_le, li_ne, va_rf, wr_m1, we_m1, pm_kill_w, Int32.reduceOfInt, Int64.reduceOfInt, Int32.reduceOfNat, Int32.reduceLT, Int32.reduceLE, Prod.mk.injEq, Nat.reduceEqDiff, reduceCtorEq, and_true, true_and, and_false, false_and, and_self, ite_true, ite_false, ↓reduceIte, not_true_eq_false, not_false_eq_true, pe_ri, pe_rz, pe_rc, p_throw, t662, w_junk hA, z2, eq_false k3, k5]
  · rw [if_neg k1] at e; cases e
theorem y662_2 {pc : Int32} {tc : Int32} {rc : Int32} {fc : Int32} {qc : Int32} {pa : Int32} {ta : Int32} {ra : Int32} {pl : Int32 → Int32} {tl : Int32 → Int32} {wc : Int32 → Int32} {wa : Int32 → Int32} {ya : Int32 → Int32} {A : wK → Nat} {h : pm_H} {D : Nat} {S : wS} {x2 : Int32} {x3 : Int32} {x4i : Int32} {y0 : Int32} {r : Nat ⊕ (Int32)} (hP : Cz_P pc tc rc fc qc pa ta ra pl tl wc wa ya) (hA : wok A (Cz_d pc tc rc fc qc pa ta ra pl tl wc wa ya) h.1) (hD : 4 ≤ D) (e : f662_2 pc tc rc fc qc pa ta ra pl tl wc wa ya S x2 x3 x4i y0 = some r) : ∀ q0 q1 q5 q6 : Value, pm_go pm_prog (pm_call pm_prog D) 662 2 [q0, q1, .int x2, .int x3, .ref (A (10, x4i, 0)), q5, q6] [.int y0] (wput A (Cz_d pc tc rc fc qc pa ta ra pl tl wc wa ya) S h) = some (match (generalizing := false) r with | .inl c => (Outcome.threw c, (wput A (Cz_d pc tc rc fc qc pa ta ra pl tl wc wa ya) S (pm_new h 6 (.inr (c, []))))) | .inr w0 => (Outcome.returned (some (.int w0)), (wput A (Cz_d pc tc rc fc qc pa ta ra pl tl wc wa ya) S h))) := by
  intro q0 q1 q5 q6
  simp only [f662_2] at e
  rw [g662_2, b662_2]
  by_cases k1 : 0 ≤ x4i ∧ x4i < pc
  · rw [if_pos k1] at e
    obtain ⟨r, k2, e⟩ := Option.bind_eq_some_iff.mp e
    have z2 := fun h => x646 (D := D) (h := h) (by omega) k2
    rcases r with c10 | _
    · dsimp only at e z2
      have e := Option.some.inj e; subst e
      simp -implicitDefEqProofs (disch := first | assumption | exact Nat.le_of_ble_eq_true rfl | decide) only [b662_0, g662_1, b662_1, g662_5, b662_5, pe_aload0, pe_iload1, pe_call2, pm_af_ret, pm_af_void, pm_af_thr, pe_astore4, pe_iload2, pe_sipush, pe_call3, pe_if_eq, pe_iload3, pe_if_lt, pe_goto, pe_goto_w, pe_call1, pe_aload4, pe_istore5, pe_istore6, pe_iload6, pe_icmp_ge, pe_iload5, pe_iinc6, pe_aloadN0, pe_astoreN4, pe_aloadN4, pe_aastoreN, pe_areturnN, pe_null, pm_prog_1, pm_ob_some, Nat.reduceDiv, Nat.reduceMod, Nat.reduceMul, Nat.reduceAdd, Int.reduceToNat, pm_kill_i, pm_kill_r, pm_kill_n, pm_kill_j, pm_kill_l, pm_kill_d, pm_cats_nil, pm_cats_i, pm_cats_r, pm_cats_n, pm_cats_l, pm_cats_d, sz_1, sz_2, sl_1, sl_2, lc_0, lc_lt, lc_le, li_ne, va_rf, wr_m1, we_m1, pm_kill_w, Int32.reduceOfInt, Int64.reduceOfInt, Int32.reduceOfNat, Int32.reduceLT, Int32.reduceLE, Prod.mk.injEq, Nat.reduceEqDiff, reduceCtorEq, and_true, true_and, and_false, false_and, and_self, ite_true, ite_false, ↓reduceIte, not_true_eq_false, not_false_eq_true, pe_ri, pe_rz, pe_rc, p_throw, t662, w_junk hA, z2]
    · dsimp only at e z2
      obtain ⟨v3, k3, e⟩ := Option.bind_eq_some_iff.mp e
      try dsimp only at e
      have z3 := x2755 (D := D) (h := h) hP hA (by omega) k3
      obtain ⟨⟨v6i, v7⟩, k4, e⟩ := Option.bind_eq_some_iff.mp e
      try dsimp only at e
      try simp -implicitDefEqProofs (disch := first | assumption | exact Nat.le_of_ble_eq_true rfl | decide) only [b662_0, g662_1, b662_1, g662_5, b662_5, pe_aload0, pe_iload1, pe_call2, pm_af_ret, pm_af_void, pm_af_thr, pe_astore4, pe_iload2, pe_sipush, pe_call3, pe_if_eq, pe_iload3, pe_if_lt, pe_goto, pe_goto_w, pe_call1, pe_aload4, pe_istore5, pe_istore6, pe_iload6, pe_icmp_ge, pe_iload5, pe_iinc6, pe_aloadN0, pe_astoreN4, pe_aloadN4, pe_aastoreN, pe_areturnN, pe_null, pm_prog_1, pm_ob_some, Nat.reduceDiv, Nat.reduceMod, Nat.reduceMul, Nat.reduceAdd, Int.reduceToNat, pm_kill_i, pm_kill_r, pm_kill_n, pm_kill_j, pm_kill_l, pm_kill_d, pm_cats_nil, pm_cats_i, pm_cats_r, pm_cats_n, pm_cats_l, pm_cats_d, sz_1, sz_2, sl_1, sl_2, lc_0, lc_lt, lc_le, li_ne, va_rf, wr_m1, we_m1, pm_kill_w, Int32.reduceOfInt, Int64.reduceOfInt, Int32.reduceOfNat, Int32.reduceLT, Int32.reduceLE, Prod.mk.injEq, Nat.reduceEqDiff, reduceCtorEq, and_true, true_and, and_false, false_and, and_self, ite_true, ite_false, ↓reduceIte, not_true_eq_false, not_false_eq_true, pe_ri, pe_rz, pe_rc, p_throw, t662, w_junk hA, z2, z3]
      refine z662_3 hP hA hD k4 ?_ _ _
      dsimp only [ex662_3]
      intro q0 q1 q2 q3 q6
      by_cases k5 : 0 ≤ v6i ∧ v6i < pc
      · rw [if_pos k5] at e
        have k6 := y662_4 (h := h) hP hA hD e
        simp -implicitDefEqProofs (disch := first | assumption | exact Nat.le_of_ble_eq_true rfl | decide) only [b662_0, g662_1, b662_1, g662_5, b662_5, pe_aload0, pe_iload1, pe_call2, pm_af_ret, pm_af_void, pm_af_thr, pe_astore4, pe_iload2, pe_sipush, pe_call3, pe_if_eq, pe_iload3, pe_if_lt, pe_goto, pe_goto_w, pe_call1, pe_aload4, pe_istore5, pe_istore6, pe_iload6, pe_icmp_ge, pe_iload5, pe_iinc6, pe_aloadN0, pe_astoreN4, pe_aloadN4, pe_aastoreN, pe_areturnN, pe_null, pm_prog_1, pm_ob_some, Nat.reduceDiv, Nat.reduceMod, Nat.reduceMul, Nat.reduceAdd, Int.reduceToNat, pm_kill_i, pm_kill_r, pm_kill_n, pm_kill_j, pm_kill_l, pm_kill_d, pm_cats_nil, pm_cats_i, pm_cats_r, pm_cats_n, pm_cats_l, pm_cats_d, sz_1, sz_2, sl_1, sl_2, lc_0, lc_lt, lc_le, li_ne, va_rf, wr_m1, we_m1, pm_kill_w, Int32.reduceOfInt, Int64.reduceOfInt, Int32.reduceOfNat, Int32.reduceLT, Int32.reduceLE, Prod.mk.injEq, Nat.reduceEqDiff, reduceCtorEq, and_true, true_and, and_false, false_and, and_self, ite_true, ite_false, ↓reduceIte, not_true_eq_false, not_false_eq_true, pe_ri, pe_rz, pe_rc, p_throw, t662, w_junk hA, z2, z3, k6]
      · rw [if_neg k5] at e; cases e
  · rw [if_neg k1] at e; cases e
theorem x662 {pc : Int32} {tc : Int32} {rc : Int32} {fc : Int32} {qc : Int32} {pa : Int32} {ta : Int32} {ra : Int32} {pl : Int32 → Int32} {tl : Int32 → Int32} {wc : Int32 → Int32} {wa : Int32 → Int32} {ya : Int32 → Int32} {A : wK → Nat} {h : pm_H} {D : Nat} {S : wS} {x1 : Int32} {x2 : Int32} {x3 : Int32} {r : Nat ⊕ (Int32)} (hP : Cz_P pc tc rc fc qc pa ta ra pl tl wc wa ya) (hA : wok A (Cz_d pc tc rc fc qc pa ta ra pl tl wc wa ya) h.1) (hD : 5 ≤ D) (e : f662 pc tc rc fc qc pa ta ra pl tl wc wa ya S x1 x2 x3 = some r) : pm_call pm_prog D 662 [.ref (A (0, 0, 0)), .int x1, .int x2, .int x3] (wput A (Cz_d pc tc rc fc qc pa ta ra pl tl wc wa ya) S h) = some (match (generalizing := false) r with | .inl c => (Outcome.threw c, (wput A (Cz_d pc tc rc fc qc pa ta ra pl tl wc wa ya) S (pm_new h 6 (.inr (c, []))))) | .inr w0 => (Outcome.returned (some (.int w0)), (wput A (Cz_d pc tc rc fc qc pa ta ra pl tl wc wa ya) S h))) := by
  obtain ⟨D, rfl⟩ : ∃ D', D = D' + 1 := ⟨D - 1, by omega⟩
  have hD : 4 ≤ D := by omega
  simp only [f662] at e
  rw [c662 (Cz_c0 hP hA), b662_0]
  obtain ⟨r, k1, e⟩ := Option.bind_eq_some_iff.mp e
  have z1 := x642 (D := D) (h := h) hP hA (by omega) k1
  rcases r with c11 | v1i
  · dsimp only at e z1
    have e := Option.some.inj e; subst e
    simp -implicitDefEqProofs (disch := first | assumption | exact Nat.le_of_ble_eq_true rfl | decide) only [b662_0, g662_1, b662_1, g662_5, b662_5, pe_aload0, pe_iload1, pe_call2, pm_af_ret, pm_af_void, pm_af_thr, pe_astore4, pe_iload2, pe_sipush, pe_call3, pe_if_eq, pe_iload3, pe_if_lt, pe_goto, pe_goto_w, pe_call1, pe_aload4, pe_istore5, pe_istore6, pe_iload6, pe_icmp_ge, pe_iload5, pe_iinc6, pe_aloadN0, pe_astoreN4, pe_aloadN4, pe_aastoreN, pe_areturnN, pe_null, pm_prog_1, pm_ob_some, Nat.reduceDiv, Nat.reduceMod, Nat.reduceMul, Nat.reduceAdd, Int.reduceToNat, pm_kill_i, pm_kill_r, pm_kill_n, pm_kill_j, pm_kill_l, pm_kill_d, pm_cats_nil, pm_cats_i, pm_cats_r, pm_cats_n, pm_cats_l, pm_cats_d, sz_1, sz_2, sl_1, sl_2, lc_0, lc_lt, lc_le, li_ne, va_rf, wr_m1, we_m1, pm_kill_w, Int32.reduceOfInt, Int64.reduceOfInt, Int32.reduceOfNat, Int32.reduceLT, Int32.reduceLE, Prod.mk.injEq, Nat.reduceEqDiff, reduceCtorEq, and_true, true_and, and_false, false_and, and_self, ite_true, ite_false, ↓reduceIte, not_true_eq_false, not_false_eq_true, pe_ri, pe_rz, pe_rc, p_throw, t662, w_junk hA, z1]
  · dsimp only at e z1
    by_cases k2 : 0 ≤ v1i ∧ v1i < pc
    · rw [if_pos k2] at e
      obtain ⟨v2, k3, e⟩ := Option.bind_eq_some_iff.mp e
      try dsimp only at e
      have z3 := fun h => x643 (D := D) (h := h) (by omega) k3
      by_cases k4 : v2 = 0
      · rw [if_pos k4] at e
        have k5 := y662_2 (h := h) hP hA hD e
        simp -implicitDefEqProofs (disch := first | assumption | exact Nat.le_of_ble_eq_true rfl | decide) only [b662_0, g662_1, b662_1, g662_5, b662_5, pe_aload0, pe_iload1, pe_call2, pm_af_ret, pm_af_void, pm_af_thr, pe_astore4, pe_iload2, pe_sipush, pe_call3, pe_if_eq, pe_iload3, pe_if_lt, pe_goto, pe_goto_w, pe_call1, pe_aload4, pe_istore5, pe_istore6, pe_iload6, pe_icmp_ge, pe_iload5, pe_iinc6, pe_aloadN0, pe_astoreN4, pe_aloadN4, pe_aastoreN, pe_areturnN, pe_null, pm_prog_1, pm_ob_some, Nat.reduceDiv, Nat.reduceMod, Nat.reduceMul, Nat.reduceAdd, Int.reduceToNat, pm_kill_i, pm_kill_r, pm_kill_n, pm_kill_j, pm_kill_l, pm_kill_d, pm_cats_nil, pm_cats_i, pm_cats_r, pm_cats_n, pm_cats_l, pm_cats_d, sz_1, sz_2, sl_1, sl_2, lc_0, lc_lt, lc_le, li_ne, va_rf, wr_m1, we_m1, pm_kill_w, Int32.reduceOfInt, Int64.reduceOfInt, Int32.reduceOfNat, Int32.reduceLT, Int32.reduceLE, Prod.mk.injEq, Nat.reduceEqDiff, reduceCtorEq, and_true, true_and, and_false, false_and, and_self, ite_true, ite_false, ↓reduceIte, not_true_eq_false, not_false_eq_true, pe_ri, pe_rz, pe_rc, p_throw, t662, w_junk hA, z1, z3, eq_true k4, k5]
      · rw [if_neg k4] at e
        by_cases k6 : x3 < 0
        · rw [if_pos k6] at e
          have k7 := y662_2 (h := h) hP hA hD e
          simp -implicitDefEqProofs (disch := first | assumption | exact Nat.le_of_ble_eq_true rfl | decide) only [b662_0, g662_1, b662_1, g662_5, b662_5, pe_aload0, pe_iload1, pe_call2, pm_af_ret, pm_af_void, pm_af_thr, pe_astore4, pe_iload2, pe_sipush, pe_call3, pe_if_eq, pe_iload3, pe_if_lt, pe_goto, pe_goto_w, pe_call1, pe_aload4, pe_istore5, pe_istore6, pe_iload6, pe_icmp_ge, pe_iload5, pe_iinc6, pe_aloadN0, pe_astoreN4, pe_aloadN4, pe_aastoreN, pe_areturnN, pe_null, pm_prog_1, pm_ob_some, Nat.reduceDiv, Nat.reduceMod, Nat.reduceMul, Nat.reduceAdd, Int.reduceToNat, pm_kill_i, pm_kill_r, pm_kill_n, pm_kill_j, pm_kill_l, pm_kill_d, pm_cats_nil, pm_cats_i, pm_cats_r, pm_cats_n, pm_cats_l, pm_cats_d, sz_1, sz_2, sl_1, sl_2, lc_0, lc_lt, lc_le, li_ne, va_rf, wr_m1, we_m1, pm_kill_w, Int32.reduceOfInt, Int64.reduceOfInt, Int32.reduceOfNat, Int32.reduceLT, Int32.reduceLE, Prod.mk.injEq, Nat.reduceEqDiff, reduceCtorEq, and_true, true_and, and_false, false_and, and_self, ite_true, ite_false, ↓reduceIte, not_true_eq_false, not_false_eq_true, pe_ri, pe_rz, pe_rc, p_throw, t662, w_junk hA, z1, z3, eq_false k4, eq_true k6, k7]
        · rw [if_neg k6] at e
          have k8 := y662_2 (h := h) hP hA hD e
          simp -implicitDefEqProofs (disch := first | assumption | exact Nat.le_of_ble_eq_true rfl | decide) only [b662_0, g662_1, b662_1, g662_5, b662_5, pe_aload0, pe_iload1, pe_call2, pm_af_ret, pm_af_void, pm_af_thr, pe_astore4, pe_iload2, pe_sipush, pe_call3, pe_if_eq, pe_iload3, pe_if_lt, pe_goto, pe_goto_w, pe_call1, pe_aload4, pe_istore5, pe_istore6, pe_iload6, pe_icmp_ge, pe_iload5, pe_iinc6, pe_aloadN0, pe_astoreN4, pe_aloadN4, pe_aastoreN, pe_areturnN, pe_null, pm_prog_1, pm_ob_some, Nat.reduceDiv, Nat.reduceMod, Nat.reduceMul, Nat.reduceAdd, Int.reduceToNat, pm_kill_i, pm_kill_r, pm_kill_n, pm_kill_j, pm_kill_l, pm_kill_d, pm_cats_nil, pm_cats_i, pm_cats_r, pm_cats_n, pm_cats_l, pm_cats_d, sz_1, sz_2, sl_1, sl_2, lc_0, lc_lt, lc_le, li_ne, va_rf, wr_m1, we_m1, pm_kill_w, Int32.reduceOfInt, Int64.reduceOfInt, Int32.reduceOfNat, Int32.reduceLT, Int32.reduceLE, Prod.mk.injEq, Nat.reduceEqDiff, reduceCtorEq, and_true, true_and, and_false, false_and, and_self, ite_true, ite_false, ↓reduceIte, not_true_eq_false, not_false_eq_true, pe_ri, pe_rz, pe_rc, p_throw, t662, w_junk hA, z1, z3, eq_false k4, eq_false k6, k8]
    · rw [if_neg k2] at e; cases e
/-- TimberHouse$LathePieces$Piece.squares(Z)J -/
theorem c2756 {d : Nat} {h : pm_H} {a : Nat} {x0 : Int32} (hc : pm_cls h a = some 43) : pm_call pm_prog (d + 1) 2756 [.ref a, .int x0] h = pm_ev pm_prog (pm_call pm_prog d) 2756 0 b2756_0 [.ref a, .int x0, pm_junk, pm_junk, pm_junk, pm_junk, pm_junk] [] h := pm_cal (pm_rc1 hc rfl) rfl rfl rfl
theorem g2756_1 {cl : pm_C} {ls st : List Value} {h : pm_H} : pm_go pm_prog cl 2756 1 ls st h = pm_ev pm_prog cl 2756 1 b2756_1 ls st h := pm_go_eq pm_prog cl 2756 1 ls st h
theorem g2756_2 {cl : pm_C} {ls st : List Value} {h : pm_H} : pm_go pm_prog cl 2756 2 ls st h = pm_ev pm_prog cl 2756 2 b2756_2 ls st h := pm_go_eq pm_prog cl 2756 2 ls st h
theorem g2756_3 {cl : pm_C} {ls st : List Value} {h : pm_H} : pm_go pm_prog cl 2756 3 ls st h = pm_ev pm_prog cl 2756 3 b2756_3 ls st h := pm_go_eq pm_prog cl 2756 3 ls st h
theorem g2756_4 {cl : pm_C} {ls st : List Value} {h : pm_H} : pm_go pm_prog cl 2756 4 ls st h = pm_ev pm_prog cl 2756 4 b2756_4 ls st h := pm_go_eq pm_prog cl 2756 4 ls st h
theorem g2756_5 {cl : pm_C} {ls st : List Value} {h : pm_H} : pm_go pm_prog cl 2756 5 ls st h = pm_ev pm_prog cl 2756 5 b2756_5 ls st h := pm_go_eq pm_prog cl 2756 5 ls st h
theorem g2756_6 {cl : pm_C} {ls st : List Value} {h : pm_H} : pm_go pm_prog cl 2756 6 ls st h = pm_ev pm_prog cl 2756 6 b2756_6 ls st h := pm_go_eq pm_prog cl 2756 6 ls st h
noncomputable def f2756_5_1 (pc : Int32) (tc : Int32) (rc : Int32) (fc : Int32) (qc : Int32) (pa : Int32) (ta : Int32) (ra : Int32) (pl : Int32 → Int32) (tl : Int32 → Int32) (wc : Int32 → Int32) (wa : Int32 → Int32) (ya : Int32 → Int32) (S : wS) (x0i : Int32) (x1 : Int32) (x4 : Int32) (y0 : Int64) (y1 : Int32) : Option ((Int32 × Int32 × Int64 × Int32) ⊕ ((Int64))) :=
  if 0 ≤ x0i ∧ x0i < pc then
    (f653 y1).bind fun v2 =>
    some (.inl (x0i, x1, (y0 + (Int32.toInt64 v2)), (x4 + 1)))
  else none
noncomputable def f2756_3_1 (pc : Int32) (tc : Int32) (rc : Int32) (fc : Int32) (qc : Int32) (pa : Int32) (ta : Int32) (ra : Int32) (pl : Int32 → Int32) (tl : Int32 → Int32) (wc : Int32 → Int32) (wa : Int32 → Int32) (ya : Int32 → Int32) (S : wS) (x0i : Int32) (x1 : Int32) (x4 : Int32) (x5 : Int32) (x6 : Int32) (y0 : Int64) (y1 : Int32) (y2 : Int32) : Option ((Int32 × Int32 × Int64 × Int32) ⊕ ((Int64))) :=
  if 0 ≤ x0i ∧ x0i < pc then
    if y1 = y2 then
      f2756_5_1 pc tc rc fc qc pa ta ra pl tl wc wa ya S x0i x1 x4 y0 x5
    else
      f2756_5_1 pc tc rc fc qc pa ta ra pl tl wc wa ya S x0i x1 x4 y0 x6
  else none
noncomputable def f2756_b1 (pc : Int32) (tc : Int32) (rc : Int32) (fc : Int32) (qc : Int32) (pa : Int32) (ta : Int32) (ra : Int32) (pl : Int32 → Int32) (tl : Int32 → Int32) (wc : Int32 → Int32) (wa : Int32 → Int32) (ya : Int32 → Int32) (S : wS) : Int32 × Int32 × Int64 × Int32 → Option ((Int32 × Int32 × Int64 × Int32) ⊕ ((Int64))) := fun (x0i, x1, x2, x4) =>
  if 0 ≤ x0i ∧ x0i < pc then
    (f2752 pc tc rc fc qc pa ta ra pl tl wc wa ya S x0i).bind fun v1 =>
    if x4 < v1 then
      if 0 ≤ x4 ∧ x4 < (pl x0i) then
        if 0 ≤ (x4 + 1) ∧ (x4 + 1) < (pl x0i) then
          if (S.1 (11, x0i, 0) x4) ≤ (S.1 (11, x0i, 0) (x4 + 1)) then
            f2756_3_1 pc tc rc fc qc pa ta ra pl tl wc wa ya S x0i x1 x4 (S.1 (11, x0i, 0) x4) (S.1 (11, x0i, 0) (x4 + 1)) x2 x1 0
          else
            f2756_3_1 pc tc rc fc qc pa ta ra pl tl wc wa ya S x0i x1 x4 (S.1 (11, x0i, 0) x4) (S.1 (11, x0i, 0) (x4 + 1)) x2 x1 1
        else none
      else none
    else
      some (.inr x2)
  else none
/-- TimberHouse$LathePieces$Piece.squares(Z)J -/
noncomputable def f2756 (pc : Int32) (tc : Int32) (rc : Int32) (fc : Int32) (qc : Int32) (pa : Int32) (ta : Int32) (ra : Int32) (pl : Int32 → Int32) (tl : Int32 → Int32) (wc : Int32 → Int32) (wa : Int32 → Int32) (ya : Int32 → Int32) (S : wS) (x0i : Int32) (x1 : Int32) : Option (Int64) :=
  if 0 ≤ x0i ∧ x0i < pc then
    (lp (f2756_b1 pc tc rc fc qc pa ta ra pl tl wc wa ya S) FU (x0i, x1, 0, 0)).bind fun v3 =>
    some v3
  else none
def go2756_1 (pc : Int32) (tc : Int32) (rc : Int32) (fc : Int32) (qc : Int32) (pa : Int32) (ta : Int32) (ra : Int32) (pl : Int32 → Int32) (tl : Int32 → Int32) (wc : Int32 → Int32) (wa : Int32 → Int32) (ya : Int32 → Int32) (A : wK → Nat) (h : pm_H) (D : Nat) (R : Outcome × pm_H) (S : wS) : Int32 × Int32 × Int64 × Int32 → Prop := fun (x0i, x1, x2, x4) => ∀ q5 q6 : Value, pm_go pm_prog (pm_call pm_prog D) 2756 1 [.ref (A (10, x0i, 0)), .int x1, .long x2, pm_junk, .int x4, q5, q6] [] (wput A (Cz_d pc tc rc fc qc pa ta ra pl tl wc wa ya) S h) = some R
def ex2756_1 (pc : Int32) (tc : Int32) (rc : Int32) (fc : Int32) (qc : Int32) (pa : Int32) (ta : Int32) (ra : Int32) (pl : Int32 → Int32) (tl : Int32 → Int32) (wc : Int32 → Int32) (wa : Int32 → Int32) (ya : Int32 → Int32) (A : wK → Nat) (h : pm_H) (D : Nat) (R : Outcome × pm_H) (S : wS) : (Int64) → Prop := fun x2 => ∀ q0 q1 q4 q5 q6 : Value, pm_go pm_prog (pm_call pm_prog D) 2756 6 [q0, q1, .long x2, pm_junk, q4, q5, q6] [] (wput A (Cz_d pc tc rc fc qc pa ta ra pl tl wc wa ya) S h) = some R
theorem y2756_5_1 {pc : Int32} {tc : Int32} {rc : Int32} {fc : Int32} {qc : Int32} {pa : Int32} {ta : Int32} {ra : Int32} {pl : Int32 → Int32} {tl : Int32 → Int32} {wc : Int32 → Int32} {wa : Int32 → Int32} {ya : Int32 → Int32} {A : wK → Nat} {h : pm_H} {D : Nat} {R : Outcome × pm_H} {S : wS} {x0i : Int32} {x1 : Int32} {x4 : Int32} {y0 : Int64} {y1 : Int32} {r : (Int32 × Int32 × Int64 × Int32) ⊕ ((Int64))} (hP : Cz_P pc tc rc fc qc pa ta ra pl tl wc wa ya) (hA : wok A (Cz_d pc tc rc fc qc pa ta ra pl tl wc wa ya) h.1) (hD : 1 ≤ D) (e : f2756_5_1 pc tc rc fc qc pa ta ra pl tl wc wa ya S x0i x1 x4 y0 y1 = some r) (hc : Sum.elim (go2756_1 pc tc rc fc qc pa ta ra pl tl wc wa ya A h D R S) (ex2756_1 pc tc rc fc qc pa ta ra pl tl wc wa ya A h D R S) r) : ∀ q2 q3 q5 q6 : Value, pm_go pm_prog (pm_call pm_prog D) 2756 5 [.ref (A (10, x0i, 0)), .int x1, q2, q3, .int x4, q5, q6] [.int y1, .long y0] (wput A (Cz_d pc tc rc fc qc pa ta ra pl tl wc wa ya) S h) = some R := by
  intro q2 q3 q5 q6
  simp only [f2756_5_1] at e
  rw [g2756_5, b2756_5]
  by_cases k1 : 0 ≤ x0i ∧ x0i < pc
  · rw [if_pos k1] at e
    obtain ⟨v2, k2, e⟩ := Option.bind_eq_some_iff.mp e
    try dsimp only at e
    have z2 := fun h => x653 (D := D) (h := h) (by omega) k2
    have e := Option.some.inj e; subst e
    dsimp only [Sum.elim_inl, go2756_1] at hc
    simp -implicitDefEqProofs (disch := first | assumption | exact Nat.le_of_ble_eq_true rfl | decide) only [b2756_0, g2756_2, b2756_2, g2756_4, b2756_4, g2756_6, b2756_6, pe_bipush, pe_lstore2, pe_sipush, pe_istore4, pe_goto_w, pe_iload4, pe_aload0, pe_call1, pm_af_ret, pm_af_void, pm_af_thr, pe_icmp_ge, pe_getfield, pe_iaload, pe_istore5, pe_iadd, pe_istore6, pe_lload2, pe_iload1, pe_iload5, pe_iload6, pe_icmp_le, pe_goto, pe_icmp_ne, pe_i2l, pe_ladd, pe_iinc4, pe_lreturn, pe_aloadN0, pe_aastoreN, pe_areturnN, pe_null, pm_prog_1, pm_ob_some, Nat.reduceDiv, Nat.reduceMod, Nat.reduceMul, Nat.reduceAdd, Int.reduceToNat, pm_kill_i, pm_kill_r, pm_kill_n, pm_kill_j, pm_kill_l, pm_kill_d, pm_cats_nil, pm_cats_i, pm_cats_r, pm_cats_n, pm_cats_l, pm_cats_d, sz_1, sz_2, sl_1, sl_2, lc_0, lc_lt, lc_le, li_ne, va_rf, wr_m1, we_m1, pm_kill_w, Int32.reduceOfInt, Int64.reduceOfInt, Int32.reduceOfNat, Int32.reduceLT, Int32.reduceLE, Prod.mk.injEq, Nat.reduceEqDiff, reduceCtorEq, and_true, true_and, and_false, false_and, and_self, ite_true, ite_false, ↓reduceIte, not_true_eq_false, not_false_eq_true, pe_ri, pe_rz, pe_rc, Cz_g10_0 hP hA, Cz_r11 hP hA, z2, hc]
  · rw [if_neg k1] at e; cases e
theorem y2756_3_1 {pc : Int32} {tc : Int32} {rc : Int32} {fc : Int32} {qc : Int32} {pa : Int32} {ta : Int32} {ra : Int32} {pl : Int32 → Int32} {tl : Int32 → Int32} {wc : Int32 → Int32} {wa : Int32 → Int32} {ya : Int32 → Int32} {A : wK → Nat} {h : pm_H} {D : Nat} {R : Outcome × pm_H} {S : wS} {x0i : Int32} {x1 : Int32} {x4 : Int32} {x5 : Int32} {x6 : Int32} {y0 : Int64} {y1 : Int32} {y2 : Int32} {r : (Int32 × Int32 × Int64 × Int32) ⊕ ((Int64))} (hP : Cz_P pc tc rc fc qc pa ta ra pl tl wc wa ya) (hA : wok A (Cz_d pc tc rc fc qc pa ta ra pl tl wc wa ya) h.1) (hD : 1 ≤ D) (e : f2756_3_1 pc tc rc fc qc pa ta ra pl tl wc wa ya S x0i x1 x4 x5 x6 y0 y1 y2 = some r) (hc : Sum.elim (go2756_1 pc tc rc fc qc pa ta ra pl tl wc wa ya A h D R S) (ex2756_1 pc tc rc fc qc pa ta ra pl tl wc wa ya A h D R S) r) : ∀ q2 q3 : Value, pm_go pm_prog (pm_call pm_prog D) 2756 3 [.ref (A (10, x0i, 0)), .int x1, q2, q3, .int x4, .int x5, .int x6] [.int y2, .int y1, .long y0] (wput A (Cz_d pc tc rc fc qc pa ta ra pl tl wc wa ya) S h) = some R := by
  intro q2 q3
  simp only [f2756_3_1] at e
  rw [g2756_3, b2756_3]
  by_cases k1 : 0 ≤ x0i ∧ x0i < pc
  · rw [if_pos k1] at e
    by_cases k2 : y1 = y2
    · rw [if_pos k2] at e
      have k3 := y2756_5_1 (h := h) hP hA hD e hc
      simp -implicitDefEqProofs (disch := first | assumption | exact Nat.le_of_ble_eq_true rfl | decide) only [b2756_0, g2756_2, b2756_2, g2756_4, b2756_4, g2756_6, b2756_6, pe_bipush, pe_lstore2, pe_sipush, pe_istore4, pe_goto_w, pe_iload4, pe_aload0, pe_call1, pm_af_ret, pm_af_void, pm_af_thr, pe_icmp_ge, pe_getfield, pe_iaload, pe_istore5, pe_iadd, pe_istore6, pe_lload2, pe_iload1, pe_iload5, pe_iload6, pe_icmp_le, pe_goto, pe_icmp_ne, pe_i2l, pe_ladd, pe_iinc4, pe_lreturn, pe_aloadN0, pe_aastoreN, pe_areturnN, pe_null, pm_prog_1, pm_ob_some, Nat.reduceDiv, Nat.reduceMod, Nat.reduceMul, Nat.reduceAdd, Int.reduceToNat, pm_kill_i, pm_kill_r, pm_kill_n, pm_kill_j, pm_kill_l, pm_kill_d, pm_cats_nil, pm_cats_i, pm_cats_r, pm_cats_n, pm_cats_l, pm_cats_d, sz_1, sz_2, sl_1, sl_2, lc_0, lc_lt, lc_le, li_ne, va_rf, wr_m1, we_m1, pm_kill_w, Int32.reduceOfInt, Int64.reduceOfInt, Int32.reduceOfNat, Int32.reduceLT, Int32.reduceLE, Prod.mk.injEq, Nat.reduceEqDiff, reduceCtorEq, and_true, true_and, and_false, false_and, and_self, ite_true, ite_false, ↓reduceIte, not_true_eq_false, not_false_eq_true, pe_ri, pe_rz, pe_rc, Cz_g10_0 hP hA, Cz_r11 hP hA, eq_true k2, k3]
    · rw [if_neg k2] at e
      have k4 := y2756_5_1 (h := h) hP hA hD e hc
      simp -implicitDefEqProofs (disch := first | assumption | exact Nat.le_of_ble_eq_true rfl | decide) only [b2756_0, g2756_2, b2756_2, g2756_4, b2756_4, g2756_6, b2756_6, pe_bipush, pe_lstore2, pe_sipush, pe_istore4, pe_goto_w, pe_iload4, pe_aload0, pe_call1, pm_af_ret, pm_af_void, pm_af_thr, pe_icmp_ge, pe_getfield, pe_iaload, pe_istore5, pe_iadd, pe_istore6, pe_lload2, pe_iload1, pe_iload5, pe_iload6, pe_icmp_le, pe_goto, pe_icmp_ne, pe_i2l, pe_ladd, pe_iinc4, pe_lreturn, pe_aloadN0, pe_aastoreN, pe_areturnN, pe_null, pm_prog_1, pm_ob_some, Nat.reduceDiv, Nat.reduceMod, Nat.reduceMul, Nat.reduceAdd, Int.reduceToNat, pm_kill_i, pm_kill_r, pm_kill_n, pm_kill_j, pm_kill_l, pm_kill_d, pm_cats_nil, pm_cats_i, pm_cats_r, pm_cats_n, pm_cats_l, pm_cats_d, sz_1, sz_2, sl_1, sl_2, lc_0, lc_lt, lc_le, li_ne, va_rf, wr_m1, we_m1, pm_kill_w, Int32.reduceOfInt, Int64.reduceOfInt, Int32.reduceOfNat, Int32.reduceLT, Int32.reduceLE, Prod.mk.injEq, Nat.reduceEqDiff, reduceCtorEq, and_true, true_and, and_false, false_and, and_self, ite_true, ite_false, ↓reduceIte, not_true_eq_false, not_false_eq_true, pe_ri, pe_rz, pe_rc, Cz_g10_0 hP hA, Cz_r11 hP hA, eq_false k2, k4]
  · rw [if_neg k1] at e; cases e
theorem y2756_b1 {pc : Int32} {tc : Int32} {rc : Int32} {fc : Int32} {qc : Int32} {pa : Int32} {ta : Int32} {ra : Int32} {pl : Int32 → Int32} {tl : Int32 → Int32} {wc : Int32 → Int32} {wa : Int32 → Int32} {ya : Int32 → Int32} {A : wK → Nat} {h : pm_H} {D : Nat} {R : Outcome × pm_H} {S : wS} (hP : Cz_P pc tc rc fc qc pa ta ra pl tl wc wa ya) (hA : wok A (Cz_d pc tc rc fc qc pa ta ra pl tl wc wa ya) h.1) (hD : 1 ≤ D) (a : Int32 × Int32 × Int64 × Int32) (r : (Int32 × Int32 × Int64 × Int32) ⊕ ((Int64))) (e : f2756_b1 pc tc rc fc qc pa ta ra pl tl wc wa ya S a = some r) (hc : Sum.elim (go2756_1 pc tc rc fc qc pa ta ra pl tl wc wa ya A h D R S) (ex2756_1 pc tc rc fc qc pa ta ra pl tl wc wa ya A h D R S) r) : go2756_1 pc tc rc fc qc pa ta ra pl tl wc wa ya A h D R S a := by
  obtain ⟨x0i, x1, x2, x4⟩ := a
  dsimp only [go2756_1]
  intro q5 q6
  simp only [f2756_b1] at e
  rw [g2756_1, b2756_1]
  by_cases k1 : 0 ≤ x0i ∧ x0i < pc
  · rw [if_pos k1] at e
    obtain ⟨v1, k2, e⟩ := Option.bind_eq_some_iff.mp e
    try dsimp only at e
    have z2 := x2752 (D := D) (h := h) hP hA (by omega) k2
    by_cases k3 : x4 < v1
    · rw [if_pos k3] at e
      by_cases k4 : 0 ≤ x4 ∧ x4 < (pl x0i)
      · rw [if_pos k4] at e
        by_cases k5 : 0 ≤ (x4 + 1) ∧ (x4 + 1) < (pl x0i)
        · rw [if_pos k5] at e
          by_cases k6 : (S.1 (11, x0i, 0) x4) ≤ (S.1 (11, x0i, 0) (x4 + 1))
          · rw [if_pos k6] at e
            have k7 := y2756_3_1 (h := h) hP hA hD e hc
            simp -implicitDefEqProofs (disch := first | assumption | exact Nat.le_of_ble_eq_true rfl | decide) only [b2756_0, g2756_2, b2756_2, g2756_4, b2756_4, g2756_6, b2756_6, pe_bipush, pe_lstore2, pe_sipush, pe_istore4, pe_goto_w, pe_iload4, pe_aload0, pe_call1, pm_af_ret, pm_af_void, pm_af_thr, pe_icmp_ge, pe_getfield, pe_iaload, pe_istore5, pe_iadd, pe_istore6, pe_lload2, pe_iload1, pe_iload5, pe_iload6, pe_icmp_le, pe_goto, pe_icmp_ne, pe_i2l, pe_ladd, pe_iinc4, pe_lreturn, pe_aloadN0, pe_aastoreN, pe_areturnN, pe_null, pm_prog_1, pm_ob_some, Nat.reduceDiv, Nat.reduceMod, Nat.reduceMul, Nat.reduceAdd, Int.reduceToNat, pm_kill_i, pm_kill_r, pm_kill_n, pm_kill_j, pm_kill_l, pm_kill_d, pm_cats_nil, pm_cats_i, pm_cats_r, pm_cats_n, pm_cats_l, pm_cats_d, sz_1, sz_2, sl_1, sl_2, lc_0, lc_lt, lc_le, li_ne, va_rf, wr_m1, we_m1, pm_kill_w, Int32.reduceOfInt, Int64.reduceOfInt, Int32.reduceOfNat, Int32.reduceLT, Int32.reduceLE, Prod.mk.injEq, Nat.reduceEqDiff, reduceCtorEq, and_true, true_and, and_false, false_and, and_self, ite_true, ite_false, ↓reduceIte, not_true_eq_false, not_false_eq_true, pe_ri, pe_rz, pe_rc, Cz_g10_0 hP hA, Cz_r11 hP hA, z2, eq_true k3, eq_true k6, k7]
          · rw [if_neg k6] at e
            have k8 := y2756_3_1 (h := h) hP hA hD e hc
            simp -implicitDefEqProofs (disch := first | assumption | exact Nat.le_of_ble_eq_true rfl | decide) only [b2756_0, g2756_2, b2756_2, g2756_4, b2756_4, g2756_6, b2756_6, pe_bipush, pe_lstore2, pe_sipush, pe_istore4, pe_goto_w, pe_iload4, pe_aload0, pe_call1, pm_af_ret, pm_af_void, pm_af_thr, pe_icmp_ge, pe_getfield, pe_iaload, pe_istore5, pe_iadd, pe_istore6, pe_lload2, pe_iload1, pe_iload5, pe_iload6, pe_icmp_le, pe_goto, pe_icmp_ne, pe_i2l, pe_ladd, pe_iinc4, pe_lreturn, pe_aloadN0, pe_aastoreN, pe_areturnN, pe_null, pm_prog_1, pm_ob_some, Nat.reduceDiv, Nat.reduceMod, Nat.reduceMul, Nat.reduceAdd, Int.reduceToNat, pm_kill_i, pm_kill_r, pm_kill_n, pm_kill_j, pm_kill_l, pm_kill_d, pm_cats_nil, pm_cats_i, pm_cats_r, pm_cats_n, pm_cats_l, pm_cats_d, sz_1, sz_2, sl_1, sl_2, lc_0, lc_lt, lc_le, li_ne, va_rf, wr_m1, we_m1, pm_kill_w, Int32.reduceOfInt, Int64.reduceOfInt, Int32.reduceOfNat, Int32.reduceLT, Int32.reduceLE, Prod.mk.injEq, Nat.reduceEqDiff, reduceCtorEq, and_true, true_and, and_false, false_and, and_self, ite_true, ite_false, ↓reduceIte, not_true_eq_false, not_false_eq_true, pe_ri, pe_rz, pe_rc, Cz_g10_0 hP hA, Cz_r11 hP hA, z2, eq_true k3, eq_false k6, k8]
        · rw [if_neg k5] at e; cases e
      · rw [if_neg k4] at e; cases e
    · rw [if_neg k3] at e
      have e := Option.some.inj e; subst e
      dsimp only [Sum.elim_inr, ex2756_1] at hc
      simp -implicitDefEqProofs (disch := first | assumption | exact Nat.le_of_ble_eq_true rfl | decide) only [b2756_0, g2756_2, b2756_2, g2756_4, b2756_4, g2756_6, b2756_6, pe_bipush, pe_lstore2, pe_sipush, pe_istore4, pe_goto_w, pe_iload4, pe_aload0, pe_call1, pm_af_ret, pm_af_void, pm_af_thr, pe_icmp_ge, pe_getfield, pe_iaload, pe_istore5, pe_iadd, pe_istore6, pe_lload2, pe_iload1, pe_iload5, pe_iload6, pe_icmp_le, pe_goto, pe_icmp_ne, pe_i2l, pe_ladd, pe_iinc4, pe_lreturn, pe_aloadN0, pe_aastoreN, pe_areturnN, pe_null, pm_prog_1, pm_ob_some, Nat.reduceDiv, Nat.reduceMod, Nat.reduceMul, Nat.reduceAdd, Int.reduceToNat, pm_kill_i, pm_kill_r, pm_kill_n, pm_kill_j, pm_kill_l, pm_kill_d, pm_cats_nil, pm_cats_i, pm_cats_r, pm_cats_n, pm_cats_l, pm_cats_d, sz_1, sz_2, sl_1, sl_2, lc_0, lc_lt, lc_le, li_ne, va_rf, wr_m1, we_m1, pm_kill_w, Int32.reduceOfInt, Int64.reduceOfInt, Int32.reduceOfNat, Int32.reduceLT, Int32.reduceLE, Prod.mk.injEq, Nat.reduceEqDiff, reduceCtorEq, and_true, true_and, and_false, false_and, and_self, ite_true, ite_false, ↓reduceIte, not_true_eq_false, not_false_eq_true, pe_ri, pe_rz, pe_rc, Cz_g10_0 hP hA, Cz_r11 hP hA, z2, eq_false k3, hc]
  · rw [if_neg k1] at e; cases e
theorem z2756_1 {pc : Int32} {tc : Int32} {rc : Int32} {fc : Int32} {qc : Int32} {pa : Int32} {ta : Int32} {ra : Int32} {pl : Int32 → Int32} {tl : Int32 → Int32} {wc : Int32 → Int32} {wa : Int32 → Int32} {ya : Int32 → Int32} {A : wK → Nat} {h : pm_H} {D : Nat} {R : Outcome × pm_H} {S : wS} (hP : Cz_P pc tc rc fc qc pa ta ra pl tl wc wa ya) (hA : wok A (Cz_d pc tc rc fc qc pa ta ra pl tl wc wa ya) h.1) (hD : 1 ≤ D) {n : Nat} {a : Int32 × Int32 × Int64 × Int32} {b : (Int64)} (e : lp (f2756_b1 pc tc rc fc qc pa ta ra pl tl wc wa ya S) n a = some b) (hx : ex2756_1 pc tc rc fc qc pa ta ra pl tl wc wa ya A h D R S b) : go2756_1 pc tc rc fc qc pa ta ra pl tl wc wa ya A h D R S a := lp_run (fun a r => y2756_b1 hP hA hD a r) n a b e hx
theorem x2756 {pc : Int32} {tc : Int32} {rc : Int32} {fc : Int32} {qc : Int32} {pa : Int32} {ta : Int32} {ra : Int32} {pl : Int32 → Int32} {tl : Int32 → Int32} {wc : Int32 → Int32} {wa : Int32 → Int32} {ya : Int32 → Int32} {A : wK → Nat} {h : pm_H} {D : Nat} {S : wS} {x0i : Int32} {x1 : Int32} {r : Int64} (hP : Cz_P pc tc rc fc qc pa ta ra pl tl wc wa ya) (hA : wok A (Cz_d pc tc rc fc qc pa ta ra pl tl wc wa ya) h.1) (hD : 2 ≤ D) (e : f2756 pc tc rc fc qc pa ta ra pl tl wc wa ya S x0i x1 = some r) : pm_call pm_prog D 2756 [.ref (A (10, x0i, 0)), .int x1] (wput A (Cz_d pc tc rc fc qc pa ta ra pl tl wc wa ya) S h) = some (Outcome.returned (some (.long r)), (wput A (Cz_d pc tc rc fc qc pa ta ra pl tl wc wa ya) S h)) := by
  obtain ⟨D, rfl⟩ : ∃ D', D = D' + 1 := ⟨D - 1, by omega⟩
  have hD : 1 ≤ D := by omega
  simp only [f2756] at e
  have k1 : 0 ≤ x0i ∧ x0i < pc := by
    by_cases q : 0 ≤ x0i ∧ x0i < pc
    · exact q
    · rw [if_neg q] at e; cases e
  rw [if_pos k1] at e
  rw [c2756 (Cz_c10 hP hA k1), b2756_0]
  obtain ⟨v3, k2, e⟩ := Option.bind_eq_some_iff.mp e
  try dsimp only at e
  try simp -implicitDefEqProofs (disch := first | assumption | exact Nat.le_of_ble_eq_true rfl | decide) only [b2756_0, g2756_2, b2756_2, g2756_4, b2756_4, g2756_6, b2756_6, pe_bipush, pe_lstore2, pe_sipush, pe_istore4, pe_goto_w, pe_iload4, pe_aload0, pe_call1, pm_af_ret, pm_af_void, pm_af_thr, pe_icmp_ge, pe_getfield, pe_iaload, pe_istore5, pe_iadd, pe_istore6, pe_lload2, pe_iload1, pe_iload5, pe_iload6, pe_icmp_le, pe_goto, pe_icmp_ne, pe_i2l, pe_ladd, pe_iinc4, pe_lreturn, pe_aloadN0, pe_aastoreN, pe_areturnN, pe_null, pm_prog_1, pm_ob_some, Nat.reduceDiv, Nat.reduceMod, Nat.reduceMul, Nat.reduceAdd, Int.reduceToNat, pm_kill_i, pm_kill_r, pm_kill_n, pm_kill_j, pm_kill_l, pm_kill_d, pm_cats_nil, pm_cats_i, pm_cats_r, pm_cats_n, pm_cats_l, pm_cats_d, sz_1, sz_2, sl_1, sl_2, lc_0, lc_lt, lc_le, li_ne, va_rf, wr_m1, we_m1, pm_kill_w, Int32.reduceOfInt, Int64.reduceOfInt, Int32.reduceOfNat, Int32.reduceLT, Int32.reduceLE, Prod.mk.injEq, Nat.reduceEqDiff, reduceCtorEq, and_true, true_and, and_false, false_and, and_self, ite_true, ite_false, ↓reduceIte, not_true_eq_false, not_false_eq_true, pe_ri, pe_rz, pe_rc, Cz_g10_0 hP hA, Cz_r11 hP hA]
  refine z2756_1 hP hA hD k2 ?_ _ _
  dsimp only [ex2756_1]
  intro q0 q1 q4 q5 q6
  have e := Option.some.inj e; subst e
  simp -implicitDefEqProofs (disch := first | assumption | exact Nat.le_of_ble_eq_true rfl | decide) only [b2756_0, g2756_2, b2756_2, g2756_4, b2756_4, g2756_6, b2756_6, pe_bipush, pe_lstore2, pe_sipush, pe_istore4, pe_goto_w, pe_iload4, pe_aload0, pe_call1, pm_af_ret, pm_af_void, pm_af_thr, pe_icmp_ge, pe_getfield, pe_iaload, pe_istore5, pe_iadd, pe_istore6, pe_lload2, pe_iload1, pe_iload5, pe_iload6, pe_icmp_le, pe_goto, pe_icmp_ne, pe_i2l, pe_ladd, pe_iinc4, pe_lreturn, pe_aloadN0, pe_aastoreN, pe_areturnN, pe_null, pm_prog_1, pm_ob_some, Nat.reduceDiv, Nat.reduceMod, Nat.reduceMul, Nat.reduceAdd, Int.reduceToNat, pm_kill_i, pm_kill_r, pm_kill_n, pm_kill_j, pm_kill_l, pm_kill_d, pm_cats_nil, pm_cats_i, pm_cats_r, pm_cats_n, pm_cats_l, pm_cats_d, sz_1, sz_2, sl_1, sl_2, lc_0, lc_lt, lc_le, li_ne, va_rf, wr_m1, we_m1, pm_kill_w, Int32.reduceOfInt, Int64.reduceOfInt, Int32.reduceOfNat, Int32.reduceLT, Int32.reduceLE, Prod.mk.injEq, Nat.reduceEqDiff, reduceCtorEq, and_true, true_and, and_false, false_and, and_self, ite_true, ite_false, ↓reduceIte, not_true_eq_false, not_false_eq_true, pe_ri, pe_rz, pe_rc, Cz_g10_0 hP hA, Cz_r11 hP hA]
/-- TimberHouse$LathePieces.volume(IZ)J -/
theorem c663 {d : Nat} {h : pm_H} {a : Nat} {x0 : Int32} {x1 : Int32} (hc : pm_cls h a = some 10) : pm_call pm_prog (d + 1) 663 [.ref a, .int x0, .int x1] h = pm_ev pm_prog (pm_call pm_prog d) 663 0 b663_0 [.ref a, .int x0, .int x1, pm_junk] [] h := pm_cal (pm_rc1 hc rfl) rfl rfl rfl
theorem g663_1 {cl : pm_C} {ls st : List Value} {h : pm_H} : pm_go pm_prog cl 663 1 ls st h = pm_ev pm_prog cl 663 1 b663_1 ls st h := pm_go_eq pm_prog cl 663 1 ls st h
theorem g663_2 {cl : pm_C} {ls st : List Value} {h : pm_H} : pm_go pm_prog cl 663 2 ls st h = pm_ev pm_prog cl 663 2 b663_2 ls st h := pm_go_eq pm_prog cl 663 2 ls st h
theorem t663 {cl : pm_C} {j : Nat} {ls : List Value} {c : Nat} {h : pm_H} : pm_thr pm_prog cl 663 j ls c h = some (.threw c, h) := rfl
/-- TimberHouse$LathePieces.volume(IZ)J -/
noncomputable def f663 (pc : Int32) (tc : Int32) (rc : Int32) (fc : Int32) (qc : Int32) (pa : Int32) (ta : Int32) (ra : Int32) (pl : Int32 → Int32) (tl : Int32 → Int32) (wc : Int32 → Int32) (wa : Int32 → Int32) (ya : Int32 → Int32) (S : wS) (x1 : Int32) (x2 : Int32) : Option (Nat ⊕ (Int64)) :=
  (f642 pc tc rc fc qc pa ta ra pl tl wc wa ya S x1).bind fun r => match r with
  | .inl c4 =>
    some (.inl c4)
  | .inr v1i =>
  if 0 ≤ v1i ∧ v1i < pc then
    if x2 = 0 then
      (f2756 pc tc rc fc qc pa ta ra pl tl wc wa ya S v1i 0).bind fun v2 =>
      some (.inr ((v2 * 314159) / 100000))
    else
      (f2756 pc tc rc fc qc pa ta ra pl tl wc wa ya S v1i 1).bind fun v3 =>
      some (.inr (((v3 * 314160) / 100000) + 1))
  else none
theorem x663 {pc : Int32} {tc : Int32} {rc : Int32} {fc : Int32} {qc : Int32} {pa : Int32} {ta : Int32} {ra : Int32} {pl : Int32 → Int32} {tl : Int32 → Int32} {wc : Int32 → Int32} {wa : Int32 → Int32} {ya : Int32 → Int32} {A : wK → Nat} {h : pm_H} {D : Nat} {S : wS} {x1 : Int32} {x2 : Int32} {r : Nat ⊕ (Int64)} (hP : Cz_P pc tc rc fc qc pa ta ra pl tl wc wa ya) (hA : wok A (Cz_d pc tc rc fc qc pa ta ra pl tl wc wa ya) h.1) (hD : 5 ≤ D) (e : f663 pc tc rc fc qc pa ta ra pl tl wc wa ya S x1 x2 = some r) : pm_call pm_prog D 663 [.ref (A (0, 0, 0)), .int x1, .int x2] (wput A (Cz_d pc tc rc fc qc pa ta ra pl tl wc wa ya) S h) = some (match (generalizing := false) r with | .inl c => (Outcome.threw c, (wput A (Cz_d pc tc rc fc qc pa ta ra pl tl wc wa ya) S (pm_new h 6 (.inr (c, []))))) | .inr w0 => (Outcome.returned (some (.long w0)), (wput A (Cz_d pc tc rc fc qc pa ta ra pl tl wc wa ya) S h))) := by
  obtain ⟨D, rfl⟩ : ∃ D', D = D' + 1 := ⟨D - 1, by omega⟩
  have hD : 4 ≤ D := by omega
  simp only [f663] at e
  rw [c663 (Cz_c0 hP hA), b663_0]
  obtain ⟨r, k1, e⟩ := Option.bind_eq_some_iff.mp e
  have z1 := x642 (D := D) (h := h) hP hA (by omega) k1
  rcases r with c4 | v1i
  · dsimp only at e z1
    have e := Option.some.inj e; subst e
    simp -implicitDefEqProofs (disch := first | assumption | exact Nat.le_of_ble_eq_true rfl | decide) only [b663_0, g663_1, b663_1, g663_2, b663_2, pe_aload0, pe_iload1, pe_call2, pm_af_ret, pm_af_void, pm_af_thr, pe_astore3, pe_iload2, pe_if_eq, pe_aload3, pe_sipush, pe_bipush, pe_lmul, pe_ldiv, pe_ladd, pe_goto, pe_goto_w, pe_lreturn, pe_aloadN0, pe_astoreN3, pe_aloadN3, pe_aastoreN, pe_areturnN, pe_null, pm_prog_1, pm_ob_some, Nat.reduceDiv, Nat.reduceMod, Nat.reduceMul, Nat.reduceAdd, Int.reduceToNat, pm_kill_i, pm_kill_r, pm_kill_n, pm_kill_j, pm_kill_l, pm_kill_d, pm_cats_nil, pm_cats_i, pm_cats_r, pm_cats_n, pm_cats_l, pm_cats_d, sz_1, sz_2, sl_1, sl_2, lc_0, lc_lt, lc_le, li_ne, va_rf, wr_m1, we_m1, pm_kill_w, Int32.reduceOfInt, Int64.reduceOfInt, Int32.reduceOfNat, Int32.reduceLT, Int32.reduceLE, Prod.mk.injEq, Nat.reduceEqDiff, reduceCtorEq, and_true, true_and, and_false, false_and, and_self, ite_true, ite_false, ↓reduceIte, not_true_eq_false, not_false_eq_true, pe_ri, pe_rz, pe_rc, p_throw, t663, w_junk hA, z1]
  · dsimp only at e z1
    by_cases k2 : 0 ≤ v1i ∧ v1i < pc
    · rw [if_pos k2] at e
      by_cases k3 : x2 = 0
      · rw [if_pos k3] at e
        obtain ⟨v2, k4, e⟩ := Option.bind_eq_some_iff.mp e
        try dsimp only at e
        have z4 := x2756 (D := D) (h := h) hP hA (by omega) k4
        have e := Option.some.inj e; subst e
        simp -implicitDefEqProofs (disch := first | assumption | exact Nat.le_of_ble_eq_true rfl | decide) only [b663_0, g663_1, b663_1, g663_2, b663_2, pe_aload0, pe_iload1, pe_call2, pm_af_ret, pm_af_void, pm_af_thr, pe_astore3, pe_iload2, pe_if_eq, pe_aload3, pe_sipush, pe_bipush, pe_lmul, pe_ldiv, pe_ladd, pe_goto, pe_goto_w, pe_lreturn, pe_aloadN0, pe_astoreN3, pe_aloadN3, pe_aastoreN, pe_areturnN, pe_null, pm_prog_1, pm_ob_some, Nat.reduceDiv, Nat.reduceMod, Nat.reduceMul, Nat.reduceAdd, Int.reduceToNat, pm_kill_i, pm_kill_r, pm_kill_n, pm_kill_j, pm_kill_l, pm_kill_d, pm_cats_nil, pm_cats_i, pm_cats_r, pm_cats_n, pm_cats_l, pm_cats_d, sz_1, sz_2, sl_1, sl_2, lc_0, lc_lt, lc_le, li_ne, va_rf, wr_m1, we_m1, pm_kill_w, Int32.reduceOfInt, Int64.reduceOfInt, Int32.reduceOfNat, Int32.reduceLT, Int32.reduceLE, Prod.mk.injEq, Nat.reduceEqDiff, reduceCtorEq, and_true, true_and, and_false, false_and, and_self, ite_true, ite_false, ↓reduceIte, not_true_eq_false, not_false_eq_true, pe_ri, pe_rz, pe_rc, p_throw, t663, w_junk hA, z1, eq_true k3, z4]
      · rw [if_neg k3] at e
        obtain ⟨v3, k5, e⟩ := Option.bind_eq_some_iff.mp e
        try dsimp only at e
        have z5 := x2756 (D := D) (h := h) hP hA (by omega) k5
        have e := Option.some.inj e; subst e
        simp -implicitDefEqProofs (disch := first | assumption | exact Nat.le_of_ble_eq_true rfl | decide) only [b663_0, g663_1, b663_1, g663_2, b663_2, pe_aload0, pe_iload1, pe_call2, pm_af_ret, pm_af_void, pm_af_thr, pe_astore3, pe_iload2, pe_if_eq, pe_aload3, pe_sipush, pe_bipush, pe_lmul, pe_ldiv, pe_ladd, pe_goto, pe_goto_w, pe_lreturn, pe_aloadN0, pe_astoreN3, pe_aloadN3, pe_aastoreN, pe_areturnN, pe_null, pm_prog_1, pm_ob_some, Nat.reduceDiv, Nat.reduceMod, Nat.reduceMul, Nat.reduceAdd, Int.reduceToNat, pm_kill_i, pm_kill_r, pm_kill_n, pm_kill_j, pm_kill_l, pm_kill_d, pm_cats_nil, pm_cats_i, pm_cats_r, pm_cats_n, pm_cats_l, pm_cats_d, sz_1, sz_2, sl_1, sl_2, lc_0, lc_lt, lc_le, li_ne, va_rf, wr_m1, we_m1, pm_kill_w, Int32.reduceOfInt, Int64.reduceOfInt, Int32.reduceOfNat, Int32.reduceLT, Int32.reduceLE, Prod.mk.injEq, Nat.reduceEqDiff, reduceCtorEq, and_true, true_and, and_false, false_and, and_self, ite_true, ite_false, ↓reduceIte, not_true_eq_false, not_false_eq_true, pe_ri, pe_rz, pe_rc, p_throw, t663, w_junk hA, z1, eq_false k3, z5]
    · rw [if_neg k2] at e; cases e
/-- TimberHouse$LathePieces.hollow(III)I -/
theorem c664 {d : Nat} {h : pm_H} {a : Nat} {x0 : Int32} {x1 : Int32} {x2 : Int32} (hc : pm_cls h a = some 10) : pm_call pm_prog (d + 1) 664 [.ref a, .int x0, .int x1, .int x2] h = pm_ev pm_prog (pm_call pm_prog d) 664 0 b664_0 [.ref a, .int x0, .int x1, .int x2, pm_junk, pm_junk] [] h := pm_cal (pm_rc1 hc rfl) rfl rfl rfl
theorem g664_1 {cl : pm_C} {ls st : List Value} {h : pm_H} : pm_go pm_prog cl 664 1 ls st h = pm_ev pm_prog cl 664 1 b664_1 ls st h := pm_go_eq pm_prog cl 664 1 ls st h
theorem g664_2 {cl : pm_C} {ls st : List Value} {h : pm_H} : pm_go pm_prog cl 664 2 ls st h = pm_ev pm_prog cl 664 2 b664_2 ls st h := pm_go_eq pm_prog cl 664 2 ls st h
theorem g664_3 {cl : pm_C} {ls st : List Value} {h : pm_H} : pm_go pm_prog cl 664 3 ls st h = pm_ev pm_prog cl 664 3 b664_3 ls st h := pm_go_eq pm_prog cl 664 3 ls st h
theorem g664_4 {cl : pm_C} {ls st : List Value} {h : pm_H} : pm_go pm_prog cl 664 4 ls st h = pm_ev pm_prog cl 664 4 b664_4 ls st h := pm_go_eq pm_prog cl 664 4 ls st h
theorem t664 {cl : pm_C} {j : Nat} {ls : List Value} {c : Nat} {h : pm_H} : pm_thr pm_prog cl 664 j ls c h = some (.threw c, h) := rfl
noncomputable def f664_b3 (pc : Int32) (tc : Int32) (rc : Int32) (fc : Int32) (qc : Int32) (pa : Int32) (ta : Int32) (ra : Int32) (pl : Int32 → Int32) (tl : Int32 → Int32) (wc : Int32 → Int32) (wa : Int32 → Int32) (ya : Int32 → Int32) (S : wS) : Int32 × Int32 × Int32 × Int32 → Option ((Int32 × Int32 × Int32 × Int32) ⊕ ((Int32 × Int32))) := fun (x2, x3, x4i, x5) =>
  if 0 ≤ x4i ∧ x4i < pc then
    if x5 < 0 then
      some (.inr (x4i, x5))
    else
      if 0 ≤ x5 ∧ x5 < (pl x4i) then
        if ((S.1 (11, x4i, 0) x5) - x2) < x3 then
          some (.inr (x4i, x5))
        else
          some (.inl (x2, x3, x4i, (x5 + (-1))))
      else none
  else none
noncomputable def f664_4 (pc : Int32) (tc : Int32) (rc : Int32) (fc : Int32) (qc : Int32) (pa : Int32) (ta : Int32) (ra : Int32) (pl : Int32 → Int32) (tl : Int32 → Int32) (wc : Int32 → Int32) (wa : Int32 → Int32) (ya : Int32 → Int32) (S : wS) (x4i : Int32) (x5 : Int32) : Option (Nat ⊕ (Int32)) :=
  if 0 ≤ x4i ∧ x4i < pc then
    (f2752 pc tc rc fc qc pa ta ra pl tl wc wa ya S x4i).bind fun v6 =>
    some (.inr (v6 - x5))
  else none
noncomputable def f664_2 (pc : Int32) (tc : Int32) (rc : Int32) (fc : Int32) (qc : Int32) (pa : Int32) (ta : Int32) (ra : Int32) (pl : Int32 → Int32) (tl : Int32 → Int32) (wc : Int32 → Int32) (wa : Int32 → Int32) (ya : Int32 → Int32) (S : wS) (x2 : Int32) (x3 : Int32) (x4i : Int32) (y0 : Int32) : Option (Nat ⊕ (Int32)) :=
  if 0 ≤ x4i ∧ x4i < pc then
    (f646 y0).bind fun r => match r with
    | .inl c7 =>
      some (.inl c7)
    | .inr _ =>
    (f2752 pc tc rc fc qc pa ta ra pl tl wc wa ya S x4i).bind fun v3 =>
    (lp (f664_b3 pc tc rc fc qc pa ta ra pl tl wc wa ya S) FU (x2, x3, x4i, v3)).bind fun (v4i, v5) =>
    if 0 ≤ v4i ∧ v4i < pc then
      f664_4 pc tc rc fc qc pa ta ra pl tl wc wa ya S v4i v5
    else none
  else none
/-- TimberHouse$LathePieces.hollow(III)I -/
noncomputable def f664 (pc : Int32) (tc : Int32) (rc : Int32) (fc : Int32) (qc : Int32) (pa : Int32) (ta : Int32) (ra : Int32) (pl : Int32 → Int32) (tl : Int32 → Int32) (wc : Int32 → Int32) (wa : Int32 → Int32) (ya : Int32 → Int32) (S : wS) (x1 : Int32) (x2 : Int32) (x3 : Int32) : Option (Nat ⊕ (Int32)) :=
  (f642 pc tc rc fc qc pa ta ra pl tl wc wa ya S x1).bind fun r => match r with
  | .inl c9 =>
    some (.inl c9)
  | .inr v1i =>
  if 0 ≤ v1i ∧ v1i < pc then
    (f643 x2 1 100).bind fun v2 =>
    if v2 = 0 then
      f664_2 pc tc rc fc qc pa ta ra pl tl wc wa ya S x2 x3 v1i 0
    else
      (f643 x3 0 100).bind fun v8 =>
      if v8 = 0 then
        f664_2 pc tc rc fc qc pa ta ra pl tl wc wa ya S x2 x3 v1i 0
      else
        f664_2 pc tc rc fc qc pa ta ra pl tl wc wa ya S x2 x3 v1i 1
  else none
def go664_3 (pc : Int32) (tc : Int32) (rc : Int32) (fc : Int32) (qc : Int32) (pa : Int32) (ta : Int32) (ra : Int32) (pl : Int32 → Int32) (tl : Int32 → Int32) (wc : Int32 → Int32) (wa : Int32 → Int32) (ya : Int32 → Int32) (A : wK → Nat) (h : pm_H) (D : Nat) (R : Outcome × pm_H) (S : wS) : Int32 × Int32 × Int32 × Int32 → Prop := fun (x2, x3, x4i, x5) => ∀ q0 q1 : Value, pm_go pm_prog (pm_call pm_prog D) 664 3 [q0, q1, .int x2, .int x3, .ref (A (10, x4i, 0)), .int x5] [] (wput A (Cz_d pc tc rc fc qc pa ta ra pl tl wc wa ya) S h) = some R
def ex664_3 (pc : Int32) (tc : Int32) (rc : Int32) (fc : Int32) (qc : Int32) (pa : Int32) (ta : Int32) (ra : Int32) (pl : Int32 → Int32) (tl : Int32 → Int32) (wc : Int32 → Int32) (wa : Int32 → Int32) (ya : Int32 → Int32) (A : wK → Nat) (h : pm_H) (D : Nat) (R : Outcome × pm_H) (S : wS) : (Int32 × Int32) → Prop := fun (x4i, x5) => ∀ q0 q1 q2 q3 : Value, pm_go pm_prog (pm_call pm_prog D) 664 4 [q0, q1, q2, q3, .ref (A (10, x4i, 0)), .int x5] [] (wput A (Cz_d pc tc rc fc qc pa ta ra pl tl wc wa ya) S h) = some R
theorem y664_b3 {pc : Int32} {tc : Int32} {rc : Int32} {fc : Int32} {qc : Int32} {pa : Int32} {ta : Int32} {ra : Int32} {pl : Int32 → Int32} {tl : Int32 → Int32} {wc : Int32 → Int32} {wa : Int32 → Int32} {ya : Int32 → Int32} {A : wK → Nat} {h : pm_H} {D : Nat} {R : Outcome × pm_H} {S : wS} (hP : Cz_P pc tc rc fc qc pa ta ra pl tl wc wa ya) (hA : wok A (Cz_d pc tc rc fc qc pa ta ra pl tl wc wa ya) h.1) (hD : 4 ≤ D) (a : Int32 × Int32 × Int32 × Int32) (r : (Int32 × Int32 × Int32 × Int32) ⊕ ((Int32 × Int32))) (e : f664_b3 pc tc rc fc qc pa ta ra pl tl wc wa ya S a = some r) (hc : Sum.elim (go664_3 pc tc rc fc qc pa ta ra pl tl wc wa ya A h D R S) (ex664_3 pc tc rc fc qc pa ta ra pl tl wc wa ya A h D R S) r) : go664_3 pc tc rc fc qc pa ta ra pl tl wc wa ya A h D R S a := by
  obtain ⟨x2, x3, x4i, x5⟩ := a
  dsimp only [go664_3]
  intro q0 q1
  simp only [f664_b3] at e
  rw [g664_3, b664_3]
  by_cases k1 : 0 ≤ x4i ∧ x4i < pc
  · rw [if_pos k1] at e
    by_cases k2 : x5 < 0
    · rw [if_pos k2] at e
      have e := Option.some.inj e; subst e
      dsimp only [Sum.elim_inr, ex664_3] at hc
      simp -implicitDefEqProofs (disch := first | assumption | exact Nat.le_of_ble_eq_true rfl | decide) only [b664_0, g664_1, b664_1, pe_aload0, pe_iload1, pe_call2, pm_af_ret, pm_af_void, pm_af_thr, pe_astore4, pe_iload2, pe_sipush, pe_call3, pe_if_eq, pe_iload3, pe_goto, pe_goto_w, pe_call1, pe_aload4, pe_istore5, pe_iload5, pe_if_lt, pe_getfield, pe_iaload, pe_isub, pe_icmp_lt, pe_iinc5, pe_aloadN0, pe_astoreN4, pe_aloadN4, pe_aastoreN, pe_areturnN, pe_null, pm_prog_1, pm_ob_some, Nat.reduceDiv, Nat.reduceMod, Nat.reduceMul, Nat.reduceAdd, Int.reduceToNat, pm_kill_i, pm_kill_r, pm_kill_n, pm_kill_j, pm_kill_l, pm_kill_d, pm_cats_nil, pm_cats_i, pm_cats_r, pm_cats_n, pm_cats_l, pm_cats_d, sz_1, sz_2, sl_1, sl_2, lc_0, lc_lt, lc_le, li_ne, va_rf, wr_m1, we_m1, pm_kill_w, Int32.reduceOfInt, Int64.reduceOfInt, Int32.reduceOfNat, Int32.reduceLT, Int32.reduceLE, Prod.mk.injEq, Nat.reduceEqDiff, reduceCtorEq, and_true, true_and, and_false, false_and, and_self, ite_true, ite_false, ↓reduceIte, not_true_eq_false, not_false_eq_true, pe_ri, pe_rz, pe_rc, p_throw, t664, w_junk hA, Cz_g10_0 hP hA, Cz_r11 hP hA, eq_true k2, hc]
    · rw [if_neg k2] at e
      by_cases k3 : 0 ≤ x5 ∧ x5 < (pl x4i)
      · rw [if_pos k3] at e
        by_cases k4 : ((S.1 (11, x4i, 0) x5) - x2) < x3
        · rw [if_pos k4] at e
          have e := Option.some.inj e; subst e
          dsimp only [Sum.elim_inr, ex664_3] at hc
          simp -implicitDefEqProofs (disch := first | assumption | exact Nat.le_of_ble_eq_true rfl | decide) only [b664_0, g664_1, b664_1, pe_aload0, pe_iload1, pe_call2, pm_af_ret, pm_af_void, pm_af_thr, pe_astore4, pe_iload2, pe_sipush, pe_call3, pe_if_eq, pe_iload3, pe_goto, pe_goto_w, pe_call1, pe_aload4, pe_istore5, pe_iload5, pe_if_lt, pe_getfield, pe_iaload, pe_isub, pe_icmp_lt, pe_iinc5, pe_aloadN0, pe_astoreN4, pe_aloadN4, pe_aastoreN, pe_areturnN, pe_null, pm_prog_1, pm_ob_some, Nat.reduceDiv, Nat.reduceMod, Nat.reduceMul, Nat.reduceAdd, Int.reduceToNat, pm_kill_i, pm_kill_r, pm_kill_n, pm_kill_j, pm_kill_l, pm_kill_d, pm_cats_nil, pm_cats_i, pm_cats_r, pm_cats_n, pm_cats_l, pm_cats_d, sz_1, sz_2, sl_1, sl_2, lc_0, lc_lt, lc_le, li_ne, va_rf, wr_m1, we_m1, pm_kill_w, Int32.reduceOfInt, Int64.reduceOfInt, Int32.reduceOfNat, Int32.reduceLT, Int32.reduceLE, Prod.mk.injEq, Nat.reduceEqDiff, reduceCtorEq, and_true, true_and, and_false, false_and, and_self, ite_true, ite_false, ↓reduceIte, not_true_eq_false, not_false_eq_true, pe_ri, pe_rz, pe_rc, p_throw, t664, w_junk hA, Cz_g10_0 hP hA, Cz_r11 hP hA, eq_false k2, eq_true k4, hc]
        · rw [if_neg k4] at e
          have e := Option.some.inj e; subst e
          dsimp only [Sum.elim_inl, go664_3] at hc
          simp -implicitDefEqProofs (disch := first | assumption | exact Nat.le_of_ble_eq_true rfl | decide) only [b664_0, g664_1, b664_1, pe_aload0, pe_iload1, pe_call2, pm_af_ret, pm_af_void, pm_af_thr, pe_astore4, pe_iload2, pe_sipush, pe_call3, pe_if_eq, pe_iload3, pe_goto, pe_goto_w, pe_call1, pe_aload4, pe_istore5, pe_iload5, pe_if_lt, pe_getfield, pe_iaload, pe_isub, pe_icmp_lt, pe_iinc5, pe_aloadN0, pe_astoreN4, pe_aloadN4, pe_aastoreN, pe_areturnN, pe_null, pm_prog_1, pm_ob_some, Nat.reduceDiv, Nat.reduceMod, Nat.reduceMul, Nat.reduceAdd, Int.reduceToNat, pm_kill_i, pm_kill_r, pm_kill_n, pm_kill_j, pm_kill_l, pm_kill_d, pm_cats_nil, pm_cats_i, pm_cats_r, pm_cats_n, pm_cats_l, pm_cats_d, sz_1, sz_2, sl_1, sl_2, lc_0, lc_lt, lc_le, li_ne, va_rf, wr_m1, we_m1, pm_kill_w, Int32.reduceOfInt, Int64.reduceOfInt, Int32.reduceOfNat, Int32.reduceLT, Int32.reduceLE, Prod.mk.injEq, Nat.reduceEqDiff, reduceCtorEq, and_true, true_and, and_false, false_and, and_self, ite_true, ite_false, ↓reduceIte, not_true_eq_false, not_false_eq_true, pe_ri, pe_rz, pe_rc, p_throw, t664, w_junk hA, Cz_g10_0 hP hA, Cz_r11 hP hA, eq_false k2, eq_false k4, hc]
      · rw [if_neg k3] at e; cases e
  · rw [if_neg k1] at e; cases e
theorem z664_3 {pc : Int32} {tc : Int32} {rc : Int32} {fc : Int32} {qc : Int32} {pa : Int32} {ta : Int32} {ra : Int32} {pl : Int32 → Int32} {tl : Int32 → Int32} {wc : Int32 → Int32} {wa : Int32 → Int32} {ya : Int32 → Int32} {A : wK → Nat} {h : pm_H} {D : Nat} {R : Outcome × pm_H} {S : wS} (hP : Cz_P pc tc rc fc qc pa ta ra pl tl wc wa ya) (hA : wok A (Cz_d pc tc rc fc qc pa ta ra pl tl wc wa ya) h.1) (hD : 4 ≤ D) {n : Nat} {a : Int32 × Int32 × Int32 × Int32} {b : (Int32 × Int32)} (e : lp (f664_b3 pc tc rc fc qc pa ta ra pl tl wc wa ya S) n a = some b) (hx : ex664_3 pc tc rc fc qc pa ta ra pl tl wc wa ya A h D R S b) : go664_3 pc tc rc fc qc pa ta ra pl tl wc wa ya A h D R S a := lp_run (fun a r => y664_b3 hP hA hD a r) n a b e hx
theorem y664_4 {pc : Int32} {tc : Int32} {rc : Int32} {fc : Int32} {qc : Int32} {pa : Int32} {ta : Int32} {ra : Int32} {pl : Int32 → Int32} {tl : Int32 → Int32} {wc : Int32 → Int32} {wa : Int32 → Int32} {ya : Int32 → Int32} {A : wK → Nat} {h : pm_H} {D : Nat} {S : wS} {x4i : Int32} {x5 : Int32} {r : Nat ⊕ (Int32)} (hP : Cz_P pc tc rc fc qc pa ta ra pl tl wc wa ya) (hA : wok A (Cz_d pc tc rc fc qc pa ta ra pl tl wc wa ya) h.1) (hD : 4 ≤ D) (e : f664_4 pc tc rc fc qc pa ta ra pl tl wc wa ya S x4i x5 = some r) : ∀ q0 q1 q2 q3 : Value, pm_go pm_prog (pm_call pm_prog D) 664 4 [q0, q1, q2, q3, .ref (A (10, x4i, 0)), .int x5] [] (wput A (Cz_d pc tc rc fc qc pa ta ra pl tl wc wa ya) S h) = some (match (generalizing := false) r with | .inl c => (Outcome.threw c, (wput A (Cz_d pc tc rc fc qc pa ta ra pl tl wc wa ya) S (pm_new h 6 (.inr (c, []))))) | .inr w0 => (Outcome.returned (some (.int w0)), (wput A (Cz_d pc tc rc fc qc pa ta ra pl tl wc wa ya) S h))) := by
  intro q0 q1 q2 q3
  simp only [f664_4] at e
  rw [g664_4, b664_4]
  by_cases k1 : 0 ≤ x4i ∧ x4i < pc
  · rw [if_pos k1] at e
    obtain ⟨v6, k2, e⟩ := Option.bind_eq_some_iff.mp e
    try dsimp only at e
    have z2 := x2752 (D := D) (h := h) hP hA (by omega) k2
    have e := Option.some.inj e; subst e
    simp -implicitDefEqProofs (disch := first | assumption | exact Nat.le_of_ble_eq_true rfl | decide) only [b664_0, g664_1, b664_1, pe_aload0, pe_iload1, pe_call2, pm_af_ret, pm_af_void, pm_af_thr, pe_astore4, pe_iload2, pe_sipush, pe_call3, pe_if_eq, pe_iload3, pe_goto, pe_goto_w, pe_call1, pe_aload4, pe_istore5, pe_iload5, pe_if_lt, pe_getfield, pe_iaload, pe_isub, pe_icmp_lt, pe_iinc5, pe_aloadN0, pe_astoreN4, pe_aloadN4, pe_aastoreN, pe_areturnN, pe_null, pm_prog_1, pm_ob_some, Nat.reduceDiv, Nat.reduceMod, Nat.reduceMul, Nat.reduceAdd, Int.reduceToNat, pm_kill_i, pm_kill_r, pm_kill_n, pm_kill_j, pm_kill_l, pm_kill_d, pm_cats_nil, pm_cats_i, pm_cats_r, pm_cats_n, pm_cats_l, pm_cats_d, sz_1, sz_2, sl_1, sl_2, lc_0, lc_lt, lc_le, li_ne, va_rf, wr_m1, we_m1, pm_kill_w, Int32.reduceOfInt, Int64.reduceOfInt, Int32.reduceOfNat, Int32.reduceLT, Int32.reduceLE, Prod.mk.injEq, Nat.reduceEqDiff, reduceCtorEq, and_true, true_and, and_false, false_and, and_self, ite_true, ite_false, ↓reduceIte, not_true_eq_false, not_false_eq_true, pe_ri, pe_rz, pe_rc, p_throw, t664, w_junk hA, Cz_g10_0 hP hA, Cz_r11 hP hA, z2]
  · rw [if_neg k1] at e; cases e
theorem y664_2 {pc : Int32} {tc : Int32} {rc : Int32} {fc : Int32} {qc : Int32} {pa : Int32} {ta : Int32} {ra : Int32} {pl : Int32 → Int32} {tl : Int32 → Int32} {wc : Int32 → Int32} {wa : Int32 → Int32} {ya : Int32 → Int32} {A : wK → Nat} {h : pm_H} {D : Nat} {S : wS} {x2 : Int32} {x3 : Int32} {x4i : Int32} {y0 : Int32} {r : Nat ⊕ (Int32)} (hP : Cz_P pc tc rc fc qc pa ta ra pl tl wc wa ya) (hA : wok A (Cz_d pc tc rc fc qc pa ta ra pl tl wc wa ya) h.1) (hD : 4 ≤ D) (e : f664_2 pc tc rc fc qc pa ta ra pl tl wc wa ya S x2 x3 x4i y0 = some r) : ∀ q0 q1 q5 : Value, pm_go pm_prog (pm_call pm_prog D) 664 2 [q0, q1, .int x2, .int x3, .ref (A (10, x4i, 0)), q5] [.int y0] (wput A (Cz_d pc tc rc fc qc pa ta ra pl tl wc wa ya) S h) = some (match (generalizing := false) r with | .inl c => (Outcome.threw c, (wput A (Cz_d pc tc rc fc qc pa ta ra pl tl wc wa ya) S (pm_new h 6 (.inr (c, []))))) | .inr w0 => (Outcome.returned (some (.int w0)), (wput A (Cz_d pc tc rc fc qc pa ta ra pl tl wc wa ya) S h))) := by
  intro q0 q1 q5
  simp only [f664_2] at e
  rw [g664_2, b664_2]
  by_cases k1 : 0 ≤ x4i ∧ x4i < pc
  · rw [if_pos k1] at e
    obtain ⟨r, k2, e⟩ := Option.bind_eq_some_iff.mp e
    have z2 := fun h => x646 (D := D) (h := h) (by omega) k2
    rcases r with c7 | _
    · dsimp only at e z2
      have e := Option.some.inj e; subst e
      simp -implicitDefEqProofs (disch := first | assumption | exact Nat.le_of_ble_eq_true rfl | decide) only [b664_0, g664_1, b664_1, pe_aload0, pe_iload1, pe_call2, pm_af_ret, pm_af_void, pm_af_thr, pe_astore4, pe_iload2, pe_sipush, pe_call3, pe_if_eq, pe_iload3, pe_goto, pe_goto_w, pe_call1, pe_aload4, pe_istore5, pe_iload5, pe_if_lt, pe_getfield, pe_iaload, pe_isub, pe_icmp_lt, pe_iinc5, pe_aloadN0, pe_astoreN4, pe_aloadN4, pe_aastoreN, pe_areturnN, pe_null, pm_prog_1, pm_ob_some, Nat.reduceDiv, Nat.reduceMod, Nat.reduceMul, Nat.reduceAdd, Int.reduceToNat, pm_kill_i, pm_kill_r, pm_kill_n, pm_kill_j, pm_kill_l, pm_kill_d, pm_cats_nil, pm_cats_i, pm_cats_r, pm_cats_n, pm_cats_l, pm_cats_d, sz_1, sz_2, sl_1, sl_2, lc_0, lc_lt, lc_le, li_ne, va_rf, wr_m1, we_m1, pm_kill_w, Int32.reduceOfInt, Int64.reduceOfInt, Int32.reduceOfNat, Int32.reduceLT, Int32.reduceLE, Prod.mk.injEq, Nat.reduceEqDiff, reduceCtorEq, and_true, true_and, and_false, false_and, and_self, ite_true, ite_false, ↓reduceIte, not_true_eq_false, not_false_eq_true, pe_ri, pe_rz, pe_rc, p_throw, t664, w_junk hA, Cz_g10_0 hP hA, Cz_r11 hP hA, z2]
    · dsimp only at e z2
      obtain ⟨v3, k3, e⟩ := Option.bind_eq_some_iff.mp e
      try dsimp only at e
      have z3 := x2752 (D := D) (h := h) hP hA (by omega) k3
      obtain ⟨⟨v4i, v5⟩, k4, e⟩ := Option.bind_eq_some_iff.mp e
      try dsimp only at e
      try simp -implicitDefEqProofs (disch := first | assumption | exact Nat.le_of_ble_eq_true rfl | decide) only [b664_0, g664_1, b664_1, pe_aload0, pe_iload1, pe_call2, pm_af_ret, pm_af_void, pm_af_thr, pe_astore4, pe_iload2, pe_sipush, pe_call3, pe_if_eq, pe_iload3, pe_goto, pe_goto_w, pe_call1, pe_aload4, pe_istore5, pe_iload5, pe_if_lt, pe_getfield, pe_iaload, pe_isub, pe_icmp_lt, pe_iinc5, pe_aloadN0, pe_astoreN4, pe_aloadN4, pe_aastoreN, pe_areturnN, pe_null, pm_prog_1, pm_ob_some, Nat.reduceDiv, Nat.reduceMod, Nat.reduceMul, Nat.reduceAdd, Int.reduceToNat, pm_kill_i, pm_kill_r, pm_kill_n, pm_kill_j, pm_kill_l, pm_kill_d, pm_cats_nil, pm_cats_i, pm_cats_r, pm_cats_n, pm_cats_l, pm_cats_d, sz_1, sz_2, sl_1, sl_2, lc_0, lc_lt, lc_le, li_ne, va_rf, wr_m1, we_m1, pm_kill_w, Int32.reduceOfInt, Int64.reduceOfInt, Int32.reduceOfNat, Int32.reduceLT, Int32.reduceLE, Prod.mk.injEq, Nat.reduceEqDiff, reduceCtorEq, and_true, true_and, and_false, false_and, and_self, ite_true, ite_false, ↓reduceIte, not_true_eq_false, not_false_eq_true, pe_ri, pe_rz, pe_rc, p_throw, t664, w_junk hA, Cz_g10_0 hP hA, Cz_r11 hP hA, z2, z3]
      refine z664_3 hP hA hD k4 ?_ _ _
      dsimp only [ex664_3]
      intro q0 q1 q2 q3
      by_cases k5 : 0 ≤ v4i ∧ v4i < pc
      · rw [if_pos k5] at e
        have k6 := y664_4 (h := h) hP hA hD e
        simp -implicitDefEqProofs (disch := first | assumption | exact Nat.le_of_ble_eq_true rfl | decide) only [b664_0, g664_1, b664_1, pe_aload0, pe_iload1, pe_call2, pm_af_ret, pm_af_void, pm_af_thr, pe_astore4, pe_iload2, pe_sipush, pe_call3, pe_if_eq, pe_iload3, pe_goto, pe_goto_w, pe_call1, pe_aload4, pe_istore5, pe_iload5, pe_if_lt, pe_getfield, pe_iaload, pe_isub, pe_icmp_lt, pe_iinc5, pe_aloadN0, pe_astoreN4, pe_aloadN4, pe_aastoreN, pe_areturnN, pe_null, pm_prog_1, pm_ob_some, Nat.reduceDiv, Nat.reduceMod, Nat.reduceMul, Nat.reduceAdd, Int.reduceToNat, pm_kill_i, pm_kill_r, pm_kill_n, pm_kill_j, pm_kill_l, pm_kill_d, pm_cats_nil, pm_cats_i, pm_cats_r, pm_cats_n, pm_cats_l, pm_cats_d, sz_1, sz_2, sl_1, sl_2, lc_0, lc_lt, lc_le, li_ne, va_rf, wr_m1, we_m1, pm_kill_w, Int32.reduceOfInt, Int64.reduceOfInt, Int32.reduceOfNat, Int32.reduceLT, Int32.reduceLE, Prod.mk.injEq, Nat.reduceEqDiff, reduceCtorEq, and_true, true_and, and_false, false_and, and_self, ite_true, ite_false, ↓reduceIte, not_true_eq_false, not_false_eq_true, pe_ri, pe_rz, pe_rc, p_throw, t664, w_junk hA, Cz_g10_0 hP hA, Cz_r11 hP hA, z2, z3, k6]
      · rw [if_neg k5] at e; cases e
  · rw [if_neg k1] at e; cases e
theorem x664 {pc : Int32} {tc : Int32} {rc : Int32} {fc : Int32} {qc : Int32} {pa : Int32} {ta : Int32} {ra : Int32} {pl : Int32 → Int32} {tl : Int32 → Int32} {wc : Int32 → Int32} {wa : Int32 → Int32} {ya : Int32 → Int32} {A : wK → Nat} {h : pm_H} {D : Nat} {S : wS} {x1 : Int32} {x2 : Int32} {x3 : Int32} {r : Nat ⊕ (Int32)} (hP : Cz_P pc tc rc fc qc pa ta ra pl tl wc wa ya) (hA : wok A (Cz_d pc tc rc fc qc pa ta ra pl tl wc wa ya) h.1) (hD : 5 ≤ D) (e : f664 pc tc rc fc qc pa ta ra pl tl wc wa ya S x1 x2 x3 = some r) : pm_call pm_prog D 664 [.ref (A (0, 0, 0)), .int x1, .int x2, .int x3] (wput A (Cz_d pc tc rc fc qc pa ta ra pl tl wc wa ya) S h) = some (match (generalizing := false) r with | .inl c => (Outcome.threw c, (wput A (Cz_d pc tc rc fc qc pa ta ra pl tl wc wa ya) S (pm_new h 6 (.inr (c, []))))) | .inr w0 => (Outcome.returned (some (.int w0)), (wput A (Cz_d pc tc rc fc qc pa ta ra pl tl wc wa ya) S h))) := by
  obtain ⟨D, rfl⟩ : ∃ D', D = D' + 1 := ⟨D - 1, by omega⟩
  have hD : 4 ≤ D := by omega
  simp only [f664] at e
  rw [c664 (Cz_c0 hP hA), b664_0]
  obtain ⟨r, k1, e⟩ := Option.bind_eq_some_iff.mp e
  have z1 := x642 (D := D) (h := h) hP hA (by omega) k1
  rcases r with c9 | v1i
  · dsimp only at e z1
    have e := Option.some.inj e; subst e
    simp -implicitDefEqProofs (disch := first | assumption | exact Nat.le_of_ble_eq_true rfl | decide) only [b664_0, g664_1, b664_1, pe_aload0, pe_iload1, pe_call2, pm_af_ret, pm_af_void, pm_af_thr, pe_astore4, pe_iload2, pe_sipush, pe_call3, pe_if_eq, pe_iload3, pe_goto, pe_goto_w, pe_call1, pe_aload4, pe_istore5, pe_iload5, pe_if_lt, pe_getfield, pe_iaload, pe_isub, pe_icmp_lt, pe_iinc5, pe_aloadN0, pe_astoreN4, pe_aloadN4, pe_aastoreN, pe_areturnN, pe_null, pm_prog_1, pm_ob_some, Nat.reduceDiv, Nat.reduceMod, Nat.reduceMul, Nat.reduceAdd, Int.reduceToNat, pm_kill_i, pm_kill_r, pm_kill_n, pm_kill_j, pm_kill_l, pm_kill_d, pm_cats_nil, pm_cats_i, pm_cats_r, pm_cats_n, pm_cats_l, pm_cats_d, sz_1, sz_2, sl_1, sl_2, lc_0, lc_lt, lc_le, li_ne, va_rf, wr_m1, we_m1, pm_kill_w, Int32.reduceOfInt, Int64.reduceOfInt, Int32.reduceOfNat, Int32.reduceLT, Int32.reduceLE, Prod.mk.injEq, Nat.reduceEqDiff, reduceCtorEq, and_true, true_and, and_false, false_and, and_self, ite_true, ite_false, ↓reduceIte, not_true_eq_false, not_false_eq_true, pe_ri, pe_rz, pe_rc, p_throw, t664, w_junk hA, Cz_g10_0 hP hA, Cz_r11 hP hA, z1]
  · dsimp only at e z1
    by_cases k2 : 0 ≤ v1i ∧ v1i < pc
    · rw [if_pos k2] at e
      obtain ⟨v2, k3, e⟩ := Option.bind_eq_some_iff.mp e
      try dsimp only at e
      have z3 := fun h => x643 (D := D) (h := h) (by omega) k3
      by_cases k4 : v2 = 0
      · rw [if_pos k4] at e
        have k5 := y664_2 (h := h) hP hA hD e
        simp -implicitDefEqProofs (disch := first | assumption | exact Nat.le_of_ble_eq_true rfl | decide) only [b664_0, g664_1, b664_1, pe_aload0, pe_iload1, pe_call2, pm_af_ret, pm_af_void, pm_af_thr, pe_astore4, pe_iload2, pe_sipush, pe_call3, pe_if_eq, pe_iload3, pe_goto, pe_goto_w, pe_call1, pe_aload4, pe_istore5, pe_iload5, pe_if_lt, pe_getfield, pe_iaload, pe_isub, pe_icmp_lt, pe_iinc5, pe_aloadN0, pe_astoreN4, pe_aloadN4, pe_aastoreN, pe_areturnN, pe_null, pm_prog_1, pm_ob_some, Nat.reduceDiv, Nat.reduceMod, Nat.reduceMul, Nat.reduceAdd, Int.reduceToNat, pm_kill_i, pm_kill_r, pm_kill_n, pm_kill_j, pm_kill_l, pm_kill_d, pm_cats_nil, pm_cats_i, pm_cats_r, pm_cats_n, pm_cats_l, pm_cats_d, sz_1, sz_2, sl_1, sl_2, lc_0, lc_lt, lc_le, li_ne, va_rf, wr_m1, we_m1, pm_kill_w, Int32.reduceOfInt, Int64.reduceOfInt, Int32.reduceOfNat, Int32.reduceLT, Int32.reduceLE, Prod.mk.injEq, Nat.reduceEqDiff, reduceCtorEq, and_true, true_and, and_false, false_and, and_self, ite_true, ite_false, ↓reduceIte, not_true_eq_false, not_false_eq_true, pe_ri, pe_rz, pe_rc, p_throw, t664, w_junk hA, Cz_g10_0 hP hA, Cz_r11 hP hA, z1, z3, eq_true k4, k5]
      · rw [if_neg k4] at e
        obtain ⟨v8, k6, e⟩ := Option.bind_eq_some_iff.mp e
        try dsimp only at e
        have z6 := fun h => x643 (D := D) (h := h) (by omega) k6
        by_cases k7 : v8 = 0
        · rw [if_pos k7] at e
          have k8 := y664_2 (h := h) hP hA hD e
          simp -implicitDefEqProofs (disch := first | assumption | exact Nat.le_of_ble_eq_true rfl | decide) only [b664_0, g664_1, b664_1, pe_aload0, pe_iload1, pe_call2, pm_af_ret, pm_af_void, pm_af_thr, pe_astore4, pe_iload2, pe_sipush, pe_call3, pe_if_eq, pe_iload3, pe_goto, pe_goto_w, pe_call1, pe_aload4, pe_istore5, pe_iload5, pe_if_lt, pe_getfield, pe_iaload, pe_isub, pe_icmp_lt, pe_iinc5, pe_aloadN0, pe_astoreN4, pe_aloadN4, pe_aastoreN, pe_areturnN, pe_null, pm_prog_1, pm_ob_some, Nat.reduceDiv, Nat.reduceMod, Nat.reduceMul, Nat.reduceAdd, Int.reduceToNat, pm_kill_i, pm_kill_r, pm_kill_n, pm_kill_j, pm_kill_l, pm_kill_d, pm_cats_nil, pm_cats_i, pm_cats_r, pm_cats_n, pm_cats_l, pm_cats_d, sz_1, sz_2, sl_1, sl_2, lc_0, lc_lt, lc_le, li_ne, va_rf, wr_m1, we_m1, pm_kill_w, Int32.reduceOfInt, Int64.reduceOfInt, Int32.reduceOfNat, Int32.reduceLT, Int32.reduceLE, Prod.mk.injEq, Nat.reduceEqDiff, reduceCtorEq, and_true, true_and, and_false, false_and, and_self, ite_true, ite_false, ↓reduceIte, not_true_eq_false, not_false_eq_true, pe_ri, pe_rz, pe_rc, p_throw, t664, w_junk hA, Cz_g10_0 hP hA, Cz_r11 hP hA, z1, z3, eq_false k4, z6, eq_true k7, k8]
        · rw [if_neg k7] at e
          have k9 := y664_2 (h := h) hP hA hD e
          simp -implicitDefEqProofs (disch := first | assumption | exact Nat.le_of_ble_eq_true rfl | decide) only [b664_0, g664_1, b664_1, pe_aload0, pe_iload1, pe_call2, pm_af_ret, pm_af_void, pm_af_thr, pe_astore4, pe_iload2, pe_sipush, pe_call3, pe_if_eq, pe_iload3, pe_goto, pe_goto_w, pe_call1, pe_aload4, pe_istore5, pe_iload5, pe_if_lt, pe_getfield, pe_iaload, pe_isub, pe_icmp_lt, pe_iinc5, pe_aloadN0, pe_astoreN4, pe_aloadN4, pe_aastoreN, pe_areturnN, pe_null, pm_prog_1, pm_ob_some, Nat.reduceDiv, Nat.reduceMod, Nat.reduceMul, Nat.reduceAdd, Int.reduceToNat, pm_kill_i, pm_kill_r, pm_kill_n, pm_kill_j, pm_kill_l, pm_kill_d, pm_cats_nil, pm_cats_i, pm_cats_r, pm_cats_n, pm_cats_l, pm_cats_d, sz_1, sz_2, sl_1, sl_2, lc_0, lc_lt, lc_le, li_ne, va_rf, wr_m1, we_m1, pm_kill_w, Int32.reduceOfInt, Int64.reduceOfInt, Int32.reduceOfNat, Int32.reduceLT, Int32.reduceLE, Prod.mk.injEq, Nat.reduceEqDiff, reduceCtorEq, and_true, true_and, and_false, false_and, and_self, ite_true, ite_false, ↓reduceIte, not_true_eq_false, not_false_eq_true, pe_ri, pe_rz, pe_rc, p_throw, t664, w_junk hA, Cz_g10_0 hP hA, Cz_r11 hP hA, z1, z3, eq_false k4, z6, eq_false k7, k9]
    · rw [if_neg k2] at e; cases e
/-- TimberHouse$LathePieces.copy(II)I -/
theorem c665 {d : Nat} {h : pm_H} {a : Nat} {x0 : Int32} {x1 : Int32} (hc : pm_cls h a = some 10) : pm_call pm_prog (d + 1) 665 [.ref a, .int x0, .int x1] h = pm_ev pm_prog (pm_call pm_prog d) 665 0 b665_0 [.ref a, .int x0, .int x1, pm_junk, pm_junk, pm_junk, pm_junk] [] h := pm_cal (pm_rc1 hc rfl) rfl rfl rfl
theorem g665_1 {cl : pm_C} {ls st : List Value} {h : pm_H} : pm_go pm_prog cl 665 1 ls st h = pm_ev pm_prog cl 665 1 b665_1 ls st h := pm_go_eq pm_prog cl 665 1 ls st h
theorem g665_2 {cl : pm_C} {ls st : List Value} {h : pm_H} : pm_go pm_prog cl 665 2 ls st h = pm_ev pm_prog cl 665 2 b665_2 ls st h := pm_go_eq pm_prog cl 665 2 ls st h
theorem t665 {cl : pm_C} {j : Nat} {ls : List Value} {c : Nat} {h : pm_H} : pm_thr pm_prog cl 665 j ls c h = some (.threw c, h) := rfl
noncomputable def f665_b1 (pc : Int32) (tc : Int32) (rc : Int32) (fc : Int32) (qc : Int32) (pa : Int32) (ta : Int32) (ra : Int32) (pl : Int32 → Int32) (tl : Int32 → Int32) (wc : Int32 → Int32) (wa : Int32 → Int32) (ya : Int32 → Int32) (S : wS) : Int32 × Int32 × Int32 × Int32 → Option ((Int32 × Int32 × Int32 × Int32) ⊕ ((Int32))) := fun (x3i, x4i, x5, x6) =>
  if 0 ≤ x3i ∧ x3i < pc then
    if 0 ≤ x4i ∧ x4i < pc then
      (f2752 pc tc rc fc qc pa ta ra pl tl wc wa ya S x3i).bind fun v3 =>
      if x6 ≤ v3 then
        (f2752 pc tc rc fc qc pa ta ra pl tl wc wa ya S x4i).bind fun v4 =>
        if x6 ≤ v4 then
          if 0 ≤ x6 ∧ x6 < (pl x3i) then
            if 0 ≤ x6 ∧ x6 < (pl x4i) then
              (f3844 ((S.1 (11, x3i, 0) x6) - (S.1 (11, x4i, 0) x6))).bind fun v5 =>
              (f3841 x5 v5).bind fun v6 =>
              some (.inl (x3i, x4i, v6, (x6 + 1)))
            else none
          else none
        else
          some (.inr x5)
      else
        some (.inr x5)
    else none
  else none
/-- TimberHouse$LathePieces.copy(II)I -/
noncomputable def f665 (pc : Int32) (tc : Int32) (rc : Int32) (fc : Int32) (qc : Int32) (pa : Int32) (ta : Int32) (ra : Int32) (pl : Int32 → Int32) (tl : Int32 → Int32) (wc : Int32 → Int32) (wa : Int32 → Int32) (ya : Int32 → Int32) (S : wS) (x1 : Int32) (x2 : Int32) : Option (Nat ⊕ (Int32)) :=
  (f642 pc tc rc fc qc pa ta ra pl tl wc wa ya S x1).bind fun r => match r with
  | .inl c9 =>
    some (.inl c9)
  | .inr v1i =>
  if 0 ≤ v1i ∧ v1i < pc then
    (f642 pc tc rc fc qc pa ta ra pl tl wc wa ya S x2).bind fun r => match r with
    | .inl c8 =>
      some (.inl c8)
    | .inr v2i =>
    if 0 ≤ v2i ∧ v2i < pc then
      (lp (f665_b1 pc tc rc fc qc pa ta ra pl tl wc wa ya S) FU (v1i, v2i, 0, 0)).bind fun v7 =>
      some (.inr v7)
    else none
  else none
def go665_1 (pc : Int32) (tc : Int32) (rc : Int32) (fc : Int32) (qc : Int32) (pa : Int32) (ta : Int32) (ra : Int32) (pl : Int32 → Int32) (tl : Int32 → Int32) (wc : Int32 → Int32) (wa : Int32 → Int32) (ya : Int32 → Int32) (A : wK → Nat) (h : pm_H) (D : Nat) (R : Outcome × pm_H) (S : wS) : Int32 × Int32 × Int32 × Int32 → Prop := fun (x3i, x4i, x5, x6) => ∀ q0 q1 q2 : Value, pm_go pm_prog (pm_call pm_prog D) 665 1 [q0, q1, q2, .ref (A (10, x3i, 0)), .ref (A (10, x4i, 0)), .int x5, .int x6] [] (wput A (Cz_d pc tc rc fc qc pa ta ra pl tl wc wa ya) S h) = some R
def ex665_1 (pc : Int32) (tc : Int32) (rc : Int32) (fc : Int32) (qc : Int32) (pa : Int32) (ta : Int32) (ra : Int32) (pl : Int32 → Int32) (tl : Int32 → Int32) (wc : Int32 → Int32) (wa : Int32 → Int32) (ya : Int32 → Int32) (A : wK → Nat) (h : pm_H) (D : Nat) (R : Outcome × pm_H) (S : wS) : (Int32) → Prop := fun x5 => ∀ q0 q1 q2 q3 q4 q6 : Value, pm_go pm_prog (pm_call pm_prog D) 665 2 [q0, q1, q2, q3, q4, .int x5, q6] [] (wput A (Cz_d pc tc rc fc qc pa ta ra pl tl wc wa ya) S h) = some R
theorem y665_b1 {pc : Int32} {tc : Int32} {rc : Int32} {fc : Int32} {qc : Int32} {pa : Int32} {ta : Int32} {ra : Int32} {pl : Int32 → Int32} {tl : Int32 → Int32} {wc : Int32 → Int32} {wa : Int32 → Int32} {ya : Int32 → Int32} {A : wK → Nat} {h : pm_H} {D : Nat} {R : Outcome × pm_H} {S : wS} (hP : Cz_P pc tc rc fc qc pa ta ra pl tl wc wa ya) (hA : wok A (Cz_d pc tc rc fc qc pa ta ra pl tl wc wa ya) h.1) (hD : 4 ≤ D) (a : Int32 × Int32 × Int32 × Int32) (r : (Int32 × Int32 × Int32 × Int32) ⊕ ((Int32))) (e : f665_b1 pc tc rc fc qc pa ta ra pl tl wc wa ya S a = some r) (hc : Sum.elim (go665_1 pc tc rc fc qc pa ta ra pl tl wc wa ya A h D R S) (ex665_1 pc tc rc fc qc pa ta ra pl tl wc wa ya A h D R S) r) : go665_1 pc tc rc fc qc pa ta ra pl tl wc wa ya A h D R S a := by
  obtain ⟨x3i, x4i, x5, x6⟩ := a
  dsimp only [go665_1]
  intro q0 q1 q2
  simp only [f665_b1] at e
  rw [g665_1, b665_1]
  by_cases k1 : 0 ≤ x3i ∧ x3i < pc
  · rw [if_pos k1] at e
    by_cases k2 : 0 ≤ x4i ∧ x4i < pc
    · rw [if_pos k2] at e
      obtain ⟨v3, k3, e⟩ := Option.bind_eq_some_iff.mp e
      try dsimp only at e
      have z3 := x2752 (D := D) (h := h) hP hA (by omega) k3
      by_cases k4 : x6 ≤ v3
      · rw [if_pos k4] at e
        obtain ⟨v4, k5, e⟩ := Option.bind_eq_some_iff.mp e
        try dsimp only at e
        have z5 := x2752 (D := D) (h := h) hP hA (by omega) k5
        by_cases k6 : x6 ≤ v4
        · rw [if_pos k6] at e
          by_cases k7 : 0 ≤ x6 ∧ x6 < (pl x3i)
          · rw [if_pos k7] at e
            by_cases k8 : 0 ≤ x6 ∧ x6 < (pl x4i)
            · rw [if_pos k8] at e
              obtain ⟨v5, k9, e⟩ := Option.bind_eq_some_iff.mp e
              try dsimp only at e
              have z9 := fun h => x3844 (D := D) (h := h) (by omega) k9
              obtain ⟨v6, k10, e⟩ := Option.bind_eq_some_iff.mp e
              try dsimp only at e
              have z10 := fun h => x3841 (D := D) (h := h) (by omega) k10
              have e := Option.some.inj e; subst e
              dsimp only [Sum.elim_inl, go665_1] at hc
              simp -implicitDefEqProofs (disch := first | assumption | exact Nat.le_of_ble_eq_true rfl | decide) only [b665_0, g665_2, b665_2, pe_aload0, pe_iload1, pe_call2, pm_af_ret, pm_af_void, pm_af_thr, pe_astore3, pe_iload2, pe_astore4, pe_sipush, pe_istore5, pe_istore6, pe_goto_w, pe_iload6, pe_aload3, pe_call1, pe_icmp_gt, pe_aload4, pe_iload5, pe_getfield, pe_iaload, pe_isub, pe_iinc6, pe_goto, pe_aloadN0, pe_astoreN3, pe_astoreN4, pe_aloadN3, pe_aloadN4, pe_aastoreN, pe_areturnN, pe_null, pm_prog_1, pm_ob_some, Nat.reduceDiv, Nat.reduceMod, Nat.reduceMul, Nat.reduceAdd, Int.reduceToNat, pm_kill_i, pm_kill_r, pm_kill_n, pm_kill_j, pm_kill_l, pm_kill_d, pm_cats_nil, pm_cats_i, pm_cats_r, pm_cats_n, pm_cats_l, pm_cats_d, sz_1, sz_2, sl_1, sl_2, lc_0, lc_lt, lc_le, li_ne, va_rf, wr_m1, we_m1, pm_kill_w, Int32.reduceOfInt, Int64.reduceOfInt, Int32.reduceOfNat, Int32.reduceLT, Int32.reduceLE, Prod.mk.injEq, Nat.reduceEqDiff, reduceCtorEq, and_true, true_and, and_false, false_and, and_self, ite_true, ite_false, ↓reduceIte, not_true_eq_false, not_false_eq_true, pe_ri, pe_rz, pe_rc, p_throw, t665, w_junk hA, Cz_g10_0 hP hA, Cz_r11 hP hA, z3, eq_true k4, z5, eq_true k6, z9, z10, hc]
            · rw [if_neg k8] at e; cases e
          · rw [if_neg k7] at e; cases e
        · rw [if_neg k6] at e
          have e := Option.some.inj e; subst e
          dsimp only [Sum.elim_inr, ex665_1] at hc
          simp -implicitDefEqProofs (disch := first | assumption | exact Nat.le_of_ble_eq_true rfl | decide) only [b665_0, g665_2, b665_2, pe_aload0, pe_iload1, pe_call2, pm_af_ret, pm_af_void, pm_af_thr, pe_astore3, pe_iload2, pe_astore4, pe_sipush, pe_istore5, pe_istore6, pe_goto_w, pe_iload6, pe_aload3, pe_call1, pe_icmp_gt, pe_aload4, pe_iload5, pe_getfield, pe_iaload, pe_isub, pe_iinc6, pe_goto, pe_aloadN0, pe_astoreN3, pe_astoreN4, pe_aloadN3, pe_aloadN4, pe_aastoreN, pe_areturnN, pe_null, pm_prog_1, pm_ob_some, Nat.reduceDiv, Nat.reduceMod, Nat.reduceMul, Nat.reduceAdd, Int.reduceToNat, pm_kill_i, pm_kill_r, pm_kill_n, pm_kill_j, pm_kill_l, pm_kill_d, pm_cats_nil, pm_cats_i, pm_cats_r, pm_cats_n, pm_cats_l, pm_cats_d, sz_1, sz_2, sl_1, sl_2, lc_0, lc_lt, lc_le, li_ne, va_rf, wr_m1, we_m1, pm_kill_w, Int32.reduceOfInt, Int64.reduceOfInt, Int32.reduceOfNat, Int32.reduceLT, Int32.reduceLE, Prod.mk.injEq, Nat.reduceEqDiff, reduceCtorEq, and_true, true_and, and_false, false_and, and_self, ite_true, ite_false, ↓reduceIte, not_true_eq_false, not_false_eq_true, pe_ri, pe_rz, pe_rc, p_throw, t665, w_junk hA, Cz_g10_0 hP hA, Cz_r11 hP hA, z3, eq_true k4, z5, eq_false k6, hc]
      · rw [if_neg k4] at e
        have e := Option.some.inj e; subst e
        dsimp only [Sum.elim_inr, ex665_1] at hc
        simp -implicitDefEqProofs (disch := first | assumption | exact Nat.le_of_ble_eq_true rfl | decide) only [b665_0, g665_2, b665_2, pe_aload0, pe_iload1, pe_call2, pm_af_ret, pm_af_void, pm_af_thr, pe_astore3, pe_iload2, pe_astore4, pe_sipush, pe_istore5, pe_istore6, pe_goto_w, pe_iload6, pe_aload3, pe_call1, pe_icmp_gt, pe_aload4, pe_iload5, pe_getfield, pe_iaload, pe_isub, pe_iinc6, pe_goto, pe_aloadN0, pe_astoreN3, pe_astoreN4, pe_aloadN3, pe_aloadN4, pe_aastoreN, pe_areturnN, pe_null, pm_prog_1, pm_ob_some, Nat.reduceDiv, Nat.reduceMod, Nat.reduceMul, Nat.reduceAdd, Int.reduceToNat, pm_kill_i, pm_kill_r, pm_kill_n, pm_kill_j, pm_kill_l, pm_kill_d, pm_cats_nil, pm_cats_i, pm_cats_r, pm_cats_n, pm_cats_l, pm_cats_d, sz_1, sz_2, sl_1, sl_2, lc_0, lc_lt, lc_le, li_ne, va_rf, wr_m1, we_m1, pm_kill_w, Int32.reduceOfInt, Int64.reduceOfInt, Int32.reduceOfNat, Int32.reduceLT, Int32.reduceLE, Prod.mk.injEq, Nat.reduceEqDiff, reduceCtorEq, and_true, true_and, and_false, false_and, and_self, ite_true, ite_false, ↓reduceIte, not_true_eq_false, not_false_eq_true, pe_ri, pe_rz, pe_rc, p_throw, t665, w_junk hA, Cz_g10_0 hP hA, Cz_r11 hP hA, z3, eq_false k4, hc]
    · rw [if_neg k2] at e; cases e
  · rw [if_neg k1] at e; cases e
theorem z665_1 {pc : Int32} {tc : Int32} {rc : Int32} {fc : Int32} {qc : Int32} {pa : Int32} {ta : Int32} {ra : Int32} {pl : Int32 → Int32} {tl : Int32 → Int32} {wc : Int32 → Int32} {wa : Int32 → Int32} {ya : Int32 → Int32} {A : wK → Nat} {h : pm_H} {D : Nat} {R : Outcome × pm_H} {S : wS} (hP : Cz_P pc tc rc fc qc pa ta ra pl tl wc wa ya) (hA : wok A (Cz_d pc tc rc fc qc pa ta ra pl tl wc wa ya) h.1) (hD : 4 ≤ D) {n : Nat} {a : Int32 × Int32 × Int32 × Int32} {b : (Int32)} (e : lp (f665_b1 pc tc rc fc qc pa ta ra pl tl wc wa ya S) n a = some b) (hx : ex665_1 pc tc rc fc qc pa ta ra pl tl wc wa ya A h D R S b) : go665_1 pc tc rc fc qc pa ta ra pl tl wc wa ya A h D R S a := lp_run (fun a r => y665_b1 hP hA hD a r) n a b e hx
theorem x665 {pc : Int32} {tc : Int32} {rc : Int32} {fc : Int32} {qc : Int32} {pa : Int32} {ta : Int32} {ra : Int32} {pl : Int32 → Int32} {tl : Int32 → Int32} {wc : Int32 → Int32} {wa : Int32 → Int32} {ya : Int32 → Int32} {A : wK → Nat} {h : pm_H} {D : Nat} {S : wS} {x1 : Int32} {x2 : Int32} {r : Nat ⊕ (Int32)} (hP : Cz_P pc tc rc fc qc pa ta ra pl tl wc wa ya) (hA : wok A (Cz_d pc tc rc fc qc pa ta ra pl tl wc wa ya) h.1) (hD : 5 ≤ D) (e : f665 pc tc rc fc qc pa ta ra pl tl wc wa ya S x1 x2 = some r) : pm_call pm_prog D 665 [.ref (A (0, 0, 0)), .int x1, .int x2] (wput A (Cz_d pc tc rc fc qc pa ta ra pl tl wc wa ya) S h) = some (match (generalizing := false) r with | .inl c => (Outcome.threw c, (wput A (Cz_d pc tc rc fc qc pa ta ra pl tl wc wa ya) S (pm_new h 6 (.inr (c, []))))) | .inr w0 => (Outcome.returned (some (.int w0)), (wput A (Cz_d pc tc rc fc qc pa ta ra pl tl wc wa ya) S h))) := by
  obtain ⟨D, rfl⟩ : ∃ D', D = D' + 1 := ⟨D - 1, by omega⟩
  have hD : 4 ≤ D := by omega
  simp only [f665] at e
  rw [c665 (Cz_c0 hP hA), b665_0]
  obtain ⟨r, k1, e⟩ := Option.bind_eq_some_iff.mp e
  have z1 := x642 (D := D) (h := h) hP hA (by omega) k1
  rcases r with c9 | v1i
  · dsimp only at e z1
    have e := Option.some.inj e; subst e
    simp -implicitDefEqProofs (disch := first | assumption | exact Nat.le_of_ble_eq_true rfl | decide) only [b665_0, g665_2, b665_2, pe_aload0, pe_iload1, pe_call2, pm_af_ret, pm_af_void, pm_af_thr, pe_astore3, pe_iload2, pe_astore4, pe_sipush, pe_istore5, pe_istore6, pe_goto_w, pe_iload6, pe_aload3, pe_call1, pe_icmp_gt, pe_aload4, pe_iload5, pe_getfield, pe_iaload, pe_isub, pe_iinc6, pe_goto, pe_aloadN0, pe_astoreN3, pe_astoreN4, pe_aloadN3, pe_aloadN4, pe_aastoreN, pe_areturnN, pe_null, pm_prog_1, pm_ob_some, Nat.reduceDiv, Nat.reduceMod, Nat.reduceMul, Nat.reduceAdd, Int.reduceToNat, pm_kill_i, pm_kill_r, pm_kill_n, pm_kill_j, pm_kill_l, pm_kill_d, pm_cats_nil, pm_cats_i, pm_cats_r, pm_cats_n, pm_cats_l, pm_cats_d, sz_1, sz_2, sl_1, sl_2, lc_0, lc_lt, lc_le, li_ne, va_rf, wr_m1, we_m1, pm_kill_w, Int32.reduceOfInt, Int64.reduceOfInt, Int32.reduceOfNat, Int32.reduceLT, Int32.reduceLE, Prod.mk.injEq, Nat.reduceEqDiff, reduceCtorEq, and_true, true_and, and_false, false_and, and_self, ite_true, ite_false, ↓reduceIte, not_true_eq_false, not_false_eq_true, pe_ri, pe_rz, pe_rc, p_throw, t665, w_junk hA, Cz_g10_0 hP hA, Cz_r11 hP hA, z1]
  · dsimp only at e z1
    by_cases k2 : 0 ≤ v1i ∧ v1i < pc
    · rw [if_pos k2] at e
      obtain ⟨r, k3, e⟩ := Option.bind_eq_some_iff.mp e
      have z3 := x642 (D := D) (h := h) hP hA (by omega) k3
      rcases r with c8 | v2i
      · dsimp only at e z3
        have e := Option.some.inj e; subst e
        simp -implicitDefEqProofs (disch := first | assumption | exact Nat.le_of_ble_eq_true rfl | decide) only [b665_0, g665_2, b665_2, pe_aload0, pe_iload1, pe_call2, pm_af_ret, pm_af_void, pm_af_thr, pe_astore3, pe_iload2, pe_astore4, pe_sipush, pe_istore5, pe_istore6, pe_goto_w, pe_iload6, pe_aload3, pe_call1, pe_icmp_gt, pe_aload4, pe_iload5, pe_getfield, pe_iaload, pe_isub, pe_iinc6, pe_goto, pe_aloadN0, pe_astoreN3, pe_astoreN4, pe_aloadN3, pe_aloadN4, pe_aastoreN, pe_areturnN, pe_null, pm_prog_1, pm_ob_some, Nat.reduceDiv, Nat.reduceMod, Nat.reduceMul, Nat.reduceAdd, Int.reduceToNat, pm_kill_i, pm_kill_r, pm_kill_n, pm_kill_j, pm_kill_l, pm_kill_d, pm_cats_nil, pm_cats_i, pm_cats_r, pm_cats_n, pm_cats_l, pm_cats_d, sz_1, sz_2, sl_1, sl_2, lc_0, lc_lt, lc_le, li_ne, va_rf, wr_m1, we_m1, pm_kill_w, Int32.reduceOfInt, Int64.reduceOfInt, Int32.reduceOfNat, Int32.reduceLT, Int32.reduceLE, Prod.mk.injEq, Nat.reduceEqDiff, reduceCtorEq, and_true, true_and, and_false, false_and, and_self, ite_true, ite_false, ↓reduceIte, not_true_eq_false, not_false_eq_true, pe_ri, pe_rz, pe_rc, p_throw, t665, w_junk hA, Cz_g10_0 hP hA, Cz_r11 hP hA, z1, z3]
      · dsimp only at e z3
        by_cases k4 : 0 ≤ v2i ∧ v2i < pc
        · rw [if_pos k4] at e
          obtain ⟨v7, k5, e⟩ := Option.bind_eq_some_iff.mp e
          try dsimp only at e
          try simp -implicitDefEqProofs (disch := first | assumption | exact Nat.le_of_ble_eq_true rfl | decide) only [b665_0, g665_2, b665_2, pe_aload0, pe_iload1, pe_call2, pm_af_ret, pm_af_void, pm_af_thr, pe_astore3, pe_iload2, pe_astore4, pe_sipush, pe_istore5, pe_istore6, pe_goto_w, pe_iload6, pe_aload3, pe_call1, pe_icmp_gt, pe_aload4, pe_iload5, pe_getfield, pe_iaload, pe_isub, pe_iinc6, pe_goto, pe_aloadN0, pe_astoreN3, pe_astoreN4, pe_aloadN3, pe_aloadN4, pe_aastoreN, pe_areturnN, pe_null, pm_prog_1, pm_ob_some, Nat.reduceDiv, Nat.reduceMod, Nat.reduceMul, Nat.reduceAdd, Int.reduceToNat, pm_kill_i, pm_kill_r, pm_kill_n, pm_kill_j, pm_kill_l, pm_kill_d, pm_cats_nil, pm_cats_i, pm_cats_r, pm_cats_n, pm_cats_l, pm_cats_d, sz_1, sz_2, sl_1, sl_2, lc_0, lc_lt, lc_le, li_ne, va_rf, wr_m1, we_m1, pm_kill_w, Int32.reduceOfInt, Int64.reduceOfInt, Int32.reduceOfNat, Int32.reduceLT, Int32.reduceLE, Prod.mk.injEq, Nat.reduceEqDiff, reduceCtorEq, and_true, true_and, and_false, false_and, and_self, ite_true, ite_false, ↓reduceIte, not_true_eq_false, not_false_eq_true, pe_ri, pe_rz, pe_rc, p_throw, t665, w_junk hA, Cz_g10_0 hP hA, Cz_r11 hP hA, z1, z3]
          refine z665_1 hP hA hD k5 ?_ _ _ _
          dsimp only [ex665_1]
          intro q0 q1 q2 q3 q4 q6
          have e := Option.some.inj e; subst e
          simp -implicitDefEqProofs (disch := first | assumption | exact Nat.le_of_ble_eq_true rfl | decide) only [b665_0, g665_2, b665_2, pe_aload0, pe_iload1, pe_call2, pm_af_ret, pm_af_void, pm_af_thr, pe_astore3, pe_iload2, pe_astore4, pe_sipush, pe_istore5, pe_istore6, pe_goto_w, pe_iload6, pe_aload3, pe_call1, pe_icmp_gt, pe_aload4, pe_iload5, pe_getfield, pe_iaload, pe_isub, pe_iinc6, pe_goto, pe_aloadN0, pe_astoreN3, pe_astoreN4, pe_aloadN3, pe_aloadN4, pe_aastoreN, pe_areturnN, pe_null, pm_prog_1, pm_ob_some, Nat.reduceDiv, Nat.reduceMod, Nat.reduceMul, Nat.reduceAdd, Int.reduceToNat, pm_kill_i, pm_kill_r, pm_kill_n, pm_kill_j, pm_kill_l, pm_kill_d, pm_cats_nil, pm_cats_i, pm_cats_r, pm_cats_n, pm_cats_l, pm_cats_d, sz_1, sz_2, sl_1, sl_2, lc_0, lc_lt, lc_le, li_ne, va_rf, wr_m1, we_m1, pm_kill_w, Int32.reduceOfInt, Int64.reduceOfInt, Int32.reduceOfNat, Int32.reduceLT, Int32.reduceLE, Prod.mk.injEq, Nat.reduceEqDiff, reduceCtorEq, and_true, true_and, and_false, false_and, and_self, ite_true, ite_false, ↓reduceIte, not_true_eq_false, not_false_eq_true, pe_ri, pe_rz, pe_rc, p_throw, t665, w_junk hA, Cz_g10_0 hP hA, Cz_r11 hP hA, z1, z3]
        · rw [if_neg k4] at e; cases e
    · rw [if_neg k2] at e; cases e
/-- java/util/ArrayList.size()I -/
noncomputable def f4033zv2 (pc : Int32) (tc : Int32) (rc : Int32) (fc : Int32) (qc : Int32) (pa : Int32) (ta : Int32) (ra : Int32) (pl : Int32 → Int32) (tl : Int32 → Int32) (wc : Int32 → Int32) (wa : Int32 → Int32) (ya : Int32 → Int32) (S : wS) : Option (Int32) :=
  some (S.1 (5, 0, 0) 2)
theorem x4033zv2 {pc : Int32} {tc : Int32} {rc : Int32} {fc : Int32} {qc : Int32} {pa : Int32} {ta : Int32} {ra : Int32} {pl : Int32 → Int32} {tl : Int32 → Int32} {wc : Int32 → Int32} {wa : Int32 → Int32} {ya : Int32 → Int32} {A : wK → Nat} {h : pm_H} {D : Nat} {S : wS} {r : Int32} (hP : Cz_P pc tc rc fc qc pa ta ra pl tl wc wa ya) (hA : wok A (Cz_d pc tc rc fc qc pa ta ra pl tl wc wa ya) h.1) (hD : 1 ≤ D) (e : f4033zv2 pc tc rc fc qc pa ta ra pl tl wc wa ya S = some r) : pm_call pm_prog D 4033 [.ref (A (5, 0, 0))] (wput A (Cz_d pc tc rc fc qc pa ta ra pl tl wc wa ya) S h) = some (Outcome.returned (some (.int r)), (wput A (Cz_d pc tc rc fc qc pa ta ra pl tl wc wa ya) S h)) := by
  obtain ⟨D, rfl⟩ : ∃ D', D = D' + 1 := ⟨D - 1, by omega⟩
  have hD : 0 ≤ D := by omega
  simp only [f4033zv2] at e
  rw [c4033 (Cz_c5 hP hA), b4033_0]
  have e := Option.some.inj e; subst e
  simp -implicitDefEqProofs (disch := first | assumption | exact Nat.le_of_ble_eq_true rfl | decide) only [b4033_0, pe_aload0, pe_getfield, pe_aloadN0, pe_aastoreN, pe_areturnN, pe_null, pm_prog_1, pm_ob_some, Nat.reduceDiv, Nat.reduceMod, Nat.reduceMul, Nat.reduceAdd, Int.reduceToNat, pm_kill_i, pm_kill_r, pm_kill_n, pm_kill_j, pm_kill_l, pm_kill_d, pm_cats_nil, pm_cats_i, pm_cats_r, pm_cats_n, pm_cats_l, pm_cats_d, sz_1, sz_2, sl_1, sl_2, lc_0, lc_lt, lc_le, li_ne, va_rf, wr_m1, we_m1, pm_kill_w, Int32.reduceOfInt, Int64.reduceOfInt, Int32.reduceOfNat, Int32.reduceLT, Int32.reduceLE, Prod.mk.injEq, Nat.reduceEqDiff, reduceCtorEq, and_true, true_and, and_false, false_and, and_self, ite_true, ite_false, ↓reduceIte, not_true_eq_false, not_false_eq_true, pe_ri, pe_rz, pe_rc, Cz_g5_2 hP hA]
/-- java/util/ArrayList.elementData(I)Ljava/lang/Object; -/
noncomputable def f4035zv2 (pc : Int32) (tc : Int32) (rc : Int32) (fc : Int32) (qc : Int32) (pa : Int32) (ta : Int32) (ra : Int32) (pl : Int32 → Int32) (tl : Int32 → Int32) (wc : Int32 → Int32) (wa : Int32 → Int32) (ya : Int32 → Int32) (S : wS) (x1 : Int32) : Option (Int32) :=
  if 0 < ra then
    if 0 ≤ x1 ∧ x1 < ra then
      if x1 < rc then
        if 0 ≤ x1 ∧ x1 < rc then
          some x1
        else none
      else none
    else none
  else none
theorem x4035zv2 {pc : Int32} {tc : Int32} {rc : Int32} {fc : Int32} {qc : Int32} {pa : Int32} {ta : Int32} {ra : Int32} {pl : Int32 → Int32} {tl : Int32 → Int32} {wc : Int32 → Int32} {wa : Int32 → Int32} {ya : Int32 → Int32} {A : wK → Nat} {h : pm_H} {D : Nat} {S : wS} {x1 : Int32} {r : Int32} (hP : Cz_P pc tc rc fc qc pa ta ra pl tl wc wa ya) (hA : wok A (Cz_d pc tc rc fc qc pa ta ra pl tl wc wa ya) h.1) (hD : 1 ≤ D) (e : f4035zv2 pc tc rc fc qc pa ta ra pl tl wc wa ya S x1 = some r) : pm_call pm_prog D 4035 [.ref (A (5, 0, 0)), .int x1] (wput A (Cz_d pc tc rc fc qc pa ta ra pl tl wc wa ya) S h) = some (Outcome.returned (some (.ref (A (14, r, 0)))), (wput A (Cz_d pc tc rc fc qc pa ta ra pl tl wc wa ya) S h)) := by
  obtain ⟨D, rfl⟩ : ∃ D', D = D' + 1 := ⟨D - 1, by omega⟩
  have hD : 0 ≤ D := by omega
  simp only [f4035zv2] at e
  rw [c4035 (Cz_c5 hP hA), b4035_0]
  by_cases k1 : 0 < ra
  · rw [if_pos k1] at e
    by_cases k2 : 0 ≤ x1 ∧ x1 < ra
    · rw [if_pos k2] at e
      by_cases k3 : x1 < rc
      · rw [if_pos k3] at e
        by_cases k4 : 0 ≤ x1 ∧ x1 < rc
        · rw [if_pos k4] at e
          have e := Option.some.inj e; subst e
          simp -implicitDefEqProofs (disch := first | assumption | exact Nat.le_of_ble_eq_true rfl | decide) only [b4035_0, pe_aload0, pe_getfield, pe_iload1, pe_aaload, pe_areturn, pe_aloadN0, pe_aastoreN, pe_areturnN, pe_null, pm_prog_1, pm_ob_some, Nat.reduceDiv, Nat.reduceMod, Nat.reduceMul, Nat.reduceAdd, Int.reduceToNat, pm_kill_i, pm_kill_r, pm_kill_n, pm_kill_j, pm_kill_l, pm_kill_d, pm_cats_nil, pm_cats_i, pm_cats_r, pm_cats_n, pm_cats_l, pm_cats_d, sz_1, sz_2, sl_1, sl_2, lc_0, lc_lt, lc_le, li_ne, va_rf, wr_m1, we_m1, pm_kill_w, Int32.reduceOfInt, Int64.reduceOfInt, Int32.reduceOfNat, Int32.reduceLT, Int32.reduceLE, Prod.mk.injEq, Nat.reduceEqDiff, reduceCtorEq, and_true, true_and, and_false, false_and, and_self, ite_true, ite_false, ↓reduceIte, not_true_eq_false, not_false_eq_true, pe_ri, pe_rz, pe_rc, Cz_g5_1 hP hA, Cz_r6 hP hA]
        · rw [if_neg k4] at e; cases e
      · rw [if_neg k3] at e; cases e
    · rw [if_neg k2] at e; cases e
  · rw [if_neg k1] at e; cases e
/-- java/util/ArrayList.get(I)Ljava/lang/Object; -/
noncomputable def f4034zv2 (pc : Int32) (tc : Int32) (rc : Int32) (fc : Int32) (qc : Int32) (pa : Int32) (ta : Int32) (ra : Int32) (pl : Int32 → Int32) (tl : Int32 → Int32) (wc : Int32 → Int32) (wa : Int32 → Int32) (ya : Int32 → Int32) (S : wS) (x1 : Int32) : Option (Int32) :=
  (f4736 x1 (S.1 (5, 0, 0) 2)).bind fun v1 =>
  (f4035zv2 pc tc rc fc qc pa ta ra pl tl wc wa ya S x1).bind fun v2i =>
  if 0 ≤ v2i ∧ v2i < rc then
    some v2i
  else none
theorem x4034zv2 {pc : Int32} {tc : Int32} {rc : Int32} {fc : Int32} {qc : Int32} {pa : Int32} {ta : Int32} {ra : Int32} {pl : Int32 → Int32} {tl : Int32 → Int32} {wc : Int32 → Int32} {wa : Int32 → Int32} {ya : Int32 → Int32} {A : wK → Nat} {h : pm_H} {D : Nat} {S : wS} {x1 : Int32} {r : Int32} (hP : Cz_P pc tc rc fc qc pa ta ra pl tl wc wa ya) (hA : wok A (Cz_d pc tc rc fc qc pa ta ra pl tl wc wa ya) h.1) (hD : 3 ≤ D) (e : f4034zv2 pc tc rc fc qc pa ta ra pl tl wc wa ya S x1 = some r) : pm_call pm_prog D 4034 [.ref (A (5, 0, 0)), .int x1] (wput A (Cz_d pc tc rc fc qc pa ta ra pl tl wc wa ya) S h) = some (Outcome.returned (some (.ref (A (14, r, 0)))), (wput A (Cz_d pc tc rc fc qc pa ta ra pl tl wc wa ya) S h)) := by
  obtain ⟨D, rfl⟩ : ∃ D', D = D' + 1 := ⟨D - 1, by omega⟩
  have hD : 2 ≤ D := by omega
  simp only [f4034zv2] at e
  rw [c4034 (Cz_c5 hP hA), b4034_0]
  obtain ⟨v1, k1, e⟩ := Option.bind_eq_some_iff.mp e
  try dsimp only at e
  have z1 := fun h => x4736 (D := D) (h := h) (by omega) k1
  obtain ⟨v2i, k2, e⟩ := Option.bind_eq_some_iff.mp e
  try dsimp only at e
  have z2 := x4035zv2 (D := D) (h := h) hP hA (by omega) k2
  by_cases k3 : 0 ≤ v2i ∧ v2i < rc
  · rw [if_pos k3] at e
    have e := Option.some.inj e; subst e
    simp -implicitDefEqProofs (disch := first | assumption | exact Nat.le_of_ble_eq_true rfl | decide) only [b4034_0, pe_iload1, pe_aload0, pe_getfield, pe_call2, pm_af_ret, pm_af_void, pm_af_thr, pe_pop_i, pe_pop_r, pe_areturn, pe_aloadN0, pe_aastoreN, pe_areturnN, pe_null, pm_prog_1, pm_ob_some, Nat.reduceDiv, Nat.reduceMod, Nat.reduceMul, Nat.reduceAdd, Int.reduceToNat, pm_kill_i, pm_kill_r, pm_kill_n, pm_kill_j, pm_kill_l, pm_kill_d, pm_cats_nil, pm_cats_i, pm_cats_r, pm_cats_n, pm_cats_l, pm_cats_d, sz_1, sz_2, sl_1, sl_2, lc_0, lc_lt, lc_le, li_ne, va_rf, wr_m1, we_m1, pm_kill_w, Int32.reduceOfInt, Int64.reduceOfInt, Int32.reduceOfNat, Int32.reduceLT, Int32.reduceLE, Prod.mk.injEq, Nat.reduceEqDiff, reduceCtorEq, and_true, true_and, and_false, false_and, and_self, ite_true, ite_false, ↓reduceIte, not_true_eq_false, not_false_eq_true, pe_ri, pe_rz, pe_rc, Cz_g5_2 hP hA, z1, z2]
  · rw [if_neg k3] at e; cases e
/-- TimberHouse$LathePieces.ringOf(I)Ljava/util/ArrayList; -/
theorem c668 {d : Nat} {h : pm_H} {a : Nat} {x0 : Int32} (hc : pm_cls h a = some 10) : pm_call pm_prog (d + 1) 668 [.ref a, .int x0] h = pm_ev pm_prog (pm_call pm_prog d) 668 0 b668_0 [.ref a, .int x0] [] h := pm_cal (pm_rc1 hc rfl) rfl rfl rfl
theorem t668 {cl : pm_C} {j : Nat} {ls : List Value} {c : Nat} {h : pm_H} : pm_thr pm_prog cl 668 j ls c h = some (.threw c, h) := rfl
/-- TimberHouse$LathePieces.ringOf(I)Ljava/util/ArrayList; -/
noncomputable def f668 (pc : Int32) (tc : Int32) (rc : Int32) (fc : Int32) (qc : Int32) (pa : Int32) (ta : Int32) (ra : Int32) (pl : Int32 → Int32) (tl : Int32 → Int32) (wc : Int32 → Int32) (wa : Int32 → Int32) (ya : Int32 → Int32) (S : wS) (x1 : Int32) : Option (Nat ⊕ (Int32)) :=
  (f4033zv2 pc tc rc fc qc pa ta ra pl tl wc wa ya S).bind fun v1 =>
  (f643 x1 0 (v1 - 1)).bind fun v2 =>
  (f644 v2).bind fun r => match r with
  | .inl c4 =>
    some (.inl c4)
  | .inr _ =>
  (f4034zv2 pc tc rc fc qc pa ta ra pl tl wc wa ya S x1).bind fun v3i =>
  if 0 ≤ v3i ∧ v3i < rc then
    some (.inr v3i)
  else none
theorem x668 {pc : Int32} {tc : Int32} {rc : Int32} {fc : Int32} {qc : Int32} {pa : Int32} {ta : Int32} {ra : Int32} {pl : Int32 → Int32} {tl : Int32 → Int32} {wc : Int32 → Int32} {wa : Int32 → Int32} {ya : Int32 → Int32} {A : wK → Nat} {h : pm_H} {D : Nat} {S : wS} {x1 : Int32} {r : Nat ⊕ (Int32)} (hP : Cz_P pc tc rc fc qc pa ta ra pl tl wc wa ya) (hA : wok A (Cz_d pc tc rc fc qc pa ta ra pl tl wc wa ya) h.1) (hD : 4 ≤ D) (e : f668 pc tc rc fc qc pa ta ra pl tl wc wa ya S x1 = some r) : pm_call pm_prog D 668 [.ref (A (0, 0, 0)), .int x1] (wput A (Cz_d pc tc rc fc qc pa ta ra pl tl wc wa ya) S h) = some (match (generalizing := false) r with | .inl c => (Outcome.threw c, (wput A (Cz_d pc tc rc fc qc pa ta ra pl tl wc wa ya) S (pm_new h 6 (.inr (c, []))))) | .inr w0 => (Outcome.returned (some (.ref (A (14, w0, 0)))), (wput A (Cz_d pc tc rc fc qc pa ta ra pl tl wc wa ya) S h))) := by
  obtain ⟨D, rfl⟩ : ∃ D', D = D' + 1 := ⟨D - 1, by omega⟩
  have hD : 3 ≤ D := by omega
  simp only [f668] at e
  rw [c668 (Cz_c0 hP hA), b668_0]
  obtain ⟨v1, k1, e⟩ := Option.bind_eq_some_iff.mp e
  try dsimp only at e
  have z1 := x4033zv2 (D := D) (h := h) hP hA (by omega) k1
  obtain ⟨v2, k2, e⟩ := Option.bind_eq_some_iff.mp e
  try dsimp only at e
  have z2 := fun h => x643 (D := D) (h := h) (by omega) k2
  obtain ⟨r, k3, e⟩ := Option.bind_eq_some_iff.mp e
  have z3 := fun h => x644 (D := D) (h := h) (by omega) k3
  rcases r with c4 | _
  · dsimp only at e z3
    have e := Option.some.inj e; subst e
    simp -implicitDefEqProofs (disch := first | assumption | exact Nat.le_of_ble_eq_true rfl | decide) only [b668_0, pe_iload1, pe_sipush, pe_aload0, pe_getfield, pe_call1, pm_af_ret, pm_af_void, pm_af_thr, pe_isub, pe_call3, pe_call2, pe_areturn, pe_aloadN0, pe_aastoreN, pe_areturnN, pe_null, pm_prog_1, pm_ob_some, Nat.reduceDiv, Nat.reduceMod, Nat.reduceMul, Nat.reduceAdd, Int.reduceToNat, pm_kill_i, pm_kill_r, pm_kill_n, pm_kill_j, pm_kill_l, pm_kill_d, pm_cats_nil, pm_cats_i, pm_cats_r, pm_cats_n, pm_cats_l, pm_cats_d, sz_1, sz_2, sl_1, sl_2, lc_0, lc_lt, lc_le, li_ne, va_rf, wr_m1, we_m1, pm_kill_w, Int32.reduceOfInt, Int64.reduceOfInt, Int32.reduceOfNat, Int32.reduceLT, Int32.reduceLE, Prod.mk.injEq, Nat.reduceEqDiff, reduceCtorEq, and_true, true_and, and_false, false_and, and_self, ite_true, ite_false, ↓reduceIte, not_true_eq_false, not_false_eq_true, pe_ri, pe_rz, pe_rc, p_throw, t668, w_junk hA, Cz_g0_3 hP hA, Cz_k14 hP hA, z1, z2, z3]
  · dsimp only at e z3
    obtain ⟨v3i, k4, e⟩ := Option.bind_eq_some_iff.mp e
    try dsimp only at e
    have z4 := x4034zv2 (D := D) (h := h) hP hA (by omega) k4
    by_cases k5 : 0 ≤ v3i ∧ v3i < rc
    · rw [if_pos k5] at e
      have e := Option.some.inj e; subst e
      simp -implicitDefEqProofs (disch := first | assumption | exact Nat.le_of_ble_eq_true rfl | decide) only [b668_0, pe_iload1, pe_sipush, pe_aload0, pe_getfield, pe_call1, pm_af_ret, pm_af_void, pm_af_thr, pe_isub, pe_call3, pe_call2, pe_areturn, pe_aloadN0, pe_aastoreN, pe_areturnN, pe_null, pm_prog_1, pm_ob_some, Nat.reduceDiv, Nat.reduceMod, Nat.reduceMul, Nat.reduceAdd, Int.reduceToNat, pm_kill_i, pm_kill_r, pm_kill_n, pm_kill_j, pm_kill_l, pm_kill_d, pm_cats_nil, pm_cats_i, pm_cats_r, pm_cats_n, pm_cats_l, pm_cats_d, sz_1, sz_2, sl_1, sl_2, lc_0, lc_lt, lc_le, li_ne, va_rf, wr_m1, we_m1, pm_kill_w, Int32.reduceOfInt, Int64.reduceOfInt, Int32.reduceOfNat, Int32.reduceLT, Int32.reduceLE, Prod.mk.injEq, Nat.reduceEqDiff, reduceCtorEq, and_true, true_and, and_false, false_and, and_self, ite_true, ite_false, ↓reduceIte, not_true_eq_false, not_false_eq_true, pe_ri, pe_rz, pe_rc, p_throw, t668, w_junk hA, Cz_g0_3 hP hA, Cz_k14 hP hA, z1, z2, z3, z4]
    · rw [if_neg k5] at e; cases e
/-- java/util/ArrayList.size()I -/
noncomputable def f4033zv3 (pc : Int32) (tc : Int32) (rc : Int32) (fc : Int32) (qc : Int32) (pa : Int32) (ta : Int32) (ra : Int32) (pl : Int32 → Int32) (tl : Int32 → Int32) (wc : Int32 → Int32) (wa : Int32 → Int32) (ya : Int32 → Int32) (S : wS) (x0i : Int32) : Option (Int32) :=
  if 0 ≤ x0i ∧ x0i < rc then
    some (S.1 (14, x0i, 0) 2)
  else none
theorem x4033zv3 {pc : Int32} {tc : Int32} {rc : Int32} {fc : Int32} {qc : Int32} {pa : Int32} {ta : Int32} {ra : Int32} {pl : Int32 → Int32} {tl : Int32 → Int32} {wc : Int32 → Int32} {wa : Int32 → Int32} {ya : Int32 → Int32} {A : wK → Nat} {h : pm_H} {D : Nat} {S : wS} {x0i : Int32} {r : Int32} (hP : Cz_P pc tc rc fc qc pa ta ra pl tl wc wa ya) (hA : wok A (Cz_d pc tc rc fc qc pa ta ra pl tl wc wa ya) h.1) (hD : 1 ≤ D) (e : f4033zv3 pc tc rc fc qc pa ta ra pl tl wc wa ya S x0i = some r) : pm_call pm_prog D 4033 [.ref (A (14, x0i, 0))] (wput A (Cz_d pc tc rc fc qc pa ta ra pl tl wc wa ya) S h) = some (Outcome.returned (some (.int r)), (wput A (Cz_d pc tc rc fc qc pa ta ra pl tl wc wa ya) S h)) := by
  obtain ⟨D, rfl⟩ : ∃ D', D = D' + 1 := ⟨D - 1, by omega⟩
  have hD : 0 ≤ D := by omega
  simp only [f4033zv3] at e
  have k1 : 0 ≤ x0i ∧ x0i < rc := by
    by_cases q : 0 ≤ x0i ∧ x0i < rc
    · exact q
    · rw [if_neg q] at e; cases e
  rw [if_pos k1] at e
  rw [c4033 (Cz_c14 hP hA k1), b4033_0]
  have e := Option.some.inj e; subst e
  simp -implicitDefEqProofs (disch := first | assumption | exact Nat.le_of_ble_eq_true rfl | decide) only [b4033_0, pe_aload0, pe_getfield, pe_aloadN0, pe_aastoreN, pe_areturnN, pe_null, pm_prog_1, pm_ob_some, Nat.reduceDiv, Nat.reduceMod, Nat.reduceMul, Nat.reduceAdd, Int.reduceToNat, pm_kill_i, pm_kill_r, pm_kill_n, pm_kill_j, pm_kill_l, pm_kill_d, pm_cats_nil, pm_cats_i, pm_cats_r, pm_cats_n, pm_cats_l, pm_cats_d, sz_1, sz_2, sl_1, sl_2, lc_0, lc_lt, lc_le, li_ne, va_rf, wr_m1, we_m1, pm_kill_w, Int32.reduceOfInt, Int64.reduceOfInt, Int32.reduceOfNat, Int32.reduceLT, Int32.reduceLE, Prod.mk.injEq, Nat.reduceEqDiff, reduceCtorEq, and_true, true_and, and_false, false_and, and_self, ite_true, ite_false, ↓reduceIte, not_true_eq_false, not_false_eq_true, pe_ri, pe_rz, pe_rc, Cz_g14_2 hP hA]
/-- java/util/ArrayList.elementData(I)Ljava/lang/Object; -/
noncomputable def f4035zv3 (pc : Int32) (tc : Int32) (rc : Int32) (fc : Int32) (qc : Int32) (pa : Int32) (ta : Int32) (ra : Int32) (pl : Int32 → Int32) (tl : Int32 → Int32) (wc : Int32 → Int32) (wa : Int32 → Int32) (ya : Int32 → Int32) (S : wS) (x0i : Int32) (x1 : Int32) : Option (Int32 × Int32) :=
  if 0 ≤ x0i ∧ x0i < rc then
    if 0 < (wa x0i) then
      if 0 ≤ x1 ∧ x1 < (wa x0i) then
        if x1 < (wc x0i) then
          if 0 ≤ x1 ∧ x1 < (wc x0i) then
            some (x0i, x1)
          else none
        else none
      else none
    else none
  else none
theorem x4035zv3 {pc : Int32} {tc : Int32} {rc : Int32} {fc : Int32} {qc : Int32} {pa : Int32} {ta : Int32} {ra : Int32} {pl : Int32 → Int32} {tl : Int32 → Int32} {wc : Int32 → Int32} {wa : Int32 → Int32} {ya : Int32 → Int32} {A : wK → Nat} {h : pm_H} {D : Nat} {S : wS} {x0i : Int32} {x1 : Int32} {r : Int32 × Int32} (hP : Cz_P pc tc rc fc qc pa ta ra pl tl wc wa ya) (hA : wok A (Cz_d pc tc rc fc qc pa ta ra pl tl wc wa ya) h.1) (hD : 1 ≤ D) (e : f4035zv3 pc tc rc fc qc pa ta ra pl tl wc wa ya S x0i x1 = some r) : pm_call pm_prog D 4035 [.ref (A (14, x0i, 0)), .int x1] (wput A (Cz_d pc tc rc fc qc pa ta ra pl tl wc wa ya) S h) = some (match (generalizing := false) r with | (w0, w1) => (Outcome.returned (some (.ref (A (16, w0, w1)))), (wput A (Cz_d pc tc rc fc qc pa ta ra pl tl wc wa ya) S h))) := by
  obtain ⟨D, rfl⟩ : ∃ D', D = D' + 1 := ⟨D - 1, by omega⟩
  have hD : 0 ≤ D := by omega
  simp only [f4035zv3] at e
  have k1 : 0 ≤ x0i ∧ x0i < rc := by
    by_cases q : 0 ≤ x0i ∧ x0i < rc
    · exact q
    · rw [if_neg q] at e; cases e
  rw [if_pos k1] at e
  rw [c4035 (Cz_c14 hP hA k1), b4035_0]
  by_cases k2 : 0 < (wa x0i)
  · rw [if_pos k2] at e
    by_cases k3 : 0 ≤ x1 ∧ x1 < (wa x0i)
    · rw [if_pos k3] at e
      by_cases k4 : x1 < (wc x0i)
      · rw [if_pos k4] at e
        by_cases k5 : 0 ≤ x1 ∧ x1 < (wc x0i)
        · rw [if_pos k5] at e
          have e := Option.some.inj e; subst e
          simp -implicitDefEqProofs (disch := first | assumption | exact Nat.le_of_ble_eq_true rfl | decide) only [b4035_0, pe_aload0, pe_getfield, pe_iload1, pe_aaload, pe_areturn, pe_aloadN0, pe_aastoreN, pe_areturnN, pe_null, pm_prog_1, pm_ob_some, Nat.reduceDiv, Nat.reduceMod, Nat.reduceMul, Nat.reduceAdd, Int.reduceToNat, pm_kill_i, pm_kill_r, pm_kill_n, pm_kill_j, pm_kill_l, pm_kill_d, pm_cats_nil, pm_cats_i, pm_cats_r, pm_cats_n, pm_cats_l, pm_cats_d, sz_1, sz_2, sl_1, sl_2, lc_0, lc_lt, lc_le, li_ne, va_rf, wr_m1, we_m1, pm_kill_w, Int32.reduceOfInt, Int64.reduceOfInt, Int32.reduceOfNat, Int32.reduceLT, Int32.reduceLE, Prod.mk.injEq, Nat.reduceEqDiff, reduceCtorEq, and_true, true_and, and_false, false_and, and_self, ite_true, ite_false, ↓reduceIte, not_true_eq_false, not_false_eq_true, pe_ri, pe_rz, pe_rc, Cz_g14_1 hP hA, Cz_r15 hP hA]
        · rw [if_neg k5] at e; cases e
      · rw [if_neg k4] at e; cases e
    · rw [if_neg k3] at e; cases e
  · rw [if_neg k2] at e; cases e
/-- java/util/ArrayList.get(I)Ljava/lang/Object; -/
noncomputable def f4034zv3 (pc : Int32) (tc : Int32) (rc : Int32) (fc : Int32) (qc : Int32) (pa : Int32) (ta : Int32) (ra : Int32) (pl : Int32 → Int32) (tl : Int32 → Int32) (wc : Int32 → Int32) (wa : Int32 → Int32) (ya : Int32 → Int32) (S : wS) (x0i : Int32) (x1 : Int32) : Option (Int32 × Int32) :=
  if 0 ≤ x0i ∧ x0i < rc then
    (f4736 x1 (S.1 (14, x0i, 0) 2)).bind fun v1 =>
    (f4035zv3 pc tc rc fc qc pa ta ra pl tl wc wa ya S x0i x1).bind fun (v2i, v2j) =>
    if 0 ≤ v2i ∧ v2i < rc then
      if 0 ≤ v2j ∧ v2j < (wc v2i) then
        some (v2i, v2j)
      else none
    else none
  else none
theorem x4034zv3 {pc : Int32} {tc : Int32} {rc : Int32} {fc : Int32} {qc : Int32} {pa : Int32} {ta : Int32} {ra : Int32} {pl : Int32 → Int32} {tl : Int32 → Int32} {wc : Int32 → Int32} {wa : Int32 → Int32} {ya : Int32 → Int32} {A : wK → Nat} {h : pm_H} {D : Nat} {S : wS} {x0i : Int32} {x1 : Int32} {r : Int32 × Int32} (hP : Cz_P pc tc rc fc qc pa ta ra pl tl wc wa ya) (hA : wok A (Cz_d pc tc rc fc qc pa ta ra pl tl wc wa ya) h.1) (hD : 3 ≤ D) (e : f4034zv3 pc tc rc fc qc pa ta ra pl tl wc wa ya S x0i x1 = some r) : pm_call pm_prog D 4034 [.ref (A (14, x0i, 0)), .int x1] (wput A (Cz_d pc tc rc fc qc pa ta ra pl tl wc wa ya) S h) = some (match (generalizing := false) r with | (w0, w1) => (Outcome.returned (some (.ref (A (16, w0, w1)))), (wput A (Cz_d pc tc rc fc qc pa ta ra pl tl wc wa ya) S h))) := by
  obtain ⟨D, rfl⟩ : ∃ D', D = D' + 1 := ⟨D - 1, by omega⟩
  have hD : 2 ≤ D := by omega
  simp only [f4034zv3] at e
  have k1 : 0 ≤ x0i ∧ x0i < rc := by
    by_cases q : 0 ≤ x0i ∧ x0i < rc
    · exact q
    · rw [if_neg q] at e; cases e
  rw [if_pos k1] at e
  rw [c4034 (Cz_c14 hP hA k1), b4034_0]
  obtain ⟨v1, k2, e⟩ := Option.bind_eq_some_iff.mp e
  try dsimp only at e
  have z2 := fun h => x4736 (D := D) (h := h) (by omega) k2
  obtain ⟨⟨v2i, v2j⟩, k3, e⟩ := Option.bind_eq_some_iff.mp e
  try dsimp only at e
  have z3 := x4035zv3 (D := D) (h := h) hP hA (by omega) k3
  dsimp only at z3
  by_cases k4 : 0 ≤ v2i ∧ v2i < rc
  · rw [if_pos k4] at e
    by_cases k5 : 0 ≤ v2j ∧ v2j < (wc v2i)
    · rw [if_pos k5] at e
      have e := Option.some.inj e; subst e
      simp -implicitDefEqProofs (disch := first | assumption | exact Nat.le_of_ble_eq_true rfl | decide) only [b4034_0, pe_iload1, pe_aload0, pe_getfield, pe_call2, pm_af_ret, pm_af_void, pm_af_thr, pe_pop_i, pe_pop_r, pe_areturn, pe_aloadN0, pe_aastoreN, pe_areturnN, pe_null, pm_prog_1, pm_ob_some, Nat.reduceDiv, Nat.reduceMod, Nat.reduceMul, Nat.reduceAdd, Int.reduceToNat, pm_kill_i, pm_kill_r, pm_kill_n, pm_kill_j, pm_kill_l, pm_kill_d, pm_cats_nil, pm_cats_i, pm_cats_r, pm_cats_n, pm_cats_l, pm_cats_d, sz_1, sz_2, sl_1, sl_2, lc_0, lc_lt, lc_le, li_ne, va_rf, wr_m1, we_m1, pm_kill_w, Int32.reduceOfInt, Int64.reduceOfInt, Int32.reduceOfNat, Int32.reduceLT, Int32.reduceLE, Prod.mk.injEq, Nat.reduceEqDiff, reduceCtorEq, and_true, true_and, and_false, false_and, and_self, ite_true, ite_false, ↓reduceIte, not_true_eq_false, not_false_eq_true, pe_ri, pe_rz, pe_rc, Cz_g14_2 hP hA, z2, z3]
    · rw [if_neg k5] at e; cases e
  · rw [if_neg k4] at e; cases e
/-- TimberHouse$LathePieces.row(II)I -/
theorem c676 {d : Nat} {h : pm_H} {a : Nat} {x0 : Int32} {x1 : Int32} (hc : pm_cls h a = some 10) : pm_call pm_prog (d + 1) 676 [.ref a, .int x0, .int x1] h = pm_ev pm_prog (pm_call pm_prog d) 676 0 b676_0 [.ref a, .int x0, .int x1] [] h := pm_cal (pm_rc1 hc rfl) rfl rfl rfl
theorem g676_1 {cl : pm_C} {ls st : List Value} {h : pm_H} : pm_go pm_prog cl 676 1 ls st h = pm_ev pm_prog cl 676 1 b676_1 ls st h := pm_go_eq pm_prog cl 676 1 ls st h
theorem g676_2 {cl : pm_C} {ls st : List Value} {h : pm_H} : pm_go pm_prog cl 676 2 ls st h = pm_ev pm_prog cl 676 2 b676_2 ls st h := pm_go_eq pm_prog cl 676 2 ls st h
theorem g676_3 {cl : pm_C} {ls st : List Value} {h : pm_H} : pm_go pm_prog cl 676 3 ls st h = pm_ev pm_prog cl 676 3 b676_3 ls st h := pm_go_eq pm_prog cl 676 3 ls st h
theorem g676_4 {cl : pm_C} {ls st : List Value} {h : pm_H} : pm_go pm_prog cl 676 4 ls st h = pm_ev pm_prog cl 676 4 b676_4 ls st h := pm_go_eq pm_prog cl 676 4 ls st h
theorem g676_5 {cl : pm_C} {ls st : List Value} {h : pm_H} : pm_go pm_prog cl 676 5 ls st h = pm_ev pm_prog cl 676 5 b676_5 ls st h := pm_go_eq pm_prog cl 676 5 ls st h
theorem t676 {cl : pm_C} {j : Nat} {ls : List Value} {c : Nat} {h : pm_H} : pm_thr pm_prog cl 676 j ls c h = some (.threw c, h) := rfl
noncomputable def f676_5 (pc : Int32) (tc : Int32) (rc : Int32) (fc : Int32) (qc : Int32) (pa : Int32) (ta : Int32) (ra : Int32) (pl : Int32 → Int32) (tl : Int32 → Int32) (wc : Int32 → Int32) (wa : Int32 → Int32) (ya : Int32 → Int32) (S : wS) (x1 : Int32) (x2 : Int32) (y0 : Int32) : Option ((Nat × wS) ⊕ (Int32 × wS)) :=
  (f651 y0).bind fun r => match r with
  | .inl c2 =>
    some (.inl (c2, S))
  | .inr _ =>
  if 0 ≤ (S.1 (0, 0, 0) 7) ∧ (S.1 (0, 0, 0) 7) < 8 then
    some (.inr (((S.1 (0, 0, 0) 7) + 1), (sz (sz (sz S (7, 0, 0) (S.1 (0, 0, 0) 7) x1) (8, 0, 0) (S.1 (0, 0, 0) 7) x2) (0, 0, 0) 7 ((S.1 (0, 0, 0) 7) + 1))))
  else none
noncomputable def f676_3 (pc : Int32) (tc : Int32) (rc : Int32) (fc : Int32) (qc : Int32) (pa : Int32) (ta : Int32) (ra : Int32) (pl : Int32 → Int32) (tl : Int32 → Int32) (wc : Int32 → Int32) (wa : Int32 → Int32) (ya : Int32 → Int32) (S : wS) (x1 : Int32) (x2 : Int32) (y0 : Int32) : Option ((Nat × wS) ⊕ (Int32 × wS)) :=
  (f646 y0).bind fun r => match r with
  | .inl c3 =>
    some (.inl (c3, S))
  | .inr _ =>
  if (S.1 (0, 0, 0) 7) < 8 then
    f676_5 pc tc rc fc qc pa ta ra pl tl wc wa ya S x1 x2 1
  else
    f676_5 pc tc rc fc qc pa ta ra pl tl wc wa ya S x1 x2 0
noncomputable def f676_1 (pc : Int32) (tc : Int32) (rc : Int32) (fc : Int32) (qc : Int32) (pa : Int32) (ta : Int32) (ra : Int32) (pl : Int32 → Int32) (tl : Int32 → Int32) (wc : Int32 → Int32) (wa : Int32 → Int32) (ya : Int32 → Int32) (S : wS) (x1 : Int32) (x2 : Int32) : Option ((Nat × wS) ⊕ (Int32 × wS)) :=
  (f643 x2 1 10000).bind fun v4 =>
  if v4 = 0 then
    f676_3 pc tc rc fc qc pa ta ra pl tl wc wa ya S x1 x2 0
  else
    f676_3 pc tc rc fc qc pa ta ra pl tl wc wa ya S x1 x2 1
/-- TimberHouse$LathePieces.row(II)I -/
noncomputable def f676 (pc : Int32) (tc : Int32) (rc : Int32) (fc : Int32) (qc : Int32) (pa : Int32) (ta : Int32) (ra : Int32) (pl : Int32 → Int32) (tl : Int32 → Int32) (wc : Int32 → Int32) (wa : Int32 → Int32) (ya : Int32 → Int32) (S : wS) (x1 : Int32) (x2 : Int32) : Option ((Nat × wS) ⊕ (Int32 × wS)) :=
  (f643 x1 1 500).bind fun v1 =>
  if v1 = 0 then
    f676_3 pc tc rc fc qc pa ta ra pl tl wc wa ya S x1 x2 0
  else
    if (S.1 (0, 0, 0) 7) = 0 then
      f676_1 pc tc rc fc qc pa ta ra pl tl wc wa ya S x1 x2
    else
      if 0 ≤ ((S.1 (0, 0, 0) 7) - 1) ∧ ((S.1 (0, 0, 0) 7) - 1) < 8 then
        if x1 ≤ (S.1 (7, 0, 0) ((S.1 (0, 0, 0) 7) - 1)) then
          f676_3 pc tc rc fc qc pa ta ra pl tl wc wa ya S x1 x2 0
        else
          f676_1 pc tc rc fc qc pa ta ra pl tl wc wa ya S x1 x2
      else none
theorem y676_5 {pc : Int32} {tc : Int32} {rc : Int32} {fc : Int32} {qc : Int32} {pa : Int32} {ta : Int32} {ra : Int32} {pl : Int32 → Int32} {tl : Int32 → Int32} {wc : Int32 → Int32} {wa : Int32 → Int32} {ya : Int32 → Int32} {A : wK → Nat} {h : pm_H} {D : Nat} {S : wS} {x1 : Int32} {x2 : Int32} {y0 : Int32} {r : (Nat × wS) ⊕ (Int32 × wS)} (hP : Cz_P pc tc rc fc qc pa ta ra pl tl wc wa ya) (hA : wok A (Cz_d pc tc rc fc qc pa ta ra pl tl wc wa ya) h.1) (hD : 1 ≤ D) (e : f676_5 pc tc rc fc qc pa ta ra pl tl wc wa ya S x1 x2 y0 = some r) : pm_go pm_prog (pm_call pm_prog D) 676 5 [.ref (A (0, 0, 0)), .int x1, .int x2] [.int y0] (wput A (Cz_d pc tc rc fc qc pa ta ra pl tl wc wa ya) S h) = some (match (generalizing := false) r with | .inl (c, S1) => (Outcome.threw c, (wput A (Cz_d pc tc rc fc qc pa ta ra pl tl wc wa ya) S1 (pm_new h 6 (.inr (c, []))))) | .inr (w0, S1) => (Outcome.returned (some (.int w0)), (wput A (Cz_d pc tc rc fc qc pa ta ra pl tl wc wa ya) S1 h))) := by
  simp only [f676_5] at e
  rw [g676_5, b676_5]
  obtain ⟨r, k1, e⟩ := Option.bind_eq_some_iff.mp e
  have z1 := fun h => x651 (D := D) (h := h) (by omega) k1
  rcases r with c2 | _
  · dsimp only at e z1
    have e := Option.some.inj e; subst e
    simp -implicitDefEqProofs (disch := first | assumption | exact Nat.le_of_ble_eq_true rfl | decide) only [b676_0, g676_2, b676_2, g676_4, b676_4, pe_iload1, pe_sipush, pe_call3, pm_af_ret, pm_af_void, pm_af_thr, pe_if_eq, pe_aload0, pe_getfield, pe_isub, pe_iaload, pe_icmp_le, pe_goto_w, pe_iload2, pe_goto, pe_call1, pe_icmp_ge, pe_iastore, pe_dup_i, pe_dup_r, pe_iadd, pe_dup_x1_ii, pe_dup_x1_ir, pe_dup_x1_ri, pe_dup_x1_rr, pe_putfield, pe_aloadN0, pe_aastoreN, pe_areturnN, pe_null, pm_prog_1, pm_ob_some, Nat.reduceDiv, Nat.reduceMod, Nat.reduceMul, Nat.reduceAdd, Int.reduceToNat, pm_kill_i, pm_kill_r, pm_kill_n, pm_kill_j, pm_kill_l, pm_kill_d, pm_cats_nil, pm_cats_i, pm_cats_r, pm_cats_n, pm_cats_l, pm_cats_d, sz_1, sz_2, sl_1, sl_2, lc_0, lc_lt, lc_le, li_ne, va_rf, wr_m1, we_m1, pm_kill_w, Int32.reduceOfInt, Int64.reduceOfInt, Int32.reduceOfNat, Int32.reduceLT, Int32.reduceLE, Prod.mk.injEq, Nat.reduceEqDiff, reduceCtorEq, and_true, true_and, and_false, false_and, and_self, ite_true, ite_false, ↓reduceIte, not_true_eq_false, not_false_eq_true, pe_ri, pe_rz, pe_rc, p_throw, t676, w_junk hA, Cz_g0_5 hP hA, Cz_g0_6 hP hA, Cz_g0_7 hP hA, Cz_p0_7 hP hA, Cz_r7 hP hA, Cz_w7 hP hA, Cz_w8 hP hA, z1]
  · dsimp only at e z1
    by_cases k2 : 0 ≤ (S.1 (0, 0, 0) 7) ∧ (S.1 (0, 0, 0) 7) < 8
    · rw [if_pos k2] at e
      have e := Option.some.inj e; subst e
      simp -implicitDefEqProofs (disch := first | assumption | exact Nat.le_of_ble_eq_true rfl | decide) only [b676_0, g676_2, b676_2, g676_4, b676_4, pe_iload1, pe_sipush, pe_call3, pm_af_ret, pm_af_void, pm_af_thr, pe_if_eq, pe_aload0, pe_getfield, pe_isub, pe_iaload, pe_icmp_le, pe_goto_w, pe_iload2, pe_goto, pe_call1, pe_icmp_ge, pe_iastore, pe_dup_i, pe_dup_r, pe_iadd, pe_dup_x1_ii, pe_dup_x1_ir, pe_dup_x1_ri, pe_dup_x1_rr, pe_putfield, pe_aloadN0, pe_aastoreN, pe_areturnN, pe_null, pm_prog_1, pm_ob_some, Nat.reduceDiv, Nat.reduceMod, Nat.reduceMul, Nat.reduceAdd, Int.reduceToNat, pm_kill_i, pm_kill_r, pm_kill_n, pm_kill_j, pm_kill_l, pm_kill_d, pm_cats_nil, pm_cats_i, pm_cats_r, pm_cats_n, pm_cats_l, pm_cats_d, sz_1, sz_2, sl_1, sl_2, lc_0, lc_lt, lc_le, li_ne, va_rf, wr_m1, we_m1, pm_kill_w, Int32.reduceOfInt, Int64.reduceOfInt, Int32.reduceOfNat, Int32.reduceLT, Int32.reduceLE, Prod.mk.injEq, Nat.reduceEqDiff, reduceCtorEq, and_true, true_and, and_false, false_and, and_self, ite_true, ite_false, ↓reduceIte, not_true_eq_false, not_false_eq_true, pe_ri, pe_rz, pe_rc, p_throw, t676, w_junk hA, Cz_g0_5 hP hA, Cz_g0_6 hP hA, Cz_g0_7 hP hA, Cz_p0_7 hP hA, Cz_r7 hP hA, Cz_w7 hP hA, Cz_w8 hP hA, z1]
    · rw [if_neg k2] at e; cases e
theorem y676_3 {pc : Int32} {tc : Int32} {rc : Int32} {fc : Int32} {qc : Int32} {pa : Int32} {ta : Int32} {ra : Int32} {pl : Int32 → Int32} {tl : Int32 → Int32} {wc : Int32 → Int32} {wa : Int32 → Int32} {ya : Int32 → Int32} {A : wK → Nat} {h : pm_H} {D : Nat} {S : wS} {x1 : Int32} {x2 : Int32} {y0 : Int32} {r : (Nat × wS) ⊕ (Int32 × wS)} (hP : Cz_P pc tc rc fc qc pa ta ra pl tl wc wa ya) (hA : wok A (Cz_d pc tc rc fc qc pa ta ra pl tl wc wa ya) h.1) (hD : 1 ≤ D) (e : f676_3 pc tc rc fc qc pa ta ra pl tl wc wa ya S x1 x2 y0 = some r) : pm_go pm_prog (pm_call pm_prog D) 676 3 [.ref (A (0, 0, 0)), .int x1, .int x2] [.int y0] (wput A (Cz_d pc tc rc fc qc pa ta ra pl tl wc wa ya) S h) = some (match (generalizing := false) r with | .inl (c, S1) => (Outcome.threw c, (wput A (Cz_d pc tc rc fc qc pa ta ra pl tl wc wa ya) S1 (pm_new h 6 (.inr (c, []))))) | .inr (w0, S1) => (Outcome.returned (some (.int w0)), (wput A (Cz_d pc tc rc fc qc pa ta ra pl tl wc wa ya) S1 h))) := by
  simp only [f676_3] at e
  rw [g676_3, b676_3]
  obtain ⟨r, k1, e⟩ := Option.bind_eq_some_iff.mp e
  have z1 := fun h => x646 (D := D) (h := h) (by omega) k1
  rcases r with c3 | _
  · dsimp only at e z1
    have e := Option.some.inj e; subst e
    simp -implicitDefEqProofs (disch := first | assumption | exact Nat.le_of_ble_eq_true rfl | decide) only [b676_0, g676_2, b676_2, g676_4, b676_4, pe_iload1, pe_sipush, pe_call3, pm_af_ret, pm_af_void, pm_af_thr, pe_if_eq, pe_aload0, pe_getfield, pe_isub, pe_iaload, pe_icmp_le, pe_goto_w, pe_iload2, pe_goto, pe_call1, pe_icmp_ge, pe_iastore, pe_dup_i, pe_dup_r, pe_iadd, pe_dup_x1_ii, pe_dup_x1_ir, pe_dup_x1_ri, pe_dup_x1_rr, pe_putfield, pe_aloadN0, pe_aastoreN, pe_areturnN, pe_null, pm_prog_1, pm_ob_some, Nat.reduceDiv, Nat.reduceMod, Nat.reduceMul, Nat.reduceAdd, Int.reduceToNat, pm_kill_i, pm_kill_r, pm_kill_n, pm_kill_j, pm_kill_l, pm_kill_d, pm_cats_nil, pm_cats_i, pm_cats_r, pm_cats_n, pm_cats_l, pm_cats_d, sz_1, sz_2, sl_1, sl_2, lc_0, lc_lt, lc_le, li_ne, va_rf, wr_m1, we_m1, pm_kill_w, Int32.reduceOfInt, Int64.reduceOfInt, Int32.reduceOfNat, Int32.reduceLT, Int32.reduceLE, Prod.mk.injEq, Nat.reduceEqDiff, reduceCtorEq, and_true, true_and, and_false, false_and, and_self, ite_true, ite_false, ↓reduceIte, not_true_eq_false, not_false_eq_true, pe_ri, pe_rz, pe_rc, p_throw, t676, w_junk hA, Cz_g0_5 hP hA, Cz_g0_6 hP hA, Cz_g0_7 hP hA, Cz_p0_7 hP hA, Cz_r7 hP hA, Cz_w7 hP hA, Cz_w8 hP hA, z1]
  · dsimp only at e z1
    by_cases k2 : (S.1 (0, 0, 0) 7) < 8
    · rw [if_pos k2] at e
      have k3 := y676_5 (h := h) hP hA hD e
      simp -implicitDefEqProofs (disch := first | assumption | exact Nat.le_of_ble_eq_true rfl | decide) only [b676_0, g676_2, b676_2, g676_4, b676_4, pe_iload1, pe_sipush, pe_call3, pm_af_ret, pm_af_void, pm_af_thr, pe_if_eq, pe_aload0, pe_getfield, pe_isub, pe_iaload, pe_icmp_le, pe_goto_w, pe_iload2, pe_goto, pe_call1, pe_icmp_ge, pe_iastore, pe_dup_i, pe_dup_r, pe_iadd, pe_dup_x1_ii, pe_dup_x1_ir, pe_dup_x1_ri, pe_dup_x1_rr, pe_putfield, pe_aloadN0, pe_aastoreN, pe_areturnN, pe_null, pm_prog_1, pm_ob_some, Nat.reduceDiv, Nat.reduceMod, Nat.reduceMul, Nat.reduceAdd, Int.reduceToNat, pm_kill_i, pm_kill_r, pm_kill_n, pm_kill_j, pm_kill_l, pm_kill_d, pm_cats_nil, pm_cats_i, pm_cats_r, pm_cats_n, pm_cats_l, pm_cats_d, sz_1, sz_2, sl_1, sl_2, lc_0, lc_lt, lc_le, li_ne, va_rf, wr_m1, we_m1, pm_kill_w, Int32.reduceOfInt, Int64.reduceOfInt, Int32.reduceOfNat, Int32.reduceLT, Int32.reduceLE, Prod.mk.injEq, Nat.reduceEqDiff, reduceCtorEq, and_true, true_and, and_false, false_and, and_self, ite_true, ite_false, ↓reduceIte, not_true_eq_false, not_false_eq_true, pe_ri, pe_rz, pe_rc, p_throw, t676, w_junk hA, Cz_g0_5 hP hA, Cz_g0_6 hP hA, Cz_g0_7 hP hA, Cz_p0_7 hP hA, Cz_r7 hP hA, Cz_w7 hP hA, Cz_w8 hP hA, z1, eq_true k2, k3]
    · rw [if_neg k2] at e
      have k4 := y676_5 (h := h) hP hA hD e
      simp -implicitDefEqProofs (disch := first | assumption | exact Nat.le_of_ble_eq_true rfl | decide) only [b676_0, g676_2, b676_2, g676_4, b676_4, pe_iload1, pe_sipush, pe_call3, pm_af_ret, pm_af_void, pm_af_thr, pe_if_eq, pe_aload0, pe_getfield, pe_isub, pe_iaload, pe_icmp_le, pe_goto_w, pe_iload2, pe_goto, pe_call1, pe_icmp_ge, pe_iastore, pe_dup_i, pe_dup_r, pe_iadd, pe_dup_x1_ii, pe_dup_x1_ir, pe_dup_x1_ri, pe_dup_x1_rr, pe_putfield, pe_aloadN0, pe_aastoreN, pe_areturnN, pe_null, pm_prog_1, pm_ob_some, Nat.reduceDiv, Nat.reduceMod, Nat.reduceMul, Nat.reduceAdd, Int.reduceToNat, pm_kill_i, pm_kill_r, pm_kill_n, pm_kill_j, pm_kill_l, pm_kill_d, pm_cats_nil, pm_cats_i, pm_cats_r, pm_cats_n, pm_cats_l, pm_cats_d, sz_1, sz_2, sl_1, sl_2, lc_0, lc_lt, lc_le, li_ne, va_rf, wr_m1, we_m1, pm_kill_w, Int32.reduceOfInt, Int64.reduceOfInt, Int32.reduceOfNat, Int32.reduceLT, Int32.reduceLE, Prod.mk.injEq, Nat.reduceEqDiff, reduceCtorEq, and_true, true_and, and_false, false_and, and_self, ite_true, ite_false, ↓reduceIte, not_true_eq_false, not_false_eq_true, pe_ri, pe_rz, pe_rc, p_throw, t676, w_junk hA, Cz_g0_5 hP hA, Cz_g0_6 hP hA, Cz_g0_7 hP hA, Cz_p0_7 hP hA, Cz_r7 hP hA, Cz_w7 hP hA, Cz_w8 hP hA, z1, eq_false k2, k4]
theorem y676_1 {pc : Int32} {tc : Int32} {rc : Int32} {fc : Int32} {qc : Int32} {pa : Int32} {ta : Int32} {ra : Int32} {pl : Int32 → Int32} {tl : Int32 → Int32} {wc : Int32 → Int32} {wa : Int32 → Int32} {ya : Int32 → Int32} {A : wK → Nat} {h : pm_H} {D : Nat} {S : wS} {x1 : Int32} {x2 : Int32} {r : (Nat × wS) ⊕ (Int32 × wS)} (hP : Cz_P pc tc rc fc qc pa ta ra pl tl wc wa ya) (hA : wok A (Cz_d pc tc rc fc qc pa ta ra pl tl wc wa ya) h.1) (hD : 1 ≤ D) (e : f676_1 pc tc rc fc qc pa ta ra pl tl wc wa ya S x1 x2 = some r) : pm_go pm_prog (pm_call pm_prog D) 676 1 [.ref (A (0, 0, 0)), .int x1, .int x2] [] (wput A (Cz_d pc tc rc fc qc pa ta ra pl tl wc wa ya) S h) = some (match (generalizing := false) r with | .inl (c, S1) => (Outcome.threw c, (wput A (Cz_d pc tc rc fc qc pa ta ra pl tl wc wa ya) S1 (pm_new h 6 (.inr (c, []))))) | .inr (w0, S1) => (Outcome.returned (some (.int w0)), (wput A (Cz_d pc tc rc fc qc pa ta ra pl tl wc wa ya) S1 h))) := by
  simp only [f676_1] at e
  rw [g676_1, b676_1]
  obtain ⟨v4, k1, e⟩ := Option.bind_eq_some_iff.mp e
  try dsimp only at e
  have z1 := fun h => x643 (D := D) (h := h) (by omega) k1
  by_cases k2 : v4 = 0
  · rw [if_pos k2] at e
    have k3 := y676_3 (h := h) hP hA hD e
    simp -implicitDefEqProofs (disch := first | assumption | exact Nat.le_of_ble_eq_true rfl | decide) only [b676_0, g676_2, b676_2, g676_4, b676_4, pe_iload1, pe_sipush, pe_call3, pm_af_ret, pm_af_void, pm_af_thr, pe_if_eq, pe_aload0, pe_getfield, pe_isub, pe_iaload, pe_icmp_le, pe_goto_w, pe_iload2, pe_goto, pe_call1, pe_icmp_ge, pe_iastore, pe_dup_i, pe_dup_r, pe_iadd, pe_dup_x1_ii, pe_dup_x1_ir, pe_dup_x1_ri, pe_dup_x1_rr, pe_putfield, pe_aloadN0, pe_aastoreN, pe_areturnN, pe_null, pm_prog_1, pm_ob_some, Nat.reduceDiv, Nat.reduceMod, Nat.reduceMul, Nat.reduceAdd, Int.reduceToNat, pm_kill_i, pm_kill_r, pm_kill_n, pm_kill_j, pm_kill_l, pm_kill_d, pm_cats_nil, pm_cats_i, pm_cats_r, pm_cats_n, pm_cats_l, pm_cats_d, sz_1, sz_2, sl_1, sl_2, lc_0, lc_lt, lc_le, li_ne, va_rf, wr_m1, we_m1, pm_kill_w, Int32.reduceOfInt, Int64.reduceOfInt, Int32.reduceOfNat, Int32.reduceLT, Int32.reduceLE, Prod.mk.injEq, Nat.reduceEqDiff, reduceCtorEq, and_true, true_and, and_false, false_and, and_self, ite_true, ite_false, ↓reduceIte, not_true_eq_false, not_false_eq_true, pe_ri, pe_rz, pe_rc, p_throw, t676, w_junk hA, Cz_g0_5 hP hA, Cz_g0_6 hP hA, Cz_g0_7 hP hA, Cz_p0_7 hP hA, Cz_r7 hP hA, Cz_w7 hP hA, Cz_w8 hP hA, z1, eq_true k2, k3]
  · rw [if_neg k2] at e
    have k4 := y676_3 (h := h) hP hA hD e
    simp -implicitDefEqProofs (disch := first | assumption | exact Nat.le_of_ble_eq_true rfl | decide) only [b676_0, g676_2, b676_2, g676_4, b676_4, pe_iload1, pe_sipush, pe_call3, pm_af_ret, pm_af_void, pm_af_thr, pe_if_eq, pe_aload0, pe_getfield, pe_isub, pe_iaload, pe_icmp_le, pe_goto_w, pe_iload2, pe_goto, pe_call1, pe_icmp_ge, pe_iastore, pe_dup_i, pe_dup_r, pe_iadd, pe_dup_x1_ii, pe_dup_x1_ir, pe_dup_x1_ri, pe_dup_x1_rr, pe_putfield, pe_aloadN0, pe_aastoreN, pe_areturnN, pe_null, pm_prog_1, pm_ob_some, Nat.reduceDiv, Nat.reduceMod, Nat.reduceMul, Nat.reduceAdd, Int.reduceToNat, pm_kill_i, pm_kill_r, pm_kill_n, pm_kill_j, pm_kill_l, pm_kill_d, pm_cats_nil, pm_cats_i, pm_cats_r, pm_cats_n, pm_cats_l, pm_cats_d, sz_1, sz_2, sl_1, sl_2, lc_0, lc_lt, lc_le, li_ne, va_rf, wr_m1, we_m1, pm_kill_w, Int32.reduceOfInt, Int64.reduceOfInt, Int32.reduceOfNat, Int32.reduceLT, Int32.reduceLE, Prod.mk.injEq, Nat.reduceEqDiff, reduceCtorEq, and_true, true_and, and_false, false_and, and_self, ite_true, ite_false, ↓reduceIte, not_true_eq_false, not_false_eq_true, pe_ri, pe_rz, pe_rc, p_throw, t676, w_junk hA, Cz_g0_5 hP hA, Cz_g0_6 hP hA, Cz_g0_7 hP hA, Cz_p0_7 hP hA, Cz_r7 hP hA, Cz_w7 hP hA, Cz_w8 hP hA, z1, eq_false k2, k4]
theorem x676 {pc : Int32} {tc : Int32} {rc : Int32} {fc : Int32} {qc : Int32} {pa : Int32} {ta : Int32} {ra : Int32} {pl : Int32 → Int32} {tl : Int32 → Int32} {wc : Int32 → Int32} {wa : Int32 → Int32} {ya : Int32 → Int32} {A : wK → Nat} {h : pm_H} {D : Nat} {S : wS} {x1 : Int32} {x2 : Int32} {r : (Nat × wS) ⊕ (Int32 × wS)} (hP : Cz_P pc tc rc fc qc pa ta ra pl tl wc wa ya) (hA : wok A (Cz_d pc tc rc fc qc pa ta ra pl tl wc wa ya) h.1) (hD : 2 ≤ D) (e : f676 pc tc rc fc qc pa ta ra pl tl wc wa ya S x1 x2 = some r) : pm_call pm_prog D 676 [.ref (A (0, 0, 0)), .int x1, .int x2] (wput A (Cz_d pc tc rc fc qc pa ta ra pl tl wc wa ya) S h) = some (match (generalizing := false) r with | .inl (c, S1) => (Outcome.threw c, (wput A (Cz_d pc tc rc fc qc pa ta ra pl tl wc wa ya) S1 (pm_new h 6 (.inr (c, []))))) | .inr (w0, S1) => (Outcome.returned (some (.int w0)), (wput A (Cz_d pc tc rc fc qc pa ta ra pl tl wc wa ya) S1 h))) := by
  obtain ⟨D, rfl⟩ : ∃ D', D = D' + 1 := ⟨D - 1, by omega⟩
  have hD : 1 ≤ D := by omega
  simp only [f676] at e
  rw [c676 (Cz_c0 hP hA), b676_0]
  obtain ⟨v1, k1, e⟩ := Option.bind_eq_some_iff.mp e
  try dsimp only at e
  have z1 := fun h => x643 (D := D) (h := h) (by omega) k1
  by_cases k2 : v1 = 0
  · rw [if_pos k2] at e
    have k3 := y676_3 (h := h) hP hA hD e
    simp -implicitDefEqProofs (disch := first | assumption | exact Nat.le_of_ble_eq_true rfl | decide) only [b676_0, g676_2, b676_2, g676_4, b676_4, pe_iload1, pe_sipush, pe_call3, pm_af_ret, pm_af_void, pm_af_thr, pe_if_eq, pe_aload0, pe_getfield, pe_isub, pe_iaload, pe_icmp_le, pe_goto_w, pe_iload2, pe_goto, pe_call1, pe_icmp_ge, pe_iastore, pe_dup_i, pe_dup_r, pe_iadd, pe_dup_x1_ii, pe_dup_x1_ir, pe_dup_x1_ri, pe_dup_x1_rr, pe_putfield, pe_aloadN0, pe_aastoreN, pe_areturnN, pe_null, pm_prog_1, pm_ob_some, Nat.reduceDiv, Nat.reduceMod, Nat.reduceMul, Nat.reduceAdd, Int.reduceToNat, pm_kill_i, pm_kill_r, pm_kill_n, pm_kill_j, pm_kill_l, pm_kill_d, pm_cats_nil, pm_cats_i, pm_cats_r, pm_cats_n, pm_cats_l, pm_cats_d, sz_1, sz_2, sl_1, sl_2, lc_0, lc_lt, lc_le, li_ne, va_rf, wr_m1, we_m1, pm_kill_w, Int32.reduceOfInt, Int64.reduceOfInt, Int32.reduceOfNat, Int32.reduceLT, Int32.reduceLE, Prod.mk.injEq, Nat.reduceEqDiff, reduceCtorEq, and_true, true_and, and_false, false_and, and_self, ite_true, ite_false, ↓reduceIte, not_true_eq_false, not_false_eq_true, pe_ri, pe_rz, pe_rc, p_throw, t676, w_junk hA, Cz_g0_5 hP hA, Cz_g0_6 hP hA, Cz_g0_7 hP hA, Cz_p0_7 hP hA, Cz_r7 hP hA, Cz_w7 hP hA, Cz_w8 hP hA, z1, eq_true k2, k3]
  · rw [if_neg k2] at e
    by_cases k4 : (S.1 (0, 0, 0) 7) = 0
    · rw [if_pos k4] at e
      have k5 := y676_1 (h := h) hP hA hD e
      simp -implicitDefEqProofs (disch := first | assumption | exact Nat.le_of_ble_eq_true rfl | decide) only [b676_0, g676_2, b676_2, g676_4, b676_4, pe_iload1, pe_sipush, pe_call3, pm_af_ret, pm_af_void, pm_af_thr, pe_if_eq, pe_aload0, pe_getfield, pe_isub, pe_iaload, pe_icmp_le, pe_goto_w, pe_iload2, pe_goto, pe_call1, pe_icmp_ge, pe_iastore, pe_dup_i, pe_dup_r, pe_iadd, pe_dup_x1_ii, pe_dup_x1_ir, pe_dup_x1_ri, pe_dup_x1_rr, pe_putfield, pe_aloadN0, pe_aastoreN, pe_areturnN, pe_null, pm_prog_1, pm_ob_some, Nat.reduceDiv, Nat.reduceMod, Nat.reduceMul, Nat.reduceAdd, Int.reduceToNat, pm_kill_i, pm_kill_r, pm_kill_n, pm_kill_j, pm_kill_l, pm_kill_d, pm_cats_nil, pm_cats_i, pm_cats_r, pm_cats_n, pm_cats_l, pm_cats_d, sz_1, sz_2, sl_1, sl_2, lc_0, lc_lt, lc_le, li_ne, va_rf, wr_m1, we_m1, pm_kill_w, Int32.reduceOfInt, Int64.reduceOfInt, Int32.reduceOfNat, Int32.reduceLT, Int32.reduceLE, Prod.mk.injEq, Nat.reduceEqDiff, reduceCtorEq, and_true, true_and, and_false, false_and, and_self, ite_true, ite_false, ↓reduceIte, not_true_eq_false, not_false_eq_true, pe_ri, pe_rz, pe_rc, p_throw, t676, w_junk hA, Cz_g0_5 hP hA, Cz_g0_6 hP hA, Cz_g0_7 hP hA, Cz_p0_7 hP hA, Cz_r7 hP hA, Cz_w7 hP hA, Cz_w8 hP hA, z1, eq_false k2, eq_true k4, k5]
    · rw [if_neg k4] at e
      by_cases k6 : 0 ≤ ((S.1 (0, 0, 0) 7) - 1) ∧ ((S.1 (0, 0, 0) 7) - 1) < 8
      · rw [if_pos k6] at e
        by_cases k7 : x1 ≤ (S.1 (7, 0, 0) ((S.1 (0, 0, 0) 7) - 1))
        · rw [if_pos k7] at e
          have k8 := y676_3 (h := h) hP hA hD e
          simp -implicitDefEqProofs (disch := first | assumption | exact Nat.le_of_ble_eq_true rfl | decide) only [b676_0, g676_2, b676_2, g676_4, b676_4, pe_iload1, pe_sipush, pe_call3, pm_af_ret, pm_af_void, pm_af_thr, pe_if_eq, pe_aload0, pe_getfield, pe_isub, pe_iaload, pe_icmp_le, pe_goto_w, pe_iload2, pe_goto, pe_call1, pe_icmp_ge, pe_iastore, pe_dup_i, pe_dup_r, pe_iadd, pe_dup_x1_ii, pe_dup_x1_ir, pe_dup_x1_ri, pe_dup_x1_rr, pe_putfield, pe_aloadN0, pe_aastoreN, pe_areturnN, pe_null, pm_prog_1, pm_ob_some, Nat.reduceDiv, Nat.reduceMod, Nat.reduceMul, Nat.reduceAdd, Int.reduceToNat, pm_kill_i, pm_kill_r, pm_kill_n, pm_kill_j, pm_kill_l, pm_kill_d, pm_cats_nil, pm_cats_i, pm_cats_r, pm_cats_n, pm_cats_l, pm_cats_d, sz_1, sz_2, sl_1, sl_2, lc_0, lc_lt, lc_le, li_ne, va_rf, wr_m1, we_m1, pm_kill_w, Int32.reduceOfInt, Int64.reduceOfInt, Int32.reduceOfNat, Int32.reduceLT, Int32.reduceLE, Prod.mk.injEq, Nat.reduceEqDiff, reduceCtorEq, and_true, true_and, and_false, false_and, and_self, ite_true, ite_false, ↓reduceIte, not_true_eq_false, not_false_eq_true, pe_ri, pe_rz, pe_rc, p_throw, t676, w_junk hA, Cz_g0_5 hP hA, Cz_g0_6 hP hA, Cz_g0_7 hP hA, Cz_p0_7 hP hA, Cz_r7 hP hA, Cz_w7 hP hA, Cz_w8 hP hA, z1, eq_false k2, eq_false k4, eq_true k7, k8]
        · rw [if_neg k7] at e
          have k9 := y676_1 (h := h) hP hA hD e
          simp -implicitDefEqProofs (disch := first | assumption | exact Nat.le_of_ble_eq_true rfl | decide) only [b676_0, g676_2, b676_2, g676_4, b676_4, pe_iload1, pe_sipush, pe_call3, pm_af_ret, pm_af_void, pm_af_thr, pe_if_eq, pe_aload0, pe_getfield, pe_isub, pe_iaload, pe_icmp_le, pe_goto_w, pe_iload2, pe_goto, pe_call1, pe_icmp_ge, pe_iastore, pe_dup_i, pe_dup_r, pe_iadd, pe_dup_x1_ii, pe_dup_x1_ir, pe_dup_x1_ri, pe_dup_x1_rr, pe_putfield, pe_aloadN0, pe_aastoreN, pe_areturnN, pe_null, pm_prog_1, pm_ob_some, Nat.reduceDiv, Nat.reduceMod, Nat.reduceMul, Nat.reduceAdd, Int.reduceToNat, pm_kill_i, pm_kill_r, pm_kill_n, pm_kill_j, pm_kill_l, pm_kill_d, pm_cats_nil, pm_cats_i, pm_cats_r, pm_cats_n, pm_cats_l, pm_cats_d, sz_1, sz_2, sl_1, sl_2, lc_0, lc_lt, lc_le, li_ne, va_rf, wr_m1, we_m1, pm_kill_w, Int32.reduceOfInt, Int64.reduceOfInt, Int32.reduceOfNat, Int32.reduceLT, Int32.reduceLE, Prod.mk.injEq, Nat.reduceEqDiff, reduceCtorEq, and_true, true_and, and_false, false_and, and_self, ite_true, ite_false, ↓reduceIte, not_true_eq_false, not_false_eq_true, pe_ri, pe_rz, pe_rc, p_throw, t676, w_junk hA, Cz_g0_5 hP hA, Cz_g0_6 hP hA, Cz_g0_7 hP hA, Cz_p0_7 hP hA, Cz_r7 hP hA, Cz_w7 hP hA, Cz_w8 hP hA, z1, eq_false k2, eq_false k4, eq_false k7, k9]
      · rw [if_neg k6] at e; cases e
/-- TimberHouse$LathePieces.speed(II)I -/
theorem c677 {d : Nat} {h : pm_H} {a : Nat} {x0 : Int32} {x1 : Int32} (hc : pm_cls h a = some 10) : pm_call pm_prog (d + 1) 677 [.ref a, .int x0, .int x1] h = pm_ev pm_prog (pm_call pm_prog d) 677 0 b677_0 [.ref a, .int x0, .int x1, pm_junk, pm_junk] [] h := pm_cal (pm_rc1 hc rfl) rfl rfl rfl
theorem g677_1 {cl : pm_C} {ls st : List Value} {h : pm_H} : pm_go pm_prog cl 677 1 ls st h = pm_ev pm_prog cl 677 1 b677_1 ls st h := pm_go_eq pm_prog cl 677 1 ls st h
theorem g677_2 {cl : pm_C} {ls st : List Value} {h : pm_H} : pm_go pm_prog cl 677 2 ls st h = pm_ev pm_prog cl 677 2 b677_2 ls st h := pm_go_eq pm_prog cl 677 2 ls st h
theorem g677_3 {cl : pm_C} {ls st : List Value} {h : pm_H} : pm_go pm_prog cl 677 3 ls st h = pm_ev pm_prog cl 677 3 b677_3 ls st h := pm_go_eq pm_prog cl 677 3 ls st h
theorem g677_4 {cl : pm_C} {ls st : List Value} {h : pm_H} : pm_go pm_prog cl 677 4 ls st h = pm_ev pm_prog cl 677 4 b677_4 ls st h := pm_go_eq pm_prog cl 677 4 ls st h
theorem t677 {cl : pm_C} {j : Nat} {ls : List Value} {c : Nat} {h : pm_H} : pm_thr pm_prog cl 677 j ls c h = some (.threw c, h) := rfl
noncomputable def f677_b3 (pc : Int32) (tc : Int32) (rc : Int32) (fc : Int32) (qc : Int32) (pa : Int32) (ta : Int32) (ra : Int32) (pl : Int32 → Int32) (tl : Int32 → Int32) (wc : Int32 → Int32) (wa : Int32 → Int32) (ya : Int32 → Int32) (S : wS) : Int32 × Int32 → Option ((Int32 × Int32) ⊕ ((Int32))) := fun (x3, x4) =>
  if x4 < ((S.1 (0, 0, 0) 7) - 1) then
    if 0 ≤ x4 ∧ x4 < 8 then
      if (S.1 (7, 0, 0) x4) < x3 then
        some (.inl (x3, (x4 + 1)))
      else
        some (.inr x4)
    else none
  else
    some (.inr x4)
noncomputable def f677_2 (pc : Int32) (tc : Int32) (rc : Int32) (fc : Int32) (qc : Int32) (pa : Int32) (ta : Int32) (ra : Int32) (pl : Int32 → Int32) (tl : Int32 → Int32) (wc : Int32 → Int32) (wa : Int32 → Int32) (ya : Int32 → Int32) (S : wS) (x3 : Int32) (y0 : Int32) : Option (Nat ⊕ (Int32)) :=
  (f651 y0).bind fun r => match r with
  | .inl c4 =>
    some (.inl c4)
  | .inr _ =>
  (lp (f677_b3 pc tc rc fc qc pa ta ra pl tl wc wa ya S) FU (x3, 0)).bind fun v3 =>
  if 0 ≤ v3 ∧ v3 < 8 then
    some (.inr (S.1 (8, 0, 0) v3))
  else none
/-- TimberHouse$LathePieces.speed(II)I -/
noncomputable def f677 (pc : Int32) (tc : Int32) (rc : Int32) (fc : Int32) (qc : Int32) (pa : Int32) (ta : Int32) (ra : Int32) (pl : Int32 → Int32) (tl : Int32 → Int32) (wc : Int32 → Int32) (wa : Int32 → Int32) (ya : Int32 → Int32) (S : wS) (x1 : Int32) (x2 : Int32) : Option (Nat ⊕ (Int32)) :=
  (f656 pc tc rc fc qc pa ta ra pl tl wc wa ya S x1 x2).bind fun r => match r with
  | .inl c5 =>
    some (.inl c5)
  | .inr v1 =>
  if (S.1 (0, 0, 0) 7) ≤ 0 then
    f677_2 pc tc rc fc qc pa ta ra pl tl wc wa ya S v1 0
  else
    f677_2 pc tc rc fc qc pa ta ra pl tl wc wa ya S v1 1
def go677_3 (pc : Int32) (tc : Int32) (rc : Int32) (fc : Int32) (qc : Int32) (pa : Int32) (ta : Int32) (ra : Int32) (pl : Int32 → Int32) (tl : Int32 → Int32) (wc : Int32 → Int32) (wa : Int32 → Int32) (ya : Int32 → Int32) (A : wK → Nat) (h : pm_H) (D : Nat) (R : Outcome × pm_H) (S : wS) : Int32 × Int32 → Prop := fun (x3, x4) => ∀ q1 q2 : Value, pm_go pm_prog (pm_call pm_prog D) 677 3 [.ref (A (0, 0, 0)), q1, q2, .int x3, .int x4] [] (wput A (Cz_d pc tc rc fc qc pa ta ra pl tl wc wa ya) S h) = some R
def ex677_3 (pc : Int32) (tc : Int32) (rc : Int32) (fc : Int32) (qc : Int32) (pa : Int32) (ta : Int32) (ra : Int32) (pl : Int32 → Int32) (tl : Int32 → Int32) (wc : Int32 → Int32) (wa : Int32 → Int32) (ya : Int32 → Int32) (A : wK → Nat) (h : pm_H) (D : Nat) (R : Outcome × pm_H) (S : wS) : (Int32) → Prop := fun x4 => ∀ q1 q2 q3 : Value, pm_go pm_prog (pm_call pm_prog D) 677 4 [.ref (A (0, 0, 0)), q1, q2, q3, .int x4] [] (wput A (Cz_d pc tc rc fc qc pa ta ra pl tl wc wa ya) S h) = some R
theorem y677_b3 {pc : Int32} {tc : Int32} {rc : Int32} {fc : Int32} {qc : Int32} {pa : Int32} {ta : Int32} {ra : Int32} {pl : Int32 → Int32} {tl : Int32 → Int32} {wc : Int32 → Int32} {wa : Int32 → Int32} {ya : Int32 → Int32} {A : wK → Nat} {h : pm_H} {D : Nat} {R : Outcome × pm_H} {S : wS} (hP : Cz_P pc tc rc fc qc pa ta ra pl tl wc wa ya) (hA : wok A (Cz_d pc tc rc fc qc pa ta ra pl tl wc wa ya) h.1) (hD : 5 ≤ D) (a : Int32 × Int32) (r : (Int32 × Int32) ⊕ ((Int32))) (e : f677_b3 pc tc rc fc qc pa ta ra pl tl wc wa ya S a = some r) (hc : Sum.elim (go677_3 pc tc rc fc qc pa ta ra pl tl wc wa ya A h D R S) (ex677_3 pc tc rc fc qc pa ta ra pl tl wc wa ya A h D R S) r) : go677_3 pc tc rc fc qc pa ta ra pl tl wc wa ya A h D R S a := by
  obtain ⟨x3, x4⟩ := a
  dsimp only [go677_3]
  intro q1 q2
  simp only [f677_b3] at e
  rw [g677_3, b677_3]
  by_cases k1 : x4 < ((S.1 (0, 0, 0) 7) - 1)
  · rw [if_pos k1] at e
    by_cases k2 : 0 ≤ x4 ∧ x4 < 8
    · rw [if_pos k2] at e
      by_cases k3 : (S.1 (7, 0, 0) x4) < x3
      · rw [if_pos k3] at e
        have e := Option.some.inj e; subst e
        dsimp only [Sum.elim_inl, go677_3] at hc
        simp -implicitDefEqProofs (disch := first | assumption | exact Nat.le_of_ble_eq_true rfl | decide) only [b677_0, g677_1, b677_1, g677_4, b677_4, pe_aload0, pe_iload1, pe_iload2, pe_call3, pm_af_ret, pm_af_void, pm_af_thr, pe_istore3, pe_getfield, pe_if_le, pe_sipush, pe_goto, pe_goto_w, pe_call1, pe_istore4, pe_iload4, pe_isub, pe_icmp_ge, pe_iaload, pe_iload3, pe_iinc4, pe_aloadN0, pe_aastoreN, pe_areturnN, pe_null, pm_prog_1, pm_ob_some, Nat.reduceDiv, Nat.reduceMod, Nat.reduceMul, Nat.reduceAdd, Int.reduceToNat, pm_kill_i, pm_kill_r, pm_kill_n, pm_kill_j, pm_kill_l, pm_kill_d, pm_cats_nil, pm_cats_i, pm_cats_r, pm_cats_n, pm_cats_l, pm_cats_d, sz_1, sz_2, sl_1, sl_2, lc_0, lc_lt, lc_le, li_ne, va_rf, wr_m1, we_m1, pm_kill_w, Int32.reduceOfInt, Int64.reduceOfInt, Int32.reduceOfNat, Int32.reduceLT, Int32.reduceLE, Prod.mk.injEq, Nat.reduceEqDiff, reduceCtorEq, and_true, true_and, and_false, false_and, and_self, ite_true, ite_false, ↓reduceIte, not_true_eq_false, not_false_eq_true, pe_ri, pe_rz, pe_rc, p_throw, t677, w_junk hA, Cz_g0_5 hP hA, Cz_g0_6 hP hA, Cz_g0_7 hP hA, Cz_r7 hP hA, Cz_r8 hP hA, eq_true k1, eq_true k3, hc]
      · rw [if_neg k3] at e
        have e := Option.some.inj e; subst e
        dsimp only [Sum.elim_inr, ex677_3] at hc
        simp -implicitDefEqProofs (disch := first | assumption | exact Nat.le_of_ble_eq_true rfl | decide) only [b677_0, g677_1, b677_1, g677_4, b677_4, pe_aload0, pe_iload1, pe_iload2, pe_call3, pm_af_ret, pm_af_void, pm_af_thr, pe_istore3, pe_getfield, pe_if_le, pe_sipush, pe_goto, pe_goto_w, pe_call1, pe_istore4, pe_iload4, pe_isub, pe_icmp_ge, pe_iaload, pe_iload3, pe_iinc4, pe_aloadN0, pe_aastoreN, pe_areturnN, pe_null, pm_prog_1, pm_ob_some, Nat.reduceDiv, Nat.reduceMod, Nat.reduceMul, Nat.reduceAdd, Int.reduceToNat, pm_kill_i, pm_kill_r, pm_kill_n, pm_kill_j, pm_kill_l, pm_kill_d, pm_cats_nil, pm_cats_i, pm_cats_r, pm_cats_n, pm_cats_l, pm_cats_d, sz_1, sz_2, sl_1, sl_2, lc_0, lc_lt, lc_le, li_ne, va_rf, wr_m1, we_m1, pm_kill_w, Int32.reduceOfInt, Int64.reduceOfInt, Int32.reduceOfNat, Int32.reduceLT, Int32.reduceLE, Prod.mk.injEq, Nat.reduceEqDiff, reduceCtorEq, and_true, true_and, and_false, false_and, and_self, ite_true, ite_false, ↓reduceIte, not_true_eq_false, not_false_eq_true, pe_ri, pe_rz, pe_rc, p_throw, t677, w_junk hA, Cz_g0_5 hP hA, Cz_g0_6 hP hA, Cz_g0_7 hP hA, Cz_r7 hP hA, Cz_r8 hP hA, eq_true k1, eq_false k3, hc]
    · rw [if_neg k2] at e; cases e
  · rw [if_neg k1] at e
    have e := Option.some.inj e; subst e
    dsimp only [Sum.elim_inr, ex677_3] at hc
    simp -implicitDefEqProofs (disch := first | assumption | exact Nat.le_of_ble_eq_true rfl | decide) only [b677_0, g677_1, b677_1, g677_4, b677_4, pe_aload0, pe_iload1, pe_iload2, pe_call3, pm_af_ret, pm_af_void, pm_af_thr, pe_istore3, pe_getfield, pe_if_le, pe_sipush, pe_goto, pe_goto_w, pe_call1, pe_istore4, pe_iload4, pe_isub, pe_icmp_ge, pe_iaload, pe_iload3, pe_iinc4, pe_aloadN0, pe_aastoreN, pe_areturnN, pe_null, pm_prog_1, pm_ob_some, Nat.reduceDiv, Nat.reduceMod, Nat.reduceMul, Nat.reduceAdd, Int.reduceToNat, pm_kill_i, pm_kill_r, pm_kill_n, pm_kill_j, pm_kill_l, pm_kill_d, pm_cats_nil, pm_cats_i, pm_cats_r, pm_cats_n, pm_cats_l, pm_cats_d, sz_1, sz_2, sl_1, sl_2, lc_0, lc_lt, lc_le, li_ne, va_rf, wr_m1, we_m1, pm_kill_w, Int32.reduceOfInt, Int64.reduceOfInt, Int32.reduceOfNat, Int32.reduceLT, Int32.reduceLE, Prod.mk.injEq, Nat.reduceEqDiff, reduceCtorEq, and_true, true_and, and_false, false_and, and_self, ite_true, ite_false, ↓reduceIte, not_true_eq_false, not_false_eq_true, pe_ri, pe_rz, pe_rc, p_throw, t677, w_junk hA, Cz_g0_5 hP hA, Cz_g0_6 hP hA, Cz_g0_7 hP hA, Cz_r7 hP hA, Cz_r8 hP hA, eq_false k1, hc]
theorem z677_3 {pc : Int32} {tc : Int32} {rc : Int32} {fc : Int32} {qc : Int32} {pa : Int32} {ta : Int32} {ra : Int32} {pl : Int32 → Int32} {tl : Int32 → Int32} {wc : Int32 → Int32} {wa : Int32 → Int32} {ya : Int32 → Int32} {A : wK → Nat} {h : pm_H} {D : Nat} {R : Outcome × pm_H} {S : wS} (hP : Cz_P pc tc rc fc qc pa ta ra pl tl wc wa ya) (hA : wok A (Cz_d pc tc rc fc qc pa ta ra pl tl wc wa ya) h.1) (hD : 5 ≤ D) {n : Nat} {a : Int32 × Int32} {b : (Int32)} (e : lp (f677_b3 pc tc rc fc qc pa ta ra pl tl wc wa ya S) n a = some b) (hx : ex677_3 pc tc rc fc qc pa ta ra pl tl wc wa ya A h D R S b) : go677_3 pc tc rc fc qc pa ta ra pl tl wc wa ya A h D R S a := lp_run (fun a r => y677_b3 hP hA hD a r) n a b e hx
theorem y677_2 {pc : Int32} {tc : Int32} {rc : Int32} {fc : Int32} {qc : Int32} {pa : Int32} {ta : Int32} {ra : Int32} {pl : Int32 → Int32} {tl : Int32 → Int32} {wc : Int32 → Int32} {wa : Int32 → Int32} {ya : Int32 → Int32} {A : wK → Nat} {h : pm_H} {D : Nat} {S : wS} {x3 : Int32} {y0 : Int32} {r : Nat ⊕ (Int32)} (hP : Cz_P pc tc rc fc qc pa ta ra pl tl wc wa ya) (hA : wok A (Cz_d pc tc rc fc qc pa ta ra pl tl wc wa ya) h.1) (hD : 5 ≤ D) (e : f677_2 pc tc rc fc qc pa ta ra pl tl wc wa ya S x3 y0 = some r) : ∀ q1 q2 q4 : Value, pm_go pm_prog (pm_call pm_prog D) 677 2 [.ref (A (0, 0, 0)), q1, q2, .int x3, q4] [.int y0] (wput A (Cz_d pc tc rc fc qc pa ta ra pl tl wc wa ya) S h) = some (match (generalizing := false) r with | .inl c => (Outcome.threw c, (wput A (Cz_d pc tc rc fc qc pa ta ra pl tl wc wa ya) S (pm_new h 6 (.inr (c, []))))) | .inr w0 => (Outcome.returned (some (.int w0)), (wput A (Cz_d pc tc rc fc qc pa ta ra pl tl wc wa ya) S h))) := by
  intro q1 q2 q4
  simp only [f677_2] at e
  rw [g677_2, b677_2]
  obtain ⟨r, k1, e⟩ := Option.bind_eq_some_iff.mp e
  have z1 := fun h => x651 (D := D) (h := h) (by omega) k1
  rcases r with c4 | _
  · dsimp only at e z1
    have e := Option.some.inj e; subst e
    simp -implicitDefEqProofs (disch := first | assumption | exact Nat.le_of_ble_eq_true rfl | decide) only [b677_0, g677_1, b677_1, g677_4, b677_4, pe_aload0, pe_iload1, pe_iload2, pe_call3, pm_af_ret, pm_af_void, pm_af_thr, pe_istore3, pe_getfield, pe_if_le, pe_sipush, pe_goto, pe_goto_w, pe_call1, pe_istore4, pe_iload4, pe_isub, pe_icmp_ge, pe_iaload, pe_iload3, pe_iinc4, pe_aloadN0, pe_aastoreN, pe_areturnN, pe_null, pm_prog_1, pm_ob_some, Nat.reduceDiv, Nat.reduceMod, Nat.reduceMul, Nat.reduceAdd, Int.reduceToNat, pm_kill_i, pm_kill_r, pm_kill_n, pm_kill_j, pm_kill_l, pm_kill_d, pm_cats_nil, pm_cats_i, pm_cats_r, pm_cats_n, pm_cats_l, pm_cats_d, sz_1, sz_2, sl_1, sl_2, lc_0, lc_lt, lc_le, li_ne, va_rf, wr_m1, we_m1, pm_kill_w, Int32.reduceOfInt, Int64.reduceOfInt, Int32.reduceOfNat, Int32.reduceLT, Int32.reduceLE, Prod.mk.injEq, Nat.reduceEqDiff, reduceCtorEq, and_true, true_and, and_false, false_and, and_self, ite_true, ite_false, ↓reduceIte, not_true_eq_false, not_false_eq_true, pe_ri, pe_rz, pe_rc, p_throw, t677, w_junk hA, Cz_g0_5 hP hA, Cz_g0_6 hP hA, Cz_g0_7 hP hA, Cz_r7 hP hA, Cz_r8 hP hA, z1]
  · dsimp only at e z1
    obtain ⟨v3, k2, e⟩ := Option.bind_eq_some_iff.mp e
    try dsimp only at e
    try simp -implicitDefEqProofs (disch := first | assumption | exact Nat.le_of_ble_eq_true rfl | decide) only [b677_0, g677_1, b677_1, g677_4, b677_4, pe_aload0, pe_iload1, pe_iload2, pe_call3, pm_af_ret, pm_af_void, pm_af_thr, pe_istore3, pe_getfield, pe_if_le, pe_sipush, pe_goto, pe_goto_w, pe_call1, pe_istore4, pe_iload4, pe_isub, pe_icmp_ge, pe_iaload, pe_iload3, pe_iinc4, pe_aloadN0, pe_aastoreN, pe_areturnN, pe_null, pm_prog_1, pm_ob_some, Nat.reduceDiv, Nat.reduceMod, Nat.reduceMul, Nat.reduceAdd, Int.reduceToNat, pm_kill_i, pm_kill_r, pm_kill_n, pm_kill_j, pm_kill_l, pm_kill_d, pm_cats_nil, pm_cats_i, pm_cats_r, pm_cats_n, pm_cats_l, pm_cats_d, sz_1, sz_2, sl_1, sl_2, lc_0, lc_lt, lc_le, li_ne, va_rf, wr_m1, we_m1, pm_kill_w, Int32.reduceOfInt, Int64.reduceOfInt, Int32.reduceOfNat, Int32.reduceLT, Int32.reduceLE, Prod.mk.injEq, Nat.reduceEqDiff, reduceCtorEq, and_true, true_and, and_false, false_and, and_self, ite_true, ite_false, ↓reduceIte, not_true_eq_false, not_false_eq_true, pe_ri, pe_rz, pe_rc, p_throw, t677, w_junk hA, Cz_g0_5 hP hA, Cz_g0_6 hP hA, Cz_g0_7 hP hA, Cz_r7 hP hA, Cz_r8 hP hA, z1]
    refine z677_3 hP hA hD k2 ?_ _ _
    dsimp only [ex677_3]
    intro q1 q2 q3
    by_cases k3 : 0 ≤ v3 ∧ v3 < 8
    · rw [if_pos k3] at e
      have e := Option.some.inj e; subst e
      simp -implicitDefEqProofs (disch := first | assumption | exact Nat.le_of_ble_eq_true rfl | decide) only [b677_0, g677_1, b677_1, g677_4, b677_4, pe_aload0, pe_iload1, pe_iload2, pe_call3, pm_af_ret, pm_af_void, pm_af_thr, pe_istore3, pe_getfield, pe_if_le, pe_sipush, pe_goto, pe_goto_w, pe_call1, pe_istore4, pe_iload4, pe_isub, pe_icmp_ge, pe_iaload, pe_iload3, pe_iinc4, pe_aloadN0, pe_aastoreN, pe_areturnN, pe_null, pm_prog_1, pm_ob_some, Nat.reduceDiv, Nat.reduceMod, Nat.reduceMul, Nat.reduceAdd, Int.reduceToNat, pm_kill_i, pm_kill_r, pm_kill_n, pm_kill_j, pm_kill_l, pm_kill_d, pm_cats_nil, pm_cats_i, pm_cats_r, pm_cats_n, pm_cats_l, pm_cats_d, sz_1, sz_2, sl_1, sl_2, lc_0, lc_lt, lc_le, li_ne, va_rf, wr_m1, we_m1, pm_kill_w, Int32.reduceOfInt, Int64.reduceOfInt, Int32.reduceOfNat, Int32.reduceLT, Int32.reduceLE, Prod.mk.injEq, Nat.reduceEqDiff, reduceCtorEq, and_true, true_and, and_false, false_and, and_self, ite_true, ite_false, ↓reduceIte, not_true_eq_false, not_false_eq_true, pe_ri, pe_rz, pe_rc, p_throw, t677, w_junk hA, Cz_g0_5 hP hA, Cz_g0_6 hP hA, Cz_g0_7 hP hA, Cz_r7 hP hA, Cz_r8 hP hA, z1]
    · rw [if_neg k3] at e; cases e
theorem x677 {pc : Int32} {tc : Int32} {rc : Int32} {fc : Int32} {qc : Int32} {pa : Int32} {ta : Int32} {ra : Int32} {pl : Int32 → Int32} {tl : Int32 → Int32} {wc : Int32 → Int32} {wa : Int32 → Int32} {ya : Int32 → Int32} {A : wK → Nat} {h : pm_H} {D : Nat} {S : wS} {x1 : Int32} {x2 : Int32} {r : Nat ⊕ (Int32)} (hP : Cz_P pc tc rc fc qc pa ta ra pl tl wc wa ya) (hA : wok A (Cz_d pc tc rc fc qc pa ta ra pl tl wc wa ya) h.1) (hD : 6 ≤ D) (e : f677 pc tc rc fc qc pa ta ra pl tl wc wa ya S x1 x2 = some r) : pm_call pm_prog D 677 [.ref (A (0, 0, 0)), .int x1, .int x2] (wput A (Cz_d pc tc rc fc qc pa ta ra pl tl wc wa ya) S h) = some (match (generalizing := false) r with | .inl c => (Outcome.threw c, (wput A (Cz_d pc tc rc fc qc pa ta ra pl tl wc wa ya) S (pm_new h 6 (.inr (c, []))))) | .inr w0 => (Outcome.returned (some (.int w0)), (wput A (Cz_d pc tc rc fc qc pa ta ra pl tl wc wa ya) S h))) := by
  obtain ⟨D, rfl⟩ : ∃ D', D = D' + 1 := ⟨D - 1, by omega⟩
  have hD : 5 ≤ D := by omega
  simp only [f677] at e
  rw [c677 (Cz_c0 hP hA), b677_0]
  obtain ⟨r, k1, e⟩ := Option.bind_eq_some_iff.mp e
  have z1 := x656 (D := D) (h := h) hP hA (by omega) k1
  rcases r with c5 | v1
  · dsimp only at e z1
    have e := Option.some.inj e; subst e
    simp -implicitDefEqProofs (disch := first | assumption | exact Nat.le_of_ble_eq_true rfl | decide) only [b677_0, g677_1, b677_1, g677_4, b677_4, pe_aload0, pe_iload1, pe_iload2, pe_call3, pm_af_ret, pm_af_void, pm_af_thr, pe_istore3, pe_getfield, pe_if_le, pe_sipush, pe_goto, pe_goto_w, pe_call1, pe_istore4, pe_iload4, pe_isub, pe_icmp_ge, pe_iaload, pe_iload3, pe_iinc4, pe_aloadN0, pe_aastoreN, pe_areturnN, pe_null, pm_prog_1, pm_ob_some, Nat.reduceDiv, Nat.reduceMod, Nat.reduceMul, Nat.reduceAdd, Int.reduceToNat, pm_kill_i, pm_kill_r, pm_kill_n, pm_kill_j, pm_kill_l, pm_kill_d, pm_cats_nil, pm_cats_i, pm_cats_r, pm_cats_n, pm_cats_l, pm_cats_d, sz_1, sz_2, sl_1, sl_2, lc_0, lc_lt, lc_le, li_ne, va_rf, wr_m1, we_m1, pm_kill_w, Int32.reduceOfInt, Int64.reduceOfInt, Int32.reduceOfNat, Int32.reduceLT, Int32.reduceLE, Prod.mk.injEq, Nat.reduceEqDiff, reduceCtorEq, and_true, true_and, and_false, false_and, and_self, ite_true, ite_false, ↓reduceIte, not_true_eq_false, not_false_eq_true, pe_ri, pe_rz, pe_rc, p_throw, t677, w_junk hA, Cz_g0_5 hP hA, Cz_g0_6 hP hA, Cz_g0_7 hP hA, Cz_r7 hP hA, Cz_r8 hP hA, z1]
  · dsimp only at e z1
    by_cases k2 : (S.1 (0, 0, 0) 7) ≤ 0
    · rw [if_pos k2] at e
      have k3 := y677_2 (h := h) hP hA hD e
      simp -implicitDefEqProofs (disch := first | assumption | exact Nat.le_of_ble_eq_true rfl | decide) only [b677_0, g677_1, b677_1, g677_4, b677_4, pe_aload0, pe_iload1, pe_iload2, pe_call3, pm_af_ret, pm_af_void, pm_af_thr, pe_istore3, pe_getfield, pe_if_le, pe_sipush, pe_goto, pe_goto_w, pe_call1, pe_istore4, pe_iload4, pe_isub, pe_icmp_ge, pe_iaload, pe_iload3, pe_iinc4, pe_aloadN0, pe_aastoreN, pe_areturnN, pe_null, pm_prog_1, pm_ob_some, Nat.reduceDiv, Nat.reduceMod, Nat.reduceMul, Nat.reduceAdd, Int.reduceToNat, pm_kill_i, pm_kill_r, pm_kill_n, pm_kill_j, pm_kill_l, pm_kill_d, pm_cats_nil, pm_cats_i, pm_cats_r, pm_cats_n, pm_cats_l, pm_cats_d, sz_1, sz_2, sl_1, sl_2, lc_0, lc_lt, lc_le, li_ne, va_rf, wr_m1, we_m1, pm_kill_w, Int32.reduceOfInt, Int64.reduceOfInt, Int32.reduceOfNat, Int32.reduceLT, Int32.reduceLE, Prod.mk.injEq, Nat.reduceEqDiff, reduceCtorEq, and_true, true_and, and_false, false_and, and_self, ite_true, ite_false, ↓reduceIte, not_true_eq_false, not_false_eq_true, pe_ri, pe_rz, pe_rc, p_throw, t677, w_junk hA, Cz_g0_5 hP hA, Cz_g0_6 hP hA, Cz_g0_7 hP hA, Cz_r7 hP hA, Cz_r8 hP hA, z1, eq_true k2, k3]
    · rw [if_neg k2] at e
      have k4 := y677_2 (h := h) hP hA hD e
      simp -implicitDefEqProofs (disch := first | assumption | exact Nat.le_of_ble_eq_true rfl | decide) only [b677_0, g677_1, b677_1, g677_4, b677_4, pe_aload0, pe_iload1, pe_iload2, pe_call3, pm_af_ret, pm_af_void, pm_af_thr, pe_istore3, pe_getfield, pe_if_le, pe_sipush, pe_goto, pe_goto_w, pe_call1, pe_istore4, pe_iload4, pe_isub, pe_icmp_ge, pe_iaload, pe_iload3, pe_iinc4, pe_aloadN0, pe_aastoreN, pe_areturnN, pe_null, pm_prog_1, pm_ob_some, Nat.reduceDiv, Nat.reduceMod, Nat.reduceMul, Nat.reduceAdd, Int.reduceToNat, pm_kill_i, pm_kill_r, pm_kill_n, pm_kill_j, pm_kill_l, pm_kill_d, pm_cats_nil, pm_cats_i, pm_cats_r, pm_cats_n, pm_cats_l, pm_cats_d, sz_1, sz_2, sl_1, sl_2, lc_0, lc_lt, lc_le, li_ne, va_rf, wr_m1, we_m1, pm_kill_w, Int32.reduceOfInt, Int64.reduceOfInt, Int32.reduceOfNat, Int32.reduceLT, Int32.reduceLE, Prod.mk.injEq, Nat.reduceEqDiff, reduceCtorEq, and_true, true_and, and_false, false_and, and_self, ite_true, ite_false, ↓reduceIte, not_true_eq_false, not_false_eq_true, pe_ri, pe_rz, pe_rc, p_throw, t677, w_junk hA, Cz_g0_5 hP hA, Cz_g0_6 hP hA, Cz_g0_7 hP hA, Cz_r7 hP hA, Cz_r8 hP hA, z1, eq_false k2, k4]
/-- TimberHouse$LathePieces$Fraction.divisor(JJ)J -/
theorem c2881 {d : Nat} {h : pm_H} {x0 : Int64} {x1 : Int64} : pm_call pm_prog (d + 1) 2881 [.long x0, .long x1] h = pm_ev pm_prog (pm_call pm_prog d) 2881 0 b2881_0 [.long x0, pm_junk, .long x1, pm_junk, pm_junk, pm_junk, pm_junk, pm_junk, pm_junk, pm_junk] [] h := pm_cal (pm_rc0 rfl) rfl rfl rfl
theorem g2881_1 {cl : pm_C} {ls st : List Value} {h : pm_H} : pm_go pm_prog cl 2881 1 ls st h = pm_ev pm_prog cl 2881 1 b2881_1 ls st h := pm_go_eq pm_prog cl 2881 1 ls st h
theorem g2881_2 {cl : pm_C} {ls st : List Value} {h : pm_H} : pm_go pm_prog cl 2881 2 ls st h = pm_ev pm_prog cl 2881 2 b2881_2 ls st h := pm_go_eq pm_prog cl 2881 2 ls st h
noncomputable def f2881_b1 : Int64 × Int64 → Option ((Int64 × Int64) ⊕ ((Int64))) := fun (x4, x6) =>
  if x6 = 0 then
    some (.inr x4)
  else
    if ¬ x6 = 0 then
      some (.inl (x6, (x4 - x4 / x6 * x6)))
    else none
/-- TimberHouse$LathePieces$Fraction.divisor(JJ)J -/
noncomputable def f2881 (x0 : Int64) (x2 : Int64) : Option (Int64) :=
  (lp (f2881_b1) FU (x0, x2)).bind fun v1 =>
  some v1
def go2881_1 (h : pm_H) (D : Nat) (R : Outcome × pm_H) : Int64 × Int64 → Prop := fun (x4, x6) => ∀ q0 q1 q2 q3 q8 q9 : Value, pm_go pm_prog (pm_call pm_prog D) 2881 1 [q0, q1, q2, q3, .long x4, pm_junk, .long x6, pm_junk, q8, q9] [] h = some R
def ex2881_1 (h : pm_H) (D : Nat) (R : Outcome × pm_H) : (Int64) → Prop := fun x4 => ∀ q0 q1 q2 q3 q6 q7 q8 q9 : Value, pm_go pm_prog (pm_call pm_prog D) 2881 2 [q0, q1, q2, q3, .long x4, pm_junk, q6, q7, q8, q9] [] h = some R
theorem y2881_b1 {h : pm_H} {D : Nat} {R : Outcome × pm_H} (hD : 0 ≤ D) (a : Int64 × Int64) (r : (Int64 × Int64) ⊕ ((Int64))) (e : f2881_b1 a = some r) (hc : Sum.elim (go2881_1 h D R) (ex2881_1 h D R) r) : go2881_1 h D R a := by
  obtain ⟨x4, x6⟩ := a
  dsimp only [go2881_1]
  intro q0 q1 q2 q3 q8 q9
  simp only [f2881_b1] at e
  rw [g2881_1, b2881_1]
  by_cases k1 : x6 = 0
  · rw [if_pos k1] at e
    have e := Option.some.inj e; subst e
    dsimp only [Sum.elim_inr, ex2881_1] at hc
    simp -implicitDefEqProofs (disch := first | assumption | exact Nat.le_of_ble_eq_true rfl | decide) only [b2881_0, g2881_2, b2881_2, pe_lload0, pe_lstore4, pe_lload2, pe_lstore6, pe_goto_w, pe_lload6, pe_bipush, pe_lcmp, pe_if_eq, pe_lload4, pe_lrem, pe_lstore8, pe_lload8, pe_goto, pe_lreturn, pe_aastoreN, pe_areturnN, pe_null, pm_prog_1, pm_ob_some, Nat.reduceDiv, Nat.reduceMod, Nat.reduceMul, Nat.reduceAdd, Int.reduceToNat, pm_kill_i, pm_kill_r, pm_kill_n, pm_kill_j, pm_kill_l, pm_kill_d, pm_cats_nil, pm_cats_i, pm_cats_r, pm_cats_n, pm_cats_l, pm_cats_d, sz_1, sz_2, sl_1, sl_2, lc_0, lc_lt, lc_le, li_ne, va_rf, wr_m1, we_m1, pm_kill_w, Int32.reduceOfInt, Int64.reduceOfInt, Int32.reduceOfNat, Int32.reduceLT, Int32.reduceLE, Prod.mk.injEq, Nat.reduceEqDiff, reduceCtorEq, and_true, true_and, and_false, false_and, and_self, ite_true, ite_false, ↓reduceIte, not_true_eq_false, not_false_eq_true, pe_ri, pe_rz, pe_rc, eq_true k1, hc]
  · rw [if_neg k1] at e
    by_cases k2 : ¬ x6 = 0
    · rw [if_pos k2] at e
      have e := Option.some.inj e; subst e
      dsimp only [Sum.elim_inl, go2881_1] at hc
      simp -implicitDefEqProofs (disch := first | assumption | exact Nat.le_of_ble_eq_true rfl | decide) only [b2881_0, g2881_2, b2881_2, pe_lload0, pe_lstore4, pe_lload2, pe_lstore6, pe_goto_w, pe_lload6, pe_bipush, pe_lcmp, pe_if_eq, pe_lload4, pe_lrem, pe_lstore8, pe_lload8, pe_goto, pe_lreturn, pe_aastoreN, pe_areturnN, pe_null, pm_prog_1, pm_ob_some, Nat.reduceDiv, Nat.reduceMod, Nat.reduceMul, Nat.reduceAdd, Int.reduceToNat, pm_kill_i, pm_kill_r, pm_kill_n, pm_kill_j, pm_kill_l, pm_kill_d, pm_cats_nil, pm_cats_i, pm_cats_r, pm_cats_n, pm_cats_l, pm_cats_d, sz_1, sz_2, sl_1, sl_2, lc_0, lc_lt, lc_le, li_ne, va_rf, wr_m1, we_m1, pm_kill_w, Int32.reduceOfInt, Int64.reduceOfInt, Int32.reduceOfNat, Int32.reduceLT, Int32.reduceLE, Prod.mk.injEq, Nat.reduceEqDiff, reduceCtorEq, and_true, true_and, and_false, false_and, and_self, ite_true, ite_false, ↓reduceIte, not_true_eq_false, not_false_eq_true, pe_ri, pe_rz, pe_rc, eq_false k1, hc]
    · rw [if_neg k2] at e; cases e
theorem z2881_1 {h : pm_H} {D : Nat} {R : Outcome × pm_H} (hD : 0 ≤ D) {n : Nat} {a : Int64 × Int64} {b : (Int64)} (e : lp (f2881_b1) n a = some b) (hx : ex2881_1 h D R b) : go2881_1 h D R a := lp_run (fun a r => y2881_b1 hD a r) n a b e hx
theorem x2881 {h : pm_H} {D : Nat} {x0 : Int64} {x2 : Int64} {r : Int64} (hD : 1 ≤ D) (e : f2881 x0 x2 = some r) : pm_call pm_prog D 2881 [.long x0, .long x2] h = some (Outcome.returned (some (.long r)), h) := by
  obtain ⟨D, rfl⟩ : ∃ D', D = D' + 1 := ⟨D - 1, by omega⟩
  have hD : 0 ≤ D := by omega
  simp only [f2881] at e
  rw [c2881, b2881_0]
  obtain ⟨v1, k1, e⟩ := Option.bind_eq_some_iff.mp e
  try dsimp only at e
  try simp -implicitDefEqProofs (disch := first | assumption | exact Nat.le_of_ble_eq_true rfl | decide) only [b2881_0, g2881_2, b2881_2, pe_lload0, pe_lstore4, pe_lload2, pe_lstore6, pe_goto_w, pe_lload6, pe_bipush, pe_lcmp, pe_if_eq, pe_lload4, pe_lrem, pe_lstore8, pe_lload8, pe_goto, pe_lreturn, pe_aastoreN, pe_areturnN, pe_null, pm_prog_1, pm_ob_some, Nat.reduceDiv, Nat.reduceMod, Nat.reduceMul, Nat.reduceAdd, Int.reduceToNat, pm_kill_i, pm_kill_r, pm_kill_n, pm_kill_j, pm_kill_l, pm_kill_d, pm_cats_nil, pm_cats_i, pm_cats_r, pm_cats_n, pm_cats_l, pm_cats_d, sz_1, sz_2, sl_1, sl_2, lc_0, lc_lt, lc_le, li_ne, va_rf, wr_m1, we_m1, pm_kill_w, Int32.reduceOfInt, Int64.reduceOfInt, Int32.reduceOfNat, Int32.reduceLT, Int32.reduceLE, Prod.mk.injEq, Nat.reduceEqDiff, reduceCtorEq, and_true, true_and, and_false, false_and, and_self, ite_true, ite_false, ↓reduceIte, not_true_eq_false, not_false_eq_true, pe_ri, pe_rz, pe_rc]
  refine z2881_1 hD k1 ?_ _ _ _ _ _ _
  dsimp only [ex2881_1]
  intro q0 q1 q2 q3 q6 q7 q8 q9
  have e := Option.some.inj e; subst e
  simp -implicitDefEqProofs (disch := first | assumption | exact Nat.le_of_ble_eq_true rfl | decide) only [b2881_0, g2881_2, b2881_2, pe_lload0, pe_lstore4, pe_lload2, pe_lstore6, pe_goto_w, pe_lload6, pe_bipush, pe_lcmp, pe_if_eq, pe_lload4, pe_lrem, pe_lstore8, pe_lload8, pe_goto, pe_lreturn, pe_aastoreN, pe_areturnN, pe_null, pm_prog_1, pm_ob_some, Nat.reduceDiv, Nat.reduceMod, Nat.reduceMul, Nat.reduceAdd, Int.reduceToNat, pm_kill_i, pm_kill_r, pm_kill_n, pm_kill_j, pm_kill_l, pm_kill_d, pm_cats_nil, pm_cats_i, pm_cats_r, pm_cats_n, pm_cats_l, pm_cats_d, sz_1, sz_2, sl_1, sl_2, lc_0, lc_lt, lc_le, li_ne, va_rf, wr_m1, we_m1, pm_kill_w, Int32.reduceOfInt, Int64.reduceOfInt, Int32.reduceOfNat, Int32.reduceLT, Int32.reduceLE, Prod.mk.injEq, Nat.reduceEqDiff, reduceCtorEq, and_true, true_and, and_false, false_and, and_self, ite_true, ite_false, ↓reduceIte, not_true_eq_false, not_false_eq_true, pe_ri, pe_rz, pe_rc]
