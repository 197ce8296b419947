set_option maxRecDepth 100000
/-! TimberHouse$WorkPlans -/
def Cv_P (mc : Int32) (jc : Int32) (tc : Int32) (ma : Int32) (ja : Int32) (ta : Int32) (oc : Int32 → Int32) (oa : Int32 → Int32) (qa : Int32 → Int32) : Prop := 0 ≤ mc ∧ 0 ≤ jc ∧ 0 ≤ tc ∧ 0 ≤ ma ∧ 0 ≤ ja ∧ 0 ≤ ta ∧ (∀ i, 0 ≤ oc i) ∧ (∀ i, 0 ≤ oa i) ∧ (∀ i, 0 ≤ qa i)
def Cv_d (mc : Int32) (jc : Int32) (tc : Int32) (ma : Int32) (ja : Int32) (ta : Int32) (oc : Int32 → Int32) (oa : Int32 → Int32) (qa : Int32 → Int32) : wK → Option wD := fun k => match k.1 with
  | 0 => if k.2.1 = 0 ∧ k.2.2 = 0 then some (.inl (20, [(2, (1, 0, 0)), (2, (3, 0, 0)), (2, (5, 0, 0)), (2, (7, 0, 0)), (2, (7, 1, 0)), (2, (7, 2, 0)), (2, (8, 0, 0)), (2, (9, 0, 0)), (2, (10, 0, 0)), (0, (0, 0, 0)), (0, (0, 0, 0)), (0, (0, 0, 0)), (0, (0, 0, 0)), (0, (0, 0, 0)), (0, (0, 0, 0)), (1, (0, 0, 0)), (1, (0, 0, 0))])) else none
  | 1 => if k.2.1 = 0 ∧ k.2.2 = 0 then some (.inl (63, [(0, (0, 0, 0)), (2, if 0 < ma then (2, 0, 0) else (91, 0, 0)), (0, (0, 0, 0))])) else none
  | 2 => if k.2.1 = 0 ∧ k.2.2 = 0 then some (.inr (.inr ((.object "java/lang/Object"), wn ma, .inr (fun x => if x < mc then some (11, x, 0) else none)))) else none
  | 3 => if k.2.1 = 0 ∧ k.2.2 = 0 then some (.inl (63, [(0, (0, 0, 0)), (2, if 0 < ja then (4, 0, 0) else (91, 0, 0)), (0, (0, 0, 0))])) else none
  | 4 => if k.2.1 = 0 ∧ k.2.2 = 0 then some (.inr (.inr ((.object "java/lang/Object"), wn ja, .inr (fun x => if x < jc then some (15, x, 0) else none)))) else none
  | 5 => if k.2.1 = 0 ∧ k.2.2 = 0 then some (.inl (63, [(0, (0, 0, 0)), (2, if 0 < ta then (6, 0, 0) else (91, 0, 0)), (0, (0, 0, 0))])) else none
  | 6 => if k.2.1 = 0 ∧ k.2.2 = 0 then some (.inr (.inr ((.object "java/lang/Object"), wn ta, .inr (fun x => if x < tc then some (16, x, 0) else none)))) else none
  | 7 => if (0 ≤ k.2.1 ∧ k.2.1 < 3) ∧ k.2.2 = 0 then some (.inl (21, [(2, (1, 0, 0)), (2, (5, 0, 0)), (2, (19, k.2.1, 0)), (2, (20, k.2.1, 0))])) else none
  | 19 => if (0 ≤ k.2.1 ∧ k.2.1 < 3) ∧ k.2.2 = 0 then some (.inr (.inl (.int, 24))) else none
  | 20 => if (0 ≤ k.2.1 ∧ k.2.1 < 3) ∧ k.2.2 = 0 then some (.inr (.inl (.int, 24))) else none
  | 8 => if k.2.1 = 0 ∧ k.2.2 = 0 then some (.inr (.inl (.int, 6))) else none
  | 9 => if k.2.1 = 0 ∧ k.2.2 = 0 then some (.inr (.inl (.int, 6))) else none
  | 10 => if k.2.1 = 0 ∧ k.2.2 = 0 then some (.inr (.inl (.int, 6))) else none
  | 11 => if (0 ≤ k.2.1 ∧ k.2.1 < mc) ∧ k.2.2 = 0 then some (.inl (52, [(0, (0, 0, 0)), (2, (12, k.2.1, 0))])) else none
  | 12 => if (0 ≤ k.2.1 ∧ k.2.1 < mc) ∧ k.2.2 = 0 then some (.inl (63, [(0, (0, 0, 0)), (2, if 0 < (oa k.2.1) then (13, k.2.1, 0) else (91, 0, 0)), (0, (0, 0, 0))])) else none
  | 13 => if (0 ≤ k.2.1 ∧ k.2.1 < mc) ∧ k.2.2 = 0 then some (.inr (.inr ((.object "java/lang/Object"), wn (oa k.2.1), .inr (fun x => if x < (oc k.2.1) then some (14, k.2.1, x) else none)))) else none
  | 14 => if (0 ≤ k.2.1 ∧ k.2.1 < mc) ∧ (0 ≤ k.2.2 ∧ k.2.2 < (oc k.2.1)) then some (.inl (53, [(0, (0, 0, 0)), (0, (0, 0, 0))])) else none
  | 15 => if (0 ≤ k.2.1 ∧ k.2.1 < jc) ∧ k.2.2 = 0 then some (.inl (54, [(0, (0, 0, 0)), (0, (0, 0, 0)), (2, (17, k.2.1, 0))])) else none
  | 17 => if (0 ≤ k.2.1 ∧ k.2.1 < jc) ∧ k.2.2 = 0 then some (.inl (63, [(0, (0, 0, 0)), (2, if 0 < (qa k.2.1) then (18, k.2.1, 0) else (91, 0, 0)), (0, (0, 0, 0))])) else none
  | 18 => if (0 ≤ k.2.1 ∧ k.2.1 < jc) ∧ k.2.2 = 0 then some (.inr (.inr ((.object "java/lang/Object"), wn (qa k.2.1), .inl 16))) else none
  | 16 => if (0 ≤ k.2.1 ∧ k.2.1 < tc) ∧ k.2.2 = 0 then some (.inl (55, [(0, (0, 0, 0)), (0, (0, 0, 0)), (0, (0, 0, 0)), (0, (0, 0, 0))])) else none
  | 91 => if k.2.1 = 0 ∧ k.2.2 = 0 then some (.inr (.inr ((.object "java/lang/Object"), 0, .inl 16))) else none
  | _ => none
section
variable {A : wK → Nat} {S : wS} {h : pm_H} {m : Nat} {i j x v : Int32} {u : Int64} {mc : Int32} {jc : Int32} {tc : Int32} {ma : Int32} {ja : Int32} {ta : Int32} {oc : Int32 → Int32} {oa : Int32 → Int32} {qa : Int32 → Int32}
theorem Cv_n0 (hP : Cv_P mc jc tc ma ja ta oc oa qa) : Int32.ofNat (wn ma) = ma := wn_of (hP.2.2.2.1)
theorem Cv_n1 (hP : Cv_P mc jc tc ma ja ta oc oa qa) : Int32.ofNat (wn ja) = ja := wn_of (hP.2.2.2.2.1)
theorem Cv_n2 (hP : Cv_P mc jc tc ma ja ta oc oa qa) : Int32.ofNat (wn ta) = ta := wn_of (hP.2.2.2.2.2.1)
theorem Cv_n3 (hP : Cv_P mc jc tc ma ja ta oc oa qa) : Int32.ofNat (wn (oa i)) = (oa i) := wn_of (hP.2.2.2.2.2.2.2.1 i)
theorem Cv_n4 (hP : Cv_P mc jc tc ma ja ta oc oa qa) : Int32.ofNat (wn (qa i)) = (qa i) := wn_of (hP.2.2.2.2.2.2.2.2 i)
theorem Cv_d0 {mc : Int32} {jc : Int32} {tc : Int32} {ma : Int32} {ja : Int32} {ta : Int32} {oc : Int32 → Int32} {oa : Int32 → Int32} {qa : Int32 → Int32} : (Cv_d mc jc tc ma ja ta oc oa qa) (0, 0, 0) = some (.inl (20, [(2, (1, 0, 0)), (2, (3, 0, 0)), (2, (5, 0, 0)), (2, (7, 0, 0)), (2, (7, 1, 0)), (2, (7, 2, 0)), (2, (8, 0, 0)), (2, (9, 0, 0)), (2, (10, 0, 0)), (0, (0, 0, 0)), (0, (0, 0, 0)), (0, (0, 0, 0)), (0, (0, 0, 0)), (0, (0, 0, 0)), (0, (0, 0, 0)), (1, (0, 0, 0)), (1, (0, 0, 0))])) := rfl
theorem Cv_d1 {mc : Int32} {jc : Int32} {tc : Int32} {ma : Int32} {ja : Int32} {ta : Int32} {oc : Int32 → Int32} {oa : Int32 → Int32} {qa : Int32 → Int32} : (Cv_d mc jc tc ma ja ta oc oa qa) (1, 0, 0) = some (.inl (63, [(0, (0, 0, 0)), (2, if 0 < ma then (2, 0, 0) else (91, 0, 0)), (0, (0, 0, 0))])) := rfl
theorem Cv_d2 {mc : Int32} {jc : Int32} {tc : Int32} {ma : Int32} {ja : Int32} {ta : Int32} {oc : Int32 → Int32} {oa : Int32 → Int32} {qa : Int32 → Int32} : (Cv_d mc jc tc ma ja ta oc oa qa) (2, 0, 0) = some (.inr (.inr ((.object "java/lang/Object"), wn ma, .inr (fun x => if x < mc then some (11, x, 0) else none)))) := rfl
theorem Cv_d3 {mc : Int32} {jc : Int32} {tc : Int32} {ma : Int32} {ja : Int32} {ta : Int32} {oc : Int32 → Int32} {oa : Int32 → Int32} {qa : Int32 → Int32} : (Cv_d mc jc tc ma ja ta oc oa qa) (3, 0, 0) = some (.inl (63, [(0, (0, 0, 0)), (2, if 0 < ja then (4, 0, 0) else (91, 0, 0)), (0, (0, 0, 0))])) := rfl
theorem Cv_d4 {mc : Int32} {jc : Int32} {tc : Int32} {ma : Int32} {ja : Int32} {ta : Int32} {oc : Int32 → Int32} {oa : Int32 → Int32} {qa : Int32 → Int32} : (Cv_d mc jc tc ma ja ta oc oa qa) (4, 0, 0) = some (.inr (.inr ((.object "java/lang/Object"), wn ja, .inr (fun x => if x < jc then some (15, x, 0) else none)))) := rfl
theorem Cv_d5 {mc : Int32} {jc : Int32} {tc : Int32} {ma : Int32} {ja : Int32} {ta : Int32} {oc : Int32 → Int32} {oa : Int32 → Int32} {qa : Int32 → Int32} : (Cv_d mc jc tc ma ja ta oc oa qa) (5, 0, 0) = some (.inl (63, [(0, (0, 0, 0)), (2, if 0 < ta then (6, 0, 0) else (91, 0, 0)), (0, (0, 0, 0))])) := rfl
theorem Cv_d6 {mc : Int32} {jc : Int32} {tc : Int32} {ma : Int32} {ja : Int32} {ta : Int32} {oc : Int32 → Int32} {oa : Int32 → Int32} {qa : Int32 → Int32} : (Cv_d mc jc tc ma ja ta oc oa qa) (6, 0, 0) = some (.inr (.inr ((.object "java/lang/Object"), wn ta, .inr (fun x => if x < tc then some (16, x, 0) else none)))) := rfl
theorem Cv_d7 {mc : Int32} {jc : Int32} {tc : Int32} {ma : Int32} {ja : Int32} {ta : Int32} {oc : Int32 → Int32} {oa : Int32 → Int32} {qa : Int32 → Int32} (h0 : 0 ≤ i ∧ i < 3) : (Cv_d mc jc tc ma ja ta oc oa qa) (7, i, 0) = some (.inl (21, [(2, (1, 0, 0)), (2, (5, 0, 0)), (2, (19, i, 0)), (2, (20, i, 0))])) := if_pos ⟨h0, rfl⟩
theorem Cv_d19 {mc : Int32} {jc : Int32} {tc : Int32} {ma : Int32} {ja : Int32} {ta : Int32} {oc : Int32 → Int32} {oa : Int32 → Int32} {qa : Int32 → Int32} (h0 : 0 ≤ i ∧ i < 3) : (Cv_d mc jc tc ma ja ta oc oa qa) (19, i, 0) = some (.inr (.inl (.int, 24))) := if_pos ⟨h0, rfl⟩
theorem Cv_d20 {mc : Int32} {jc : Int32} {tc : Int32} {ma : Int32} {ja : Int32} {ta : Int32} {oc : Int32 → Int32} {oa : Int32 → Int32} {qa : Int32 → Int32} (h0 : 0 ≤ i ∧ i < 3) : (Cv_d mc jc tc ma ja ta oc oa qa) (20, i, 0) = some (.inr (.inl (.int, 24))) := if_pos ⟨h0, rfl⟩
theorem Cv_d8 {mc : Int32} {jc : Int32} {tc : Int32} {ma : Int32} {ja : Int32} {ta : Int32} {oc : Int32 → Int32} {oa : Int32 → Int32} {qa : Int32 → Int32} : (Cv_d mc jc tc ma ja ta oc oa qa) (8, 0, 0) = some (.inr (.inl (.int, 6))) := rfl
theorem Cv_d9 {mc : Int32} {jc : Int32} {tc : Int32} {ma : Int32} {ja : Int32} {ta : Int32} {oc : Int32 → Int32} {oa : Int32 → Int32} {qa : Int32 → Int32} : (Cv_d mc jc tc ma ja ta oc oa qa) (9, 0, 0) = some (.inr (.inl (.int, 6))) := rfl
theorem Cv_d10 {mc : Int32} {jc : Int32} {tc : Int32} {ma : Int32} {ja : Int32} {ta : Int32} {oc : Int32 → Int32} {oa : Int32 → Int32} {qa : Int32 → Int32} : (Cv_d mc jc tc ma ja ta oc oa qa) (10, 0, 0) = some (.inr (.inl (.int, 6))) := rfl
theorem Cv_d11 {mc : Int32} {jc : Int32} {tc : Int32} {ma : Int32} {ja : Int32} {ta : Int32} {oc : Int32 → Int32} {oa : Int32 → Int32} {qa : Int32 → Int32} (h0 : 0 ≤ i ∧ i < mc) : (Cv_d mc jc tc ma ja ta oc oa qa) (11, i, 0) = some (.inl (52, [(0, (0, 0, 0)), (2, (12, i, 0))])) := if_pos ⟨h0, rfl⟩
theorem Cv_d12 {mc : Int32} {jc : Int32} {tc : Int32} {ma : Int32} {ja : Int32} {ta : Int32} {oc : Int32 → Int32} {oa : Int32 → Int32} {qa : Int32 → Int32} (h0 : 0 ≤ i ∧ i < mc) : (Cv_d mc jc tc ma ja ta oc oa qa) (12, i, 0) = some (.inl (63, [(0, (0, 0, 0)), (2, if 0 < (oa i) then (13, i, 0) else (91, 0, 0)), (0, (0, 0, 0))])) := if_pos ⟨h0, rfl⟩
theorem Cv_d13 {mc : Int32} {jc : Int32} {tc : Int32} {ma : Int32} {ja : Int32} {ta : Int32} {oc : Int32 → Int32} {oa : Int32 → Int32} {qa : Int32 → Int32} (h0 : 0 ≤ i ∧ i < mc) : (Cv_d mc jc tc ma ja ta oc oa qa) (13, i, 0) = some (.inr (.inr ((.object "java/lang/Object"), wn (oa i), .inr (fun x => if x < (oc i) then some (14, i, x) else none)))) := if_pos ⟨h0, rfl⟩
theorem Cv_d14 {mc : Int32} {jc : Int32} {tc : Int32} {ma : Int32} {ja : Int32} {ta : Int32} {oc : Int32 → Int32} {oa : Int32 → Int32} {qa : Int32 → Int32} (h0 : 0 ≤ i ∧ i < mc) (h1 : 0 ≤ j ∧ j < (oc i)) : (Cv_d mc jc tc ma ja ta oc oa qa) (14, i, j) = some (.inl (53, [(0, (0, 0, 0)), (0, (0, 0, 0))])) := if_pos ⟨h0, h1⟩
theorem Cv_d15 {mc : Int32} {jc : Int32} {tc : Int32} {ma : Int32} {ja : Int32} {ta : Int32} {oc : Int32 → Int32} {oa : Int32 → Int32} {qa : Int32 → Int32} (h0 : 0 ≤ i ∧ i < jc) : (Cv_d mc jc tc ma ja ta oc oa qa) (15, i, 0) = some (.inl (54, [(0, (0, 0, 0)), (0, (0, 0, 0)), (2, (17, i, 0))])) := if_pos ⟨h0, rfl⟩
theorem Cv_d17 {mc : Int32} {jc : Int32} {tc : Int32} {ma : Int32} {ja : Int32} {ta : Int32} {oc : Int32 → Int32} {oa : Int32 → Int32} {qa : Int32 → Int32} (h0 : 0 ≤ i ∧ i < jc) : (Cv_d mc jc tc ma ja ta oc oa qa) (17, i, 0) = some (.inl (63, [(0, (0, 0, 0)), (2, if 0 < (qa i) then (18, i, 0) else (91, 0, 0)), (0, (0, 0, 0))])) := if_pos ⟨h0, rfl⟩
theorem Cv_d18 {mc : Int32} {jc : Int32} {tc : Int32} {ma : Int32} {ja : Int32} {ta : Int32} {oc : Int32 → Int32} {oa : Int32 → Int32} {qa : Int32 → Int32} (h0 : 0 ≤ i ∧ i < jc) : (Cv_d mc jc tc ma ja ta oc oa qa) (18, i, 0) = some (.inr (.inr ((.object "java/lang/Object"), wn (qa i), .inl 16))) := if_pos ⟨h0, rfl⟩
theorem Cv_d16 {mc : Int32} {jc : Int32} {tc : Int32} {ma : Int32} {ja : Int32} {ta : Int32} {oc : Int32 → Int32} {oa : Int32 → Int32} {qa : Int32 → Int32} (h0 : 0 ≤ i ∧ i < tc) : (Cv_d mc jc tc ma ja ta oc oa qa) (16, i, 0) = some (.inl (55, [(0, (0, 0, 0)), (0, (0, 0, 0)), (0, (0, 0, 0)), (0, (0, 0, 0))])) := if_pos ⟨h0, rfl⟩
theorem Cv_d91 {mc : Int32} {jc : Int32} {tc : Int32} {ma : Int32} {ja : Int32} {ta : Int32} {oc : Int32 → Int32} {oa : Int32 → Int32} {qa : Int32 → Int32} : (Cv_d mc jc tc ma ja ta oc oa qa) (91, 0, 0) = some (.inr (.inr ((.object "java/lang/Object"), 0, .inl 16))) := rfl
theorem Cv_c0 (hP : Cv_P mc jc tc ma ja ta oc oa qa) (hA : wok A (Cv_d mc jc tc ma ja ta oc oa qa) m) : pm_cls (wput A (Cv_d mc jc tc ma ja ta oc oa qa) S h) (A (0, 0, 0)) = some 20 := w_cls hA (Cv_d0)
theorem Cv_k0 {cl : pm_C} {k b c : Nat} {r : List Instr} {ls s : List Value} (hP : Cv_P mc jc tc ma ja ta oc oa qa) (hA : wok A (Cv_d mc jc tc ma ja ta oc oa qa) m) (h2 : pm_sub 20 c = true) : pm_ev pm_prog cl k b (.checkcast c :: r) ls (.ref (A (0, 0, 0)) :: s) (wput A (Cv_d mc jc tc ma ja ta oc oa qa) S h) = pm_ev pm_prog cl k b r ls (.ref (A (0, 0, 0)) :: s) (wput A (Cv_d mc jc tc ma ja ta oc oa qa) S h) := pe_checkcast (w_cls hA (Cv_d0)) h2
theorem Cv_g0_0 (hP : Cv_P mc jc tc ma ja ta oc oa qa) (hA : wok A (Cv_d mc jc tc ma ja ta oc oa qa) m) : pm_gf pm_tab (wput A (Cv_d mc jc tc ma ja ta oc oa qa) S h) (A (0, 0, 0)) 20 0 = some (.ref (A (1, 0, 0))) := w_g (f := (2, (1, 0, 0))) hA (Cv_d0) rfl rfl
theorem Cv_g0_1 (hP : Cv_P mc jc tc ma ja ta oc oa qa) (hA : wok A (Cv_d mc jc tc ma ja ta oc oa qa) m) : pm_gf pm_tab (wput A (Cv_d mc jc tc ma ja ta oc oa qa) S h) (A (0, 0, 0)) 20 1 = some (.ref (A (3, 0, 0))) := w_g (f := (2, (3, 0, 0))) hA (Cv_d0) rfl rfl
theorem Cv_g0_2 (hP : Cv_P mc jc tc ma ja ta oc oa qa) (hA : wok A (Cv_d mc jc tc ma ja ta oc oa qa) m) : pm_gf pm_tab (wput A (Cv_d mc jc tc ma ja ta oc oa qa) S h) (A (0, 0, 0)) 20 2 = some (.ref (A (5, 0, 0))) := w_g (f := (2, (5, 0, 0))) hA (Cv_d0) rfl rfl
theorem Cv_g0_3 (hP : Cv_P mc jc tc ma ja ta oc oa qa) (hA : wok A (Cv_d mc jc tc ma ja ta oc oa qa) m) : pm_gf pm_tab (wput A (Cv_d mc jc tc ma ja ta oc oa qa) S h) (A (0, 0, 0)) 20 3 = some (.ref (A (7, 0, 0))) := w_g (f := (2, (7, 0, 0))) hA (Cv_d0) rfl rfl
theorem Cv_g0_4 (hP : Cv_P mc jc tc ma ja ta oc oa qa) (hA : wok A (Cv_d mc jc tc ma ja ta oc oa qa) m) : pm_gf pm_tab (wput A (Cv_d mc jc tc ma ja ta oc oa qa) S h) (A (0, 0, 0)) 20 4 = some (.ref (A (7, 1, 0))) := w_g (f := (2, (7, 1, 0))) hA (Cv_d0) rfl rfl
theorem Cv_g0_5 (hP : Cv_P mc jc tc ma ja ta oc oa qa) (hA : wok A (Cv_d mc jc tc ma ja ta oc oa qa) m) : pm_gf pm_tab (wput A (Cv_d mc jc tc ma ja ta oc oa qa) S h) (A (0, 0, 0)) 20 5 = some (.ref (A (7, 2, 0))) := w_g (f := (2, (7, 2, 0))) hA (Cv_d0) rfl rfl
theorem Cv_g0_6 (hP : Cv_P mc jc tc ma ja ta oc oa qa) (hA : wok A (Cv_d mc jc tc ma ja ta oc oa qa) m) : pm_gf pm_tab (wput A (Cv_d mc jc tc ma ja ta oc oa qa) S h) (A (0, 0, 0)) 20 6 = some (.ref (A (8, 0, 0))) := w_g (f := (2, (8, 0, 0))) hA (Cv_d0) rfl rfl
theorem Cv_g0_7 (hP : Cv_P mc jc tc ma ja ta oc oa qa) (hA : wok A (Cv_d mc jc tc ma ja ta oc oa qa) m) : pm_gf pm_tab (wput A (Cv_d mc jc tc ma ja ta oc oa qa) S h) (A (0, 0, 0)) 20 7 = some (.ref (A (9, 0, 0))) := w_g (f := (2, (9, 0, 0))) hA (Cv_d0) rfl rfl
theorem Cv_g0_8 (hP : Cv_P mc jc tc ma ja ta oc oa qa) (hA : wok A (Cv_d mc jc tc ma ja ta oc oa qa) m) : pm_gf pm_tab (wput A (Cv_d mc jc tc ma ja ta oc oa qa) S h) (A (0, 0, 0)) 20 8 = some (.ref (A (10, 0, 0))) := w_g (f := (2, (10, 0, 0))) hA (Cv_d0) rfl rfl
theorem Cv_g0_9 (hP : Cv_P mc jc tc ma ja ta oc oa qa) (hA : wok A (Cv_d mc jc tc ma ja ta oc oa qa) m) : pm_gf pm_tab (wput A (Cv_d mc jc tc ma ja ta oc oa qa) S h) (A (0, 0, 0)) 20 9 = some (.int (S.1 (0, 0, 0) 9)) := w_g (f := (0, (0, 0, 0))) hA (Cv_d0) rfl rfl
theorem Cv_p0_9 (hP : Cv_P mc jc tc ma ja ta oc oa qa) (hA : wok A (Cv_d mc jc tc ma ja ta oc oa qa) m) : pm_pf pm_tab (wput A (Cv_d mc jc tc ma ja ta oc oa qa) S h) (A (0, 0, 0)) 20 9 0 (.int v) = some (wput A (Cv_d mc jc tc ma ja ta oc oa qa) (sz S (0, 0, 0) 9 v) h) := w_p0 (q := (0, 0, 0)) (t := 0) hA (Cv_d0) rfl rfl (Nat.le_of_ble_eq_true rfl)
theorem Cv_g0_10 (hP : Cv_P mc jc tc ma ja ta oc oa qa) (hA : wok A (Cv_d mc jc tc ma ja ta oc oa qa) m) : pm_gf pm_tab (wput A (Cv_d mc jc tc ma ja ta oc oa qa) S h) (A (0, 0, 0)) 20 10 = some (.int (S.1 (0, 0, 0) 10)) := w_g (f := (0, (0, 0, 0))) hA (Cv_d0) rfl rfl
theorem Cv_p0_10 (hP : Cv_P mc jc tc ma ja ta oc oa qa) (hA : wok A (Cv_d mc jc tc ma ja ta oc oa qa) m) : pm_pf pm_tab (wput A (Cv_d mc jc tc ma ja ta oc oa qa) S h) (A (0, 0, 0)) 20 10 0 (.int v) = some (wput A (Cv_d mc jc tc ma ja ta oc oa qa) (sz S (0, 0, 0) 10 v) h) := w_p0 (q := (0, 0, 0)) (t := 0) hA (Cv_d0) rfl rfl (Nat.le_of_ble_eq_true rfl)
theorem Cv_g0_11 (hP : Cv_P mc jc tc ma ja ta oc oa qa) (hA : wok A (Cv_d mc jc tc ma ja ta oc oa qa) m) : pm_gf pm_tab (wput A (Cv_d mc jc tc ma ja ta oc oa qa) S h) (A (0, 0, 0)) 20 11 = some (.int (S.1 (0, 0, 0) 11)) := w_g (f := (0, (0, 0, 0))) hA (Cv_d0) rfl rfl
theorem Cv_p0_11 (hP : Cv_P mc jc tc ma ja ta oc oa qa) (hA : wok A (Cv_d mc jc tc ma ja ta oc oa qa) m) : pm_pf pm_tab (wput A (Cv_d mc jc tc ma ja ta oc oa qa) S h) (A (0, 0, 0)) 20 11 0 (.int v) = some (wput A (Cv_d mc jc tc ma ja ta oc oa qa) (sz S (0, 0, 0) 11 v) h) := w_p0 (q := (0, 0, 0)) (t := 0) hA (Cv_d0) rfl rfl (Nat.le_of_ble_eq_true rfl)
theorem Cv_g0_12 (hP : Cv_P mc jc tc ma ja ta oc oa qa) (hA : wok A (Cv_d mc jc tc ma ja ta oc oa qa) m) : pm_gf pm_tab (wput A (Cv_d mc jc tc ma ja ta oc oa qa) S h) (A (0, 0, 0)) 20 12 = some (.int (S.1 (0, 0, 0) 12)) := w_g (f := (0, (0, 0, 0))) hA (Cv_d0) rfl rfl
theorem Cv_p0_12 (hP : Cv_P mc jc tc ma ja ta oc oa qa) (hA : wok A (Cv_d mc jc tc ma ja ta oc oa qa) m) : pm_pf pm_tab (wput A (Cv_d mc jc tc ma ja ta oc oa qa) S h) (A (0, 0, 0)) 20 12 0 (.int v) = some (wput A (Cv_d mc jc tc ma ja ta oc oa qa) (sz S (0, 0, 0) 12 v) h) := w_p0 (q := (0, 0, 0)) (t := 0) hA (Cv_d0) rfl rfl (Nat.le_of_ble_eq_true rfl)
theorem Cv_g0_13 (hP : Cv_P mc jc tc ma ja ta oc oa qa) (hA : wok A (Cv_d mc jc tc ma ja ta oc oa qa) m) : pm_gf pm_tab (wput A (Cv_d mc jc tc ma ja ta oc oa qa) S h) (A (0, 0, 0)) 20 13 = some (.int (S.1 (0, 0, 0) 13)) := w_g (f := (0, (0, 0, 0))) hA (Cv_d0) rfl rfl
theorem Cv_p0_13 (hP : Cv_P mc jc tc ma ja ta oc oa qa) (hA : wok A (Cv_d mc jc tc ma ja ta oc oa qa) m) (hv : v = 0 ∨ v = 1) : pm_pf pm_tab (wput A (Cv_d mc jc tc ma ja ta oc oa qa) S h) (A (0, 0, 0)) 20 13 2 (.int v) = some (wput A (Cv_d mc jc tc ma ja ta oc oa qa) (sz S (0, 0, 0) 13 v) h) := (w_p0 (q := (0, 0, 0)) (t := 2) hA (Cv_d0) rfl rfl (Nat.le_of_ble_eq_true rfl)).trans (if_pos (by rw [pm_ok2]; exact hv))
theorem Cv_g0_14 (hP : Cv_P mc jc tc ma ja ta oc oa qa) (hA : wok A (Cv_d mc jc tc ma ja ta oc oa qa) m) : pm_gf pm_tab (wput A (Cv_d mc jc tc ma ja ta oc oa qa) S h) (A (0, 0, 0)) 20 14 = some (.int (S.1 (0, 0, 0) 14)) := w_g (f := (0, (0, 0, 0))) hA (Cv_d0) rfl rfl
theorem Cv_p0_14 (hP : Cv_P mc jc tc ma ja ta oc oa qa) (hA : wok A (Cv_d mc jc tc ma ja ta oc oa qa) m) (hv : v = 0 ∨ v = 1) : pm_pf pm_tab (wput A (Cv_d mc jc tc ma ja ta oc oa qa) S h) (A (0, 0, 0)) 20 14 2 (.int v) = some (wput A (Cv_d mc jc tc ma ja ta oc oa qa) (sz S (0, 0, 0) 14 v) h) := (w_p0 (q := (0, 0, 0)) (t := 2) hA (Cv_d0) rfl rfl (Nat.le_of_ble_eq_true rfl)).trans (if_pos (by rw [pm_ok2]; exact hv))
theorem Cv_g0_15 (hP : Cv_P mc jc tc ma ja ta oc oa qa) (hA : wok A (Cv_d mc jc tc ma ja ta oc oa qa) m) : pm_gf pm_tab (wput A (Cv_d mc jc tc ma ja ta oc oa qa) S h) (A (0, 0, 0)) 20 15 = some (.long (S.2 (0, 0, 0) 15)) := w_g (f := (1, (0, 0, 0))) hA (Cv_d0) rfl rfl
theorem Cv_p0_15 (hP : Cv_P mc jc tc ma ja ta oc oa qa) (hA : wok A (Cv_d mc jc tc ma ja ta oc oa qa) m) : pm_pf pm_tab (wput A (Cv_d mc jc tc ma ja ta oc oa qa) S h) (A (0, 0, 0)) 20 15 1 (.long u) = some (wput A (Cv_d mc jc tc ma ja ta oc oa qa) (sl S (0, 0, 0) 15 u) h) := w_p1 (q := (0, 0, 0)) hA (Cv_d0) rfl rfl (Nat.le_of_ble_eq_true rfl)
theorem Cv_g0_16 (hP : Cv_P mc jc tc ma ja ta oc oa qa) (hA : wok A (Cv_d mc jc tc ma ja ta oc oa qa) m) : pm_gf pm_tab (wput A (Cv_d mc jc tc ma ja ta oc oa qa) S h) (A (0, 0, 0)) 20 16 = some (.long (S.2 (0, 0, 0) 16)) := w_g (f := (1, (0, 0, 0))) hA (Cv_d0) rfl rfl
theorem Cv_p0_16 (hP : Cv_P mc jc tc ma ja ta oc oa qa) (hA : wok A (Cv_d mc jc tc ma ja ta oc oa qa) m) : pm_pf pm_tab (wput A (Cv_d mc jc tc ma ja ta oc oa qa) S h) (A (0, 0, 0)) 20 16 1 (.long u) = some (wput A (Cv_d mc jc tc ma ja ta oc oa qa) (sl S (0, 0, 0) 16 u) h) := w_p1 (q := (0, 0, 0)) hA (Cv_d0) rfl rfl (Nat.le_of_ble_eq_true rfl)
theorem Cv_c1 (hP : Cv_P mc jc tc ma ja ta oc oa qa) (hA : wok A (Cv_d mc jc tc ma ja ta oc oa qa) m) : pm_cls (wput A (Cv_d mc jc tc ma ja ta oc oa qa) S h) (A (1, 0, 0)) = some 63 := w_cls hA (Cv_d1)
theorem Cv_k1 {cl : pm_C} {k b c : Nat} {r : List Instr} {ls s : List Value} (hP : Cv_P mc jc tc ma ja ta oc oa qa) (hA : wok A (Cv_d mc jc tc ma ja ta oc oa qa) m) (h2 : pm_sub 63 c = true) : pm_ev pm_prog cl k b (.checkcast c :: r) ls (.ref (A (1, 0, 0)) :: s) (wput A (Cv_d mc jc tc ma ja ta oc oa qa) S h) = pm_ev pm_prog cl k b r ls (.ref (A (1, 0, 0)) :: s) (wput A (Cv_d mc jc tc ma ja ta oc oa qa) S h) := pe_checkcast (w_cls hA (Cv_d1)) h2
theorem Cv_g1_0 (hP : Cv_P mc jc tc ma ja ta oc oa qa) (hA : wok A (Cv_d mc jc tc ma ja ta oc oa qa) m) : pm_gf pm_tab (wput A (Cv_d mc jc tc ma ja ta oc oa qa) S h) (A (1, 0, 0)) 63 0 = some (.int (S.1 (1, 0, 0) 0)) := w_g (f := (0, (0, 0, 0))) hA (Cv_d1) rfl rfl
theorem Cv_p1_0 (hP : Cv_P mc jc tc ma ja ta oc oa qa) (hA : wok A (Cv_d mc jc tc ma ja ta oc oa qa) m) : pm_pf pm_tab (wput A (Cv_d mc jc tc ma ja ta oc oa qa) S h) (A (1, 0, 0)) 63 0 0 (.int v) = some (wput A (Cv_d mc jc tc ma ja ta oc oa qa) (sz S (1, 0, 0) 0 v) h) := w_p0 (q := (0, 0, 0)) (t := 0) hA (Cv_d1) rfl rfl (Nat.le_of_ble_eq_true rfl)
theorem Cv_g1_1 (hP : Cv_P mc jc tc ma ja ta oc oa qa) (hA : wok A (Cv_d mc jc tc ma ja ta oc oa qa) m) (hc : 0 < ma) : pm_gf pm_tab (wput A (Cv_d mc jc tc ma ja ta oc oa qa) S h) (A (1, 0, 0)) 63 1 = some (.ref (A (2, 0, 0))) := (w_g (f := (2, if 0 < ma then (2, 0, 0) else (91, 0, 0))) hA (Cv_d1) rfl rfl).trans (by rw [if_pos hc]; rfl)
theorem Cv_gE1_1 (hP : Cv_P mc jc tc ma ja ta oc oa qa) (hA : wok A (Cv_d mc jc tc ma ja ta oc oa qa) m) (hc : ¬ 0 < ma) : pm_gf pm_tab (wput A (Cv_d mc jc tc ma ja ta oc oa qa) S h) (A (1, 0, 0)) 63 1 = some (.ref (A (91, 0, 0))) := (w_g (f := (2, if 0 < ma then (2, 0, 0) else (91, 0, 0))) hA (Cv_d1) rfl rfl).trans (by rw [if_neg hc]; rfl)
theorem Cv_g1_2 (hP : Cv_P mc jc tc ma ja ta oc oa qa) (hA : wok A (Cv_d mc jc tc ma ja ta oc oa qa) m) : pm_gf pm_tab (wput A (Cv_d mc jc tc ma ja ta oc oa qa) S h) (A (1, 0, 0)) 63 2 = some (.int (S.1 (1, 0, 0) 2)) := w_g (f := (0, (0, 0, 0))) hA (Cv_d1) rfl rfl
theorem Cv_p1_2 (hP : Cv_P mc jc tc ma ja ta oc oa qa) (hA : wok A (Cv_d mc jc tc ma ja ta oc oa qa) m) : pm_pf pm_tab (wput A (Cv_d mc jc tc ma ja ta oc oa qa) S h) (A (1, 0, 0)) 63 2 0 (.int v) = some (wput A (Cv_d mc jc tc ma ja ta oc oa qa) (sz S (1, 0, 0) 2 v) h) := w_p0 (q := (0, 0, 0)) (t := 0) hA (Cv_d1) rfl rfl (Nat.le_of_ble_eq_true rfl)
theorem Cv_l2 (hP : Cv_P mc jc tc ma ja ta oc oa qa) (hA : wok A (Cv_d mc jc tc ma ja ta oc oa qa) m) : pm_len (wput A (Cv_d mc jc tc ma ja ta oc oa qa) S h) (A (2, 0, 0)) = some (wn ma) := w_lenR hA (Cv_d2) (by decide)
theorem Cv_r2 (hP : Cv_P mc jc tc ma ja ta oc oa qa) (hA : wok A (Cv_d mc jc tc ma ja ta oc oa qa) m) (hx : 0 ≤ x ∧ x < ma) (hn : x < mc) : pm_rdR (wput A (Cv_d mc jc tc ma ja ta oc oa qa) S h) (A (2, 0, 0)) x = some (some (A (11, x, 0))) := ((w_rdR hA (Cv_d2) rfl (wn_le _)).trans (if_pos (wn_in (hP.2.2.2.1) hx))).trans (congrArg some (congrArg (Option.map A) (if_pos hn)))
theorem Cv_c3 (hP : Cv_P mc jc tc ma ja ta oc oa qa) (hA : wok A (Cv_d mc jc tc ma ja ta oc oa qa) m) : pm_cls (wput A (Cv_d mc jc tc ma ja ta oc oa qa) S h) (A (3, 0, 0)) = some 63 := w_cls hA (Cv_d3)
theorem Cv_k3 {cl : pm_C} {k b c : Nat} {r : List Instr} {ls s : List Value} (hP : Cv_P mc jc tc ma ja ta oc oa qa) (hA : wok A (Cv_d mc jc tc ma ja ta oc oa qa) m) (h2 : pm_sub 63 c = true) : pm_ev pm_prog cl k b (.checkcast c :: r) ls (.ref (A (3, 0, 0)) :: s) (wput A (Cv_d mc jc tc ma ja ta oc oa qa) S h) = pm_ev pm_prog cl k b r ls (.ref (A (3, 0, 0)) :: s) (wput A (Cv_d mc jc tc ma ja ta oc oa qa) S h) := pe_checkcast (w_cls hA (Cv_d3)) h2
theorem Cv_g3_0 (hP : Cv_P mc jc tc ma ja ta oc oa qa) (hA : wok A (Cv_d mc jc tc ma ja ta oc oa qa) m) : pm_gf pm_tab (wput A (Cv_d mc jc tc ma ja ta oc oa qa) S h) (A (3, 0, 0)) 63 0 = some (.int (S.1 (3, 0, 0) 0)) := w_g (f := (0, (0, 0, 0))) hA (Cv_d3) rfl rfl
theorem Cv_p3_0 (hP : Cv_P mc jc tc ma ja ta oc oa qa) (hA : wok A (Cv_d mc jc tc ma ja ta oc oa qa) m) : pm_pf pm_tab (wput A (Cv_d mc jc tc ma ja ta oc oa qa) S h) (A (3, 0, 0)) 63 0 0 (.int v) = some (wput A (Cv_d mc jc tc ma ja ta oc oa qa) (sz S (3, 0, 0) 0 v) h) := w_p0 (q := (0, 0, 0)) (t := 0) hA (Cv_d3) rfl rfl (Nat.le_of_ble_eq_true rfl)
theorem Cv_g3_1 (hP : Cv_P mc jc tc ma ja ta oc oa qa) (hA : wok A (Cv_d mc jc tc ma ja ta oc oa qa) m) (hc : 0 < ja) : pm_gf pm_tab (wput A (Cv_d mc jc tc ma ja ta oc oa qa) S h) (A (3, 0, 0)) 63 1 = some (.ref (A (4, 0, 0))) := (w_g (f := (2, if 0 < ja then (4, 0, 0) else (91, 0, 0))) hA (Cv_d3) rfl rfl).trans (by rw [if_pos hc]; rfl)
theorem Cv_gE3_1 (hP : Cv_P mc jc tc ma ja ta oc oa qa) (hA : wok A (Cv_d mc jc tc ma ja ta oc oa qa) m) (hc : ¬ 0 < ja) : pm_gf pm_tab (wput A (Cv_d mc jc tc ma ja ta oc oa qa) S h) (A (3, 0, 0)) 63 1 = some (.ref (A (91, 0, 0))) := (w_g (f := (2, if 0 < ja then (4, 0, 0) else (91, 0, 0))) hA (Cv_d3) rfl rfl).trans (by rw [if_neg hc]; rfl)
theorem Cv_g3_2 (hP : Cv_P mc jc tc ma ja ta oc oa qa) (hA : wok A (Cv_d mc jc tc ma ja ta oc oa qa) m) : pm_gf pm_tab (wput A (Cv_d mc jc tc ma ja ta oc oa qa) S h) (A (3, 0, 0)) 63 2 = some (.int (S.1 (3, 0, 0) 2)) := w_g (f := (0, (0, 0, 0))) hA (Cv_d3) rfl rfl
theorem Cv_p3_2 (hP : Cv_P mc jc tc ma ja ta oc oa qa) (hA : wok A (Cv_d mc jc tc ma ja ta oc oa qa) m) : pm_pf pm_tab (wput A (Cv_d mc jc tc ma ja ta oc oa qa) S h) (A (3, 0, 0)) 63 2 0 (.int v) = some (wput A (Cv_d mc jc tc ma ja ta oc oa qa) (sz S (3, 0, 0) 2 v) h) := w_p0 (q := (0, 0, 0)) (t := 0) hA (Cv_d3) rfl rfl (Nat.le_of_ble_eq_true rfl)
theorem Cv_l4 (hP : Cv_P mc jc tc ma ja ta oc oa qa) (hA : wok A (Cv_d mc jc tc ma ja ta oc oa qa) m) : pm_len (wput A (Cv_d mc jc tc ma ja ta oc oa qa) S h) (A (4, 0, 0)) = some (wn ja) := w_lenR hA (Cv_d4) (by decide)
theorem Cv_r4 (hP : Cv_P mc jc tc ma ja ta oc oa qa) (hA : wok A (Cv_d mc jc tc ma ja ta oc oa qa) m) (hx : 0 ≤ x ∧ x < ja) (hn : x < jc) : pm_rdR (wput A (Cv_d mc jc tc ma ja ta oc oa qa) S h) (A (4, 0, 0)) x = some (some (A (15, x, 0))) := ((w_rdR hA (Cv_d4) rfl (wn_le _)).trans (if_pos (wn_in (hP.2.2.2.2.1) hx))).trans (congrArg some (congrArg (Option.map A) (if_pos hn)))
theorem Cv_c5 (hP : Cv_P mc jc tc ma ja ta oc oa qa) (hA : wok A (Cv_d mc jc tc ma ja ta oc oa qa) m) : pm_cls (wput A (Cv_d mc jc tc ma ja ta oc oa qa) S h) (A (5, 0, 0)) = some 63 := w_cls hA (Cv_d5)
theorem Cv_k5 {cl : pm_C} {k b c : Nat} {r : List Instr} {ls s : List Value} (hP : Cv_P mc jc tc ma ja ta oc oa qa) (hA : wok A (Cv_d mc jc tc ma ja ta oc oa qa) m) (h2 : pm_sub 63 c = true) : pm_ev pm_prog cl k b (.checkcast c :: r) ls (.ref (A (5, 0, 0)) :: s) (wput A (Cv_d mc jc tc ma ja ta oc oa qa) S h) = pm_ev pm_prog cl k b r ls (.ref (A (5, 0, 0)) :: s) (wput A (Cv_d mc jc tc ma ja ta oc oa qa) S h) := pe_checkcast (w_cls hA (Cv_d5)) h2
theorem Cv_g5_0 (hP : Cv_P mc jc tc ma ja ta oc oa qa) (hA : wok A (Cv_d mc jc tc ma ja ta oc oa qa) m) : pm_gf pm_tab (wput A (Cv_d mc jc tc ma ja ta oc oa qa) S h) (A (5, 0, 0)) 63 0 = some (.int (S.1 (5, 0, 0) 0)) := w_g (f := (0, (0, 0, 0))) hA (Cv_d5) rfl rfl
theorem Cv_p5_0 (hP : Cv_P mc jc tc ma ja ta oc oa qa) (hA : wok A (Cv_d mc jc tc ma ja ta oc oa qa) m) : pm_pf pm_tab (wput A (Cv_d mc jc tc ma ja ta oc oa qa) S h) (A (5, 0, 0)) 63 0 0 (.int v) = some (wput A (Cv_d mc jc tc ma ja ta oc oa qa) (sz S (5, 0, 0) 0 v) h) := w_p0 (q := (0, 0, 0)) (t := 0) hA (Cv_d5) rfl rfl (Nat.le_of_ble_eq_true rfl)
theorem Cv_g5_1 (hP : Cv_P mc jc tc ma ja ta oc oa qa) (hA : wok A (Cv_d mc jc tc ma ja ta oc oa qa) m) (hc : 0 < ta) : pm_gf pm_tab (wput A (Cv_d mc jc tc ma ja ta oc oa qa) S h) (A (5, 0, 0)) 63 1 = some (.ref (A (6, 0, 0))) := (w_g (f := (2, if 0 < ta then (6, 0, 0) else (91, 0, 0))) hA (Cv_d5) rfl rfl).trans (by rw [if_pos hc]; rfl)
theorem Cv_gE5_1 (hP : Cv_P mc jc tc ma ja ta oc oa qa) (hA : wok A (Cv_d mc jc tc ma ja ta oc oa qa) m) (hc : ¬ 0 < ta) : pm_gf pm_tab (wput A (Cv_d mc jc tc ma ja ta oc oa qa) S h) (A (5, 0, 0)) 63 1 = some (.ref (A (91, 0, 0))) := (w_g (f := (2, if 0 < ta then (6, 0, 0) else (91, 0, 0))) hA (Cv_d5) rfl rfl).trans (by rw [if_neg hc]; rfl)
theorem Cv_g5_2 (hP : Cv_P mc jc tc ma ja ta oc oa qa) (hA : wok A (Cv_d mc jc tc ma ja ta oc oa qa) m) : pm_gf pm_tab (wput A (Cv_d mc jc tc ma ja ta oc oa qa) S h) (A (5, 0, 0)) 63 2 = some (.int (S.1 (5, 0, 0) 2)) := w_g (f := (0, (0, 0, 0))) hA (Cv_d5) rfl rfl
theorem Cv_p5_2 (hP : Cv_P mc jc tc ma ja ta oc oa qa) (hA : wok A (Cv_d mc jc tc ma ja ta oc oa qa) m) : pm_pf pm_tab (wput A (Cv_d mc jc tc ma ja ta oc oa qa) S h) (A (5, 0, 0)) 63 2 0 (.int v) = some (wput A (Cv_d mc jc tc ma ja ta oc oa qa) (sz S (5, 0, 0) 2 v) h) := w_p0 (q := (0, 0, 0)) (t := 0) hA (Cv_d5) rfl rfl (Nat.le_of_ble_eq_true rfl)
theorem Cv_l6 (hP : Cv_P mc jc tc ma ja ta oc oa qa) (hA : wok A (Cv_d mc jc tc ma ja ta oc oa qa) m) : pm_len (wput A (Cv_d mc jc tc ma ja ta oc oa qa) S h) (A (6, 0, 0)) = some (wn ta) := w_lenR hA (Cv_d6) (by decide)
theorem Cv_r6 (hP : Cv_P mc jc tc ma ja ta oc oa qa) (hA : wok A (Cv_d mc jc tc ma ja ta oc oa qa) m) (hx : 0 ≤ x ∧ x < ta) (hn : x < tc) : pm_rdR (wput A (Cv_d mc jc tc ma ja ta oc oa qa) S h) (A (6, 0, 0)) x = some (some (A (16, x, 0))) := ((w_rdR hA (Cv_d6) rfl (wn_le _)).trans (if_pos (wn_in (hP.2.2.2.2.2.1) hx))).trans (congrArg some (congrArg (Option.map A) (if_pos hn)))
theorem Cv_c7 (hP : Cv_P mc jc tc ma ja ta oc oa qa) (hA : wok A (Cv_d mc jc tc ma ja ta oc oa qa) m) (h0 : 0 ≤ i ∧ i < 3) : pm_cls (wput A (Cv_d mc jc tc ma ja ta oc oa qa) S h) (A (7, i, 0)) = some 21 := w_cls hA (Cv_d7 h0)
theorem Cv_k7 {cl : pm_C} {k b c : Nat} {r : List Instr} {ls s : List Value} (hP : Cv_P mc jc tc ma ja ta oc oa qa) (hA : wok A (Cv_d mc jc tc ma ja ta oc oa qa) m) (h0 : 0 ≤ i ∧ i < 3) (h2 : pm_sub 21 c = true) : pm_ev pm_prog cl k b (.checkcast c :: r) ls (.ref (A (7, i, 0)) :: s) (wput A (Cv_d mc jc tc ma ja ta oc oa qa) S h) = pm_ev pm_prog cl k b r ls (.ref (A (7, i, 0)) :: s) (wput A (Cv_d mc jc tc ma ja ta oc oa qa) S h) := pe_checkcast (w_cls hA (Cv_d7 h0)) h2
theorem Cv_g7_0 (hP : Cv_P mc jc tc ma ja ta oc oa qa) (hA : wok A (Cv_d mc jc tc ma ja ta oc oa qa) m) (h0 : 0 ≤ i ∧ i < 3) : pm_gf pm_tab (wput A (Cv_d mc jc tc ma ja ta oc oa qa) S h) (A (7, i, 0)) 21 0 = some (.ref (A (1, 0, 0))) := w_g (f := (2, (1, 0, 0))) hA (Cv_d7 h0) rfl rfl
theorem Cv_g7_1 (hP : Cv_P mc jc tc ma ja ta oc oa qa) (hA : wok A (Cv_d mc jc tc ma ja ta oc oa qa) m) (h0 : 0 ≤ i ∧ i < 3) : pm_gf pm_tab (wput A (Cv_d mc jc tc ma ja ta oc oa qa) S h) (A (7, i, 0)) 21 1 = some (.ref (A (5, 0, 0))) := w_g (f := (2, (5, 0, 0))) hA (Cv_d7 h0) rfl rfl
theorem Cv_g7_2 (hP : Cv_P mc jc tc ma ja ta oc oa qa) (hA : wok A (Cv_d mc jc tc ma ja ta oc oa qa) m) (h0 : 0 ≤ i ∧ i < 3) : pm_gf pm_tab (wput A (Cv_d mc jc tc ma ja ta oc oa qa) S h) (A (7, i, 0)) 21 2 = some (.ref (A (19, i, 0))) := w_g (f := (2, (19, i, 0))) hA (Cv_d7 h0) rfl rfl
theorem Cv_g7_3 (hP : Cv_P mc jc tc ma ja ta oc oa qa) (hA : wok A (Cv_d mc jc tc ma ja ta oc oa qa) m) (h0 : 0 ≤ i ∧ i < 3) : pm_gf pm_tab (wput A (Cv_d mc jc tc ma ja ta oc oa qa) S h) (A (7, i, 0)) 21 3 = some (.ref (A (20, i, 0))) := w_g (f := (2, (20, i, 0))) hA (Cv_d7 h0) rfl rfl
theorem Cv_l19 (hP : Cv_P mc jc tc ma ja ta oc oa qa) (hA : wok A (Cv_d mc jc tc ma ja ta oc oa qa) m) (h0 : 0 ≤ i ∧ i < 3) : pm_len (wput A (Cv_d mc jc tc ma ja ta oc oa qa) S h) (A (19, i, 0)) = some 24 := w_len hA (Cv_d19 h0) (by decide)
theorem Cv_r19 (hP : Cv_P mc jc tc ma ja ta oc oa qa) (hA : wok A (Cv_d mc jc tc ma ja ta oc oa qa) m) (h0 : 0 ≤ i ∧ i < 3) (hx : 0 ≤ x ∧ x < 24) : pm_rd pm_isI (wput A (Cv_d mc jc tc ma ja ta oc oa qa) S h) (A (19, i, 0)) x = some (S.1 (19, i, 0) x) := (w_rd (t := .int) hA (Cv_d19 h0) rfl (by decide) (by decide)).trans (if_pos hx)
theorem Cv_w19 (hP : Cv_P mc jc tc ma ja ta oc oa qa) (hA : wok A (Cv_d mc jc tc ma ja ta oc oa qa) m) (h0 : 0 ≤ i ∧ i < 3) (hx : 0 ≤ x ∧ x < 24) : pm_wr pm_wI (wput A (Cv_d mc jc tc ma ja ta oc oa qa) S h) (A (19, i, 0)) x v = some (wput A (Cv_d mc jc tc ma ja ta oc oa qa) (sz S (19, i, 0) x v) h) := (w_wr (t := .int) hA (Cv_d19 h0) rfl (by decide) (by decide)).trans (if_pos hx)
theorem Cv_l20 (hP : Cv_P mc jc tc ma ja ta oc oa qa) (hA : wok A (Cv_d mc jc tc ma ja ta oc oa qa) m) (h0 : 0 ≤ i ∧ i < 3) : pm_len (wput A (Cv_d mc jc tc ma ja ta oc oa qa) S h) (A (20, i, 0)) = some 24 := w_len hA (Cv_d20 h0) (by decide)
theorem Cv_r20 (hP : Cv_P mc jc tc ma ja ta oc oa qa) (hA : wok A (Cv_d mc jc tc ma ja ta oc oa qa) m) (h0 : 0 ≤ i ∧ i < 3) (hx : 0 ≤ x ∧ x < 24) : pm_rd pm_isI (wput A (Cv_d mc jc tc ma ja ta oc oa qa) S h) (A (20, i, 0)) x = some (S.1 (20, i, 0) x) := (w_rd (t := .int) hA (Cv_d20 h0) rfl (by decide) (by decide)).trans (if_pos hx)
theorem Cv_w20 (hP : Cv_P mc jc tc ma ja ta oc oa qa) (hA : wok A (Cv_d mc jc tc ma ja ta oc oa qa) m) (h0 : 0 ≤ i ∧ i < 3) (hx : 0 ≤ x ∧ x < 24) : pm_wr pm_wI (wput A (Cv_d mc jc tc ma ja ta oc oa qa) S h) (A (20, i, 0)) x v = some (wput A (Cv_d mc jc tc ma ja ta oc oa qa) (sz S (20, i, 0) x v) h) := (w_wr (t := .int) hA (Cv_d20 h0) rfl (by decide) (by decide)).trans (if_pos hx)
theorem Cv_l8 (hP : Cv_P mc jc tc ma ja ta oc oa qa) (hA : wok A (Cv_d mc jc tc ma ja ta oc oa qa) m) : pm_len (wput A (Cv_d mc jc tc ma ja ta oc oa qa) S h) (A (8, 0, 0)) = some 6 := w_len hA (Cv_d8) (by decide)
theorem Cv_r8 (hP : Cv_P mc jc tc ma ja ta oc oa qa) (hA : wok A (Cv_d mc jc tc ma ja ta oc oa qa) m) (hx : 0 ≤ x ∧ x < 6) : pm_rd pm_isI (wput A (Cv_d mc jc tc ma ja ta oc oa qa) S h) (A (8, 0, 0)) x = some (S.1 (8, 0, 0) x) := (w_rd (t := .int) hA (Cv_d8) rfl (by decide) (by decide)).trans (if_pos hx)
theorem Cv_w8 (hP : Cv_P mc jc tc ma ja ta oc oa qa) (hA : wok A (Cv_d mc jc tc ma ja ta oc oa qa) m) (hx : 0 ≤ x ∧ x < 6) : pm_wr pm_wI (wput A (Cv_d mc jc tc ma ja ta oc oa qa) S h) (A (8, 0, 0)) x v = some (wput A (Cv_d mc jc tc ma ja ta oc oa qa) (sz S (8, 0, 0) x v) h) := (w_wr (t := .int) hA (Cv_d8) rfl (by decide) (by decide)).trans (if_pos hx)
theorem Cv_l9 (hP : Cv_P mc jc tc ma ja ta oc oa qa) (hA : wok A (Cv_d mc jc tc ma ja ta oc oa qa) m) : pm_len (wput A (Cv_d mc jc tc ma ja ta oc oa qa) S h) (A (9, 0, 0)) = some 6 := w_len hA (Cv_d9) (by decide)
theorem Cv_r9 (hP : Cv_P mc jc tc ma ja ta oc oa qa) (hA : wok A (Cv_d mc jc tc ma ja ta oc oa qa) m) (hx : 0 ≤ x ∧ x < 6) : pm_rd pm_isI (wput A (Cv_d mc jc tc ma ja ta oc oa qa) S h) (A (9, 0, 0)) x = some (S.1 (9, 0, 0) x) := (w_rd (t := .int) hA (Cv_d9) rfl (by decide) (by decide)).trans (if_pos hx)
theorem Cv_w9 (hP : Cv_P mc jc tc ma ja ta oc oa qa) (hA : wok A (Cv_d mc jc tc ma ja ta oc oa qa) m) (hx : 0 ≤ x ∧ x < 6) : pm_wr pm_wI (wput A (Cv_d mc jc tc ma ja ta oc oa qa) S h) (A (9, 0, 0)) x v = some (wput A (Cv_d mc jc tc ma ja ta oc oa qa) (sz S (9, 0, 0) x v) h) := (w_wr (t := .int) hA (Cv_d9) rfl (by decide) (by decide)).trans (if_pos hx)
theorem Cv_l10 (hP : Cv_P mc jc tc ma ja ta oc oa qa) (hA : wok A (Cv_d mc jc tc ma ja ta oc oa qa) m) : pm_len (wput A (Cv_d mc jc tc ma ja ta oc oa qa) S h) (A (10, 0, 0)) = some 6 := w_len hA (Cv_d10) (by decide)
theorem Cv_r10 (hP : Cv_P mc jc tc ma ja ta oc oa qa) (hA : wok A (Cv_d mc jc tc ma ja ta oc oa qa) m) (hx : 0 ≤ x ∧ x < 6) : pm_rd pm_isI (wput A (Cv_d mc jc tc ma ja ta oc oa qa) S h) (A (10, 0, 0)) x = some (S.1 (10, 0, 0) x) := (w_rd (t := .int) hA (Cv_d10) rfl (by decide) (by decide)).trans (if_pos hx)
theorem Cv_w10 (hP : Cv_P mc jc tc ma ja ta oc oa qa) (hA : wok A (Cv_d mc jc tc ma ja ta oc oa qa) m) (hx : 0 ≤ x ∧ x < 6) : pm_wr pm_wI (wput A (Cv_d mc jc tc ma ja ta oc oa qa) S h) (A (10, 0, 0)) x v = some (wput A (Cv_d mc jc tc ma ja ta oc oa qa) (sz S (10, 0, 0) x v) h) := (w_wr (t := .int) hA (Cv_d10) rfl (by decide) (by decide)).trans (if_pos hx)
theorem Cv_c11 (hP : Cv_P mc jc tc ma ja ta oc oa qa) (hA : wok A (Cv_d mc jc tc ma ja ta oc oa qa) m) (h0 : 0 ≤ i ∧ i < mc) : pm_cls (wput A (Cv_d mc jc tc ma ja ta oc oa qa) S h) (A (11, i, 0)) = some 52 := w_cls hA (Cv_d11 h0)
theorem Cv_k11 {cl : pm_C} {k b c : Nat} {r : List Instr} {ls s : List Value} (hP : Cv_P mc jc tc ma ja ta oc oa qa) (hA : wok A (Cv_d mc jc tc ma ja ta oc oa qa) m) (h0 : 0 ≤ i ∧ i < mc) (h2 : pm_sub 52 c = true) : pm_ev pm_prog cl k b (.checkcast c :: r) ls (.ref (A (11, i, 0)) :: s) (wput A (Cv_d mc jc tc ma ja ta oc oa qa) S h) = pm_ev pm_prog cl k b r ls (.ref (A (11, i, 0)) :: s) (wput A (Cv_d mc jc tc ma ja ta oc oa qa) S h) := pe_checkcast (w_cls hA (Cv_d11 h0)) h2
theorem Cv_g11_0 (hP : Cv_P mc jc tc ma ja ta oc oa qa) (hA : wok A (Cv_d mc jc tc ma ja ta oc oa qa) m) (h0 : 0 ≤ i ∧ i < mc) : pm_gf pm_tab (wput A (Cv_d mc jc tc ma ja ta oc oa qa) S h) (A (11, i, 0)) 52 0 = some (.int (S.1 (11, i, 0) 0)) := w_g (f := (0, (0, 0, 0))) hA (Cv_d11 h0) rfl rfl
theorem Cv_p11_0 (hP : Cv_P mc jc tc ma ja ta oc oa qa) (hA : wok A (Cv_d mc jc tc ma ja ta oc oa qa) m) (h0 : 0 ≤ i ∧ i < mc) : pm_pf pm_tab (wput A (Cv_d mc jc tc ma ja ta oc oa qa) S h) (A (11, i, 0)) 52 0 0 (.int v) = some (wput A (Cv_d mc jc tc ma ja ta oc oa qa) (sz S (11, i, 0) 0 v) h) := w_p0 (q := (0, 0, 0)) (t := 0) hA (Cv_d11 h0) rfl rfl (Nat.le_of_ble_eq_true rfl)
theorem Cv_g11_1 (hP : Cv_P mc jc tc ma ja ta oc oa qa) (hA : wok A (Cv_d mc jc tc ma ja ta oc oa qa) m) (h0 : 0 ≤ i ∧ i < mc) : pm_gf pm_tab (wput A (Cv_d mc jc tc ma ja ta oc oa qa) S h) (A (11, i, 0)) 52 1 = some (.ref (A (12, i, 0))) := w_g (f := (2, (12, i, 0))) hA (Cv_d11 h0) rfl rfl
theorem Cv_c12 (hP : Cv_P mc jc tc ma ja ta oc oa qa) (hA : wok A (Cv_d mc jc tc ma ja ta oc oa qa) m) (h0 : 0 ≤ i ∧ i < mc) : pm_cls (wput A (Cv_d mc jc tc ma ja ta oc oa qa) S h) (A (12, i, 0)) = some 63 := w_cls hA (Cv_d12 h0)
theorem Cv_k12 {cl : pm_C} {k b c : Nat} {r : List Instr} {ls s : List Value} (hP : Cv_P mc jc tc ma ja ta oc oa qa) (hA : wok A (Cv_d mc jc tc ma ja ta oc oa qa) m) (h0 : 0 ≤ i ∧ i < mc) (h2 : pm_sub 63 c = true) : pm_ev pm_prog cl k b (.checkcast c :: r) ls (.ref (A (12, i, 0)) :: s) (wput A (Cv_d mc jc tc ma ja ta oc oa qa) S h) = pm_ev pm_prog cl k b r ls (.ref (A (12, i, 0)) :: s) (wput A (Cv_d mc jc tc ma ja ta oc oa qa) S h) := pe_checkcast (w_cls hA (Cv_d12 h0)) h2
theorem Cv_g12_0 (hP : Cv_P mc jc tc ma ja ta oc oa qa) (hA : wok A (Cv_d mc jc tc ma ja ta oc oa qa) m) (h0 : 0 ≤ i ∧ i < mc) : pm_gf pm_tab (wput A (Cv_d mc jc tc ma ja ta oc oa qa) S h) (A (12, i, 0)) 63 0 = some (.int (S.1 (12, i, 0) 0)) := w_g (f := (0, (0, 0, 0))) hA (Cv_d12 h0) rfl rfl
theorem Cv_p12_0 (hP : Cv_P mc jc tc ma ja ta oc oa qa) (hA : wok A (Cv_d mc jc tc ma ja ta oc oa qa) m) (h0 : 0 ≤ i ∧ i < mc) : pm_pf pm_tab (wput A (Cv_d mc jc tc ma ja ta oc oa qa) S h) (A (12, i, 0)) 63 0 0 (.int v) = some (wput A (Cv_d mc jc tc ma ja ta oc oa qa) (sz S (12, i, 0) 0 v) h) := w_p0 (q := (0, 0, 0)) (t := 0) hA (Cv_d12 h0) rfl rfl (Nat.le_of_ble_eq_true rfl)
theorem Cv_g12_1 (hP : Cv_P mc jc tc ma ja ta oc oa qa) (hA : wok A (Cv_d mc jc tc ma ja ta oc oa qa) m) (h0 : 0 ≤ i ∧ i < mc) (hc : 0 < (oa i)) : pm_gf pm_tab (wput A (Cv_d mc jc tc ma ja ta oc oa qa) S h) (A (12, i, 0)) 63 1 = some (.ref (A (13, i, 0))) := (w_g (f := (2, if 0 < (oa i) then (13, i, 0) else (91, 0, 0))) hA (Cv_d12 h0) rfl rfl).trans (by rw [if_pos hc]; rfl)
theorem Cv_gE12_1 (hP : Cv_P mc jc tc ma ja ta oc oa qa) (hA : wok A (Cv_d mc jc tc ma ja ta oc oa qa) m) (h0 : 0 ≤ i ∧ i < mc) (hc : ¬ 0 < (oa i)) : pm_gf pm_tab (wput A (Cv_d mc jc tc ma ja ta oc oa qa) S h) (A (12, i, 0)) 63 1 = some (.ref (A (91, 0, 0))) := (w_g (f := (2, if 0 < (oa i) then (13, i, 0) else (91, 0, 0))) hA (Cv_d12 h0) rfl rfl).trans (by rw [if_neg hc]; rfl)
theorem Cv_g12_2 (hP : Cv_P mc jc tc ma ja ta oc oa qa) (hA : wok A (Cv_d mc jc tc ma ja ta oc oa qa) m) (h0 : 0 ≤ i ∧ i < mc) : pm_gf pm_tab (wput A (Cv_d mc jc tc ma ja ta oc oa qa) S h) (A (12, i, 0)) 63 2 = some (.int (S.1 (12, i, 0) 2)) := w_g (f := (0, (0, 0, 0))) hA (Cv_d12 h0) rfl rfl
theorem Cv_p12_2 (hP : Cv_P mc jc tc ma ja ta oc oa qa) (hA : wok A (Cv_d mc jc tc ma ja ta oc oa qa) m) (h0 : 0 ≤ i ∧ i < mc) : pm_pf pm_tab (wput A (Cv_d mc jc tc ma ja ta oc oa qa) S h) (A (12, i, 0)) 63 2 0 (.int v) = some (wput A (Cv_d mc jc tc ma ja ta oc oa qa) (sz S (12, i, 0) 2 v) h) := w_p0 (q := (0, 0, 0)) (t := 0) hA (Cv_d12 h0) rfl rfl (Nat.le_of_ble_eq_true rfl)
theorem Cv_l13 (hP : Cv_P mc jc tc ma ja ta oc oa qa) (hA : wok A (Cv_d mc jc tc ma ja ta oc oa qa) m) (h0 : 0 ≤ i ∧ i < mc) : pm_len (wput A (Cv_d mc jc tc ma ja ta oc oa qa) S h) (A (13, i, 0)) = some (wn (oa i)) := w_lenR hA (Cv_d13 h0) (by decide)
theorem Cv_r13 (hP : Cv_P mc jc tc ma ja ta oc oa qa) (hA : wok A (Cv_d mc jc tc ma ja ta oc oa qa) m) (h0 : 0 ≤ i ∧ i < mc) (hx : 0 ≤ x ∧ x < (oa i)) (hn : x < (oc i)) : pm_rdR (wput A (Cv_d mc jc tc ma ja ta oc oa qa) S h) (A (13, i, 0)) x = some (some (A (14, i, x))) := ((w_rdR hA (Cv_d13 h0) rfl (wn_le _)).trans (if_pos (wn_in (hP.2.2.2.2.2.2.2.1 i) hx))).trans (congrArg some (congrArg (Option.map A) (if_pos hn)))
theorem Cv_c14 (hP : Cv_P mc jc tc ma ja ta oc oa qa) (hA : wok A (Cv_d mc jc tc ma ja ta oc oa qa) m) (h0 : 0 ≤ i ∧ i < mc) (h1 : 0 ≤ j ∧ j < (oc i)) : pm_cls (wput A (Cv_d mc jc tc ma ja ta oc oa qa) S h) (A (14, i, j)) = some 53 := w_cls hA (Cv_d14 h0 h1)
theorem Cv_k14 {cl : pm_C} {k b c : Nat} {r : List Instr} {ls s : List Value} (hP : Cv_P mc jc tc ma ja ta oc oa qa) (hA : wok A (Cv_d mc jc tc ma ja ta oc oa qa) m) (h0 : 0 ≤ i ∧ i < mc) (h1 : 0 ≤ j ∧ j < (oc i)) (h2 : pm_sub 53 c = true) : pm_ev pm_prog cl k b (.checkcast c :: r) ls (.ref (A (14, i, j)) :: s) (wput A (Cv_d mc jc tc ma ja ta oc oa qa) S h) = pm_ev pm_prog cl k b r ls (.ref (A (14, i, j)) :: s) (wput A (Cv_d mc jc tc ma ja ta oc oa qa) S h) := pe_checkcast (w_cls hA (Cv_d14 h0 h1)) h2
theorem Cv_g14_0 (hP : Cv_P mc jc tc ma ja ta oc oa qa) (hA : wok A (Cv_d mc jc tc ma ja ta oc oa qa) m) (h0 : 0 ≤ i ∧ i < mc) (h1 : 0 ≤ j ∧ j < (oc i)) : pm_gf pm_tab (wput A (Cv_d mc jc tc ma ja ta oc oa qa) S h) (A (14, i, j)) 53 0 = some (.int (S.1 (14, i, j) 0)) := w_g (f := (0, (0, 0, 0))) hA (Cv_d14 h0 h1) rfl rfl
theorem Cv_p14_0 (hP : Cv_P mc jc tc ma ja ta oc oa qa) (hA : wok A (Cv_d mc jc tc ma ja ta oc oa qa) m) (h0 : 0 ≤ i ∧ i < mc) (h1 : 0 ≤ j ∧ j < (oc i)) : pm_pf pm_tab (wput A (Cv_d mc jc tc ma ja ta oc oa qa) S h) (A (14, i, j)) 53 0 0 (.int v) = some (wput A (Cv_d mc jc tc ma ja ta oc oa qa) (sz S (14, i, j) 0 v) h) := w_p0 (q := (0, 0, 0)) (t := 0) hA (Cv_d14 h0 h1) rfl rfl (Nat.le_of_ble_eq_true rfl)
theorem Cv_g14_1 (hP : Cv_P mc jc tc ma ja ta oc oa qa) (hA : wok A (Cv_d mc jc tc ma ja ta oc oa qa) m) (h0 : 0 ≤ i ∧ i < mc) (h1 : 0 ≤ j ∧ j < (oc i)) : pm_gf pm_tab (wput A (Cv_d mc jc tc ma ja ta oc oa qa) S h) (A (14, i, j)) 53 1 = some (.int (S.1 (14, i, j) 1)) := w_g (f := (0, (0, 0, 0))) hA (Cv_d14 h0 h1) rfl rfl
theorem Cv_p14_1 (hP : Cv_P mc jc tc ma ja ta oc oa qa) (hA : wok A (Cv_d mc jc tc ma ja ta oc oa qa) m) (h0 : 0 ≤ i ∧ i < mc) (h1 : 0 ≤ j ∧ j < (oc i)) : pm_pf pm_tab (wput A (Cv_d mc jc tc ma ja ta oc oa qa) S h) (A (14, i, j)) 53 1 0 (.int v) = some (wput A (Cv_d mc jc tc ma ja ta oc oa qa) (sz S (14, i, j) 1 v) h) := w_p0 (q := (0, 0, 0)) (t := 0) hA (Cv_d14 h0 h1) rfl rfl (Nat.le_of_ble_eq_true rfl)
theorem Cv_c15 (hP : Cv_P mc jc tc ma ja ta oc oa qa) (hA : wok A (Cv_d mc jc tc ma ja ta oc oa qa) m) (h0 : 0 ≤ i ∧ i < jc) : pm_cls (wput A (Cv_d mc jc tc ma ja ta oc oa qa) S h) (A (15, i, 0)) = some 54 := w_cls hA (Cv_d15 h0)
theorem Cv_k15 {cl : pm_C} {k b c : Nat} {r : List Instr} {ls s : List Value} (hP : Cv_P mc jc tc ma ja ta oc oa qa) (hA : wok A (Cv_d mc jc tc ma ja ta oc oa qa) m) (h0 : 0 ≤ i ∧ i < jc) (h2 : pm_sub 54 c = true) : pm_ev pm_prog cl k b (.checkcast c :: r) ls (.ref (A (15, i, 0)) :: s) (wput A (Cv_d mc jc tc ma ja ta oc oa qa) S h) = pm_ev pm_prog cl k b r ls (.ref (A (15, i, 0)) :: s) (wput A (Cv_d mc jc tc ma ja ta oc oa qa) S h) := pe_checkcast (w_cls hA (Cv_d15 h0)) h2
theorem Cv_g15_0 (hP : Cv_P mc jc tc ma ja ta oc oa qa) (hA : wok A (Cv_d mc jc tc ma ja ta oc oa qa) m) (h0 : 0 ≤ i ∧ i < jc) : pm_gf pm_tab (wput A (Cv_d mc jc tc ma ja ta oc oa qa) S h) (A (15, i, 0)) 54 0 = some (.int (S.1 (15, i, 0) 0)) := w_g (f := (0, (0, 0, 0))) hA (Cv_d15 h0) rfl rfl
theorem Cv_p15_0 (hP : Cv_P mc jc tc ma ja ta oc oa qa) (hA : wok A (Cv_d mc jc tc ma ja ta oc oa qa) m) (h0 : 0 ≤ i ∧ i < jc) : pm_pf pm_tab (wput A (Cv_d mc jc tc ma ja ta oc oa qa) S h) (A (15, i, 0)) 54 0 0 (.int v) = some (wput A (Cv_d mc jc tc ma ja ta oc oa qa) (sz S (15, i, 0) 0 v) h) := w_p0 (q := (0, 0, 0)) (t := 0) hA (Cv_d15 h0) rfl rfl (Nat.le_of_ble_eq_true rfl)
theorem Cv_g15_1 (hP : Cv_P mc jc tc ma ja ta oc oa qa) (hA : wok A (Cv_d mc jc tc ma ja ta oc oa qa) m) (h0 : 0 ≤ i ∧ i < jc) : pm_gf pm_tab (wput A (Cv_d mc jc tc ma ja ta oc oa qa) S h) (A (15, i, 0)) 54 1 = some (.int (S.1 (15, i, 0) 1)) := w_g (f := (0, (0, 0, 0))) hA (Cv_d15 h0) rfl rfl
theorem Cv_p15_1 (hP : Cv_P mc jc tc ma ja ta oc oa qa) (hA : wok A (Cv_d mc jc tc ma ja ta oc oa qa) m) (h0 : 0 ≤ i ∧ i < jc) : pm_pf pm_tab (wput A (Cv_d mc jc tc ma ja ta oc oa qa) S h) (A (15, i, 0)) 54 1 0 (.int v) = some (wput A (Cv_d mc jc tc ma ja ta oc oa qa) (sz S (15, i, 0) 1 v) h) := w_p0 (q := (0, 0, 0)) (t := 0) hA (Cv_d15 h0) rfl rfl (Nat.le_of_ble_eq_true rfl)
theorem Cv_g15_2 (hP : Cv_P mc jc tc ma ja ta oc oa qa) (hA : wok A (Cv_d mc jc tc ma ja ta oc oa qa) m) (h0 : 0 ≤ i ∧ i < jc) : pm_gf pm_tab (wput A (Cv_d mc jc tc ma ja ta oc oa qa) S h) (A (15, i, 0)) 54 2 = some (.ref (A (17, i, 0))) := w_g (f := (2, (17, i, 0))) hA (Cv_d15 h0) rfl rfl
theorem Cv_c17 (hP : Cv_P mc jc tc ma ja ta oc oa qa) (hA : wok A (Cv_d mc jc tc ma ja ta oc oa qa) m) (h0 : 0 ≤ i ∧ i < jc) : pm_cls (wput A (Cv_d mc jc tc ma ja ta oc oa qa) S h) (A (17, i, 0)) = some 63 := w_cls hA (Cv_d17 h0)
theorem Cv_k17 {cl : pm_C} {k b c : Nat} {r : List Instr} {ls s : List Value} (hP : Cv_P mc jc tc ma ja ta oc oa qa) (hA : wok A (Cv_d mc jc tc ma ja ta oc oa qa) m) (h0 : 0 ≤ i ∧ i < jc) (h2 : pm_sub 63 c = true) : pm_ev pm_prog cl k b (.checkcast c :: r) ls (.ref (A (17, i, 0)) :: s) (wput A (Cv_d mc jc tc ma ja ta oc oa qa) S h) = pm_ev pm_prog cl k b r ls (.ref (A (17, i, 0)) :: s) (wput A (Cv_d mc jc tc ma ja ta oc oa qa) S h) := pe_checkcast (w_cls hA (Cv_d17 h0)) h2
theorem Cv_g17_0 (hP : Cv_P mc jc tc ma ja ta oc oa qa) (hA : wok A (Cv_d mc jc tc ma ja ta oc oa qa) m) (h0 : 0 ≤ i ∧ i < jc) : pm_gf pm_tab (wput A (Cv_d mc jc tc ma ja ta oc oa qa) S h) (A (17, i, 0)) 63 0 = some (.int (S.1 (17, i, 0) 0)) := w_g (f := (0, (0, 0, 0))) hA (Cv_d17 h0) rfl rfl
theorem Cv_p17_0 (hP : Cv_P mc jc tc ma ja ta oc oa qa) (hA : wok A (Cv_d mc jc tc ma ja ta oc oa qa) m) (h0 : 0 ≤ i ∧ i < jc) : pm_pf pm_tab (wput A (Cv_d mc jc tc ma ja ta oc oa qa) S h) (A (17, i, 0)) 63 0 0 (.int v) = some (wput A (Cv_d mc jc tc ma ja ta oc oa qa) (sz S (17, i, 0) 0 v) h) := w_p0 (q := (0, 0, 0)) (t := 0) hA (Cv_d17 h0) rfl rfl (Nat.le_of_ble_eq_true rfl)
theorem Cv_g17_1 (hP : Cv_P mc jc tc ma ja ta oc oa qa) (hA : wok A (Cv_d mc jc tc ma ja ta oc oa qa) m) (h0 : 0 ≤ i ∧ i < jc) (hc : 0 < (qa i)) : pm_gf pm_tab (wput A (Cv_d mc jc tc ma ja ta oc oa qa) S h) (A (17, i, 0)) 63 1 = some (.ref (A (18, i, 0))) := (w_g (f := (2, if 0 < (qa i) then (18, i, 0) else (91, 0, 0))) hA (Cv_d17 h0) rfl rfl).trans (by rw [if_pos hc]; rfl)
theorem Cv_gE17_1 (hP : Cv_P mc jc tc ma ja ta oc oa qa) (hA : wok A (Cv_d mc jc tc ma ja ta oc oa qa) m) (h0 : 0 ≤ i ∧ i < jc) (hc : ¬ 0 < (qa i)) : pm_gf pm_tab (wput A (Cv_d mc jc tc ma ja ta oc oa qa) S h) (A (17, i, 0)) 63 1 = some (.ref (A (91, 0, 0))) := (w_g (f := (2, if 0 < (qa i) then (18, i, 0) else (91, 0, 0))) hA (Cv_d17 h0) rfl rfl).trans (by rw [if_neg hc]; rfl)
theorem Cv_g17_2 (hP : Cv_P mc jc tc ma ja ta oc oa qa) (hA : wok A (Cv_d mc jc tc ma ja ta oc oa qa) m) (h0 : 0 ≤ i ∧ i < jc) : pm_gf pm_tab (wput A (Cv_d mc jc tc ma ja ta oc oa qa) S h) (A (17, i, 0)) 63 2 = some (.int (S.1 (17, i, 0) 2)) := w_g (f := (0, (0, 0, 0))) hA (Cv_d17 h0) rfl rfl
theorem Cv_p17_2 (hP : Cv_P mc jc tc ma ja ta oc oa qa) (hA : wok A (Cv_d mc jc tc ma ja ta oc oa qa) m) (h0 : 0 ≤ i ∧ i < jc) : pm_pf pm_tab (wput A (Cv_d mc jc tc ma ja ta oc oa qa) S h) (A (17, i, 0)) 63 2 0 (.int v) = some (wput A (Cv_d mc jc tc ma ja ta oc oa qa) (sz S (17, i, 0) 2 v) h) := w_p0 (q := (0, 0, 0)) (t := 0) hA (Cv_d17 h0) rfl rfl (Nat.le_of_ble_eq_true rfl)
theorem Cv_l18 (hP : Cv_P mc jc tc ma ja ta oc oa qa) (hA : wok A (Cv_d mc jc tc ma ja ta oc oa qa) m) (h0 : 0 ≤ i ∧ i < jc) : pm_len (wput A (Cv_d mc jc tc ma ja ta oc oa qa) S h) (A (18, i, 0)) = some (wn (qa i)) := w_lenE hA (Cv_d18 h0) (by decide)
theorem Cv_r18 (hP : Cv_P mc jc tc ma ja ta oc oa qa) (hA : wok A (Cv_d mc jc tc ma ja ta oc oa qa) m) (h0 : 0 ≤ i ∧ i < jc) (hx : 0 ≤ x ∧ x < (qa i)) : pm_rdR (wput A (Cv_d mc jc tc ma ja ta oc oa qa) S h) (A (18, i, 0)) x = some (we A 16 (S.1 (18, i, 0) x)) := (w_rdE hA (Cv_d18 h0) rfl (wn_le _)).trans (if_pos (wn_in (hP.2.2.2.2.2.2.2.2 i) hx))
theorem Cv_w18 (hP : Cv_P mc jc tc ma ja ta oc oa qa) (hA : wok A (Cv_d mc jc tc ma ja ta oc oa qa) m) (h0 : 0 ≤ i ∧ i < jc) (hx : 0 ≤ x ∧ x < (qa i)) (hv : 0 ≤ v ∧ v < tc) : pm_wrR pm_tab (wput A (Cv_d mc jc tc ma ja ta oc oa qa) S h) (A (18, i, 0)) x (some (A (16, v, 0))) = some (wput A (Cv_d mc jc tc ma ja ta oc oa qa) (sz S (18, i, 0) x v) h) := w_wrE hA (Cv_d18 h0) rfl (wn_le _) (we_p (wz_lt hv)).symm (fun b hb => by
    cases hb; rw [show (wput A (Cv_d mc jc tc ma ja ta oc oa qa) S h).2.2 (A (16, v, 0)) = _ from wp_at hA (w_some (Cv_d16 hv)), wM_at (Cv_d16 hv)]; rfl) (wn_in (hP.2.2.2.2.2.2.2.2 i) hx)
theorem Cv_wN18 (hP : Cv_P mc jc tc ma ja ta oc oa qa) (hA : wok A (Cv_d mc jc tc ma ja ta oc oa qa) m) (h0 : 0 ≤ i ∧ i < jc) (hx : 0 ≤ x ∧ x < (qa i)) : pm_wrR pm_tab (wput A (Cv_d mc jc tc ma ja ta oc oa qa) S h) (A (18, i, 0)) x none = some (wput A (Cv_d mc jc tc ma ja ta oc oa qa) (sz S (18, i, 0) x (-1)) h) := w_wrE hA (Cv_d18 h0) rfl (wn_le _) we_m1.symm (fun b hb => by cases hb) (wn_in (hP.2.2.2.2.2.2.2.2 i) hx)
theorem Cv_c16 (hP : Cv_P mc jc tc ma ja ta oc oa qa) (hA : wok A (Cv_d mc jc tc ma ja ta oc oa qa) m) (h0 : 0 ≤ i ∧ i < tc) : pm_cls (wput A (Cv_d mc jc tc ma ja ta oc oa qa) S h) (A (16, i, 0)) = some 55 := w_cls hA (Cv_d16 h0)
theorem Cv_k16 {cl : pm_C} {k b c : Nat} {r : List Instr} {ls s : List Value} (hP : Cv_P mc jc tc ma ja ta oc oa qa) (hA : wok A (Cv_d mc jc tc ma ja ta oc oa qa) m) (h0 : 0 ≤ i ∧ i < tc) (h2 : pm_sub 55 c = true) : pm_ev pm_prog cl k b (.checkcast c :: r) ls (.ref (A (16, i, 0)) :: s) (wput A (Cv_d mc jc tc ma ja ta oc oa qa) S h) = pm_ev pm_prog cl k b r ls (.ref (A (16, i, 0)) :: s) (wput A (Cv_d mc jc tc ma ja ta oc oa qa) S h) := pe_checkcast (w_cls hA (Cv_d16 h0)) h2
theorem Cv_g16_0 (hP : Cv_P mc jc tc ma ja ta oc oa qa) (hA : wok A (Cv_d mc jc tc ma ja ta oc oa qa) m) (h0 : 0 ≤ i ∧ i < tc) : pm_gf pm_tab (wput A (Cv_d mc jc tc ma ja ta oc oa qa) S h) (A (16, i, 0)) 55 0 = some (.int (S.1 (16, i, 0) 0)) := w_g (f := (0, (0, 0, 0))) hA (Cv_d16 h0) rfl rfl
theorem Cv_p16_0 (hP : Cv_P mc jc tc ma ja ta oc oa qa) (hA : wok A (Cv_d mc jc tc ma ja ta oc oa qa) m) (h0 : 0 ≤ i ∧ i < tc) : pm_pf pm_tab (wput A (Cv_d mc jc tc ma ja ta oc oa qa) S h) (A (16, i, 0)) 55 0 0 (.int v) = some (wput A (Cv_d mc jc tc ma ja ta oc oa qa) (sz S (16, i, 0) 0 v) h) := w_p0 (q := (0, 0, 0)) (t := 0) hA (Cv_d16 h0) rfl rfl (Nat.le_of_ble_eq_true rfl)
theorem Cv_g16_1 (hP : Cv_P mc jc tc ma ja ta oc oa qa) (hA : wok A (Cv_d mc jc tc ma ja ta oc oa qa) m) (h0 : 0 ≤ i ∧ i < tc) : pm_gf pm_tab (wput A (Cv_d mc jc tc ma ja ta oc oa qa) S h) (A (16, i, 0)) 55 1 = some (.int (S.1 (16, i, 0) 1)) := w_g (f := (0, (0, 0, 0))) hA (Cv_d16 h0) rfl rfl
theorem Cv_p16_1 (hP : Cv_P mc jc tc ma ja ta oc oa qa) (hA : wok A (Cv_d mc jc tc ma ja ta oc oa qa) m) (h0 : 0 ≤ i ∧ i < tc) : pm_pf pm_tab (wput A (Cv_d mc jc tc ma ja ta oc oa qa) S h) (A (16, i, 0)) 55 1 0 (.int v) = some (wput A (Cv_d mc jc tc ma ja ta oc oa qa) (sz S (16, i, 0) 1 v) h) := w_p0 (q := (0, 0, 0)) (t := 0) hA (Cv_d16 h0) rfl rfl (Nat.le_of_ble_eq_true rfl)
theorem Cv_g16_2 (hP : Cv_P mc jc tc ma ja ta oc oa qa) (hA : wok A (Cv_d mc jc tc ma ja ta oc oa qa) m) (h0 : 0 ≤ i ∧ i < tc) : pm_gf pm_tab (wput A (Cv_d mc jc tc ma ja ta oc oa qa) S h) (A (16, i, 0)) 55 2 = some (.int (S.1 (16, i, 0) 2)) := w_g (f := (0, (0, 0, 0))) hA (Cv_d16 h0) rfl rfl
theorem Cv_p16_2 (hP : Cv_P mc jc tc ma ja ta oc oa qa) (hA : wok A (Cv_d mc jc tc ma ja ta oc oa qa) m) (h0 : 0 ≤ i ∧ i < tc) : pm_pf pm_tab (wput A (Cv_d mc jc tc ma ja ta oc oa qa) S h) (A (16, i, 0)) 55 2 0 (.int v) = some (wput A (Cv_d mc jc tc ma ja ta oc oa qa) (sz S (16, i, 0) 2 v) h) := w_p0 (q := (0, 0, 0)) (t := 0) hA (Cv_d16 h0) rfl rfl (Nat.le_of_ble_eq_true rfl)
theorem Cv_g16_3 (hP : Cv_P mc jc tc ma ja ta oc oa qa) (hA : wok A (Cv_d mc jc tc ma ja ta oc oa qa) m) (h0 : 0 ≤ i ∧ i < tc) : pm_gf pm_tab (wput A (Cv_d mc jc tc ma ja ta oc oa qa) S h) (A (16, i, 0)) 55 3 = some (.int (S.1 (16, i, 0) 3)) := w_g (f := (0, (0, 0, 0))) hA (Cv_d16 h0) rfl rfl
theorem Cv_p16_3 (hP : Cv_P mc jc tc ma ja ta oc oa qa) (hA : wok A (Cv_d mc jc tc ma ja ta oc oa qa) m) (h0 : 0 ≤ i ∧ i < tc) : pm_pf pm_tab (wput A (Cv_d mc jc tc ma ja ta oc oa qa) S h) (A (16, i, 0)) 55 3 0 (.int v) = some (wput A (Cv_d mc jc tc ma ja ta oc oa qa) (sz S (16, i, 0) 3 v) h) := w_p0 (q := (0, 0, 0)) (t := 0) hA (Cv_d16 h0) rfl rfl (Nat.le_of_ble_eq_true rfl)
theorem Cv_l91 (hP : Cv_P mc jc tc ma ja ta oc oa qa) (hA : wok A (Cv_d mc jc tc ma ja ta oc oa qa) m) : pm_len (wput A (Cv_d mc jc tc ma ja ta oc oa qa) S h) (A (91, 0, 0)) = some 0 := w_lenE hA (Cv_d91) (by decide)
theorem Cv_r91 (hP : Cv_P mc jc tc ma ja ta oc oa qa) (hA : wok A (Cv_d mc jc tc ma ja ta oc oa qa) m) (hx : 0 ≤ x ∧ x < 0) : pm_rdR (wput A (Cv_d mc jc tc ma ja ta oc oa qa) S h) (A (91, 0, 0)) x = some (we A 16 (S.1 (91, 0, 0) x)) := (w_rdE hA (Cv_d91) rfl (by decide)).trans (if_pos hx)
theorem Cv_w91 (hP : Cv_P mc jc tc ma ja ta oc oa qa) (hA : wok A (Cv_d mc jc tc ma ja ta oc oa qa) m) (hx : 0 ≤ x ∧ x < 0) (hv : 0 ≤ v ∧ v < tc) : pm_wrR pm_tab (wput A (Cv_d mc jc tc ma ja ta oc oa qa) S h) (A (91, 0, 0)) x (some (A (16, v, 0))) = some (wput A (Cv_d mc jc tc ma ja ta oc oa qa) (sz S (91, 0, 0) x v) h) := w_wrE hA (Cv_d91) rfl (by decide) (we_p (wz_lt hv)).symm (fun b hb => by
    cases hb; rw [show (wput A (Cv_d mc jc tc ma ja ta oc oa qa) S h).2.2 (A (16, v, 0)) = _ from wp_at hA (w_some (Cv_d16 hv)), wM_at (Cv_d16 hv)]; rfl) hx
theorem Cv_wN91 (hP : Cv_P mc jc tc ma ja ta oc oa qa) (hA : wok A (Cv_d mc jc tc ma ja ta oc oa qa) m) (hx : 0 ≤ x ∧ x < 0) : pm_wrR pm_tab (wput A (Cv_d mc jc tc ma ja ta oc oa qa) S h) (A (91, 0, 0)) x none = some (wput A (Cv_d mc jc tc ma ja ta oc oa qa) (sz S (91, 0, 0) x (-1)) h) := w_wrE hA (Cv_d91) rfl (by decide) we_m1.symm (fun b hb => by cases hb) hx
theorem Cv_y19_19 {x' : Int32} {p q l : Int32} (hP : Cv_P mc jc tc ma ja ta oc oa qa) (hA : wok A (Cv_d mc jc tc ma ja ta oc oa qa) m) (h0 : 0 ≤ i ∧ i < 3) (g0 : 0 ≤ x' ∧ x' < 3) (hx : 0 ≤ p ∧ 0 ≤ q ∧ 0 ≤ l ∧ l ≤ 24 - p ∧ l ≤ 24 - q) : pm_cpy (wput A (Cv_d mc jc tc ma ja ta oc oa qa) S h) (A (19, x', 0)) p (A (19, i, 0)) q l = some (wput A (Cv_d mc jc tc ma ja ta oc oa qa) (szc S (19, i, 0) q (19, x', 0) p l) h) := w_cpy (n1 := 24) (n2 := 24) hA (Cv_d19 g0) (Cv_d19 h0) (by decide) (by decide) hx
theorem Cv_y20_20 {x' : Int32} {p q l : Int32} (hP : Cv_P mc jc tc ma ja ta oc oa qa) (hA : wok A (Cv_d mc jc tc ma ja ta oc oa qa) m) (h0 : 0 ≤ i ∧ i < 3) (g0 : 0 ≤ x' ∧ x' < 3) (hx : 0 ≤ p ∧ 0 ≤ q ∧ 0 ≤ l ∧ l ≤ 24 - p ∧ l ≤ 24 - q) : pm_cpy (wput A (Cv_d mc jc tc ma ja ta oc oa qa) S h) (A (20, x', 0)) p (A (20, i, 0)) q l = some (wput A (Cv_d mc jc tc ma ja ta oc oa qa) (szc S (20, i, 0) q (20, x', 0) p l) h) := w_cpy (n1 := 24) (n2 := 24) hA (Cv_d20 g0) (Cv_d20 h0) (by decide) (by decide) hx
theorem Cv_y8_9 {p q l : Int32} (hP : Cv_P mc jc tc ma ja ta oc oa qa) (hA : wok A (Cv_d mc jc tc ma ja ta oc oa qa) m) (hx : 0 ≤ p ∧ 0 ≤ q ∧ 0 ≤ l ∧ l ≤ 6 - p ∧ l ≤ 6 - q) : pm_cpy (wput A (Cv_d mc jc tc ma ja ta oc oa qa) S h) (A (9, 0, 0)) p (A (8, 0, 0)) q l = some (wput A (Cv_d mc jc tc ma ja ta oc oa qa) (szc S (8, 0, 0) q (9, 0, 0) p l) h) := w_cpy (n1 := 6) (n2 := 6) hA (Cv_d9) (Cv_d8) (by decide) (by decide) hx
theorem Cv_y9_8 {p q l : Int32} (hP : Cv_P mc jc tc ma ja ta oc oa qa) (hA : wok A (Cv_d mc jc tc ma ja ta oc oa qa) m) (hx : 0 ≤ p ∧ 0 ≤ q ∧ 0 ≤ l ∧ l ≤ 6 - p ∧ l ≤ 6 - q) : pm_cpy (wput A (Cv_d mc jc tc ma ja ta oc oa qa) S h) (A (8, 0, 0)) p (A (9, 0, 0)) q l = some (wput A (Cv_d mc jc tc ma ja ta oc oa qa) (szc S (9, 0, 0) q (8, 0, 0) p l) h) := w_cpy (n1 := 6) (n2 := 6) hA (Cv_d8) (Cv_d9) (by decide) (by decide) hx
end
/-- java/util/ArrayList.size()I -/
noncomputable def f4033v (mc : Int32) (jc : Int32) (tc : Int32) (ma : Int32) (ja : Int32) (ta : Int32) (oc : Int32 → Int32) (oa : Int32 → Int32) (qa : Int32 → Int32) (S : wS) : Option (Int32) :=
  some (S.1 (3, 0, 0) 2)
theorem x4033v {mc : Int32} {jc : Int32} {tc : Int32} {ma : Int32} {ja : Int32} {ta : Int32} {oc : Int32 → Int32} {oa : Int32 → Int32} {qa : Int32 → Int32} {A : wK → Nat} {h : pm_H} {D : Nat} {S : wS} {r : Int32} (hP : Cv_P mc jc tc ma ja ta oc oa qa) (hA : wok A (Cv_d mc jc tc ma ja ta oc oa qa) h.1) (hD : 1 ≤ D) (e : f4033v mc jc tc ma ja ta oc oa qa S = some r) : pm_call pm_prog D 4033 [.ref (A (3, 0, 0))] (wput A (Cv_d mc jc tc ma ja ta oc oa qa) S h) = some (Outcome.returned (some (.int r)), (wput A (Cv_d mc jc tc ma ja ta oc oa qa) S h)) := by
  obtain ⟨D, rfl⟩ : ∃ D', D = D' + 1 := ⟨D - 1, by omega⟩
  have hD : 0 ≤ D := by omega
  simp only [f4033v] at e
  rw [c4033 (Cv_c3 hP hA), b4033_0]
  have e := Option.some.inj e; subst e
  simp -implicitDefEqProofs (disch := first | assumption | exact Nat.le_of_ble_eq_true rfl | decide) only [b4033_0, pe_aload0, pe_getfield, pe_aloadN0, pe_aastoreN, pe_areturnN, pe_null, pm_prog_1, pm_ob_some, Nat.reduceDiv, Nat.reduceMod, Nat.reduceMul, Nat.reduceAdd, Int.reduceToNat, pm_kill_i, pm_kill_r, pm_kill_n, pm_kill_j, pm_kill_l, pm_kill_d, pm_cats_nil, pm_cats_i, pm_cats_r, pm_cats_n, pm_cats_l, pm_cats_d, sz_1, sz_2, sl_1, sl_2, lc_0, lc_lt, lc_le, li_ne, va_rf, wr_m1, we_m1, pm_kill_w, Int32.reduceOfInt, Int64.reduceOfInt, Int32.reduceOfNat, Int32.reduceLT, Int32.reduceLE, Prod.mk.injEq, Nat.reduceEqDiff, reduceCtorEq, and_true, true_and, and_false, false_and, and_self, ite_true, ite_false, ↓reduceIte, not_true_eq_false, not_false_eq_true, pe_ri, pe_rz, pe_rc, Cv_g3_2 hP hA]
/-- TimberHouse$WorkPlans.inside(II)V -/
theorem c1282 {d : Nat} {h : pm_H} {x0 : Int32} {x1 : Int32} : pm_call pm_prog (d + 1) 1282 [.int x0, .int x1] h = pm_ev pm_prog (pm_call pm_prog d) 1282 0 b1282_0 [.int x0, .int x1] [] h := pm_cal (pm_rc0 rfl) rfl rfl rfl
theorem g1282_1 {cl : pm_C} {ls st : List Value} {h : pm_H} : pm_go pm_prog cl 1282 1 ls st h = pm_ev pm_prog cl 1282 1 b1282_1 ls st h := pm_go_eq pm_prog cl 1282 1 ls st h
theorem g1282_2 {cl : pm_C} {ls st : List Value} {h : pm_H} : pm_go pm_prog cl 1282 2 ls st h = pm_ev pm_prog cl 1282 2 b1282_2 ls st h := pm_go_eq pm_prog cl 1282 2 ls st h
theorem t1282 {cl : pm_C} {j : Nat} {ls : List Value} {c : Nat} {h : pm_H} : pm_thr pm_prog cl 1282 j ls c h = some (.threw c, h) := rfl
/-- TimberHouse$WorkPlans.inside(II)V -/
noncomputable def f1282 (x0 : Int32) (x1 : Int32) : Option (Nat ⊕ (Unit)) :=
  if x0 < 0 then
    some (.inl 67)
  else
    if x0 < x1 then
      some (.inr ())
    else
      some (.inl 67)
theorem x1282 {h : pm_H} {D : Nat} {x0 : Int32} {x1 : Int32} {r : Nat ⊕ (Unit)} (hD : 1 ≤ D) (e : f1282 x0 x1 = some r) : pm_call pm_prog D 1282 [.int x0, .int x1] h = some (match (generalizing := false) r with | .inl c => (Outcome.threw c, (pm_new h 6 (.inr (c, [])))) | .inr _ => (Outcome.returned none, h)) := by
  obtain ⟨D, rfl⟩ : ∃ D', D = D' + 1 := ⟨D - 1, by omega⟩
  have hD : 0 ≤ D := by omega
  simp only [f1282] at e
  rw [c1282, b1282_0]
  by_cases k1 : x0 < 0
  · rw [if_pos k1] at e
    have e := Option.some.inj e; subst e
    simp -implicitDefEqProofs (disch := first | assumption | exact Nat.le_of_ble_eq_true rfl | decide) only [b1282_0, g1282_1, b1282_1, g1282_2, b1282_2, pe_iload0, pe_if_lt, pe_iload1, pe_icmp_lt, pe_goto_w, pe_return, pe_aastoreN, pe_areturnN, pe_null, pm_prog_1, pm_ob_some, Nat.reduceDiv, Nat.reduceMod, Nat.reduceMul, Nat.reduceAdd, Int.reduceToNat, pm_kill_i, pm_kill_r, pm_kill_n, pm_kill_j, pm_kill_l, pm_kill_d, pm_cats_nil, pm_cats_i, pm_cats_r, pm_cats_n, pm_cats_l, pm_cats_d, sz_1, sz_2, sl_1, sl_2, lc_0, lc_lt, lc_le, li_ne, va_rf, wr_m1, we_m1, pm_kill_w, Int32.reduceOfInt, Int64.reduceOfInt, Int32.reduceOfNat, Int32.reduceLT, Int32.reduceLE, Prod.mk.injEq, Nat.reduceEqDiff, reduceCtorEq, and_true, true_and, and_false, false_and, and_self, ite_true, ite_false, ↓reduceIte, not_true_eq_false, not_false_eq_true, pe_ri, pe_rz, pe_rc, p_throw, t1282, eq_true k1]
  · rw [if_neg k1] at e
    by_cases k2 : x0 < x1
    · rw [if_pos k2] at e
      have e := Option.some.inj e; subst e
      simp -implicitDefEqProofs (disch := first | assumption | exact Nat.le_of_ble_eq_true rfl | decide) only [b1282_0, g1282_1, b1282_1, g1282_2, b1282_2, pe_iload0, pe_if_lt, pe_iload1, pe_icmp_lt, pe_goto_w, pe_return, pe_aastoreN, pe_areturnN, pe_null, pm_prog_1, pm_ob_some, Nat.reduceDiv, Nat.reduceMod, Nat.reduceMul, Nat.reduceAdd, Int.reduceToNat, pm_kill_i, pm_kill_r, pm_kill_n, pm_kill_j, pm_kill_l, pm_kill_d, pm_cats_nil, pm_cats_i, pm_cats_r, pm_cats_n, pm_cats_l, pm_cats_d, sz_1, sz_2, sl_1, sl_2, lc_0, lc_lt, lc_le, li_ne, va_rf, wr_m1, we_m1, pm_kill_w, Int32.reduceOfInt, Int64.reduceOfInt, Int32.reduceOfNat, Int32.reduceLT, Int32.reduceLE, Prod.mk.injEq, Nat.reduceEqDiff, reduceCtorEq, and_true, true_and, and_false, false_and, and_self, ite_true, ite_false, ↓reduceIte, not_true_eq_false, not_false_eq_true, pe_ri, pe_rz, pe_rc, p_throw, t1282, eq_false k1, eq_true k2]
    · rw [if_neg k2] at e
      have e := Option.some.inj e; subst e
      simp -implicitDefEqProofs (disch := first | assumption | exact Nat.le_of_ble_eq_true rfl | decide) only [b1282_0, g1282_1, b1282_1, g1282_2, b1282_2, pe_iload0, pe_if_lt, pe_iload1, pe_icmp_lt, pe_goto_w, pe_return, pe_aastoreN, pe_areturnN, pe_null, pm_prog_1, pm_ob_some, Nat.reduceDiv, Nat.reduceMod, Nat.reduceMul, Nat.reduceAdd, Int.reduceToNat, pm_kill_i, pm_kill_r, pm_kill_n, pm_kill_j, pm_kill_l, pm_kill_d, pm_cats_nil, pm_cats_i, pm_cats_r, pm_cats_n, pm_cats_l, pm_cats_d, sz_1, sz_2, sl_1, sl_2, lc_0, lc_lt, lc_le, li_ne, va_rf, wr_m1, we_m1, pm_kill_w, Int32.reduceOfInt, Int64.reduceOfInt, Int32.reduceOfNat, Int32.reduceLT, Int32.reduceLE, Prod.mk.injEq, Nat.reduceEqDiff, reduceCtorEq, and_true, true_and, and_false, false_and, and_self, ite_true, ite_false, ↓reduceIte, not_true_eq_false, not_false_eq_true, pe_ri, pe_rz, pe_rc, p_throw, t1282, eq_false k1, eq_false k2]
/-- TimberHouse$WorkPlans.isIn(III)Z -/
theorem c1283 {d : Nat} {h : pm_H} {x0 : Int32} {x1 : Int32} {x2 : Int32} : pm_call pm_prog (d + 1) 1283 [.int x0, .int x1, .int x2] h = pm_ev pm_prog (pm_call pm_prog d) 1283 0 b1283_0 [.int x0, .int x1, .int x2] [] h := pm_cal (pm_rc0 rfl) rfl rfl rfl
theorem g1283_1 {cl : pm_C} {ls st : List Value} {h : pm_H} : pm_go pm_prog cl 1283 1 ls st h = pm_ev pm_prog cl 1283 1 b1283_1 ls st h := pm_go_eq pm_prog cl 1283 1 ls st h
theorem g1283_2 {cl : pm_C} {ls st : List Value} {h : pm_H} : pm_go pm_prog cl 1283 2 ls st h = pm_ev pm_prog cl 1283 2 b1283_2 ls st h := pm_go_eq pm_prog cl 1283 2 ls st h
/-- TimberHouse$WorkPlans.isIn(III)Z -/
noncomputable def f1283 (x0 : Int32) (x1 : Int32) (x2 : Int32) : Option (Int32) :=
  if x0 < x1 then
    some 0
  else
    if x0 ≤ x2 then
      some 1
    else
      some 0
theorem x1283 {h : pm_H} {D : Nat} {x0 : Int32} {x1 : Int32} {x2 : Int32} {r : Int32} (hD : 1 ≤ D) (e : f1283 x0 x1 x2 = some r) : pm_call pm_prog D 1283 [.int x0, .int x1, .int x2] h = some (Outcome.returned (some (.int r)), h) := by
  obtain ⟨D, rfl⟩ : ∃ D', D = D' + 1 := ⟨D - 1, by omega⟩
  have hD : 0 ≤ D := by omega
  simp only [f1283] at e
  rw [c1283, b1283_0]
  by_cases k1 : x0 < x1
  · rw [if_pos k1] at e
    have e := Option.some.inj e; subst e
    simp -implicitDefEqProofs (disch := first | assumption | exact Nat.le_of_ble_eq_true rfl | decide) only [b1283_0, g1283_1, b1283_1, g1283_2, b1283_2, pe_iload0, pe_iload1, pe_icmp_lt, pe_iload2, pe_icmp_gt, pe_sipush, pe_goto, pe_goto_w, pe_aastoreN, pe_areturnN, pe_null, pm_prog_1, pm_ob_some, Nat.reduceDiv, Nat.reduceMod, Nat.reduceMul, Nat.reduceAdd, Int.reduceToNat, pm_kill_i, pm_kill_r, pm_kill_n, pm_kill_j, pm_kill_l, pm_kill_d, pm_cats_nil, pm_cats_i, pm_cats_r, pm_cats_n, pm_cats_l, pm_cats_d, sz_1, sz_2, sl_1, sl_2, lc_0, lc_lt, lc_le, li_ne, va_rf, wr_m1, we_m1, pm_kill_w, Int32.reduceOfInt, Int64.reduceOfInt, Int32.reduceOfNat, Int32.reduceLT, Int32.reduceLE, Prod.mk.injEq, Nat.reduceEqDiff, reduceCtorEq, and_true, true_and, and_false, false_and, and_self, ite_true, ite_false, ↓reduceIte, not_true_eq_false, not_false_eq_true, pe_ri, pe_rz, pe_rc, eq_true k1]
  · rw [if_neg k1] at e
    by_cases k2 : x0 ≤ x2
    · rw [if_pos k2] at e
      have e := Option.some.inj e; subst e
      simp -implicitDefEqProofs (disch := first | assumption | exact Nat.le_of_ble_eq_true rfl | decide) only [b1283_0, g1283_1, b1283_1, g1283_2, b1283_2, pe_iload0, pe_iload1, pe_icmp_lt, pe_iload2, pe_icmp_gt, pe_sipush, pe_goto, pe_goto_w, pe_aastoreN, pe_areturnN, pe_null, pm_prog_1, pm_ob_some, Nat.reduceDiv, Nat.reduceMod, Nat.reduceMul, Nat.reduceAdd, Int.reduceToNat, pm_kill_i, pm_kill_r, pm_kill_n, pm_kill_j, pm_kill_l, pm_kill_d, pm_cats_nil, pm_cats_i, pm_cats_r, pm_cats_n, pm_cats_l, pm_cats_d, sz_1, sz_2, sl_1, sl_2, lc_0, lc_lt, lc_le, li_ne, va_rf, wr_m1, we_m1, pm_kill_w, Int32.reduceOfInt, Int64.reduceOfInt, Int32.reduceOfNat, Int32.reduceLT, Int32.reduceLE, Prod.mk.injEq, Nat.reduceEqDiff, reduceCtorEq, and_true, true_and, and_false, false_and, and_self, ite_true, ite_false, ↓reduceIte, not_true_eq_false, not_false_eq_true, pe_ri, pe_rz, pe_rc, eq_false k1, eq_true k2]
    · rw [if_neg k2] at e
      have e := Option.some.inj e; subst e
      simp -implicitDefEqProofs (disch := first | assumption | exact Nat.le_of_ble_eq_true rfl | decide) only [b1283_0, g1283_1, b1283_1, g1283_2, b1283_2, pe_iload0, pe_iload1, pe_icmp_lt, pe_iload2, pe_icmp_gt, pe_sipush, pe_goto, pe_goto_w, pe_aastoreN, pe_areturnN, pe_null, pm_prog_1, pm_ob_some, Nat.reduceDiv, Nat.reduceMod, Nat.reduceMul, Nat.reduceAdd, Int.reduceToNat, pm_kill_i, pm_kill_r, pm_kill_n, pm_kill_j, pm_kill_l, pm_kill_d, pm_cats_nil, pm_cats_i, pm_cats_r, pm_cats_n, pm_cats_l, pm_cats_d, sz_1, sz_2, sl_1, sl_2, lc_0, lc_lt, lc_le, li_ne, va_rf, wr_m1, we_m1, pm_kill_w, Int32.reduceOfInt, Int64.reduceOfInt, Int32.reduceOfNat, Int32.reduceLT, Int32.reduceLE, Prod.mk.injEq, Nat.reduceEqDiff, reduceCtorEq, and_true, true_and, and_false, false_and, and_self, ite_true, ite_false, ↓reduceIte, not_true_eq_false, not_false_eq_true, pe_ri, pe_rz, pe_rc, eq_false k1, eq_false k2]
/-- TimberHouse$WorkPlans.need(Z)V -/
theorem c1284 {d : Nat} {h : pm_H} {x0 : Int32} : pm_call pm_prog (d + 1) 1284 [.int x0] h = pm_ev pm_prog (pm_call pm_prog d) 1284 0 b1284_0 [.int x0] [] h := pm_cal (pm_rc0 rfl) rfl rfl rfl
theorem g1284_1 {cl : pm_C} {ls st : List Value} {h : pm_H} : pm_go pm_prog cl 1284 1 ls st h = pm_ev pm_prog cl 1284 1 b1284_1 ls st h := pm_go_eq pm_prog cl 1284 1 ls st h
theorem t1284 {cl : pm_C} {j : Nat} {ls : List Value} {c : Nat} {h : pm_H} : pm_thr pm_prog cl 1284 j ls c h = some (.threw c, h) := rfl
/-- TimberHouse$WorkPlans.need(Z)V -/
noncomputable def f1284 (x0 : Int32) : Option (Nat ⊕ (Unit)) :=
  if x0 = 0 then
    some (.inl 70)
  else
    some (.inr ())
theorem x1284 {h : pm_H} {D : Nat} {x0 : Int32} {r : Nat ⊕ (Unit)} (hD : 1 ≤ D) (e : f1284 x0 = some r) : pm_call pm_prog D 1284 [.int x0] h = some (match (generalizing := false) r with | .inl c => (Outcome.threw c, (pm_new h 6 (.inr (c, [])))) | .inr _ => (Outcome.returned none, h)) := by
  obtain ⟨D, rfl⟩ : ∃ D', D = D' + 1 := ⟨D - 1, by omega⟩
  have hD : 0 ≤ D := by omega
  simp only [f1284] at e
  rw [c1284, b1284_0]
  by_cases k1 : x0 = 0
  · rw [if_pos k1] at e
    have e := Option.some.inj e; subst e
    simp -implicitDefEqProofs (disch := first | assumption | exact Nat.le_of_ble_eq_true rfl | decide) only [b1284_0, g1284_1, b1284_1, pe_iload0, pe_if_ne, pe_return, pe_aastoreN, pe_areturnN, pe_null, pm_prog_1, pm_ob_some, Nat.reduceDiv, Nat.reduceMod, Nat.reduceMul, Nat.reduceAdd, Int.reduceToNat, pm_kill_i, pm_kill_r, pm_kill_n, pm_kill_j, pm_kill_l, pm_kill_d, pm_cats_nil, pm_cats_i, pm_cats_r, pm_cats_n, pm_cats_l, pm_cats_d, sz_1, sz_2, sl_1, sl_2, lc_0, lc_lt, lc_le, li_ne, va_rf, wr_m1, we_m1, pm_kill_w, Int32.reduceOfInt, Int64.reduceOfInt, Int32.reduceOfNat, Int32.reduceLT, Int32.reduceLE, Prod.mk.injEq, Nat.reduceEqDiff, reduceCtorEq, and_true, true_and, and_false, false_and, and_self, ite_true, ite_false, ↓reduceIte, not_true_eq_false, not_false_eq_true, pe_ri, pe_rz, pe_rc, p_throw, t1284, eq_true k1]
  · rw [if_neg k1] at e
    have e := Option.some.inj e; subst e
    simp -implicitDefEqProofs (disch := first | assumption | exact Nat.le_of_ble_eq_true rfl | decide) only [b1284_0, g1284_1, b1284_1, pe_iload0, pe_if_ne, pe_return, pe_aastoreN, pe_areturnN, pe_null, pm_prog_1, pm_ob_some, Nat.reduceDiv, Nat.reduceMod, Nat.reduceMul, Nat.reduceAdd, Int.reduceToNat, pm_kill_i, pm_kill_r, pm_kill_n, pm_kill_j, pm_kill_l, pm_kill_d, pm_cats_nil, pm_cats_i, pm_cats_r, pm_cats_n, pm_cats_l, pm_cats_d, sz_1, sz_2, sl_1, sl_2, lc_0, lc_lt, lc_le, li_ne, va_rf, wr_m1, we_m1, pm_kill_w, Int32.reduceOfInt, Int64.reduceOfInt, Int32.reduceOfNat, Int32.reduceLT, Int32.reduceLE, Prod.mk.injEq, Nat.reduceEqDiff, reduceCtorEq, and_true, true_and, and_false, false_and, and_self, ite_true, ite_false, ↓reduceIte, not_true_eq_false, not_false_eq_true, pe_ri, pe_rz, pe_rc, p_throw, t1284, eq_false k1]
/-- java/util/ArrayList.elementData(I)Ljava/lang/Object; -/
noncomputable def f4035v (mc : Int32) (jc : Int32) (tc : Int32) (ma : Int32) (ja : Int32) (ta : Int32) (oc : Int32 → Int32) (oa : Int32 → Int32) (qa : Int32 → Int32) (S : wS) (x1 : Int32) : Option (Int32) :=
  if 0 < ja then
    if 0 ≤ x1 ∧ x1 < ja then
      if x1 < jc then
        if 0 ≤ x1 ∧ x1 < jc then
          some x1
        else none
      else none
    else none
  else none
theorem x4035v {mc : Int32} {jc : Int32} {tc : Int32} {ma : Int32} {ja : Int32} {ta : Int32} {oc : Int32 → Int32} {oa : Int32 → Int32} {qa : Int32 → Int32} {A : wK → Nat} {h : pm_H} {D : Nat} {S : wS} {x1 : Int32} {r : Int32} (hP : Cv_P mc jc tc ma ja ta oc oa qa) (hA : wok A (Cv_d mc jc tc ma ja ta oc oa qa) h.1) (hD : 1 ≤ D) (e : f4035v mc jc tc ma ja ta oc oa qa S x1 = some r) : pm_call pm_prog D 4035 [.ref (A (3, 0, 0)), .int x1] (wput A (Cv_d mc jc tc ma ja ta oc oa qa) S h) = some (Outcome.returned (some (.ref (A (15, r, 0)))), (wput A (Cv_d mc jc tc ma ja ta oc oa qa) S h)) := by
  obtain ⟨D, rfl⟩ : ∃ D', D = D' + 1 := ⟨D - 1, by omega⟩
  have hD : 0 ≤ D := by omega
  simp only [f4035v] at e
  rw [c4035 (Cv_c3 hP hA), b4035_0]
  by_cases k1 : 0 < ja
  · rw [if_pos k1] at e
    by_cases k2 : 0 ≤ x1 ∧ x1 < ja
    · rw [if_pos k2] at e
      by_cases k3 : x1 < jc
      · rw [if_pos k3] at e
        by_cases k4 : 0 ≤ x1 ∧ x1 < jc
        · rw [if_pos k4] at e
          have e := Option.some.inj e; subst e
          simp -implicitDefEqProofs (disch := first | assumption | exact Nat.le_of_ble_eq_true rfl | decide) only [b4035_0, pe_aload0, pe_getfield, pe_iload1, pe_aaload, pe_areturn, pe_aloadN0, pe_aastoreN, pe_areturnN, pe_null, pm_prog_1, pm_ob_some, Nat.reduceDiv, Nat.reduceMod, Nat.reduceMul, Nat.reduceAdd, Int.reduceToNat, pm_kill_i, pm_kill_r, pm_kill_n, pm_kill_j, pm_kill_l, pm_kill_d, pm_cats_nil, pm_cats_i, pm_cats_r, pm_cats_n, pm_cats_l, pm_cats_d, sz_1, sz_2, sl_1, sl_2, lc_0, lc_lt, lc_le, li_ne, va_rf, wr_m1, we_m1, pm_kill_w, Int32.reduceOfInt, Int64.reduceOfInt, Int32.reduceOfNat, Int32.reduceLT, Int32.reduceLE, Prod.mk.injEq, Nat.reduceEqDiff, reduceCtorEq, and_true, true_and, and_false, false_and, and_self, ite_true, ite_false, ↓reduceIte, not_true_eq_false, not_false_eq_true, pe_ri, pe_rz, pe_rc, Cv_g3_1 hP hA, Cv_r4 hP hA]
        · rw [if_neg k4] at e; cases e
      · rw [if_neg k3] at e; cases e
    · rw [if_neg k2] at e; cases e
  · rw [if_neg k1] at e; cases e
/-- java/util/ArrayList.get(I)Ljava/lang/Object; -/
noncomputable def f4034v (mc : Int32) (jc : Int32) (tc : Int32) (ma : Int32) (ja : Int32) (ta : Int32) (oc : Int32 → Int32) (oa : Int32 → Int32) (qa : Int32 → Int32) (S : wS) (x1 : Int32) : Option (Int32) :=
  (f4736 x1 (S.1 (3, 0, 0) 2)).bind fun v1 =>
  (f4035v mc jc tc ma ja ta oc oa qa S x1).bind fun v2i =>
  if 0 ≤ v2i ∧ v2i < jc then
    some v2i
  else none
theorem x4034v {mc : Int32} {jc : Int32} {tc : Int32} {ma : Int32} {ja : Int32} {ta : Int32} {oc : Int32 → Int32} {oa : Int32 → Int32} {qa : Int32 → Int32} {A : wK → Nat} {h : pm_H} {D : Nat} {S : wS} {x1 : Int32} {r : Int32} (hP : Cv_P mc jc tc ma ja ta oc oa qa) (hA : wok A (Cv_d mc jc tc ma ja ta oc oa qa) h.1) (hD : 3 ≤ D) (e : f4034v mc jc tc ma ja ta oc oa qa S x1 = some r) : pm_call pm_prog D 4034 [.ref (A (3, 0, 0)), .int x1] (wput A (Cv_d mc jc tc ma ja ta oc oa qa) S h) = some (Outcome.returned (some (.ref (A (15, r, 0)))), (wput A (Cv_d mc jc tc ma ja ta oc oa qa) S h)) := by
  obtain ⟨D, rfl⟩ : ∃ D', D = D' + 1 := ⟨D - 1, by omega⟩
  have hD : 2 ≤ D := by omega
  simp only [f4034v] at e
  rw [c4034 (Cv_c3 hP hA), b4034_0]
  obtain ⟨v1, k1, e⟩ := Option.bind_eq_some_iff.mp e
  try dsimp only at e
  have z1 := fun h => x4736 (D := D) (h := h) (by omega) k1
  obtain ⟨v2i, k2, e⟩ := Option.bind_eq_some_iff.mp e
  try dsimp only at e
  have z2 := x4035v (D := D) (h := h) hP hA (by omega) k2
  by_cases k3 : 0 ≤ v2i ∧ v2i < jc
  · rw [if_pos k3] at e
    have e := Option.some.inj e; subst e
    simp -implicitDefEqProofs (disch := first | assumption | exact Nat.le_of_ble_eq_true rfl | decide) only [b4034_0, pe_iload1, pe_aload0, pe_getfield, pe_call2, pm_af_ret, pm_af_void, pm_af_thr, pe_pop_i, pe_pop_r, pe_areturn, pe_aloadN0, pe_aastoreN, pe_areturnN, pe_null, pm_prog_1, pm_ob_some, Nat.reduceDiv, Nat.reduceMod, Nat.reduceMul, Nat.reduceAdd, Int.reduceToNat, pm_kill_i, pm_kill_r, pm_kill_n, pm_kill_j, pm_kill_l, pm_kill_d, pm_cats_nil, pm_cats_i, pm_cats_r, pm_cats_n, pm_cats_l, pm_cats_d, sz_1, sz_2, sl_1, sl_2, lc_0, lc_lt, lc_le, li_ne, va_rf, wr_m1, we_m1, pm_kill_w, Int32.reduceOfInt, Int64.reduceOfInt, Int32.reduceOfNat, Int32.reduceLT, Int32.reduceLE, Prod.mk.injEq, Nat.reduceEqDiff, reduceCtorEq, and_true, true_and, and_false, false_and, and_self, ite_true, ite_false, ↓reduceIte, not_true_eq_false, not_false_eq_true, pe_ri, pe_rz, pe_rc, Cv_g3_2 hP hA, z1, z2]
  · rw [if_neg k3] at e; cases e
/-- java/util/ArrayList.size()I -/
noncomputable def f4033vv1 (mc : Int32) (jc : Int32) (tc : Int32) (ma : Int32) (ja : Int32) (ta : Int32) (oc : Int32 → Int32) (oa : Int32 → Int32) (qa : Int32 → Int32) (S : wS) (x0i : Int32) : Option (Int32) :=
  if 0 ≤ x0i ∧ x0i < jc then
    some (S.1 (17, x0i, 0) 2)
  else none
theorem x4033vv1 {mc : Int32} {jc : Int32} {tc : Int32} {ma : Int32} {ja : Int32} {ta : Int32} {oc : Int32 → Int32} {oa : Int32 → Int32} {qa : Int32 → Int32} {A : wK → Nat} {h : pm_H} {D : Nat} {S : wS} {x0i : Int32} {r : Int32} (hP : Cv_P mc jc tc ma ja ta oc oa qa) (hA : wok A (Cv_d mc jc tc ma ja ta oc oa qa) h.1) (hD : 1 ≤ D) (e : f4033vv1 mc jc tc ma ja ta oc oa qa S x0i = some r) : pm_call pm_prog D 4033 [.ref (A (17, x0i, 0))] (wput A (Cv_d mc jc tc ma ja ta oc oa qa) S h) = some (Outcome.returned (some (.int r)), (wput A (Cv_d mc jc tc ma ja ta oc oa qa) S h)) := by
  obtain ⟨D, rfl⟩ : ∃ D', D = D' + 1 := ⟨D - 1, by omega⟩
  have hD : 0 ≤ D := by omega
  simp only [f4033vv1] at e
  have k1 : 0 ≤ x0i ∧ x0i < jc := by
    by_cases q : 0 ≤ x0i ∧ x0i < jc
    · exact q
    · rw [if_neg q] at e; cases e
  rw [if_pos k1] at e
  rw [c4033 (Cv_c17 hP hA k1), b4033_0]
  have e := Option.some.inj e; subst e
  simp -implicitDefEqProofs (disch := first | assumption | exact Nat.le_of_ble_eq_true rfl | decide) only [b4033_0, pe_aload0, pe_getfield, pe_aloadN0, pe_aastoreN, pe_areturnN, pe_null, pm_prog_1, pm_ob_some, Nat.reduceDiv, Nat.reduceMod, Nat.reduceMul, Nat.reduceAdd, Int.reduceToNat, pm_kill_i, pm_kill_r, pm_kill_n, pm_kill_j, pm_kill_l, pm_kill_d, pm_cats_nil, pm_cats_i, pm_cats_r, pm_cats_n, pm_cats_l, pm_cats_d, sz_1, sz_2, sl_1, sl_2, lc_0, lc_lt, lc_le, li_ne, va_rf, wr_m1, we_m1, pm_kill_w, Int32.reduceOfInt, Int64.reduceOfInt, Int32.reduceOfNat, Int32.reduceLT, Int32.reduceLE, Prod.mk.injEq, Nat.reduceEqDiff, reduceCtorEq, and_true, true_and, and_false, false_and, and_self, ite_true, ite_false, ↓reduceIte, not_true_eq_false, not_false_eq_true, pe_ri, pe_rz, pe_rc, Cv_g17_2 hP hA]
/-- TimberHouse$WorkPlans.can(Z)V -/
theorem c1285 {d : Nat} {h : pm_H} {x0 : Int32} : pm_call pm_prog (d + 1) 1285 [.int x0] h = pm_ev pm_prog (pm_call pm_prog d) 1285 0 b1285_0 [.int x0] [] h := pm_cal (pm_rc0 rfl) rfl rfl rfl
theorem g1285_1 {cl : pm_C} {ls st : List Value} {h : pm_H} : pm_go pm_prog cl 1285 1 ls st h = pm_ev pm_prog cl 1285 1 b1285_1 ls st h := pm_go_eq pm_prog cl 1285 1 ls st h
theorem t1285 {cl : pm_C} {j : Nat} {ls : List Value} {c : Nat} {h : pm_H} : pm_thr pm_prog cl 1285 j ls c h = some (.threw c, h) := rfl
/-- TimberHouse$WorkPlans.can(Z)V -/
noncomputable def f1285 (x0 : Int32) : Option (Nat ⊕ (Unit)) :=
  if x0 = 0 then
    some (.inl 71)
  else
    some (.inr ())
theorem x1285 {h : pm_H} {D : Nat} {x0 : Int32} {r : Nat ⊕ (Unit)} (hD : 1 ≤ D) (e : f1285 x0 = some r) : pm_call pm_prog D 1285 [.int x0] h = some (match (generalizing := false) r with | .inl c => (Outcome.threw c, (pm_new h 6 (.inr (c, [])))) | .inr _ => (Outcome.returned none, h)) := by
  obtain ⟨D, rfl⟩ : ∃ D', D = D' + 1 := ⟨D - 1, by omega⟩
  have hD : 0 ≤ D := by omega
  simp only [f1285] at e
  rw [c1285, b1285_0]
  by_cases k1 : x0 = 0
  · rw [if_pos k1] at e
    have e := Option.some.inj e; subst e
    simp -implicitDefEqProofs (disch := first | assumption | exact Nat.le_of_ble_eq_true rfl | decide) only [b1285_0, g1285_1, b1285_1, pe_iload0, pe_if_ne, pe_return, pe_aastoreN, pe_areturnN, pe_null, pm_prog_1, pm_ob_some, Nat.reduceDiv, Nat.reduceMod, Nat.reduceMul, Nat.reduceAdd, Int.reduceToNat, pm_kill_i, pm_kill_r, pm_kill_n, pm_kill_j, pm_kill_l, pm_kill_d, pm_cats_nil, pm_cats_i, pm_cats_r, pm_cats_n, pm_cats_l, pm_cats_d, sz_1, sz_2, sl_1, sl_2, lc_0, lc_lt, lc_le, li_ne, va_rf, wr_m1, we_m1, pm_kill_w, Int32.reduceOfInt, Int64.reduceOfInt, Int32.reduceOfNat, Int32.reduceLT, Int32.reduceLE, Prod.mk.injEq, Nat.reduceEqDiff, reduceCtorEq, and_true, true_and, and_false, false_and, and_self, ite_true, ite_false, ↓reduceIte, not_true_eq_false, not_false_eq_true, pe_ri, pe_rz, pe_rc, p_throw, t1285, eq_true k1]
  · rw [if_neg k1] at e
    have e := Option.some.inj e; subst e
    simp -implicitDefEqProofs (disch := first | assumption | exact Nat.le_of_ble_eq_true rfl | decide) only [b1285_0, g1285_1, b1285_1, pe_iload0, pe_if_ne, pe_return, pe_aastoreN, pe_areturnN, pe_null, pm_prog_1, pm_ob_some, Nat.reduceDiv, Nat.reduceMod, Nat.reduceMul, Nat.reduceAdd, Int.reduceToNat, pm_kill_i, pm_kill_r, pm_kill_n, pm_kill_j, pm_kill_l, pm_kill_d, pm_cats_nil, pm_cats_i, pm_cats_r, pm_cats_n, pm_cats_l, pm_cats_d, sz_1, sz_2, sl_1, sl_2, lc_0, lc_lt, lc_le, li_ne, va_rf, wr_m1, we_m1, pm_kill_w, Int32.reduceOfInt, Int64.reduceOfInt, Int32.reduceOfNat, Int32.reduceLT, Int32.reduceLE, Prod.mk.injEq, Nat.reduceEqDiff, reduceCtorEq, and_true, true_and, and_false, false_and, and_self, ite_true, ite_false, ↓reduceIte, not_true_eq_false, not_false_eq_true, pe_ri, pe_rz, pe_rc, p_throw, t1285, eq_false k1]
/-- TimberHouse$WorkPlans.others()I -/
theorem c1287 {d : Nat} {h : pm_H} {a : Nat} (hc : pm_cls h a = some 20) : pm_call pm_prog (d + 1) 1287 [.ref a] h = pm_ev pm_prog (pm_call pm_prog d) 1287 0 b1287_0 [.ref a, pm_junk, pm_junk, pm_junk] [] h := pm_cal (pm_rc1 hc rfl) rfl rfl rfl
theorem g1287_1 {cl : pm_C} {ls st : List Value} {h : pm_H} : pm_go pm_prog cl 1287 1 ls st h = pm_ev pm_prog cl 1287 1 b1287_1 ls st h := pm_go_eq pm_prog cl 1287 1 ls st h
theorem g1287_2 {cl : pm_C} {ls st : List Value} {h : pm_H} : pm_go pm_prog cl 1287 2 ls st h = pm_ev pm_prog cl 1287 2 b1287_2 ls st h := pm_go_eq pm_prog cl 1287 2 ls st h
theorem g1287_3 {cl : pm_C} {ls st : List Value} {h : pm_H} : pm_go pm_prog cl 1287 3 ls st h = pm_ev pm_prog cl 1287 3 b1287_3 ls st h := pm_go_eq pm_prog cl 1287 3 ls st h
theorem g1287_4 {cl : pm_C} {ls st : List Value} {h : pm_H} : pm_go pm_prog cl 1287 4 ls st h = pm_ev pm_prog cl 1287 4 b1287_4 ls st h := pm_go_eq pm_prog cl 1287 4 ls st h
theorem g1287_5 {cl : pm_C} {ls st : List Value} {h : pm_H} : pm_go pm_prog cl 1287 5 ls st h = pm_ev pm_prog cl 1287 5 b1287_5 ls st h := pm_go_eq pm_prog cl 1287 5 ls st h
theorem g1287_6 {cl : pm_C} {ls st : List Value} {h : pm_H} : pm_go pm_prog cl 1287 6 ls st h = pm_ev pm_prog cl 1287 6 b1287_6 ls st h := pm_go_eq pm_prog cl 1287 6 ls st h
theorem g1287_7 {cl : pm_C} {ls st : List Value} {h : pm_H} : pm_go pm_prog cl 1287 7 ls st h = pm_ev pm_prog cl 1287 7 b1287_7 ls st h := pm_go_eq pm_prog cl 1287 7 ls st h
noncomputable def f1287_4_1 (mc : Int32) (jc : Int32) (tc : Int32) (ma : Int32) (ja : Int32) (ta : Int32) (oc : Int32 → Int32) (oa : Int32 → Int32) (qa : Int32 → Int32) (S : wS) (x1 : Int32) (x2 : Int32) (y0 : Int32) : Option ((Int32 × Int32) ⊕ ((Int32))) :=
  if y0 = 0 then
    some (.inl ((x1 + 1), (x2 + 1)))
  else
    some (.inl ((x1 + 0), (x2 + 1)))
noncomputable def f1287_b1 (mc : Int32) (jc : Int32) (tc : Int32) (ma : Int32) (ja : Int32) (ta : Int32) (oc : Int32 → Int32) (oa : Int32 → Int32) (qa : Int32 → Int32) (S : wS) : Int32 × Int32 → Option ((Int32 × Int32) ⊕ ((Int32))) := fun (x1, x2) =>
  if x2 < 24 then
    if 0 ≤ x2 ∧ x2 < 24 then
      if (S.1 (20, 1, 0) x2) = (S.1 (20, 2, 0) x2) then
        if (S.1 (20, 1, 0) x2) = (-1) then
          f1287_4_1 mc jc tc ma ja ta oc oa qa S x1 x2 1
        else
          if (S.1 (19, 1, 0) x2) = (S.1 (19, 2, 0) x2) then
            f1287_4_1 mc jc tc ma ja ta oc oa qa S x1 x2 1
          else
            f1287_4_1 mc jc tc ma ja ta oc oa qa S x1 x2 0
      else
        f1287_4_1 mc jc tc ma ja ta oc oa qa S x1 x2 0
    else none
  else
    some (.inr x1)
/-- TimberHouse$WorkPlans.others()I -/
noncomputable def f1287 (mc : Int32) (jc : Int32) (tc : Int32) (ma : Int32) (ja : Int32) (ta : Int32) (oc : Int32 → Int32) (oa : Int32 → Int32) (qa : Int32 → Int32) (S : wS) : Option (Int32) :=
  (lp (f1287_b1 mc jc tc ma ja ta oc oa qa S) FU (0, 0)).bind fun v1 =>
  some v1
def go1287_1 (mc : Int32) (jc : Int32) (tc : Int32) (ma : Int32) (ja : Int32) (ta : Int32) (oc : Int32 → Int32) (oa : Int32 → Int32) (qa : Int32 → Int32) (A : wK → Nat) (h : pm_H) (D : Nat) (R : Outcome × pm_H) (S : wS) : Int32 × Int32 → Prop := fun (x1, x2) => ∀ q3 : Value, pm_go pm_prog (pm_call pm_prog D) 1287 1 [.ref (A (0, 0, 0)), .int x1, .int x2, q3] [] (wput A (Cv_d mc jc tc ma ja ta oc oa qa) S h) = some R
def ex1287_1 (mc : Int32) (jc : Int32) (tc : Int32) (ma : Int32) (ja : Int32) (ta : Int32) (oc : Int32 → Int32) (oa : Int32 → Int32) (qa : Int32 → Int32) (A : wK → Nat) (h : pm_H) (D : Nat) (R : Outcome × pm_H) (S : wS) : (Int32) → Prop := fun x1 => ∀ q0 q2 q3 : Value, pm_go pm_prog (pm_call pm_prog D) 1287 7 [q0, .int x1, q2, q3] [] (wput A (Cv_d mc jc tc ma ja ta oc oa qa) S h) = some R
theorem y1287_4_1 {mc : Int32} {jc : Int32} {tc : Int32} {ma : Int32} {ja : Int32} {ta : Int32} {oc : Int32 → Int32} {oa : Int32 → Int32} {qa : Int32 → Int32} {A : wK → Nat} {h : pm_H} {D : Nat} {R : Outcome × pm_H} {S : wS} {x1 : Int32} {x2 : Int32} {y0 : Int32} {r : (Int32 × Int32) ⊕ ((Int32))} (hP : Cv_P mc jc tc ma ja ta oc oa qa) (hA : wok A (Cv_d mc jc tc ma ja ta oc oa qa) h.1) (hD : 0 ≤ D) (e : f1287_4_1 mc jc tc ma ja ta oc oa qa S x1 x2 y0 = some r) (hc : Sum.elim (go1287_1 mc jc tc ma ja ta oc oa qa A h D R S) (ex1287_1 mc jc tc ma ja ta oc oa qa A h D R S) r) : ∀ q3 : Value, pm_go pm_prog (pm_call pm_prog D) 1287 4 [.ref (A (0, 0, 0)), .int x1, .int x2, q3] [.int y0] (wput A (Cv_d mc jc tc ma ja ta oc oa qa) S h) = some R := by
  intro q3
  simp only [f1287_4_1] at e
  rw [g1287_4, b1287_4]
  by_cases k1 : y0 = 0
  · rw [if_pos k1] at e
    have e := Option.some.inj e; subst e
    dsimp only [Sum.elim_inl, go1287_1] at hc
    simp -implicitDefEqProofs (disch := first | assumption | exact Nat.le_of_ble_eq_true rfl | decide) only [b1287_0, g1287_2, b1287_2, g1287_3, b1287_3, g1287_5, b1287_5, g1287_6, b1287_6, g1287_7, b1287_7, pe_sipush, pe_istore1, pe_istore2, pe_goto_w, pe_iload2, pe_icmp_ge, pe_aload0, pe_getfield, pe_iaload, pe_icmp_ne, pe_icmp_eq, pe_goto, pe_istore3, pe_iload1, pe_iload3, pe_if_eq, pe_iadd, pe_iinc2, pe_aloadN0, pe_aastoreN, pe_areturnN, pe_null, pm_prog_1, pm_ob_some, Nat.reduceDiv, Nat.reduceMod, Nat.reduceMul, Nat.reduceAdd, Int.reduceToNat, pm_kill_i, pm_kill_r, pm_kill_n, pm_kill_j, pm_kill_l, pm_kill_d, pm_cats_nil, pm_cats_i, pm_cats_r, pm_cats_n, pm_cats_l, pm_cats_d, sz_1, sz_2, sl_1, sl_2, lc_0, lc_lt, lc_le, li_ne, va_rf, wr_m1, we_m1, pm_kill_w, Int32.reduceOfInt, Int64.reduceOfInt, Int32.reduceOfNat, Int32.reduceLT, Int32.reduceLE, Prod.mk.injEq, Nat.reduceEqDiff, reduceCtorEq, and_true, true_and, and_false, false_and, and_self, ite_true, ite_false, ↓reduceIte, not_true_eq_false, not_false_eq_true, pe_ri, pe_rz, pe_rc, Cv_g0_4 hP hA, Cv_g0_5 hP hA, Cv_g7_2 hP hA, Cv_g7_3 hP hA, Cv_r19 hP hA, Cv_r20 hP hA, eq_true k1, hc]
  · rw [if_neg k1] at e
    have e := Option.some.inj e; subst e
    dsimp only [Sum.elim_inl, go1287_1] at hc
    simp -implicitDefEqProofs (disch := first | assumption | exact Nat.le_of_ble_eq_true rfl | decide) only [b1287_0, g1287_2, b1287_2, g1287_3, b1287_3, g1287_5, b1287_5, g1287_6, b1287_6, g1287_7, b1287_7, pe_sipush, pe_istore1, pe_istore2, pe_goto_w, pe_iload2, pe_icmp_ge, pe_aload0, pe_getfield, pe_iaload, pe_icmp_ne, pe_icmp_eq, pe_goto, pe_istore3, pe_iload1, pe_iload3, pe_if_eq, pe_iadd, pe_iinc2, pe_aloadN0, pe_aastoreN, pe_areturnN, pe_null, pm_prog_1, pm_ob_some, Nat.reduceDiv, Nat.reduceMod, Nat.reduceMul, Nat.reduceAdd, Int.reduceToNat, pm_kill_i, pm_kill_r, pm_kill_n, pm_kill_j, pm_kill_l, pm_kill_d, pm_cats_nil, pm_cats_i, pm_cats_r, pm_cats_n, pm_cats_l, pm_cats_d, sz_1, sz_2, sl_1, sl_2, lc_0, lc_lt, lc_le, li_ne, va_rf, wr_m1, we_m1, pm_kill_w, Int32.reduceOfInt, Int64.reduceOfInt, Int32.reduceOfNat, Int32.reduceLT, Int32.reduceLE, Prod.mk.injEq, Nat.reduceEqDiff, reduceCtorEq, and_true, true_and, and_false, false_and, and_self, ite_true, ite_false, ↓reduceIte, not_true_eq_false, not_false_eq_true, pe_ri, pe_rz, pe_rc, Cv_g0_4 hP hA, Cv_g0_5 hP hA, Cv_g7_2 hP hA, Cv_g7_3 hP hA, Cv_r19 hP hA, Cv_r20 hP hA, eq_false k1, hc]
theorem y1287_b1 {mc : Int32} {jc : Int32} {tc : Int32} {ma : Int32} {ja : Int32} {ta : Int32} {oc : Int32 → Int32} {oa : Int32 → Int32} {qa : Int32 → Int32} {A : wK → Nat} {h : pm_H} {D : Nat} {R : Outcome × pm_H} {S : wS} (hP : Cv_P mc jc tc ma ja ta oc oa qa) (hA : wok A (Cv_d mc jc tc ma ja ta oc oa qa) h.1) (hD : 0 ≤ D) (a : Int32 × Int32) (r : (Int32 × Int32) ⊕ ((Int32))) (e : f1287_b1 mc jc tc ma ja ta oc oa qa S a = some r) (hc : Sum.elim (go1287_1 mc jc tc ma ja ta oc oa qa A h D R S) (ex1287_1 mc jc tc ma ja ta oc oa qa A h D R S) r) : go1287_1 mc jc tc ma ja ta oc oa qa A h D R S a := by
  obtain ⟨x1, x2⟩ := a
  dsimp only [go1287_1]
  intro q3
  simp only [f1287_b1] at e
  rw [g1287_1, b1287_1]
  by_cases k1 : x2 < 24
  · rw [if_pos k1] at e
    by_cases k2 : 0 ≤ x2 ∧ x2 < 24
    · rw [if_pos k2] at e
      by_cases k3 : (S.1 (20, 1, 0) x2) = (S.1 (20, 2, 0) x2)
      · rw [if_pos k3] at e
        by_cases k4 : (S.1 (20, 1, 0) x2) = (-1)
        · rw [if_pos k4] at e
          have k5 := y1287_4_1 (h := h) hP hA hD e hc
          simp -implicitDefEqProofs (disch := first | assumption | exact Nat.le_of_ble_eq_true rfl | decide) only [b1287_0, g1287_2, b1287_2, g1287_3, b1287_3, g1287_5, b1287_5, g1287_6, b1287_6, g1287_7, b1287_7, pe_sipush, pe_istore1, pe_istore2, pe_goto_w, pe_iload2, pe_icmp_ge, pe_aload0, pe_getfield, pe_iaload, pe_icmp_ne, pe_icmp_eq, pe_goto, pe_istore3, pe_iload1, pe_iload3, pe_if_eq, pe_iadd, pe_iinc2, pe_aloadN0, pe_aastoreN, pe_areturnN, pe_null, pm_prog_1, pm_ob_some, Nat.reduceDiv, Nat.reduceMod, Nat.reduceMul, Nat.reduceAdd, Int.reduceToNat, pm_kill_i, pm_kill_r, pm_kill_n, pm_kill_j, pm_kill_l, pm_kill_d, pm_cats_nil, pm_cats_i, pm_cats_r, pm_cats_n, pm_cats_l, pm_cats_d, sz_1, sz_2, sl_1, sl_2, lc_0, lc_lt, lc_le, li_ne, va_rf, wr_m1, we_m1, pm_kill_w, Int32.reduceOfInt, Int64.reduceOfInt, Int32.reduceOfNat, Int32.reduceLT, Int32.reduceLE, Prod.mk.injEq, Nat.reduceEqDiff, reduceCtorEq, and_true, true_and, and_false, false_and, and_self, ite_true, ite_false, ↓reduceIte, not_true_eq_false, not_false_eq_true, pe_ri, pe_rz, pe_rc, Cv_g0_4 hP hA, Cv_g0_5 hP hA, Cv_g7_2 hP hA, Cv_g7_3 hP hA, Cv_r19 hP hA, Cv_r20 hP hA, eq_true k1, eq_true k3, eq_true k4, k5]
        · rw [if_neg k4] at e
          by_cases k6 : (S.1 (19, 1, 0) x2) = (S.1 (19, 2, 0) x2)
          · rw [if_pos k6] at e
            have k7 := y1287_4_1 (h := h) hP hA hD e hc
            simp -implicitDefEqProofs (disch := first | assumption | exact Nat.le_of_ble_eq_true rfl | decide) only [b1287_0, g1287_2, b1287_2, g1287_3, b1287_3, g1287_5, b1287_5, g1287_6, b1287_6, g1287_7, b1287_7, pe_sipush, pe_istore1, pe_istore2, pe_goto_w, pe_iload2, pe_icmp_ge, pe_aload0, pe_getfield, pe_iaload, pe_icmp_ne, pe_icmp_eq, pe_goto, pe_istore3, pe_iload1, pe_iload3, pe_if_eq, pe_iadd, pe_iinc2, pe_aloadN0, pe_aastoreN, pe_areturnN, pe_null, pm_prog_1, pm_ob_some, Nat.reduceDiv, Nat.reduceMod, Nat.reduceMul, Nat.reduceAdd, Int.reduceToNat, pm_kill_i, pm_kill_r, pm_kill_n, pm_kill_j, pm_kill_l, pm_kill_d, pm_cats_nil, pm_cats_i, pm_cats_r, pm_cats_n, pm_cats_l, pm_cats_d, sz_1, sz_2, sl_1, sl_2, lc_0, lc_lt, lc_le, li_ne, va_rf, wr_m1, we_m1, pm_kill_w, Int32.reduceOfInt, Int64.reduceOfInt, Int32.reduceOfNat, Int32.reduceLT, Int32.reduceLE, Prod.mk.injEq, Nat.reduceEqDiff, reduceCtorEq, and_true, true_and, and_false, false_and, and_self, ite_true, ite_false, ↓reduceIte, not_true_eq_false, not_false_eq_true, pe_ri, pe_rz, pe_rc, Cv_g0_4 hP hA, Cv_g0_5 hP hA, Cv_g7_2 hP hA, Cv_g7_3 hP hA, Cv_r19 hP hA, Cv_r20 hP hA, eq_true k1, eq_true k3, eq_false k4, eq_true k6, k7]
          · rw [if_neg k6] at e
            have k8 := y1287_4_1 (h := h) hP hA hD e hc
            simp -implicitDefEqProofs (disch := first | assumption | exact Nat.le_of_ble_eq_true rfl | decide) only [b1287_0, g1287_2, b1287_2, g1287_3, b1287_3, g1287_5, b1287_5, g1287_6, b1287_6, g1287_7, b1287_7, pe_sipush, pe_istore1, pe_istore2, pe_goto_w, pe_iload2, pe_icmp_ge, pe_aload0, pe_getfield, pe_iaload, pe_icmp_ne, pe_icmp_eq, pe_goto, pe_istore3, pe_iload1, pe_iload3, pe_if_eq, pe_iadd, pe_iinc2, pe_aloadN0, pe_aastoreN, pe_areturnN, pe_null, pm_prog_1, pm_ob_some, Nat.reduceDiv, Nat.reduceMod, Nat.reduceMul, Nat.reduceAdd, Int.reduceToNat, pm_kill_i, pm_kill_r, pm_kill_n, pm_kill_j, pm_kill_l, pm_kill_d, pm_cats_nil, pm_cats_i, pm_cats_r, pm_cats_n, pm_cats_l, pm_cats_d, sz_1, sz_2, sl_1, sl_2, lc_0, lc_lt, lc_le, li_ne, va_rf, wr_m1, we_m1, pm_kill_w, Int32.reduceOfInt, Int64.reduceOfInt, Int32.reduceOfNat, Int32.reduceLT, Int32.reduceLE, Prod.mk.injEq, Nat.reduceEqDiff, reduceCtorEq, and_true, true_and, and_false, false_and, and_self, ite_true, ite_false, ↓reduceIte, not_true_eq_false, not_false_eq_true, pe_ri, pe_rz, pe_rc, Cv_g0_4 hP hA, Cv_g0_5 hP hA, Cv_g7_2 hP hA, Cv_g7_3 hP hA, Cv_r19 hP hA, Cv_r20 hP hA, eq_true k1, eq_true k3, eq_false k4, eq_false k6, k8]
      · rw [if_neg k3] at e
        have k9 := y1287_4_1 (h := h) hP hA hD e hc
        simp -implicitDefEqProofs (disch := first | assumption | exact Nat.le_of_ble_eq_true rfl | decide) only [b1287_0, g1287_2, b1287_2, g1287_3, b1287_3, g1287_5, b1287_5, g1287_6, b1287_6, g1287_7, b1287_7, pe_sipush, pe_istore1, pe_istore2, pe_goto_w, pe_iload2, pe_icmp_ge, pe_aload0, pe_getfield, pe_iaload, pe_icmp_ne, pe_icmp_eq, pe_goto, pe_istore3, pe_iload1, pe_iload3, pe_if_eq, pe_iadd, pe_iinc2, pe_aloadN0, pe_aastoreN, pe_areturnN, pe_null, pm_prog_1, pm_ob_some, Nat.reduceDiv, Nat.reduceMod, Nat.reduceMul, Nat.reduceAdd, Int.reduceToNat, pm_kill_i, pm_kill_r, pm_kill_n, pm_kill_j, pm_kill_l, pm_kill_d, pm_cats_nil, pm_cats_i, pm_cats_r, pm_cats_n, pm_cats_l, pm_cats_d, sz_1, sz_2, sl_1, sl_2, lc_0, lc_lt, lc_le, li_ne, va_rf, wr_m1, we_m1, pm_kill_w, Int32.reduceOfInt, Int64.reduceOfInt, Int32.reduceOfNat, Int32.reduceLT, Int32.reduceLE, Prod.mk.injEq, Nat.reduceEqDiff, reduceCtorEq, and_true, true_and, and_false, false_and, and_self, ite_true, ite_false, ↓reduceIte, not_true_eq_false, not_false_eq_true, pe_ri, pe_rz, pe_rc, Cv_g0_4 hP hA, Cv_g0_5 hP hA, Cv_g7_2 hP hA, Cv_g7_3 hP hA, Cv_r19 hP hA, Cv_r20 hP hA, eq_true k1, eq_false k3, k9]
    · rw [if_neg k2] at e; cases e
  · rw [if_neg k1] at e
    have e := Option.some.inj e; subst e
    dsimp only [Sum.elim_inr, ex1287_1] at hc
    simp -implicitDefEqProofs (disch := first | assumption | exact Nat.le_of_ble_eq_true rfl | decide) only [b1287_0, g1287_2, b1287_2, g1287_3, b1287_3, g1287_5, b1287_5, g1287_6, b1287_6, g1287_7, b1287_7, pe_sipush, pe_istore1, pe_istore2, pe_goto_w, pe_iload2, pe_icmp_ge, pe_aload0, pe_getfield, pe_iaload, pe_icmp_ne, pe_icmp_eq, pe_goto, pe_istore3, pe_iload1, pe_iload3, pe_if_eq, pe_iadd, pe_iinc2, pe_aloadN0, pe_aastoreN, pe_areturnN, pe_null, pm_prog_1, pm_ob_some, Nat.reduceDiv, Nat.reduceMod, Nat.reduceMul, Nat.reduceAdd, Int.reduceToNat, pm_kill_i, pm_kill_r, pm_kill_n, pm_kill_j, pm_kill_l, pm_kill_d, pm_cats_nil, pm_cats_i, pm_cats_r, pm_cats_n, pm_cats_l, pm_cats_d, sz_1, sz_2, sl_1, sl_2, lc_0, lc_lt, lc_le, li_ne, va_rf, wr_m1, we_m1, pm_kill_w, Int32.reduceOfInt, Int64.reduceOfInt, Int32.reduceOfNat, Int32.reduceLT, Int32.reduceLE, Prod.mk.injEq, Nat.reduceEqDiff, reduceCtorEq, and_true, true_and, and_false, false_and, and_self, ite_true, ite_false, ↓reduceIte, not_true_eq_false, not_false_eq_true, pe_ri, pe_rz, pe_rc, Cv_g0_4 hP hA, Cv_g0_5 hP hA, Cv_g7_2 hP hA, Cv_g7_3 hP hA, Cv_r19 hP hA, Cv_r20 hP hA, eq_false k1, hc]
theorem z1287_1 {mc : Int32} {jc : Int32} {tc : Int32} {ma : Int32} {ja : Int32} {ta : Int32} {oc : Int32 → Int32} {oa : Int32 → Int32} {qa : Int32 → Int32} {A : wK → Nat} {h : pm_H} {D : Nat} {R : Outcome × pm_H} {S : wS} (hP : Cv_P mc jc tc ma ja ta oc oa qa) (hA : wok A (Cv_d mc jc tc ma ja ta oc oa qa) h.1) (hD : 0 ≤ D) {n : Nat} {a : Int32 × Int32} {b : (Int32)} (e : lp (f1287_b1 mc jc tc ma ja ta oc oa qa S) n a = some b) (hx : ex1287_1 mc jc tc ma ja ta oc oa qa A h D R S b) : go1287_1 mc jc tc ma ja ta oc oa qa A h D R S a := lp_run (fun a r => y1287_b1 hP hA hD a r) n a b e hx
theorem x1287 {mc : Int32} {jc : Int32} {tc : Int32} {ma : Int32} {ja : Int32} {ta : Int32} {oc : Int32 → Int32} {oa : Int32 → Int32} {qa : Int32 → Int32} {A : wK → Nat} {h : pm_H} {D : Nat} {S : wS} {r : Int32} (hP : Cv_P mc jc tc ma ja ta oc oa qa) (hA : wok A (Cv_d mc jc tc ma ja ta oc oa qa) h.1) (hD : 1 ≤ D) (e : f1287 mc jc tc ma ja ta oc oa qa S = some r) : pm_call pm_prog D 1287 [.ref (A (0, 0, 0))] (wput A (Cv_d mc jc tc ma ja ta oc oa qa) S h) = some (Outcome.returned (some (.int r)), (wput A (Cv_d mc jc tc ma ja ta oc oa qa) S h)) := by
  obtain ⟨D, rfl⟩ : ∃ D', D = D' + 1 := ⟨D - 1, by omega⟩
  have hD : 0 ≤ D := by omega
  simp only [f1287] at e
  rw [c1287 (Cv_c0 hP hA), b1287_0]
  obtain ⟨v1, k1, e⟩ := Option.bind_eq_some_iff.mp e
  try dsimp only at e
  try simp -implicitDefEqProofs (disch := first | assumption | exact Nat.le_of_ble_eq_true rfl | decide) only [b1287_0, g1287_2, b1287_2, g1287_3, b1287_3, g1287_5, b1287_5, g1287_6, b1287_6, g1287_7, b1287_7, pe_sipush, pe_istore1, pe_istore2, pe_goto_w, pe_iload2, pe_icmp_ge, pe_aload0, pe_getfield, pe_iaload, pe_icmp_ne, pe_icmp_eq, pe_goto, pe_istore3, pe_iload1, pe_iload3, pe_if_eq, pe_iadd, pe_iinc2, pe_aloadN0, pe_aastoreN, pe_areturnN, pe_null, pm_prog_1, pm_ob_some, Nat.reduceDiv, Nat.reduceMod, Nat.reduceMul, Nat.reduceAdd, Int.reduceToNat, pm_kill_i, pm_kill_r, pm_kill_n, pm_kill_j, pm_kill_l, pm_kill_d, pm_cats_nil, pm_cats_i, pm_cats_r, pm_cats_n, pm_cats_l, pm_cats_d, sz_1, sz_2, sl_1, sl_2, lc_0, lc_lt, lc_le, li_ne, va_rf, wr_m1, we_m1, pm_kill_w, Int32.reduceOfInt, Int64.reduceOfInt, Int32.reduceOfNat, Int32.reduceLT, Int32.reduceLE, Prod.mk.injEq, Nat.reduceEqDiff, reduceCtorEq, and_true, true_and, and_false, false_and, and_self, ite_true, ite_false, ↓reduceIte, not_true_eq_false, not_false_eq_true, pe_ri, pe_rz, pe_rc, Cv_g0_4 hP hA, Cv_g0_5 hP hA, Cv_g7_2 hP hA, Cv_g7_3 hP hA, Cv_r19 hP hA, Cv_r20 hP hA]
  refine z1287_1 hP hA hD k1 ?_ _
  dsimp only [ex1287_1]
  intro q0 q2 q3
  have e := Option.some.inj e; subst e
  simp -implicitDefEqProofs (disch := first | assumption | exact Nat.le_of_ble_eq_true rfl | decide) only [b1287_0, g1287_2, b1287_2, g1287_3, b1287_3, g1287_5, b1287_5, g1287_6, b1287_6, g1287_7, b1287_7, pe_sipush, pe_istore1, pe_istore2, pe_goto_w, pe_iload2, pe_icmp_ge, pe_aload0, pe_getfield, pe_iaload, pe_icmp_ne, pe_icmp_eq, pe_goto, pe_istore3, pe_iload1, pe_iload3, pe_if_eq, pe_iadd, pe_iinc2, pe_aloadN0, pe_aastoreN, pe_areturnN, pe_null, pm_prog_1, pm_ob_some, Nat.reduceDiv, Nat.reduceMod, Nat.reduceMul, Nat.reduceAdd, Int.reduceToNat, pm_kill_i, pm_kill_r, pm_kill_n, pm_kill_j, pm_kill_l, pm_kill_d, pm_cats_nil, pm_cats_i, pm_cats_r, pm_cats_n, pm_cats_l, pm_cats_d, sz_1, sz_2, sl_1, sl_2, lc_0, lc_lt, lc_le, li_ne, va_rf, wr_m1, we_m1, pm_kill_w, Int32.reduceOfInt, Int64.reduceOfInt, Int32.reduceOfNat, Int32.reduceLT, Int32.reduceLE, Prod.mk.injEq, Nat.reduceEqDiff, reduceCtorEq, and_true, true_and, and_false, false_and, and_self, ite_true, ite_false, ↓reduceIte, not_true_eq_false, not_false_eq_true, pe_ri, pe_rz, pe_rc, Cv_g0_4 hP hA, Cv_g0_5 hP hA, Cv_g7_2 hP hA, Cv_g7_3 hP hA, Cv_r19 hP hA, Cv_r20 hP hA]
/-- TimberHouse$WorkPlans.about(I)J -/
theorem c1286 {d : Nat} {h : pm_H} {a : Nat} {x0 : Int32} (hc : pm_cls h a = some 20) : pm_call pm_prog (d + 1) 1286 [.ref a, .int x0] h = pm_ev pm_prog (pm_call pm_prog d) 1286 0 b1286_0 [.ref a, .int x0] [] h := pm_cal (pm_rc1 hc rfl) rfl rfl rfl
theorem g1286_1 {cl : pm_C} {ls st : List Value} {h : pm_H} : pm_go pm_prog cl 1286 1 ls st h = pm_ev pm_prog cl 1286 1 b1286_1 ls st h := pm_go_eq pm_prog cl 1286 1 ls st h
theorem g1286_2 {cl : pm_C} {ls st : List Value} {h : pm_H} : pm_go pm_prog cl 1286 2 ls st h = pm_ev pm_prog cl 1286 2 b1286_2 ls st h := pm_go_eq pm_prog cl 1286 2 ls st h
theorem g1286_3 {cl : pm_C} {ls st : List Value} {h : pm_H} : pm_go pm_prog cl 1286 3 ls st h = pm_ev pm_prog cl 1286 3 b1286_3 ls st h := pm_go_eq pm_prog cl 1286 3 ls st h
theorem g1286_4 {cl : pm_C} {ls st : List Value} {h : pm_H} : pm_go pm_prog cl 1286 4 ls st h = pm_ev pm_prog cl 1286 4 b1286_4 ls st h := pm_go_eq pm_prog cl 1286 4 ls st h
theorem t1286 {cl : pm_C} {j : Nat} {ls : List Value} {c : Nat} {h : pm_H} : pm_thr pm_prog cl 1286 j ls c h = some (.threw c, h) := rfl
/-- TimberHouse$WorkPlans.about(I)J -/
noncomputable def f1286 (mc : Int32) (jc : Int32) (tc : Int32) (ma : Int32) (ja : Int32) (ta : Int32) (oc : Int32 → Int32) (oa : Int32 → Int32) (qa : Int32 → Int32) (S : wS) (x1 : Int32) : Option (Nat ⊕ (Int64)) :=
  (f1282 x1 4).bind fun r => match r with
  | .inl c3 =>
    some (.inl c3)
  | .inr _ =>
  (f1285 (S.1 (0, 0, 0) 13)).bind fun r => match r with
  | .inl c2 =>
    some (.inl c2)
  | .inr _ =>
  if x1 = 0 then
    some (.inr (Int32.toInt64 (S.1 (0, 0, 0) 10)))
  else
    if x1 = 1 then
      some (.inr (S.2 (0, 0, 0) 15))
    else
      if x1 = 2 then
        some (.inr (Int32.toInt64 (S.1 (0, 0, 0) 11)))
      else
        (f1287 mc jc tc ma ja ta oc oa qa S).bind fun v1 =>
        some (.inr (Int32.toInt64 v1))
theorem x1286 {mc : Int32} {jc : Int32} {tc : Int32} {ma : Int32} {ja : Int32} {ta : Int32} {oc : Int32 → Int32} {oa : Int32 → Int32} {qa : Int32 → Int32} {A : wK → Nat} {h : pm_H} {D : Nat} {S : wS} {x1 : Int32} {r : Nat ⊕ (Int64)} (hP : Cv_P mc jc tc ma ja ta oc oa qa) (hA : wok A (Cv_d mc jc tc ma ja ta oc oa qa) h.1) (hD : 2 ≤ D) (e : f1286 mc jc tc ma ja ta oc oa qa S x1 = some r) : pm_call pm_prog D 1286 [.ref (A (0, 0, 0)), .int x1] (wput A (Cv_d mc jc tc ma ja ta oc oa qa) S h) = some (match (generalizing := false) r with | .inl c => (Outcome.threw c, (wput A (Cv_d mc jc tc ma ja ta oc oa qa) S (pm_new h 6 (.inr (c, []))))) | .inr w0 => (Outcome.returned (some (.long w0)), (wput A (Cv_d mc jc tc ma ja ta oc oa qa) S h))) := by
  obtain ⟨D, rfl⟩ : ∃ D', D = D' + 1 := ⟨D - 1, by omega⟩
  have hD : 1 ≤ D := by omega
  simp only [f1286] at e
  rw [c1286 (Cv_c0 hP hA), b1286_0]
  obtain ⟨r, k1, e⟩ := Option.bind_eq_some_iff.mp e
  have z1 := fun h => x1282 (D := D) (h := h) (by omega) k1
  rcases r with c3 | _
  · dsimp only at e z1
    have e := Option.some.inj e; subst e
    simp -implicitDefEqProofs (disch := first | assumption | exact Nat.le_of_ble_eq_true rfl | decide) only [b1286_0, g1286_1, b1286_1, g1286_2, b1286_2, g1286_3, b1286_3, g1286_4, b1286_4, pe_iload1, pe_sipush, pe_call2, pm_af_ret, pm_af_void, pm_af_thr, pe_aload0, pe_getfield, pe_call1, pe_if_ne, pe_i2l, pe_goto, pe_icmp_ne, pe_goto_w, pe_lreturn, pe_aloadN0, pe_aastoreN, pe_areturnN, pe_null, pm_prog_1, pm_ob_some, Nat.reduceDiv, Nat.reduceMod, Nat.reduceMul, Nat.reduceAdd, Int.reduceToNat, pm_kill_i, pm_kill_r, pm_kill_n, pm_kill_j, pm_kill_l, pm_kill_d, pm_cats_nil, pm_cats_i, pm_cats_r, pm_cats_n, pm_cats_l, pm_cats_d, sz_1, sz_2, sl_1, sl_2, lc_0, lc_lt, lc_le, li_ne, va_rf, wr_m1, we_m1, pm_kill_w, Int32.reduceOfInt, Int64.reduceOfInt, Int32.reduceOfNat, Int32.reduceLT, Int32.reduceLE, Prod.mk.injEq, Nat.reduceEqDiff, reduceCtorEq, and_true, true_and, and_false, false_and, and_self, ite_true, ite_false, ↓reduceIte, not_true_eq_false, not_false_eq_true, pe_ri, pe_rz, pe_rc, p_throw, t1286, w_junk hA, Cv_g0_10 hP hA, Cv_g0_11 hP hA, Cv_g0_13 hP hA, Cv_g0_15 hP hA, z1]
  · dsimp only at e z1
    obtain ⟨r, k2, e⟩ := Option.bind_eq_some_iff.mp e
    have z2 := fun h => x1285 (D := D) (h := h) (by omega) k2
    rcases r with c2 | _
    · dsimp only at e z2
      have e := Option.some.inj e; subst e
      simp -implicitDefEqProofs (disch := first | assumption | exact Nat.le_of_ble_eq_true rfl | decide) only [b1286_0, g1286_1, b1286_1, g1286_2, b1286_2, g1286_3, b1286_3, g1286_4, b1286_4, pe_iload1, pe_sipush, pe_call2, pm_af_ret, pm_af_void, pm_af_thr, pe_aload0, pe_getfield, pe_call1, pe_if_ne, pe_i2l, pe_goto, pe_icmp_ne, pe_goto_w, pe_lreturn, pe_aloadN0, pe_aastoreN, pe_areturnN, pe_null, pm_prog_1, pm_ob_some, Nat.reduceDiv, Nat.reduceMod, Nat.reduceMul, Nat.reduceAdd, Int.reduceToNat, pm_kill_i, pm_kill_r, pm_kill_n, pm_kill_j, pm_kill_l, pm_kill_d, pm_cats_nil, pm_cats_i, pm_cats_r, pm_cats_n, pm_cats_l, pm_cats_d, sz_1, sz_2, sl_1, sl_2, lc_0, lc_lt, lc_le, li_ne, va_rf, wr_m1, we_m1, pm_kill_w, Int32.reduceOfInt, Int64.reduceOfInt, Int32.reduceOfNat, Int32.reduceLT, Int32.reduceLE, Prod.mk.injEq, Nat.reduceEqDiff, reduceCtorEq, and_true, true_and, and_false, false_and, and_self, ite_true, ite_false, ↓reduceIte, not_true_eq_false, not_false_eq_true, pe_ri, pe_rz, pe_rc, p_throw, t1286, w_junk hA, Cv_g0_10 hP hA, Cv_g0_11 hP hA, Cv_g0_13 hP hA, Cv_g0_15 hP hA, z1, z2]
    · dsimp only at e z2
      by_cases k3 : x1 = 0
      · rw [if_pos k3] at e
        have e := Option.some.inj e; subst e
        simp -implicitDefEqProofs (disch := first | assumption | exact Nat.le_of_ble_eq_true rfl | decide) only [b1286_0, g1286_1, b1286_1, g1286_2, b1286_2, g1286_3, b1286_3, g1286_4, b1286_4, pe_iload1, pe_sipush, pe_call2, pm_af_ret, pm_af_void, pm_af_thr, pe_aload0, pe_getfield, pe_call1, pe_if_ne, pe_i2l, pe_goto, pe_icmp_ne, pe_goto_w, pe_lreturn, pe_aloadN0, pe_aastoreN, pe_areturnN, pe_null, pm_prog_1, pm_ob_some, Nat.reduceDiv, Nat.reduceMod, Nat.reduceMul, Nat.reduceAdd, Int.reduceToNat, pm_kill_i, pm_kill_r, pm_kill_n, pm_kill_j, pm_kill_l, pm_kill_d, pm_cats_nil, pm_cats_i, pm_cats_r, pm_cats_n, pm_cats_l, pm_cats_d, sz_1, sz_2, sl_1, sl_2, lc_0, lc_lt, lc_le, li_ne, va_rf, wr_m1, we_m1, pm_kill_w, Int32.reduceOfInt, Int64.reduceOfInt, Int32.reduceOfNat, Int32.reduceLT, Int32.reduceLE, Prod.mk.injEq, Nat.reduceEqDiff, reduceCtorEq, and_true, true_and, and_false, false_and, and_self, ite_true, ite_false, ↓reduceIte, not_true_eq_false, not_false_eq_true, pe_ri, pe_rz, pe_rc, p_throw, t1286, w_junk hA, Cv_g0_10 hP hA, Cv_g0_11 hP hA, Cv_g0_13 hP hA, Cv_g0_15 hP hA, z1, z2, eq_true k3]
      · rw [if_neg k3] at e
        by_cases k4 : x1 = 1
        · rw [if_pos k4] at e
          have e := Option.some.inj e; subst e
          simp -implicitDefEqProofs (disch := first | assumption | exact Nat.le_of_ble_eq_true rfl | decide) only [b1286_0, g1286_1, b1286_1, g1286_2, b1286_2, g1286_3, b1286_3, g1286_4, b1286_4, pe_iload1, pe_sipush, pe_call2, pm_af_ret, pm_af_void, pm_af_thr, pe_aload0, pe_getfield, pe_call1, pe_if_ne, pe_i2l, pe_goto, pe_icmp_ne, pe_goto_w, pe_lreturn, pe_aloadN0, pe_aastoreN, pe_areturnN, pe_null, pm_prog_1, pm_ob_some, Nat.reduceDiv, Nat.reduceMod, Nat.reduceMul, Nat.reduceAdd, Int.reduceToNat, pm_kill_i, pm_kill_r, pm_kill_n, pm_kill_j, pm_kill_l, pm_kill_d, pm_cats_nil, pm_cats_i, pm_cats_r, pm_cats_n, pm_cats_l, pm_cats_d, sz_1, sz_2, sl_1, sl_2, lc_0, lc_lt, lc_le, li_ne, va_rf, wr_m1, we_m1, pm_kill_w, Int32.reduceOfInt, Int64.reduceOfInt, Int32.reduceOfNat, Int32.reduceLT, Int32.reduceLE, Prod.mk.injEq, Nat.reduceEqDiff, reduceCtorEq, and_true, true_and, and_false, false_and, and_self, ite_true, ite_false, ↓reduceIte, not_true_eq_false, not_false_eq_true, pe_ri, pe_rz, pe_rc, p_throw, t1286, w_junk hA, Cv_g0_10 hP hA, Cv_g0_11 hP hA, Cv_g0_13 hP hA, Cv_g0_15 hP hA, z1, z2, eq_false k3, eq_true k4]
        · rw [if_neg k4] at e
          by_cases k5 : x1 = 2
          · rw [if_pos k5] at e
            have e := Option.some.inj e; subst e
            simp -implicitDefEqProofs (disch := first | assumption | exact Nat.le_of_ble_eq_true rfl | decide) only [b1286_0, g1286_1, b1286_1, g1286_2, b1286_2, g1286_3, b1286_3, g1286_4, b1286_4, pe_iload1, pe_sipush, pe_call2, pm_af_ret, pm_af_void, pm_af_thr, pe_aload0, pe_getfield, pe_call1, pe_if_ne, pe_i2l, pe_goto, pe_icmp_ne, pe_goto_w, pe_lreturn, pe_aloadN0, pe_aastoreN, pe_areturnN, pe_null, pm_prog_1, pm_ob_some, Nat.reduceDiv, Nat.reduceMod, Nat.reduceMul, Nat.reduceAdd, Int.reduceToNat, pm_kill_i, pm_kill_r, pm_kill_n, pm_kill_j, pm_kill_l, pm_kill_d, pm_cats_nil, pm_cats_i, pm_cats_r, pm_cats_n, pm_cats_l, pm_cats_d, sz_1, sz_2, sl_1, sl_2, lc_0, lc_lt, lc_le, li_ne, va_rf, wr_m1, we_m1, pm_kill_w, Int32.reduceOfInt, Int64.reduceOfInt, Int32.reduceOfNat, Int32.reduceLT, Int32.reduceLE, Prod.mk.injEq, Nat.reduceEqDiff, reduceCtorEq, and_true, true_and, and_false, false_and, and_self, ite_true, ite_false, ↓reduceIte, not_true_eq_false, not_false_eq_true, pe_ri, pe_rz, pe_rc, p_throw, t1286, w_junk hA, Cv_g0_10 hP hA, Cv_g0_11 hP hA, Cv_g0_13 hP hA, Cv_g0_15 hP hA, z1, z2, eq_false k3, eq_false k4, eq_true k5]
          · rw [if_neg k5] at e
            obtain ⟨v1, k6, e⟩ := Option.bind_eq_some_iff.mp e
            try dsimp only at e
            have z6 := x1287 (D := D) (h := h) hP hA (by omega) k6
            have e := Option.some.inj e; subst e
            simp -implicitDefEqProofs (disch := first | assumption | exact Nat.le_of_ble_eq_true rfl | decide) only [b1286_0, g1286_1, b1286_1, g1286_2, b1286_2, g1286_3, b1286_3, g1286_4, b1286_4, pe_iload1, pe_sipush, pe_call2, pm_af_ret, pm_af_void, pm_af_thr, pe_aload0, pe_getfield, pe_call1, pe_if_ne, pe_i2l, pe_goto, pe_icmp_ne, pe_goto_w, pe_lreturn, pe_aloadN0, pe_aastoreN, pe_areturnN, pe_null, pm_prog_1, pm_ob_some, Nat.reduceDiv, Nat.reduceMod, Nat.reduceMul, Nat.reduceAdd, Int.reduceToNat, pm_kill_i, pm_kill_r, pm_kill_n, pm_kill_j, pm_kill_l, pm_kill_d, pm_cats_nil, pm_cats_i, pm_cats_r, pm_cats_n, pm_cats_l, pm_cats_d, sz_1, sz_2, sl_1, sl_2, lc_0, lc_lt, lc_le, li_ne, va_rf, wr_m1, we_m1, pm_kill_w, Int32.reduceOfInt, Int64.reduceOfInt, Int32.reduceOfNat, Int32.reduceLT, Int32.reduceLE, Prod.mk.injEq, Nat.reduceEqDiff, reduceCtorEq, and_true, true_and, and_false, false_and, and_self, ite_true, ite_false, ↓reduceIte, not_true_eq_false, not_false_eq_true, pe_ri, pe_rz, pe_rc, p_throw, t1286, w_junk hA, Cv_g0_10 hP hA, Cv_g0_11 hP hA, Cv_g0_13 hP hA, Cv_g0_15 hP hA, z1, z2, eq_false k3, eq_false k4, eq_false k5, z6]
/-- java/util/ArrayList.size()I -/
noncomputable def f4033vv2 (mc : Int32) (jc : Int32) (tc : Int32) (ma : Int32) (ja : Int32) (ta : Int32) (oc : Int32 → Int32) (oa : Int32 → Int32) (qa : Int32 → Int32) (S : wS) : Option (Int32) :=
  some (S.1 (1, 0, 0) 2)
theorem x4033vv2 {mc : Int32} {jc : Int32} {tc : Int32} {ma : Int32} {ja : Int32} {ta : Int32} {oc : Int32 → Int32} {oa : Int32 → Int32} {qa : Int32 → Int32} {A : wK → Nat} {h : pm_H} {D : Nat} {S : wS} {r : Int32} (hP : Cv_P mc jc tc ma ja ta oc oa qa) (hA : wok A (Cv_d mc jc tc ma ja ta oc oa qa) h.1) (hD : 1 ≤ D) (e : f4033vv2 mc jc tc ma ja ta oc oa qa S = some r) : pm_call pm_prog D 4033 [.ref (A (1, 0, 0))] (wput A (Cv_d mc jc tc ma ja ta oc oa qa) S h) = some (Outcome.returned (some (.int r)), (wput A (Cv_d mc jc tc ma ja ta oc oa qa) S h)) := by
  obtain ⟨D, rfl⟩ : ∃ D', D = D' + 1 := ⟨D - 1, by omega⟩
  have hD : 0 ≤ D := by omega
  simp only [f4033vv2] at e
  rw [c4033 (Cv_c1 hP hA), b4033_0]
  have e := Option.some.inj e; subst e
  simp -implicitDefEqProofs (disch := first | assumption | exact Nat.le_of_ble_eq_true rfl | decide) only [b4033_0, pe_aload0, pe_getfield, pe_aloadN0, pe_aastoreN, pe_areturnN, pe_null, pm_prog_1, pm_ob_some, Nat.reduceDiv, Nat.reduceMod, Nat.reduceMul, Nat.reduceAdd, Int.reduceToNat, pm_kill_i, pm_kill_r, pm_kill_n, pm_kill_j, pm_kill_l, pm_kill_d, pm_cats_nil, pm_cats_i, pm_cats_r, pm_cats_n, pm_cats_l, pm_cats_d, sz_1, sz_2, sl_1, sl_2, lc_0, lc_lt, lc_le, li_ne, va_rf, wr_m1, we_m1, pm_kill_w, Int32.reduceOfInt, Int64.reduceOfInt, Int32.reduceOfNat, Int32.reduceLT, Int32.reduceLE, Prod.mk.injEq, Nat.reduceEqDiff, reduceCtorEq, and_true, true_and, and_false, false_and, and_self, ite_true, ite_false, ↓reduceIte, not_true_eq_false, not_false_eq_true, pe_ri, pe_rz, pe_rc, Cv_g1_2 hP hA]
/-- java/util/ArrayList.elementData(I)Ljava/lang/Object; -/
noncomputable def f4035vv1 (mc : Int32) (jc : Int32) (tc : Int32) (ma : Int32) (ja : Int32) (ta : Int32) (oc : Int32 → Int32) (oa : Int32 → Int32) (qa : Int32 → Int32) (S : wS) (x1 : Int32) : Option (Int32) :=
  if 0 < ma then
    if 0 ≤ x1 ∧ x1 < ma then
      if x1 < mc then
        if 0 ≤ x1 ∧ x1 < mc then
          some x1
        else none
      else none
    else none
  else none
theorem x4035vv1 {mc : Int32} {jc : Int32} {tc : Int32} {ma : Int32} {ja : Int32} {ta : Int32} {oc : Int32 → Int32} {oa : Int32 → Int32} {qa : Int32 → Int32} {A : wK → Nat} {h : pm_H} {D : Nat} {S : wS} {x1 : Int32} {r : Int32} (hP : Cv_P mc jc tc ma ja ta oc oa qa) (hA : wok A (Cv_d mc jc tc ma ja ta oc oa qa) h.1) (hD : 1 ≤ D) (e : f4035vv1 mc jc tc ma ja ta oc oa qa S x1 = some r) : pm_call pm_prog D 4035 [.ref (A (1, 0, 0)), .int x1] (wput A (Cv_d mc jc tc ma ja ta oc oa qa) S h) = some (Outcome.returned (some (.ref (A (11, r, 0)))), (wput A (Cv_d mc jc tc ma ja ta oc oa qa) S h)) := by
  obtain ⟨D, rfl⟩ : ∃ D', D = D' + 1 := ⟨D - 1, by omega⟩
  have hD : 0 ≤ D := by omega
  simp only [f4035vv1] at e
  rw [c4035 (Cv_c1 hP hA), b4035_0]
  by_cases k1 : 0 < ma
  · rw [if_pos k1] at e
    by_cases k2 : 0 ≤ x1 ∧ x1 < ma
    · rw [if_pos k2] at e
      by_cases k3 : x1 < mc
      · rw [if_pos k3] at e
        by_cases k4 : 0 ≤ x1 ∧ x1 < mc
        · rw [if_pos k4] at e
          have e := Option.some.inj e; subst e
          simp -implicitDefEqProofs (disch := first | assumption | exact Nat.le_of_ble_eq_true rfl | decide) only [b4035_0, pe_aload0, pe_getfield, pe_iload1, pe_aaload, pe_areturn, pe_aloadN0, pe_aastoreN, pe_areturnN, pe_null, pm_prog_1, pm_ob_some, Nat.reduceDiv, Nat.reduceMod, Nat.reduceMul, Nat.reduceAdd, Int.reduceToNat, pm_kill_i, pm_kill_r, pm_kill_n, pm_kill_j, pm_kill_l, pm_kill_d, pm_cats_nil, pm_cats_i, pm_cats_r, pm_cats_n, pm_cats_l, pm_cats_d, sz_1, sz_2, sl_1, sl_2, lc_0, lc_lt, lc_le, li_ne, va_rf, wr_m1, we_m1, pm_kill_w, Int32.reduceOfInt, Int64.reduceOfInt, Int32.reduceOfNat, Int32.reduceLT, Int32.reduceLE, Prod.mk.injEq, Nat.reduceEqDiff, reduceCtorEq, and_true, true_and, and_false, false_and, and_self, ite_true, ite_false, ↓reduceIte, not_true_eq_false, not_false_eq_true, pe_ri, pe_rz, pe_rc, Cv_g1_1 hP hA, Cv_r2 hP hA]
        · rw [if_neg k4] at e; cases e
      · rw [if_neg k3] at e; cases e
    · rw [if_neg k2] at e; cases e
  · rw [if_neg k1] at e; cases e
/-- java/util/ArrayList.get(I)Ljava/lang/Object; -/
noncomputable def f4034vv1 (mc : Int32) (jc : Int32) (tc : Int32) (ma : Int32) (ja : Int32) (ta : Int32) (oc : Int32 → Int32) (oa : Int32 → Int32) (qa : Int32 → Int32) (S : wS) (x1 : Int32) : Option (Int32) :=
  (f4736 x1 (S.1 (1, 0, 0) 2)).bind fun v1 =>
  (f4035vv1 mc jc tc ma ja ta oc oa qa S x1).bind fun v2i =>
  if 0 ≤ v2i ∧ v2i < mc then
    some v2i
  else none
theorem x4034vv1 {mc : Int32} {jc : Int32} {tc : Int32} {ma : Int32} {ja : Int32} {ta : Int32} {oc : Int32 → Int32} {oa : Int32 → Int32} {qa : Int32 → Int32} {A : wK → Nat} {h : pm_H} {D : Nat} {S : wS} {x1 : Int32} {r : Int32} (hP : Cv_P mc jc tc ma ja ta oc oa qa) (hA : wok A (Cv_d mc jc tc ma ja ta oc oa qa) h.1) (hD : 3 ≤ D) (e : f4034vv1 mc jc tc ma ja ta oc oa qa S x1 = some r) : pm_call pm_prog D 4034 [.ref (A (1, 0, 0)), .int x1] (wput A (Cv_d mc jc tc ma ja ta oc oa qa) S h) = some (Outcome.returned (some (.ref (A (11, r, 0)))), (wput A (Cv_d mc jc tc ma ja ta oc oa qa) S h)) := by
  obtain ⟨D, rfl⟩ : ∃ D', D = D' + 1 := ⟨D - 1, by omega⟩
  have hD : 2 ≤ D := by omega
  simp only [f4034vv1] at e
  rw [c4034 (Cv_c1 hP hA), b4034_0]
  obtain ⟨v1, k1, e⟩ := Option.bind_eq_some_iff.mp e
  try dsimp only at e
  have z1 := fun h => x4736 (D := D) (h := h) (by omega) k1
  obtain ⟨v2i, k2, e⟩ := Option.bind_eq_some_iff.mp e
  try dsimp only at e
  have z2 := x4035vv1 (D := D) (h := h) hP hA (by omega) k2
  by_cases k3 : 0 ≤ v2i ∧ v2i < mc
  · rw [if_pos k3] at e
    have e := Option.some.inj e; subst e
    simp -implicitDefEqProofs (disch := first | assumption | exact Nat.le_of_ble_eq_true rfl | decide) only [b4034_0, pe_iload1, pe_aload0, pe_getfield, pe_call2, pm_af_ret, pm_af_void, pm_af_thr, pe_pop_i, pe_pop_r, pe_areturn, pe_aloadN0, pe_aastoreN, pe_areturnN, pe_null, pm_prog_1, pm_ob_some, Nat.reduceDiv, Nat.reduceMod, Nat.reduceMul, Nat.reduceAdd, Int.reduceToNat, pm_kill_i, pm_kill_r, pm_kill_n, pm_kill_j, pm_kill_l, pm_kill_d, pm_cats_nil, pm_cats_i, pm_cats_r, pm_cats_n, pm_cats_l, pm_cats_d, sz_1, sz_2, sl_1, sl_2, lc_0, lc_lt, lc_le, li_ne, va_rf, wr_m1, we_m1, pm_kill_w, Int32.reduceOfInt, Int64.reduceOfInt, Int32.reduceOfNat, Int32.reduceLT, Int32.reduceLE, Prod.mk.injEq, Nat.reduceEqDiff, reduceCtorEq, and_true, true_and, and_false, false_and, and_self, ite_true, ite_false, ↓reduceIte, not_true_eq_false, not_false_eq_true, pe_ri, pe_rz, pe_rc, Cv_g1_2 hP hA, z1, z2]
  · rw [if_neg k3] at e; cases e
/-- java/util/ArrayList.size()I -/
noncomputable def f4033vv3 (mc : Int32) (jc : Int32) (tc : Int32) (ma : Int32) (ja : Int32) (ta : Int32) (oc : Int32 → Int32) (oa : Int32 → Int32) (qa : Int32 → Int32) (S : wS) (x0i : Int32) : Option (Int32) :=
  if 0 ≤ x0i ∧ x0i < mc then
    some (S.1 (12, x0i, 0) 2)
  else none
theorem x4033vv3 {mc : Int32} {jc : Int32} {tc : Int32} {ma : Int32} {ja : Int32} {ta : Int32} {oc : Int32 → Int32} {oa : Int32 → Int32} {qa : Int32 → Int32} {A : wK → Nat} {h : pm_H} {D : Nat} {S : wS} {x0i : Int32} {r : Int32} (hP : Cv_P mc jc tc ma ja ta oc oa qa) (hA : wok A (Cv_d mc jc tc ma ja ta oc oa qa) h.1) (hD : 1 ≤ D) (e : f4033vv3 mc jc tc ma ja ta oc oa qa S x0i = some r) : pm_call pm_prog D 4033 [.ref (A (12, x0i, 0))] (wput A (Cv_d mc jc tc ma ja ta oc oa qa) S h) = some (Outcome.returned (some (.int r)), (wput A (Cv_d mc jc tc ma ja ta oc oa qa) S h)) := by
  obtain ⟨D, rfl⟩ : ∃ D', D = D' + 1 := ⟨D - 1, by omega⟩
  have hD : 0 ≤ D := by omega
  simp only [f4033vv3] at e
  have k1 : 0 ≤ x0i ∧ x0i < mc := by
    by_cases q : 0 ≤ x0i ∧ x0i < mc
    · exact q
    · rw [if_neg q] at e; cases e
  rw [if_pos k1] at e
  rw [c4033 (Cv_c12 hP hA k1), b4033_0]
  have e := Option.some.inj e; subst e
  simp -implicitDefEqProofs (disch := first | assumption | exact Nat.le_of_ble_eq_true rfl | decide) only [b4033_0, pe_aload0, pe_getfield, pe_aloadN0, pe_aastoreN, pe_areturnN, pe_null, pm_prog_1, pm_ob_some, Nat.reduceDiv, Nat.reduceMod, Nat.reduceMul, Nat.reduceAdd, Int.reduceToNat, pm_kill_i, pm_kill_r, pm_kill_n, pm_kill_j, pm_kill_l, pm_kill_d, pm_cats_nil, pm_cats_i, pm_cats_r, pm_cats_n, pm_cats_l, pm_cats_d, sz_1, sz_2, sl_1, sl_2, lc_0, lc_lt, lc_le, li_ne, va_rf, wr_m1, we_m1, pm_kill_w, Int32.reduceOfInt, Int64.reduceOfInt, Int32.reduceOfNat, Int32.reduceLT, Int32.reduceLE, Prod.mk.injEq, Nat.reduceEqDiff, reduceCtorEq, and_true, true_and, and_false, false_and, and_self, ite_true, ite_false, ↓reduceIte, not_true_eq_false, not_false_eq_true, pe_ri, pe_rz, pe_rc, Cv_g12_2 hP hA]
/-- TimberHouse$WorkPlans.due(II)V -/
theorem c1291 {d : Nat} {h : pm_H} {a : Nat} {x0 : Int32} {x1 : Int32} (hc : pm_cls h a = some 20) : pm_call pm_prog (d + 1) 1291 [.ref a, .int x0, .int x1] h = pm_ev pm_prog (pm_call pm_prog d) 1291 0 b1291_0 [.ref a, .int x0, .int x1] [] h := pm_cal (pm_rc1 hc rfl) rfl rfl rfl
theorem t1291 {cl : pm_C} {j : Nat} {ls : List Value} {c : Nat} {h : pm_H} : pm_thr pm_prog cl 1291 j ls c h = some (.threw c, h) := rfl
/-- TimberHouse$WorkPlans.due(II)V -/
noncomputable def f1291 (mc : Int32) (jc : Int32) (tc : Int32) (ma : Int32) (ja : Int32) (ta : Int32) (oc : Int32 → Int32) (oa : Int32 → Int32) (qa : Int32 → Int32) (S : wS) (x1 : Int32) (x2 : Int32) : Option ((Nat × wS) ⊕ (wS)) :=
  (f4033v mc jc tc ma ja ta oc oa qa S).bind fun v1 =>
  (f1282 x1 v1).bind fun r => match r with
  | .inl c5 =>
    some (.inl (c5, S))
  | .inr _ =>
  (f1283 x2 0 10000).bind fun v2 =>
  (f1284 v2).bind fun r => match r with
  | .inl c4 =>
    some (.inl (c4, S))
  | .inr _ =>
  (f4034v mc jc tc ma ja ta oc oa qa S x1).bind fun v3i =>
  if 0 ≤ v3i ∧ v3i < jc then
    some (.inr (sz (sz S (15, v3i, 0) 0 x2) (0, 0, 0) 14 1))
  else none
theorem x1291 {mc : Int32} {jc : Int32} {tc : Int32} {ma : Int32} {ja : Int32} {ta : Int32} {oc : Int32 → Int32} {oa : Int32 → Int32} {qa : Int32 → Int32} {A : wK → Nat} {h : pm_H} {D : Nat} {S : wS} {x1 : Int32} {x2 : Int32} {r : (Nat × wS) ⊕ (wS)} (hP : Cv_P mc jc tc ma ja ta oc oa qa) (hA : wok A (Cv_d mc jc tc ma ja ta oc oa qa) h.1) (hD : 4 ≤ D) (e : f1291 mc jc tc ma ja ta oc oa qa S x1 x2 = some r) : pm_call pm_prog D 1291 [.ref (A (0, 0, 0)), .int x1, .int x2] (wput A (Cv_d mc jc tc ma ja ta oc oa qa) S h) = some (match (generalizing := false) r with | .inl (c, S1) => (Outcome.threw c, (wput A (Cv_d mc jc tc ma ja ta oc oa qa) S1 (pm_new h 6 (.inr (c, []))))) | .inr S1 => (Outcome.returned none, (wput A (Cv_d mc jc tc ma ja ta oc oa qa) S1 h))) := by
  obtain ⟨D, rfl⟩ : ∃ D', D = D' + 1 := ⟨D - 1, by omega⟩
  have hD : 3 ≤ D := by omega
  simp only [f1291] at e
  rw [c1291 (Cv_c0 hP hA), b1291_0]
  obtain ⟨v1, k1, e⟩ := Option.bind_eq_some_iff.mp e
  try dsimp only at e
  have z1 := x4033v (D := D) (h := h) hP hA (by omega) k1
  obtain ⟨r, k2, e⟩ := Option.bind_eq_some_iff.mp e
  have z2 := fun h => x1282 (D := D) (h := h) (by omega) k2
  rcases r with c5 | _
  · dsimp only at e z2
    have e := Option.some.inj e; subst e
    simp -implicitDefEqProofs (disch := first | assumption | exact Nat.le_of_ble_eq_true rfl | decide) only [b1291_0, pe_iload1, pe_aload0, pe_getfield, pe_call1, pm_af_ret, pm_af_void, pm_af_thr, pe_call2, pe_iload2, pe_sipush, pe_call3, pe_putfield, pe_return, pe_aloadN0, pe_aastoreN, pe_areturnN, pe_null, pm_prog_1, pm_ob_some, Nat.reduceDiv, Nat.reduceMod, Nat.reduceMul, Nat.reduceAdd, Int.reduceToNat, pm_kill_i, pm_kill_r, pm_kill_n, pm_kill_j, pm_kill_l, pm_kill_d, pm_cats_nil, pm_cats_i, pm_cats_r, pm_cats_n, pm_cats_l, pm_cats_d, sz_1, sz_2, sl_1, sl_2, lc_0, lc_lt, lc_le, li_ne, va_rf, wr_m1, we_m1, pm_kill_w, Int32.reduceOfInt, Int64.reduceOfInt, Int32.reduceOfNat, Int32.reduceLT, Int32.reduceLE, Prod.mk.injEq, Nat.reduceEqDiff, reduceCtorEq, and_true, true_and, and_false, false_and, and_self, ite_true, ite_false, ↓reduceIte, not_true_eq_false, not_false_eq_true, pe_ri, pe_rz, pe_rc, p_throw, t1291, w_junk hA, Cv_g0_1 hP hA, Cv_k15 hP hA, Cv_p0_14 hP hA, Cv_p15_0 hP hA, z1, z2]
  · dsimp only at e z2
    obtain ⟨v2, k3, e⟩ := Option.bind_eq_some_iff.mp e
    try dsimp only at e
    have z3 := fun h => x1283 (D := D) (h := h) (by omega) k3
    obtain ⟨r, k4, e⟩ := Option.bind_eq_some_iff.mp e
    have z4 := fun h => x1284 (D := D) (h := h) (by omega) k4
    rcases r with c4 | _
    · dsimp only at e z4
      have e := Option.some.inj e; subst e
      simp -implicitDefEqProofs (disch := first | assumption | exact Nat.le_of_ble_eq_true rfl | decide) only [b1291_0, pe_iload1, pe_aload0, pe_getfield, pe_call1, pm_af_ret, pm_af_void, pm_af_thr, pe_call2, pe_iload2, pe_sipush, pe_call3, pe_putfield, pe_return, pe_aloadN0, pe_aastoreN, pe_areturnN, pe_null, pm_prog_1, pm_ob_some, Nat.reduceDiv, Nat.reduceMod, Nat.reduceMul, Nat.reduceAdd, Int.reduceToNat, pm_kill_i, pm_kill_r, pm_kill_n, pm_kill_j, pm_kill_l, pm_kill_d, pm_cats_nil, pm_cats_i, pm_cats_r, pm_cats_n, pm_cats_l, pm_cats_d, sz_1, sz_2, sl_1, sl_2, lc_0, lc_lt, lc_le, li_ne, va_rf, wr_m1, we_m1, pm_kill_w, Int32.reduceOfInt, Int64.reduceOfInt, Int32.reduceOfNat, Int32.reduceLT, Int32.reduceLE, Prod.mk.injEq, Nat.reduceEqDiff, reduceCtorEq, and_true, true_and, and_false, false_and, and_self, ite_true, ite_false, ↓reduceIte, not_true_eq_false, not_false_eq_true, pe_ri, pe_rz, pe_rc, p_throw, t1291, w_junk hA, Cv_g0_1 hP hA, Cv_k15 hP hA, Cv_p0_14 hP hA, Cv_p15_0 hP hA, z1, z2, z3, z4]
    · dsimp only at e z4
      obtain ⟨v3i, k5, e⟩ := Option.bind_eq_some_iff.mp e
      try dsimp only at e
      have z5 := x4034v (D := D) (h := h) hP hA (by omega) k5
      by_cases k6 : 0 ≤ v3i ∧ v3i < jc
      · rw [if_pos k6] at e
        have e := Option.some.inj e; subst e
        simp -implicitDefEqProofs (disch := first | assumption | exact Nat.le_of_ble_eq_true rfl | decide) only [b1291_0, pe_iload1, pe_aload0, pe_getfield, pe_call1, pm_af_ret, pm_af_void, pm_af_thr, pe_call2, pe_iload2, pe_sipush, pe_call3, pe_putfield, pe_return, pe_aloadN0, pe_aastoreN, pe_areturnN, pe_null, pm_prog_1, pm_ob_some, Nat.reduceDiv, Nat.reduceMod, Nat.reduceMul, Nat.reduceAdd, Int.reduceToNat, pm_kill_i, pm_kill_r, pm_kill_n, pm_kill_j, pm_kill_l, pm_kill_d, pm_cats_nil, pm_cats_i, pm_cats_r, pm_cats_n, pm_cats_l, pm_cats_d, sz_1, sz_2, sl_1, sl_2, lc_0, lc_lt, lc_le, li_ne, va_rf, wr_m1, we_m1, pm_kill_w, Int32.reduceOfInt, Int64.reduceOfInt, Int32.reduceOfNat, Int32.reduceLT, Int32.reduceLE, Prod.mk.injEq, Nat.reduceEqDiff, reduceCtorEq, and_true, true_and, and_false, false_and, and_self, ite_true, ite_false, ↓reduceIte, not_true_eq_false, not_false_eq_true, pe_ri, pe_rz, pe_rc, p_throw, t1291, w_junk hA, Cv_g0_1 hP hA, Cv_k15 hP hA, Cv_p0_14 hP hA, Cv_p15_0 hP hA, z1, z2, z3, z4, z5]
      · rw [if_neg k6] at e; cases e
/-- java/util/ArrayList.isEmpty()Z -/
noncomputable def f4040v (mc : Int32) (jc : Int32) (tc : Int32) (ma : Int32) (ja : Int32) (ta : Int32) (oc : Int32 → Int32) (oa : Int32 → Int32) (qa : Int32 → Int32) (S : wS) : Option (Int32) :=
  if (S.1 (3, 0, 0) 2) = 0 then
    some 1
  else
    some 0
theorem x4040v {mc : Int32} {jc : Int32} {tc : Int32} {ma : Int32} {ja : Int32} {ta : Int32} {oc : Int32 → Int32} {oa : Int32 → Int32} {qa : Int32 → Int32} {A : wK → Nat} {h : pm_H} {D : Nat} {S : wS} {r : Int32} (hP : Cv_P mc jc tc ma ja ta oc oa qa) (hA : wok A (Cv_d mc jc tc ma ja ta oc oa qa) h.1) (hD : 1 ≤ D) (e : f4040v mc jc tc ma ja ta oc oa qa S = some r) : pm_call pm_prog D 4040 [.ref (A (3, 0, 0))] (wput A (Cv_d mc jc tc ma ja ta oc oa qa) S h) = some (Outcome.returned (some (.int r)), (wput A (Cv_d mc jc tc ma ja ta oc oa qa) S h)) := by
  obtain ⟨D, rfl⟩ : ∃ D', D = D' + 1 := ⟨D - 1, by omega⟩
  have hD : 0 ≤ D := by omega
  simp only [f4040v] at e
  rw [c4040 (Cv_c3 hP hA), b4040_0]
  by_cases k1 : (S.1 (3, 0, 0) 2) = 0
  · rw [if_pos k1] at e
    have e := Option.some.inj e; subst e
    simp -implicitDefEqProofs (disch := first | assumption | exact Nat.le_of_ble_eq_true rfl | decide) only [b4040_0, g4040_1, b4040_1, g4040_2, b4040_2, pe_aload0, pe_getfield, pe_if_ne, pe_sipush, pe_goto, pe_goto_w, pe_aloadN0, pe_aastoreN, pe_areturnN, pe_null, pm_prog_1, pm_ob_some, Nat.reduceDiv, Nat.reduceMod, Nat.reduceMul, Nat.reduceAdd, Int.reduceToNat, pm_kill_i, pm_kill_r, pm_kill_n, pm_kill_j, pm_kill_l, pm_kill_d, pm_cats_nil, pm_cats_i, pm_cats_r, pm_cats_n, pm_cats_l, pm_cats_d, sz_1, sz_2, sl_1, sl_2, lc_0, lc_lt, lc_le, li_ne, va_rf, wr_m1, we_m1, pm_kill_w, Int32.reduceOfInt, Int64.reduceOfInt, Int32.reduceOfNat, Int32.reduceLT, Int32.reduceLE, Prod.mk.injEq, Nat.reduceEqDiff, reduceCtorEq, and_true, true_and, and_false, false_and, and_self, ite_true, ite_false, ↓reduceIte, not_true_eq_false, not_false_eq_true, pe_ri, pe_rz, pe_rc, Cv_g3_2 hP hA, eq_true k1]
  · rw [if_neg k1] at e
    have e := Option.some.inj e; subst e
    simp -implicitDefEqProofs (disch := first | assumption | exact Nat.le_of_ble_eq_true rfl | decide) only [b4040_0, g4040_1, b4040_1, g4040_2, b4040_2, pe_aload0, pe_getfield, pe_if_ne, pe_sipush, pe_goto, pe_goto_w, pe_aloadN0, pe_aastoreN, pe_areturnN, pe_null, pm_prog_1, pm_ob_some, Nat.reduceDiv, Nat.reduceMod, Nat.reduceMul, Nat.reduceAdd, Int.reduceToNat, pm_kill_i, pm_kill_r, pm_kill_n, pm_kill_j, pm_kill_l, pm_kill_d, pm_cats_nil, pm_cats_i, pm_cats_r, pm_cats_n, pm_cats_l, pm_cats_d, sz_1, sz_2, sl_1, sl_2, lc_0, lc_lt, lc_le, li_ne, va_rf, wr_m1, we_m1, pm_kill_w, Int32.reduceOfInt, Int64.reduceOfInt, Int32.reduceOfNat, Int32.reduceLT, Int32.reduceLE, Prod.mk.injEq, Nat.reduceEqDiff, reduceCtorEq, and_true, true_and, and_false, false_and, and_self, ite_true, ite_false, ↓reduceIte, not_true_eq_false, not_false_eq_true, pe_ri, pe_rz, pe_rc, Cv_g3_2 hP hA, eq_false k1]
/-- java/util/ArrayList.elementData(I)Ljava/lang/Object; -/
noncomputable def f4035vv2 (mc : Int32) (jc : Int32) (tc : Int32) (ma : Int32) (ja : Int32) (ta : Int32) (oc : Int32 → Int32) (oa : Int32 → Int32) (qa : Int32 → Int32) (S : wS) (x0i : Int32) (x1 : Int32) : Option (Int32) :=
  if 0 ≤ x0i ∧ x0i < jc then
    if 0 < (qa x0i) then
      if 0 ≤ x1 ∧ x1 < (qa x0i) then
        if 0 ≤ (S.1 (18, x0i, 0) x1) ∧ (S.1 (18, x0i, 0) x1) < tc then
          some (S.1 (18, x0i, 0) x1)
        else none
      else none
    else none
  else none
theorem x4035vv2 {mc : Int32} {jc : Int32} {tc : Int32} {ma : Int32} {ja : Int32} {ta : Int32} {oc : Int32 → Int32} {oa : Int32 → Int32} {qa : Int32 → Int32} {A : wK → Nat} {h : pm_H} {D : Nat} {S : wS} {x0i : Int32} {x1 : Int32} {r : Int32} (hP : Cv_P mc jc tc ma ja ta oc oa qa) (hA : wok A (Cv_d mc jc tc ma ja ta oc oa qa) h.1) (hD : 1 ≤ D) (e : f4035vv2 mc jc tc ma ja ta oc oa qa S x0i x1 = some r) : pm_call pm_prog D 4035 [.ref (A (17, x0i, 0)), .int x1] (wput A (Cv_d mc jc tc ma ja ta oc oa qa) S h) = some (Outcome.returned (some (.ref (A (16, r, 0)))), (wput A (Cv_d mc jc tc ma ja ta oc oa qa) S h)) := by
  obtain ⟨D, rfl⟩ : ∃ D', D = D' + 1 := ⟨D - 1, by omega⟩
  have hD : 0 ≤ D := by omega
  simp only [f4035vv2] at e
  have k1 : 0 ≤ x0i ∧ x0i < jc := by
    by_cases q : 0 ≤ x0i ∧ x0i < jc
    · exact q
    · rw [if_neg q] at e; cases e
  rw [if_pos k1] at e
  rw [c4035 (Cv_c17 hP hA k1), b4035_0]
  by_cases k2 : 0 < (qa x0i)
  · rw [if_pos k2] at e
    by_cases k3 : 0 ≤ x1 ∧ x1 < (qa x0i)
    · rw [if_pos k3] at e
      by_cases k4 : 0 ≤ (S.1 (18, x0i, 0) x1) ∧ (S.1 (18, x0i, 0) x1) < tc
      · rw [if_pos k4] at e
        have e := Option.some.inj e; subst e
        simp -implicitDefEqProofs (disch := first | assumption | exact Nat.le_of_ble_eq_true rfl | decide) only [b4035_0, pe_aload0, pe_getfield, pe_iload1, pe_aaload, pe_areturn, pe_aloadN0, pe_aastoreN, pe_areturnN, pe_null, pm_prog_1, pm_ob_some, Nat.reduceDiv, Nat.reduceMod, Nat.reduceMul, Nat.reduceAdd, Int.reduceToNat, pm_kill_i, pm_kill_r, pm_kill_n, pm_kill_j, pm_kill_l, pm_kill_d, pm_cats_nil, pm_cats_i, pm_cats_r, pm_cats_n, pm_cats_l, pm_cats_d, sz_1, sz_2, sl_1, sl_2, lc_0, lc_lt, lc_le, li_ne, va_rf, wr_m1, we_m1, pm_kill_w, Int32.reduceOfInt, Int64.reduceOfInt, Int32.reduceOfNat, Int32.reduceLT, Int32.reduceLE, Prod.mk.injEq, Nat.reduceEqDiff, reduceCtorEq, and_true, true_and, and_false, false_and, and_self, ite_true, ite_false, ↓reduceIte, not_true_eq_false, not_false_eq_true, pe_ri, pe_rz, pe_rc, Cv_g17_1 hP hA, Cv_r18 hP hA, wr_p (A := A) (f := 16) (wz_lt k4), we_p (A := A) (f := 16) (wz_lt k4)]
      · rw [if_neg k4] at e; cases e
    · rw [if_neg k3] at e; cases e
  · rw [if_neg k2] at e; cases e
/-- java/util/ArrayList.get(I)Ljava/lang/Object; -/
noncomputable def f4034vv2 (mc : Int32) (jc : Int32) (tc : Int32) (ma : Int32) (ja : Int32) (ta : Int32) (oc : Int32 → Int32) (oa : Int32 → Int32) (qa : Int32 → Int32) (S : wS) (x0i : Int32) (x1 : Int32) : Option (Int32) :=
  if 0 ≤ x0i ∧ x0i < jc then
    (f4736 x1 (S.1 (17, x0i, 0) 2)).bind fun v1 =>
    (f4035vv2 mc jc tc ma ja ta oc oa qa S x0i x1).bind fun v2i =>
    if 0 ≤ v2i ∧ v2i < tc then
      some v2i
    else none
  else none
theorem x4034vv2 {mc : Int32} {jc : Int32} {tc : Int32} {ma : Int32} {ja : Int32} {ta : Int32} {oc : Int32 → Int32} {oa : Int32 → Int32} {qa : Int32 → Int32} {A : wK → Nat} {h : pm_H} {D : Nat} {S : wS} {x0i : Int32} {x1 : Int32} {r : Int32} (hP : Cv_P mc jc tc ma ja ta oc oa qa) (hA : wok A (Cv_d mc jc tc ma ja ta oc oa qa) h.1) (hD : 3 ≤ D) (e : f4034vv2 mc jc tc ma ja ta oc oa qa S x0i x1 = some r) : pm_call pm_prog D 4034 [.ref (A (17, x0i, 0)), .int x1] (wput A (Cv_d mc jc tc ma ja ta oc oa qa) S h) = some (Outcome.returned (some (.ref (A (16, r, 0)))), (wput A (Cv_d mc jc tc ma ja ta oc oa qa) S h)) := by
  obtain ⟨D, rfl⟩ : ∃ D', D = D' + 1 := ⟨D - 1, by omega⟩
  have hD : 2 ≤ D := by omega
  simp only [f4034vv2] at e
  have k1 : 0 ≤ x0i ∧ x0i < jc := by
    by_cases q : 0 ≤ x0i ∧ x0i < jc
    · exact q
    · rw [if_neg q] at e; cases e
  rw [if_pos k1] at e
  rw [c4034 (Cv_c17 hP hA k1), b4034_0]
  obtain ⟨v1, k2, e⟩ := Option.bind_eq_some_iff.mp e
  try dsimp only at e
  have z2 := fun h => x4736 (D := D) (h := h) (by omega) k2
  obtain ⟨v2i, k3, e⟩ := Option.bind_eq_some_iff.mp e
  try dsimp only at e
  have z3 := x4035vv2 (D := D) (h := h) hP hA (by omega) k3
  by_cases k4 : 0 ≤ v2i ∧ v2i < tc
  · rw [if_pos k4] at e
    have e := Option.some.inj e; subst e
    simp -implicitDefEqProofs (disch := first | assumption | exact Nat.le_of_ble_eq_true rfl | decide) only [b4034_0, pe_iload1, pe_aload0, pe_getfield, pe_call2, pm_af_ret, pm_af_void, pm_af_thr, pe_pop_i, pe_pop_r, pe_areturn, pe_aloadN0, pe_aastoreN, pe_areturnN, pe_null, pm_prog_1, pm_ob_some, Nat.reduceDiv, Nat.reduceMod, Nat.reduceMul, Nat.reduceAdd, Int.reduceToNat, pm_kill_i, pm_kill_r, pm_kill_n, pm_kill_j, pm_kill_l, pm_kill_d, pm_cats_nil, pm_cats_i, pm_cats_r, pm_cats_n, pm_cats_l, pm_cats_d, sz_1, sz_2, sl_1, sl_2, lc_0, lc_lt, lc_le, li_ne, va_rf, wr_m1, we_m1, pm_kill_w, Int32.reduceOfInt, Int64.reduceOfInt, Int32.reduceOfNat, Int32.reduceLT, Int32.reduceLE, Prod.mk.injEq, Nat.reduceEqDiff, reduceCtorEq, and_true, true_and, and_false, false_and, and_self, ite_true, ite_false, ↓reduceIte, not_true_eq_false, not_false_eq_true, pe_ri, pe_rz, pe_rc, Cv_g17_2 hP hA, z2, z3]
  · rw [if_neg k4] at e; cases e
/-- TimberHouse$WorkPlans.fits(LTimberHouse$WorkPlans$Job;)Z -/
theorem c1294 {d : Nat} {h : pm_H} {a : Nat} {r0 : Nat} (hc : pm_cls h a = some 20) : pm_call pm_prog (d + 1) 1294 [.ref a, .ref r0] h = pm_ev pm_prog (pm_call pm_prog d) 1294 0 b1294_0 [.ref a, .ref r0, pm_junk, pm_junk, pm_junk] [] h := pm_cal (pm_rc1 hc rfl) rfl rfl rfl
theorem g1294_1 {cl : pm_C} {ls st : List Value} {h : pm_H} : pm_go pm_prog cl 1294 1 ls st h = pm_ev pm_prog cl 1294 1 b1294_1 ls st h := pm_go_eq pm_prog cl 1294 1 ls st h
theorem g1294_2 {cl : pm_C} {ls st : List Value} {h : pm_H} : pm_go pm_prog cl 1294 2 ls st h = pm_ev pm_prog cl 1294 2 b1294_2 ls st h := pm_go_eq pm_prog cl 1294 2 ls st h
theorem g1294_3 {cl : pm_C} {ls st : List Value} {h : pm_H} : pm_go pm_prog cl 1294 3 ls st h = pm_ev pm_prog cl 1294 3 b1294_3 ls st h := pm_go_eq pm_prog cl 1294 3 ls st h
theorem g1294_4 {cl : pm_C} {ls st : List Value} {h : pm_H} : pm_go pm_prog cl 1294 4 ls st h = pm_ev pm_prog cl 1294 4 b1294_4 ls st h := pm_go_eq pm_prog cl 1294 4 ls st h
theorem g1294_5 {cl : pm_C} {ls st : List Value} {h : pm_H} : pm_go pm_prog cl 1294 5 ls st h = pm_ev pm_prog cl 1294 5 b1294_5 ls st h := pm_go_eq pm_prog cl 1294 5 ls st h
theorem g1294_6 {cl : pm_C} {ls st : List Value} {h : pm_H} : pm_go pm_prog cl 1294 6 ls st h = pm_ev pm_prog cl 1294 6 b1294_6 ls st h := pm_go_eq pm_prog cl 1294 6 ls st h
theorem g1294_7 {cl : pm_C} {ls st : List Value} {h : pm_H} : pm_go pm_prog cl 1294 7 ls st h = pm_ev pm_prog cl 1294 7 b1294_7 ls st h := pm_go_eq pm_prog cl 1294 7 ls st h
noncomputable def f1294_b2 (mc : Int32) (jc : Int32) (tc : Int32) (ma : Int32) (ja : Int32) (ta : Int32) (oc : Int32 → Int32) (oa : Int32 → Int32) (qa : Int32 → Int32) (S : wS) : Int32 × Int32 × Int32 × Int32 → Option ((Int32 × Int32 × Int32 × Int32) ⊕ ((Int32 × Int32 × Int32))) := fun (x1i, x2, x3, x4) =>
  if 0 ≤ x1i ∧ x1i < jc then
    (f4033vv2 mc jc tc ma ja ta oc oa qa S).bind fun v2 =>
    if x4 < v2 then
      (f4034vv1 mc jc tc ma ja ta oc oa qa S x4).bind fun v3i =>
      if 0 ≤ v3i ∧ v3i < mc then
        (f4034vv2 mc jc tc ma ja ta oc oa qa S x1i x2).bind fun v4i =>
        if 0 ≤ v4i ∧ v4i < tc then
          if (S.1 (11, v3i, 0) 0) = (S.1 (16, v4i, 0) 1) then
            some (.inl (x1i, x2, (x3 ||| 1), (x4 + 1)))
          else
            some (.inl (x1i, x2, (x3 ||| 0), (x4 + 1)))
        else none
      else none
    else
      some (.inr (x1i, x2, x3))
  else none
noncomputable def f1294_b1 (mc : Int32) (jc : Int32) (tc : Int32) (ma : Int32) (ja : Int32) (ta : Int32) (oc : Int32 → Int32) (oa : Int32 → Int32) (qa : Int32 → Int32) (S : wS) : Int32 × Int32 → Option ((Int32 × Int32) ⊕ ((Int32) ⊕ (Unit))) := fun (x1i, x2) =>
  if 0 ≤ x1i ∧ x1i < jc then
    (f4033vv1 mc jc tc ma ja ta oc oa qa S x1i).bind fun v1 =>
    if x2 < v1 then
      (lp (f1294_b2 mc jc tc ma ja ta oc oa qa S) FU (x1i, x2, 0, 0)).bind fun (v6i, v7, v8) =>
      if 0 ≤ v6i ∧ v6i < jc then
        if v8 = 0 then
          some (.inr (.inl 0))
        else
          some (.inl (v6i, (v7 + 1)))
      else none
    else
      some (.inr (.inr (())))
  else none
/-- TimberHouse$WorkPlans.fits(LTimberHouse$WorkPlans$Job;)Z -/
noncomputable def f1294 (mc : Int32) (jc : Int32) (tc : Int32) (ma : Int32) (ja : Int32) (ta : Int32) (oc : Int32 → Int32) (oa : Int32 → Int32) (qa : Int32 → Int32) (S : wS) (x1i : Int32) : Option (Int32) :=
  if 0 ≤ x1i ∧ x1i < jc then
    (lp (f1294_b1 mc jc tc ma ja ta oc oa qa S) FU (x1i, 0)).bind fun b => match b with
    | (.inl v9) =>
      some v9
    | (.inr (())) =>
      some 1
  else none
def go1294_2 (mc : Int32) (jc : Int32) (tc : Int32) (ma : Int32) (ja : Int32) (ta : Int32) (oc : Int32 → Int32) (oa : Int32 → Int32) (qa : Int32 → Int32) (A : wK → Nat) (h : pm_H) (D : Nat) (R : Outcome × pm_H) (S : wS) : Int32 × Int32 × Int32 × Int32 → Prop := fun (x1i, x2, x3, x4) => pm_go pm_prog (pm_call pm_prog D) 1294 2 [.ref (A (0, 0, 0)), .ref (A (15, x1i, 0)), .int x2, .int x3, .int x4] [] (wput A (Cv_d mc jc tc ma ja ta oc oa qa) S h) = some R
def ex1294_2 (mc : Int32) (jc : Int32) (tc : Int32) (ma : Int32) (ja : Int32) (ta : Int32) (oc : Int32 → Int32) (oa : Int32 → Int32) (qa : Int32 → Int32) (A : wK → Nat) (h : pm_H) (D : Nat) (R : Outcome × pm_H) (S : wS) : (Int32 × Int32 × Int32) → Prop := fun (x1i, x2, x3) => ∀ q4 : Value, pm_go pm_prog (pm_call pm_prog D) 1294 5 [.ref (A (0, 0, 0)), .ref (A (15, x1i, 0)), .int x2, .int x3, q4] [] (wput A (Cv_d mc jc tc ma ja ta oc oa qa) S h) = some R
theorem y1294_b2 {mc : Int32} {jc : Int32} {tc : Int32} {ma : Int32} {ja : Int32} {ta : Int32} {oc : Int32 → Int32} {oa : Int32 → Int32} {qa : Int32 → Int32} {A : wK → Nat} {h : pm_H} {D : Nat} {R : Outcome × pm_H} {S : wS} (hP : Cv_P mc jc tc ma ja ta oc oa qa) (hA : wok A (Cv_d mc jc tc ma ja ta oc oa qa) h.1) (hD : 3 ≤ D) (a : Int32 × Int32 × Int32 × Int32) (r : (Int32 × Int32 × Int32 × Int32) ⊕ ((Int32 × Int32 × Int32))) (e : f1294_b2 mc jc tc ma ja ta oc oa qa S a = some r) (hc : Sum.elim (go1294_2 mc jc tc ma ja ta oc oa qa A h D R S) (ex1294_2 mc jc tc ma ja ta oc oa qa A h D R S) r) : go1294_2 mc jc tc ma ja ta oc oa qa A h D R S a := by
  obtain ⟨x1i, x2, x3, x4⟩ := a
  dsimp only [go1294_2]
  simp only [f1294_b2] at e
  rw [g1294_2, b1294_2]
  by_cases k1 : 0 ≤ x1i ∧ x1i < jc
  · rw [if_pos k1] at e
    obtain ⟨v2, k2, e⟩ := Option.bind_eq_some_iff.mp e
    try dsimp only at e
    have z2 := x4033vv2 (D := D) (h := h) hP hA (by omega) k2
    by_cases k3 : x4 < v2
    · rw [if_pos k3] at e
      obtain ⟨v3i, k4, e⟩ := Option.bind_eq_some_iff.mp e
      try dsimp only at e
      have z4 := x4034vv1 (D := D) (h := h) hP hA (by omega) k4
      by_cases k5 : 0 ≤ v3i ∧ v3i < mc
      · rw [if_pos k5] at e
        obtain ⟨v4i, k6, e⟩ := Option.bind_eq_some_iff.mp e
        try dsimp only at e
        have z6 := x4034vv2 (D := D) (h := h) hP hA (by omega) k6
        by_cases k7 : 0 ≤ v4i ∧ v4i < tc
        · rw [if_pos k7] at e
          by_cases k8 : (S.1 (11, v3i, 0) 0) = (S.1 (16, v4i, 0) 1)
          · rw [if_pos k8] at e
            have e := Option.some.inj e; subst e
            dsimp only [Sum.elim_inl, go1294_2] at hc
            simp -implicitDefEqProofs (disch := first | assumption | exact Nat.le_of_ble_eq_true rfl | decide) only [b1294_0, g1294_3, b1294_3, g1294_4, b1294_4, g1294_5, b1294_5, g1294_6, b1294_6, g1294_7, b1294_7, pe_sipush, pe_istore2, pe_goto_w, pe_iload2, pe_aload1, pe_getfield, pe_call1, pm_af_ret, pm_af_void, pm_af_thr, pe_icmp_ge, pe_istore3, pe_istore4, pe_iload4, pe_aload0, pe_iload3, pe_call2, pe_icmp_ne, pe_goto, pe_ior, pe_iinc4, pe_if_ne, pe_iinc2, pe_aloadN1, pe_aloadN0, pe_aastoreN, pe_areturnN, pe_null, pm_prog_1, pm_ob_some, Nat.reduceDiv, Nat.reduceMod, Nat.reduceMul, Nat.reduceAdd, Int.reduceToNat, pm_kill_i, pm_kill_r, pm_kill_n, pm_kill_j, pm_kill_l, pm_kill_d, pm_cats_nil, pm_cats_i, pm_cats_r, pm_cats_n, pm_cats_l, pm_cats_d, sz_1, sz_2, sl_1, sl_2, lc_0, lc_lt, lc_le, li_ne, va_rf, wr_m1, we_m1, pm_kill_w, Int32.reduceOfInt, Int64.reduceOfInt, Int32.reduceOfNat, Int32.reduceLT, Int32.reduceLE, Prod.mk.injEq, Nat.reduceEqDiff, reduceCtorEq, and_true, true_and, and_false, false_and, and_self, ite_true, ite_false, ↓reduceIte, not_true_eq_false, not_false_eq_true, pe_ri, pe_rz, pe_rc, Cv_g0_0 hP hA, Cv_g11_0 hP hA, Cv_g15_2 hP hA, Cv_g16_1 hP hA, Cv_k11 hP hA, Cv_k16 hP hA, z2, eq_true k3, z4, z6, eq_true k8, hc]
          · rw [if_neg k8] at e
            have e := Option.some.inj e; subst e
            dsimp only [Sum.elim_inl, go1294_2] at hc
            simp -implicitDefEqProofs (disch := first | assumption | exact Nat.le_of_ble_eq_true rfl | decide) only [b1294_0, g1294_3, b1294_3, g1294_4, b1294_4, g1294_5, b1294_5, g1294_6, b1294_6, g1294_7, b1294_7, pe_sipush, pe_istore2, pe_goto_w, pe_iload2, pe_aload1, pe_getfield, pe_call1, pm_af_ret, pm_af_void, pm_af_thr, pe_icmp_ge, pe_istore3, pe_istore4, pe_iload4, pe_aload0, pe_iload3, pe_call2, pe_icmp_ne, pe_goto, pe_ior, pe_iinc4, pe_if_ne, pe_iinc2, pe_aloadN1, pe_aloadN0, pe_aastoreN, pe_areturnN, pe_null, pm_prog_1, pm_ob_some, Nat.reduceDiv, Nat.reduceMod, Nat.reduceMul, Nat.reduceAdd, Int.reduceToNat, pm_kill_i, pm_kill_r, pm_kill_n, pm_kill_j, pm_kill_l, pm_kill_d, pm_cats_nil, pm_cats_i, pm_cats_r, pm_cats_n, pm_cats_l, pm_cats_d, sz_1, sz_2, sl_1, sl_2, lc_0, lc_lt, lc_le, li_ne, va_rf, wr_m1, we_m1, pm_kill_w, Int32.reduceOfInt, Int64.reduceOfInt, Int32.reduceOfNat, Int32.reduceLT, Int32.reduceLE, Prod.mk.injEq, Nat.reduceEqDiff, reduceCtorEq, and_true, true_and, and_false, false_and, and_self, ite_true, ite_false, ↓reduceIte, not_true_eq_false, not_false_eq_true, pe_ri, pe_rz, pe_rc, Cv_g0_0 hP hA, Cv_g11_0 hP hA, Cv_g15_2 hP hA, Cv_g16_1 hP hA, Cv_k11 hP hA, Cv_k16 hP hA, z2, eq_true k3, z4, z6, eq_false k8, hc]
        · rw [if_neg k7] at e; cases e
      · rw [if_neg k5] at e; cases e
    · rw [if_neg k3] at e
      have e := Option.some.inj e; subst e
      dsimp only [Sum.elim_inr, ex1294_2] at hc
      simp -implicitDefEqProofs (disch := first | assumption | exact Nat.le_of_ble_eq_true rfl | decide) only [b1294_0, g1294_3, b1294_3, g1294_4, b1294_4, g1294_5, b1294_5, g1294_6, b1294_6, g1294_7, b1294_7, pe_sipush, pe_istore2, pe_goto_w, pe_iload2, pe_aload1, pe_getfield, pe_call1, pm_af_ret, pm_af_void, pm_af_thr, pe_icmp_ge, pe_istore3, pe_istore4, pe_iload4, pe_aload0, pe_iload3, pe_call2, pe_icmp_ne, pe_goto, pe_ior, pe_iinc4, pe_if_ne, pe_iinc2, pe_aloadN1, pe_aloadN0, pe_aastoreN, pe_areturnN, pe_null, pm_prog_1, pm_ob_some, Nat.reduceDiv, Nat.reduceMod, Nat.reduceMul, Nat.reduceAdd, Int.reduceToNat, pm_kill_i, pm_kill_r, pm_kill_n, pm_kill_j, pm_kill_l, pm_kill_d, pm_cats_nil, pm_cats_i, pm_cats_r, pm_cats_n, pm_cats_l, pm_cats_d, sz_1, sz_2, sl_1, sl_2, lc_0, lc_lt, lc_le, li_ne, va_rf, wr_m1, we_m1, pm_kill_w, Int32.reduceOfInt, Int64.reduceOfInt, Int32.reduceOfNat, Int32.reduceLT, Int32.reduceLE, Prod.mk.injEq, Nat.reduceEqDiff, reduceCtorEq, and_true, true_and, and_false, false_and, and_self, ite_true, ite_false, ↓reduceIte, not_true_eq_false, not_false_eq_true, pe_ri, pe_rz, pe_rc, Cv_g0_0 hP hA, Cv_g11_0 hP hA, Cv_g15_2 hP hA, Cv_g16_1 hP hA, Cv_k11 hP hA, Cv_k16 hP hA, z2, eq_false k3, hc]
  · rw [if_neg k1] at e; cases e
theorem z1294_2 {mc : Int32} {jc : Int32} {tc : Int32} {ma : Int32} {ja : Int32} {ta : Int32} {oc : Int32 → Int32} {oa : Int32 → Int32} {qa : Int32 → Int32} {A : wK → Nat} {h : pm_H} {D : Nat} {R : Outcome × pm_H} {S : wS} (hP : Cv_P mc jc tc ma ja ta oc oa qa) (hA : wok A (Cv_d mc jc tc ma ja ta oc oa qa) h.1) (hD : 3 ≤ D) {n : Nat} {a : Int32 × Int32 × Int32 × Int32} {b : (Int32 × Int32 × Int32)} (e : lp (f1294_b2 mc jc tc ma ja ta oc oa qa S) n a = some b) (hx : ex1294_2 mc jc tc ma ja ta oc oa qa A h D R S b) : go1294_2 mc jc tc ma ja ta oc oa qa A h D R S a := lp_run (fun a r => y1294_b2 hP hA hD a r) n a b e hx
def go1294_1 (mc : Int32) (jc : Int32) (tc : Int32) (ma : Int32) (ja : Int32) (ta : Int32) (oc : Int32 → Int32) (oa : Int32 → Int32) (qa : Int32 → Int32) (A : wK → Nat) (h : pm_H) (D : Nat) (R : Outcome × pm_H) (S : wS) : Int32 × Int32 → Prop := fun (x1i, x2) => ∀ q3 q4 : Value, pm_go pm_prog (pm_call pm_prog D) 1294 1 [.ref (A (0, 0, 0)), .ref (A (15, x1i, 0)), .int x2, q3, q4] [] (wput A (Cv_d mc jc tc ma ja ta oc oa qa) S h) = some R
def ex1294_1 (mc : Int32) (jc : Int32) (tc : Int32) (ma : Int32) (ja : Int32) (ta : Int32) (oc : Int32 → Int32) (oa : Int32 → Int32) (qa : Int32 → Int32) (A : wK → Nat) (h : pm_H) (D : Nat) (R : Outcome × pm_H) (S : wS) : (Int32) ⊕ (Unit) → Prop := fun b => match b with
  | (.inl xr0) => some (Outcome.returned (some (.int xr0)), (wput A (Cv_d mc jc tc ma ja ta oc oa qa) S h)) = some R
  | (.inr (_)) => ∀ q0 q1 q2 q3 q4 : Value, pm_go pm_prog (pm_call pm_prog D) 1294 7 [q0, q1, q2, q3, q4] [] (wput A (Cv_d mc jc tc ma ja ta oc oa qa) S h) = some R
theorem y1294_b1 {mc : Int32} {jc : Int32} {tc : Int32} {ma : Int32} {ja : Int32} {ta : Int32} {oc : Int32 → Int32} {oa : Int32 → Int32} {qa : Int32 → Int32} {A : wK → Nat} {h : pm_H} {D : Nat} {R : Outcome × pm_H} {S : wS} (hP : Cv_P mc jc tc ma ja ta oc oa qa) (hA : wok A (Cv_d mc jc tc ma ja ta oc oa qa) h.1) (hD : 3 ≤ D) (a : Int32 × Int32) (r : (Int32 × Int32) ⊕ ((Int32) ⊕ (Unit))) (e : f1294_b1 mc jc tc ma ja ta oc oa qa S a = some r) (hc : Sum.elim (go1294_1 mc jc tc ma ja ta oc oa qa A h D R S) (ex1294_1 mc jc tc ma ja ta oc oa qa A h D R S) r) : go1294_1 mc jc tc ma ja ta oc oa qa A h D R S a := by
  obtain ⟨x1i, x2⟩ := a
  dsimp only [go1294_1]
  intro q3 q4
  simp only [f1294_b1] at e
  rw [g1294_1, b1294_1]
  by_cases k1 : 0 ≤ x1i ∧ x1i < jc
  · rw [if_pos k1] at e
    obtain ⟨v1, k2, e⟩ := Option.bind_eq_some_iff.mp e
    try dsimp only at e
    have z2 := x4033vv1 (D := D) (h := h) hP hA (by omega) k2
    by_cases k3 : x2 < v1
    · rw [if_pos k3] at e
      obtain ⟨⟨v6i, v7, v8⟩, k4, e⟩ := Option.bind_eq_some_iff.mp e
      try dsimp only at e
      try simp -implicitDefEqProofs (disch := first | assumption | exact Nat.le_of_ble_eq_true rfl | decide) only [b1294_0, g1294_3, b1294_3, g1294_4, b1294_4, g1294_5, b1294_5, g1294_6, b1294_6, g1294_7, b1294_7, pe_sipush, pe_istore2, pe_goto_w, pe_iload2, pe_aload1, pe_getfield, pe_call1, pm_af_ret, pm_af_void, pm_af_thr, pe_icmp_ge, pe_istore3, pe_istore4, pe_iload4, pe_aload0, pe_iload3, pe_call2, pe_icmp_ne, pe_goto, pe_ior, pe_iinc4, pe_if_ne, pe_iinc2, pe_aloadN1, pe_aloadN0, pe_aastoreN, pe_areturnN, pe_null, pm_prog_1, pm_ob_some, Nat.reduceDiv, Nat.reduceMod, Nat.reduceMul, Nat.reduceAdd, Int.reduceToNat, pm_kill_i, pm_kill_r, pm_kill_n, pm_kill_j, pm_kill_l, pm_kill_d, pm_cats_nil, pm_cats_i, pm_cats_r, pm_cats_n, pm_cats_l, pm_cats_d, sz_1, sz_2, sl_1, sl_2, lc_0, lc_lt, lc_le, li_ne, va_rf, wr_m1, we_m1, pm_kill_w, Int32.reduceOfInt, Int64.reduceOfInt, Int32.reduceOfNat, Int32.reduceLT, Int32.reduceLE, Prod.mk.injEq, Nat.reduceEqDiff, reduceCtorEq, and_true, true_and, and_false, false_and, and_self, ite_true, ite_false, ↓reduceIte, not_true_eq_false, not_false_eq_true, pe_ri, pe_rz, pe_rc, Cv_g0_0 hP hA, Cv_g11_0 hP hA, Cv_g15_2 hP hA, Cv_g16_1 hP hA, Cv_k11 hP hA, Cv_k16 hP hA, z2, eq_true k3]
      refine z1294_2 hP hA hD k4 ?_
      dsimp only [ex1294_2]
      intro q4
      by_cases k5 : 0 ≤ v6i ∧ v6i < jc
      · rw [if_pos k5] at e
        by_cases k6 : v8 = 0
        · rw [if_pos k6] at e
          have e := Option.some.inj e; subst e
          dsimp only [Sum.elim_inr, ex1294_1] at hc
          have hc := Option.some.inj hc; subst hc
          simp -implicitDefEqProofs (disch := first | assumption | exact Nat.le_of_ble_eq_true rfl | decide) only [b1294_0, g1294_3, b1294_3, g1294_4, b1294_4, g1294_5, b1294_5, g1294_6, b1294_6, g1294_7, b1294_7, pe_sipush, pe_istore2, pe_goto_w, pe_iload2, pe_aload1, pe_getfield, pe_call1, pm_af_ret, pm_af_void, pm_af_thr, pe_icmp_ge, pe_istore3, pe_istore4, pe_iload4, pe_aload0, pe_iload3, pe_call2, pe_icmp_ne, pe_goto, pe_ior, pe_iinc4, pe_if_ne, pe_iinc2, pe_aloadN1, pe_aloadN0, pe_aastoreN, pe_areturnN, pe_null, pm_prog_1, pm_ob_some, Nat.reduceDiv, Nat.reduceMod, Nat.reduceMul, Nat.reduceAdd, Int.reduceToNat, pm_kill_i, pm_kill_r, pm_kill_n, pm_kill_j, pm_kill_l, pm_kill_d, pm_cats_nil, pm_cats_i, pm_cats_r, pm_cats_n, pm_cats_l, pm_cats_d, sz_1, sz_2, sl_1, sl_2, lc_0, lc_lt, lc_le, li_ne, va_rf, wr_m1, we_m1, pm_kill_w, Int32.reduceOfInt, Int64.reduceOfInt, Int32.reduceOfNat, Int32.reduceLT, Int32.reduceLE, Prod.mk.injEq, Nat.reduceEqDiff, reduceCtorEq, and_true, true_and, and_false, false_and, and_self, ite_true, ite_false, ↓reduceIte, not_true_eq_false, not_false_eq_true, pe_ri, pe_rz, pe_rc, Cv_g0_0 hP hA, Cv_g11_0 hP hA, Cv_g15_2 hP hA, Cv_g16_1 hP hA, Cv_k11 hP hA, Cv_k16 hP hA, z2, eq_true k3, eq_true k6]
        · rw [if_neg k6] at e
          have e := Option.some.inj e; subst e
          dsimp only [Sum.elim_inl, go1294_1] at hc
          simp -implicitDefEqProofs (disch := first | assumption | exact Nat.le_of_ble_eq_true rfl | decide) only [b1294_0, g1294_3, b1294_3, g1294_4, b1294_4, g1294_5, b1294_5, g1294_6, b1294_6, g1294_7, b1294_7, pe_sipush, pe_istore2, pe_goto_w, pe_iload2, pe_aload1, pe_getfield, pe_call1, pm_af_ret, pm_af_void, pm_af_thr, pe_icmp_ge, pe_istore3, pe_istore4, pe_iload4, pe_aload0, pe_iload3, pe_call2, pe_icmp_ne, pe_goto, pe_ior, pe_iinc4, pe_if_ne, pe_iinc2, pe_aloadN1, pe_aloadN0, pe_aastoreN, pe_areturnN, pe_null, pm_prog_1, pm_ob_some, Nat.reduceDiv, Nat.reduceMod, Nat.reduceMul, Nat.reduceAdd, Int.reduceToNat, pm_kill_i, pm_kill_r, pm_kill_n, pm_kill_j, pm_kill_l, pm_kill_d, pm_cats_nil, pm_cats_i, pm_cats_r, pm_cats_n, pm_cats_l, pm_cats_d, sz_1, sz_2, sl_1, sl_2, lc_0, lc_lt, lc_le, li_ne, va_rf, wr_m1, we_m1, pm_kill_w, Int32.reduceOfInt, Int64.reduceOfInt, Int32.reduceOfNat, Int32.reduceLT, Int32.reduceLE, Prod.mk.injEq, Nat.reduceEqDiff, reduceCtorEq, and_true, true_and, and_false, false_and, and_self, ite_true, ite_false, ↓reduceIte, not_true_eq_false, not_false_eq_true, pe_ri, pe_rz, pe_rc, Cv_g0_0 hP hA, Cv_g11_0 hP hA, Cv_g15_2 hP hA, Cv_g16_1 hP hA, Cv_k11 hP hA, Cv_k16 hP hA, z2, eq_true k3, eq_false k6, hc]
      · rw [if_neg k5] at e; cases e
    · rw [if_neg k3] at e
      have e := Option.some.inj e; subst e
      dsimp only [Sum.elim_inr, ex1294_1] at hc
      simp -implicitDefEqProofs (disch := first | assumption | exact Nat.le_of_ble_eq_true rfl | decide) only [b1294_0, g1294_3, b1294_3, g1294_4, b1294_4, g1294_5, b1294_5, g1294_6, b1294_6, g1294_7, b1294_7, pe_sipush, pe_istore2, pe_goto_w, pe_iload2, pe_aload1, pe_getfield, pe_call1, pm_af_ret, pm_af_void, pm_af_thr, pe_icmp_ge, pe_istore3, pe_istore4, pe_iload4, pe_aload0, pe_iload3, pe_call2, pe_icmp_ne, pe_goto, pe_ior, pe_iinc4, pe_if_ne, pe_iinc2, pe_aloadN1, pe_aloadN0, pe_aastoreN, pe_areturnN, pe_null, pm_prog_1, pm_ob_some, Nat.reduceDiv, Nat.reduceMod, Nat.reduceMul, Nat.reduceAdd, Int.reduceToNat, pm_kill_i, pm_kill_r, pm_kill_n, pm_kill_j, pm_kill_l, pm_kill_d, pm_cats_nil, pm_cats_i, pm_cats_r, pm_cats_n, pm_cats_l, pm_cats_d, sz_1, sz_2, sl_1, sl_2, lc_0, lc_lt, lc_le, li_ne, va_rf, wr_m1, we_m1, pm_kill_w, Int32.reduceOfInt, Int64.reduceOfInt, Int32.reduceOfNat, Int32.reduceLT, Int32.reduceLE, Prod.mk.injEq, Nat.reduceEqDiff, reduceCtorEq, and_true, true_and, and_false, false_and, and_self, ite_true, ite_false, ↓reduceIte, not_true_eq_false, not_false_eq_true, pe_ri, pe_rz, pe_rc, Cv_g0_0 hP hA, Cv_g11_0 hP hA, Cv_g15_2 hP hA, Cv_g16_1 hP hA, Cv_k11 hP hA, Cv_k16 hP hA, z2, eq_false k3, hc]
  · rw [if_neg k1] at e; cases e
theorem z1294_1 {mc : Int32} {jc : Int32} {tc : Int32} {ma : Int32} {ja : Int32} {ta : Int32} {oc : Int32 → Int32} {oa : Int32 → Int32} {qa : Int32 → Int32} {A : wK → Nat} {h : pm_H} {D : Nat} {R : Outcome × pm_H} {S : wS} (hP : Cv_P mc jc tc ma ja ta oc oa qa) (hA : wok A (Cv_d mc jc tc ma ja ta oc oa qa) h.1) (hD : 3 ≤ D) {n : Nat} {a : Int32 × Int32} {b : (Int32) ⊕ (Unit)} (e : lp (f1294_b1 mc jc tc ma ja ta oc oa qa S) n a = some b) (hx : ex1294_1 mc jc tc ma ja ta oc oa qa A h D R S b) : go1294_1 mc jc tc ma ja ta oc oa qa A h D R S a := lp_run (fun a r => y1294_b1 hP hA hD a r) n a b e hx
theorem x1294 {mc : Int32} {jc : Int32} {tc : Int32} {ma : Int32} {ja : Int32} {ta : Int32} {oc : Int32 → Int32} {oa : Int32 → Int32} {qa : Int32 → Int32} {A : wK → Nat} {h : pm_H} {D : Nat} {S : wS} {x1i : Int32} {r : Int32} (hP : Cv_P mc jc tc ma ja ta oc oa qa) (hA : wok A (Cv_d mc jc tc ma ja ta oc oa qa) h.1) (hD : 4 ≤ D) (e : f1294 mc jc tc ma ja ta oc oa qa S x1i = some r) : pm_call pm_prog D 1294 [.ref (A (0, 0, 0)), .ref (A (15, x1i, 0))] (wput A (Cv_d mc jc tc ma ja ta oc oa qa) S h) = some (Outcome.returned (some (.int r)), (wput A (Cv_d mc jc tc ma ja ta oc oa qa) S h)) := by
  obtain ⟨D, rfl⟩ : ∃ D', D = D' + 1 := ⟨D - 1, by omega⟩
  have hD : 3 ≤ D := by omega
  simp only [f1294] at e
  have k1 : 0 ≤ x1i ∧ x1i < jc := by
    by_cases q : 0 ≤ x1i ∧ x1i < jc
    · exact q
    · rw [if_neg q] at e; cases e
  rw [if_pos k1] at e
  rw [c1294 (Cv_c0 hP hA), b1294_0]
  obtain ⟨b, k2, e⟩ := Option.bind_eq_some_iff.mp e
  rcases b with v9 | _
  ·
    try dsimp only at e
    try simp -implicitDefEqProofs (disch := first | assumption | exact Nat.le_of_ble_eq_true rfl | decide) only [b1294_0, g1294_3, b1294_3, g1294_4, b1294_4, g1294_5, b1294_5, g1294_6, b1294_6, g1294_7, b1294_7, pe_sipush, pe_istore2, pe_goto_w, pe_iload2, pe_aload1, pe_getfield, pe_call1, pm_af_ret, pm_af_void, pm_af_thr, pe_icmp_ge, pe_istore3, pe_istore4, pe_iload4, pe_aload0, pe_iload3, pe_call2, pe_icmp_ne, pe_goto, pe_ior, pe_iinc4, pe_if_ne, pe_iinc2, pe_aloadN1, pe_aloadN0, pe_aastoreN, pe_areturnN, pe_null, pm_prog_1, pm_ob_some, Nat.reduceDiv, Nat.reduceMod, Nat.reduceMul, Nat.reduceAdd, Int.reduceToNat, pm_kill_i, pm_kill_r, pm_kill_n, pm_kill_j, pm_kill_l, pm_kill_d, pm_cats_nil, pm_cats_i, pm_cats_r, pm_cats_n, pm_cats_l, pm_cats_d, sz_1, sz_2, sl_1, sl_2, lc_0, lc_lt, lc_le, li_ne, va_rf, wr_m1, we_m1, pm_kill_w, Int32.reduceOfInt, Int64.reduceOfInt, Int32.reduceOfNat, Int32.reduceLT, Int32.reduceLE, Prod.mk.injEq, Nat.reduceEqDiff, reduceCtorEq, and_true, true_and, and_false, false_and, and_self, ite_true, ite_false, ↓reduceIte, not_true_eq_false, not_false_eq_true, pe_ri, pe_rz, pe_rc, Cv_g0_0 hP hA, Cv_g11_0 hP hA, Cv_g15_2 hP hA, Cv_g16_1 hP hA, Cv_k11 hP hA, Cv_k16 hP hA]
    refine z1294_1 hP hA hD k2 ?_ _ _
    dsimp only [ex1294_1]
    have e := Option.some.inj e; subst e
    simp -implicitDefEqProofs (disch := first | assumption | exact Nat.le_of_ble_eq_true rfl | decide) only [b1294_0, g1294_3, b1294_3, g1294_4, b1294_4, g1294_5, b1294_5, g1294_6, b1294_6, g1294_7, b1294_7, pe_sipush, pe_istore2, pe_goto_w, pe_iload2, pe_aload1, pe_getfield, pe_call1, pm_af_ret, pm_af_void, pm_af_thr, pe_icmp_ge, pe_istore3, pe_istore4, pe_iload4, pe_aload0, pe_iload3, pe_call2, pe_icmp_ne, pe_goto, pe_ior, pe_iinc4, pe_if_ne, pe_iinc2, pe_aloadN1, pe_aloadN0, pe_aastoreN, pe_areturnN, pe_null, pm_prog_1, pm_ob_some, Nat.reduceDiv, Nat.reduceMod, Nat.reduceMul, Nat.reduceAdd, Int.reduceToNat, pm_kill_i, pm_kill_r, pm_kill_n, pm_kill_j, pm_kill_l, pm_kill_d, pm_cats_nil, pm_cats_i, pm_cats_r, pm_cats_n, pm_cats_l, pm_cats_d, sz_1, sz_2, sl_1, sl_2, lc_0, lc_lt, lc_le, li_ne, va_rf, wr_m1, we_m1, pm_kill_w, Int32.reduceOfInt, Int64.reduceOfInt, Int32.reduceOfNat, Int32.reduceLT, Int32.reduceLE, Prod.mk.injEq, Nat.reduceEqDiff, reduceCtorEq, and_true, true_and, and_false, false_and, and_self, ite_true, ite_false, ↓reduceIte, not_true_eq_false, not_false_eq_true, pe_ri, pe_rz, pe_rc, Cv_g0_0 hP hA, Cv_g11_0 hP hA, Cv_g15_2 hP hA, Cv_g16_1 hP hA, Cv_k11 hP hA, Cv_k16 hP hA]
  ·
    try dsimp only at e
    try simp -implicitDefEqProofs (disch := first | assumption | exact Nat.le_of_ble_eq_true rfl | decide) only [b1294_0, g1294_3, b1294_3, g1294_4, b1294_4, g1294_5, b1294_5, g1294_6, b1294_6, g1294_7, b1294_7, pe_sipush, pe_istore2, pe_goto_w, pe_iload2, pe_aload1, pe_getfield, pe_call1, pm_af_ret, pm_af_void, pm_af_thr, pe_icmp_ge, pe_istore3, pe_istore4, pe_iload4, pe_aload0, pe_iload3, pe_call2, pe_icmp_ne, pe_goto, pe_ior, pe_iinc4, pe_if_ne, pe_iinc2, pe_aloadN1, pe_aloadN0, pe_aastoreN, pe_areturnN, pe_null, pm_prog_1, pm_ob_some, Nat.reduceDiv, Nat.reduceMod, Nat.reduceMul, Nat.reduceAdd, Int.reduceToNat, pm_kill_i, pm_kill_r, pm_kill_n, pm_kill_j, pm_kill_l, pm_kill_d, pm_cats_nil, pm_cats_i, pm_cats_r, pm_cats_n, pm_cats_l, pm_cats_d, sz_1, sz_2, sl_1, sl_2, lc_0, lc_lt, lc_le, li_ne, va_rf, wr_m1, we_m1, pm_kill_w, Int32.reduceOfInt, Int64.reduceOfInt, Int32.reduceOfNat, Int32.reduceLT, Int32.reduceLE, Prod.mk.injEq, Nat.reduceEqDiff, reduceCtorEq, and_true, true_and, and_false, false_and, and_self, ite_true, ite_false, ↓reduceIte, not_true_eq_false, not_false_eq_true, pe_ri, pe_rz, pe_rc, Cv_g0_0 hP hA, Cv_g11_0 hP hA, Cv_g15_2 hP hA, Cv_g16_1 hP hA, Cv_k11 hP hA, Cv_k16 hP hA]
    refine z1294_1 hP hA hD k2 ?_ _ _
    dsimp only [ex1294_1]
    intro q0 q1 q2 q3 q4
    have e := Option.some.inj e; subst e
    simp -implicitDefEqProofs (disch := first | assumption | exact Nat.le_of_ble_eq_true rfl | decide) only [b1294_0, g1294_3, b1294_3, g1294_4, b1294_4, g1294_5, b1294_5, g1294_6, b1294_6, g1294_7, b1294_7, pe_sipush, pe_istore2, pe_goto_w, pe_iload2, pe_aload1, pe_getfield, pe_call1, pm_af_ret, pm_af_void, pm_af_thr, pe_icmp_ge, pe_istore3, pe_istore4, pe_iload4, pe_aload0, pe_iload3, pe_call2, pe_icmp_ne, pe_goto, pe_ior, pe_iinc4, pe_if_ne, pe_iinc2, pe_aloadN1, pe_aloadN0, pe_aastoreN, pe_areturnN, pe_null, pm_prog_1, pm_ob_some, Nat.reduceDiv, Nat.reduceMod, Nat.reduceMul, Nat.reduceAdd, Int.reduceToNat, pm_kill_i, pm_kill_r, pm_kill_n, pm_kill_j, pm_kill_l, pm_kill_d, pm_cats_nil, pm_cats_i, pm_cats_r, pm_cats_n, pm_cats_l, pm_cats_d, sz_1, sz_2, sl_1, sl_2, lc_0, lc_lt, lc_le, li_ne, va_rf, wr_m1, we_m1, pm_kill_w, Int32.reduceOfInt, Int64.reduceOfInt, Int32.reduceOfNat, Int32.reduceLT, Int32.reduceLE, Prod.mk.injEq, Nat.reduceEqDiff, reduceCtorEq, and_true, true_and, and_false, false_and, and_self, ite_true, ite_false, ↓reduceIte, not_true_eq_false, not_false_eq_true, pe_ri, pe_rz, pe_rc, Cv_g0_0 hP hA, Cv_g11_0 hP hA, Cv_g15_2 hP hA, Cv_g16_1 hP hA, Cv_k11 hP hA, Cv_k16 hP hA]
/-- TimberHouse$WorkPlans.allFit()Z -/
theorem c1293 {d : Nat} {h : pm_H} {a : Nat} (hc : pm_cls h a = some 20) : pm_call pm_prog (d + 1) 1293 [.ref a] h = pm_ev pm_prog (pm_call pm_prog d) 1293 0 b1293_0 [.ref a, pm_junk] [] h := pm_cal (pm_rc1 hc rfl) rfl rfl rfl
theorem g1293_1 {cl : pm_C} {ls st : List Value} {h : pm_H} : pm_go pm_prog cl 1293 1 ls st h = pm_ev pm_prog cl 1293 1 b1293_1 ls st h := pm_go_eq pm_prog cl 1293 1 ls st h
theorem g1293_2 {cl : pm_C} {ls st : List Value} {h : pm_H} : pm_go pm_prog cl 1293 2 ls st h = pm_ev pm_prog cl 1293 2 b1293_2 ls st h := pm_go_eq pm_prog cl 1293 2 ls st h
theorem g1293_3 {cl : pm_C} {ls st : List Value} {h : pm_H} : pm_go pm_prog cl 1293 3 ls st h = pm_ev pm_prog cl 1293 3 b1293_3 ls st h := pm_go_eq pm_prog cl 1293 3 ls st h
noncomputable def f1293_b1 (mc : Int32) (jc : Int32) (tc : Int32) (ma : Int32) (ja : Int32) (ta : Int32) (oc : Int32 → Int32) (oa : Int32 → Int32) (qa : Int32 → Int32) (S : wS) : Int32 → Option ((Int32) ⊕ ((Int32) ⊕ (Unit))) := fun x1 =>
  (f4033v mc jc tc ma ja ta oc oa qa S).bind fun v1 =>
  if x1 < v1 then
    (f4034v mc jc tc ma ja ta oc oa qa S x1).bind fun v2i =>
    if 0 ≤ v2i ∧ v2i < jc then
      (f1294 mc jc tc ma ja ta oc oa qa S v2i).bind fun v3 =>
      if v3 = 0 then
        some (.inr (.inl 0))
      else
        some (.inl (x1 + 1))
    else none
  else
    some (.inr (.inr (())))
/-- TimberHouse$WorkPlans.allFit()Z -/
noncomputable def f1293 (mc : Int32) (jc : Int32) (tc : Int32) (ma : Int32) (ja : Int32) (ta : Int32) (oc : Int32 → Int32) (oa : Int32 → Int32) (qa : Int32 → Int32) (S : wS) : Option (Int32) :=
  (lp (f1293_b1 mc jc tc ma ja ta oc oa qa S) FU 0).bind fun b => match b with
  | (.inl v4) =>
    some v4
  | (.inr (())) =>
    some 1
def go1293_1 (mc : Int32) (jc : Int32) (tc : Int32) (ma : Int32) (ja : Int32) (ta : Int32) (oc : Int32 → Int32) (oa : Int32 → Int32) (qa : Int32 → Int32) (A : wK → Nat) (h : pm_H) (D : Nat) (R : Outcome × pm_H) (S : wS) : Int32 → Prop := fun x1 => pm_go pm_prog (pm_call pm_prog D) 1293 1 [.ref (A (0, 0, 0)), .int x1] [] (wput A (Cv_d mc jc tc ma ja ta oc oa qa) S h) = some R
def ex1293_1 (mc : Int32) (jc : Int32) (tc : Int32) (ma : Int32) (ja : Int32) (ta : Int32) (oc : Int32 → Int32) (oa : Int32 → Int32) (qa : Int32 → Int32) (A : wK → Nat) (h : pm_H) (D : Nat) (R : Outcome × pm_H) (S : wS) : (Int32) ⊕ (Unit) → Prop := fun b => match b with
  | (.inl xr0) => some (Outcome.returned (some (.int xr0)), (wput A (Cv_d mc jc tc ma ja ta oc oa qa) S h)) = some R
  | (.inr (_)) => ∀ q0 q1 : Value, pm_go pm_prog (pm_call pm_prog D) 1293 3 [q0, q1] [] (wput A (Cv_d mc jc tc ma ja ta oc oa qa) S h) = some R
theorem y1293_b1 {mc : Int32} {jc : Int32} {tc : Int32} {ma : Int32} {ja : Int32} {ta : Int32} {oc : Int32 → Int32} {oa : Int32 → Int32} {qa : Int32 → Int32} {A : wK → Nat} {h : pm_H} {D : Nat} {R : Outcome × pm_H} {S : wS} (hP : Cv_P mc jc tc ma ja ta oc oa qa) (hA : wok A (Cv_d mc jc tc ma ja ta oc oa qa) h.1) (hD : 4 ≤ D) (x1 : Int32) (r : (Int32) ⊕ ((Int32) ⊕ (Unit))) (e : f1293_b1 mc jc tc ma ja ta oc oa qa S x1 = some r) (hc : Sum.elim (go1293_1 mc jc tc ma ja ta oc oa qa A h D R S) (ex1293_1 mc jc tc ma ja ta oc oa qa A h D R S) r) : go1293_1 mc jc tc ma ja ta oc oa qa A h D R S x1 := by
  dsimp only [go1293_1]
  simp only [f1293_b1] at e
  rw [g1293_1, b1293_1]
  obtain ⟨v1, k1, e⟩ := Option.bind_eq_some_iff.mp e
  try dsimp only at e
  have z1 := x4033v (D := D) (h := h) hP hA (by omega) k1
  by_cases k2 : x1 < v1
  · rw [if_pos k2] at e
    obtain ⟨v2i, k3, e⟩ := Option.bind_eq_some_iff.mp e
    try dsimp only at e
    have z3 := x4034v (D := D) (h := h) hP hA (by omega) k3
    by_cases k4 : 0 ≤ v2i ∧ v2i < jc
    · rw [if_pos k4] at e
      obtain ⟨v3, k5, e⟩ := Option.bind_eq_some_iff.mp e
      try dsimp only at e
      have z5 := x1294 (D := D) (h := h) hP hA (by omega) k5
      by_cases k6 : v3 = 0
      · rw [if_pos k6] at e
        have e := Option.some.inj e; subst e
        dsimp only [Sum.elim_inr, ex1293_1] at hc
        have hc := Option.some.inj hc; subst hc
        simp -implicitDefEqProofs (disch := first | assumption | exact Nat.le_of_ble_eq_true rfl | decide) only [b1293_0, g1293_2, b1293_2, g1293_3, b1293_3, pe_sipush, pe_istore1, pe_goto_w, pe_iload1, pe_aload0, pe_getfield, pe_call1, pm_af_ret, pm_af_void, pm_af_thr, pe_icmp_ge, pe_call2, pe_if_ne, pe_iinc1, pe_goto, pe_aloadN0, pe_aastoreN, pe_areturnN, pe_null, pm_prog_1, pm_ob_some, Nat.reduceDiv, Nat.reduceMod, Nat.reduceMul, Nat.reduceAdd, Int.reduceToNat, pm_kill_i, pm_kill_r, pm_kill_n, pm_kill_j, pm_kill_l, pm_kill_d, pm_cats_nil, pm_cats_i, pm_cats_r, pm_cats_n, pm_cats_l, pm_cats_d, sz_1, sz_2, sl_1, sl_2, lc_0, lc_lt, lc_le, li_ne, va_rf, wr_m1, we_m1, pm_kill_w, Int32.reduceOfInt, Int64.reduceOfInt, Int32.reduceOfNat, Int32.reduceLT, Int32.reduceLE, Prod.mk.injEq, Nat.reduceEqDiff, reduceCtorEq, and_true, true_and, and_false, false_and, and_self, ite_true, ite_false, ↓reduceIte, not_true_eq_false, not_false_eq_true, pe_ri, pe_rz, pe_rc, Cv_g0_1 hP hA, Cv_k15 hP hA, z1, eq_true k2, z3, z5, eq_true k6]
      · rw [if_neg k6] at e
        have e := Option.some.inj e; subst e
        dsimp only [Sum.elim_inl, go1293_1] at hc
        simp -implicitDefEqProofs (disch := first | assumption | exact Nat.le_of_ble_eq_true rfl | decide) only [b1293_0, g1293_2, b1293_2, g1293_3, b1293_3, pe_sipush, pe_istore1, pe_goto_w, pe_iload1, pe_aload0, pe_getfield, pe_call1, pm_af_ret, pm_af_void, pm_af_thr, pe_icmp_ge, pe_call2, pe_if_ne, pe_iinc1, pe_goto, pe_aloadN0, pe_aastoreN, pe_areturnN, pe_null, pm_prog_1, pm_ob_some, Nat.reduceDiv, Nat.reduceMod, Nat.reduceMul, Nat.reduceAdd, Int.reduceToNat, pm_kill_i, pm_kill_r, pm_kill_n, pm_kill_j, pm_kill_l, pm_kill_d, pm_cats_nil, pm_cats_i, pm_cats_r, pm_cats_n, pm_cats_l, pm_cats_d, sz_1, sz_2, sl_1, sl_2, lc_0, lc_lt, lc_le, li_ne, va_rf, wr_m1, we_m1, pm_kill_w, Int32.reduceOfInt, Int64.reduceOfInt, Int32.reduceOfNat, Int32.reduceLT, Int32.reduceLE, Prod.mk.injEq, Nat.reduceEqDiff, reduceCtorEq, and_true, true_and, and_false, false_and, and_self, ite_true, ite_false, ↓reduceIte, not_true_eq_false, not_false_eq_true, pe_ri, pe_rz, pe_rc, Cv_g0_1 hP hA, Cv_k15 hP hA, z1, eq_true k2, z3, z5, eq_false k6, hc]
    · rw [if_neg k4] at e; cases e
  · rw [if_neg k2] at e
    have e := Option.some.inj e; subst e
    dsimp only [Sum.elim_inr, ex1293_1] at hc
    simp -implicitDefEqProofs (disch := first | assumption | exact Nat.le_of_ble_eq_true rfl | decide) only [b1293_0, g1293_2, b1293_2, g1293_3, b1293_3, pe_sipush, pe_istore1, pe_goto_w, pe_iload1, pe_aload0, pe_getfield, pe_call1, pm_af_ret, pm_af_void, pm_af_thr, pe_icmp_ge, pe_call2, pe_if_ne, pe_iinc1, pe_goto, pe_aloadN0, pe_aastoreN, pe_areturnN, pe_null, pm_prog_1, pm_ob_some, Nat.reduceDiv, Nat.reduceMod, Nat.reduceMul, Nat.reduceAdd, Int.reduceToNat, pm_kill_i, pm_kill_r, pm_kill_n, pm_kill_j, pm_kill_l, pm_kill_d, pm_cats_nil, pm_cats_i, pm_cats_r, pm_cats_n, pm_cats_l, pm_cats_d, sz_1, sz_2, sl_1, sl_2, lc_0, lc_lt, lc_le, li_ne, va_rf, wr_m1, we_m1, pm_kill_w, Int32.reduceOfInt, Int64.reduceOfInt, Int32.reduceOfNat, Int32.reduceLT, Int32.reduceLE, Prod.mk.injEq, Nat.reduceEqDiff, reduceCtorEq, and_true, true_and, and_false, false_and, and_self, ite_true, ite_false, ↓reduceIte, not_true_eq_false, not_false_eq_true, pe_ri, pe_rz, pe_rc, Cv_g0_1 hP hA, Cv_k15 hP hA, z1, eq_false k2, hc]
theorem z1293_1 {mc : Int32} {jc : Int32} {tc : Int32} {ma : Int32} {ja : Int32} {ta : Int32} {oc : Int32 → Int32} {oa : Int32 → Int32} {qa : Int32 → Int32} {A : wK → Nat} {h : pm_H} {D : Nat} {R : Outcome × pm_H} {S : wS} (hP : Cv_P mc jc tc ma ja ta oc oa qa) (hA : wok A (Cv_d mc jc tc ma ja ta oc oa qa) h.1) (hD : 4 ≤ D) {n : Nat} {a : Int32} {b : (Int32) ⊕ (Unit)} (e : lp (f1293_b1 mc jc tc ma ja ta oc oa qa S) n a = some b) (hx : ex1293_1 mc jc tc ma ja ta oc oa qa A h D R S b) : go1293_1 mc jc tc ma ja ta oc oa qa A h D R S a := lp_run (fun a r => y1293_b1 hP hA hD a r) n a b e hx
theorem x1293 {mc : Int32} {jc : Int32} {tc : Int32} {ma : Int32} {ja : Int32} {ta : Int32} {oc : Int32 → Int32} {oa : Int32 → Int32} {qa : Int32 → Int32} {A : wK → Nat} {h : pm_H} {D : Nat} {S : wS} {r : Int32} (hP : Cv_P mc jc tc ma ja ta oc oa qa) (hA : wok A (Cv_d mc jc tc ma ja ta oc oa qa) h.1) (hD : 5 ≤ D) (e : f1293 mc jc tc ma ja ta oc oa qa S = some r) : pm_call pm_prog D 1293 [.ref (A (0, 0, 0))] (wput A (Cv_d mc jc tc ma ja ta oc oa qa) S h) = some (Outcome.returned (some (.int r)), (wput A (Cv_d mc jc tc ma ja ta oc oa qa) S h)) := by
  obtain ⟨D, rfl⟩ : ∃ D', D = D' + 1 := ⟨D - 1, by omega⟩
  have hD : 4 ≤ D := by omega
  simp only [f1293] at e
  rw [c1293 (Cv_c0 hP hA), b1293_0]
  obtain ⟨b, k1, e⟩ := Option.bind_eq_some_iff.mp e
  rcases b with v4 | _
  ·
    try dsimp only at e
    try simp -implicitDefEqProofs (disch := first | assumption | exact Nat.le_of_ble_eq_true rfl | decide) only [b1293_0, g1293_2, b1293_2, g1293_3, b1293_3, pe_sipush, pe_istore1, pe_goto_w, pe_iload1, pe_aload0, pe_getfield, pe_call1, pm_af_ret, pm_af_void, pm_af_thr, pe_icmp_ge, pe_call2, pe_if_ne, pe_iinc1, pe_goto, pe_aloadN0, pe_aastoreN, pe_areturnN, pe_null, pm_prog_1, pm_ob_some, Nat.reduceDiv, Nat.reduceMod, Nat.reduceMul, Nat.reduceAdd, Int.reduceToNat, pm_kill_i, pm_kill_r, pm_kill_n, pm_kill_j, pm_kill_l, pm_kill_d, pm_cats_nil, pm_cats_i, pm_cats_r, pm_cats_n, pm_cats_l, pm_cats_d, sz_1, sz_2, sl_1, sl_2, lc_0, lc_lt, lc_le, li_ne, va_rf, wr_m1, we_m1, pm_kill_w, Int32.reduceOfInt, Int64.reduceOfInt, Int32.reduceOfNat, Int32.reduceLT, Int32.reduceLE, Prod.mk.injEq, Nat.reduceEqDiff, reduceCtorEq, and_true, true_and, and_false, false_and, and_self, ite_true, ite_false, ↓reduceIte, not_true_eq_false, not_false_eq_true, pe_ri, pe_rz, pe_rc, Cv_g0_1 hP hA, Cv_k15 hP hA]
    refine z1293_1 hP hA hD k1 ?_
    dsimp only [ex1293_1]
    have e := Option.some.inj e; subst e
    simp -implicitDefEqProofs (disch := first | assumption | exact Nat.le_of_ble_eq_true rfl | decide) only [b1293_0, g1293_2, b1293_2, g1293_3, b1293_3, pe_sipush, pe_istore1, pe_goto_w, pe_iload1, pe_aload0, pe_getfield, pe_call1, pm_af_ret, pm_af_void, pm_af_thr, pe_icmp_ge, pe_call2, pe_if_ne, pe_iinc1, pe_goto, pe_aloadN0, pe_aastoreN, pe_areturnN, pe_null, pm_prog_1, pm_ob_some, Nat.reduceDiv, Nat.reduceMod, Nat.reduceMul, Nat.reduceAdd, Int.reduceToNat, pm_kill_i, pm_kill_r, pm_kill_n, pm_kill_j, pm_kill_l, pm_kill_d, pm_cats_nil, pm_cats_i, pm_cats_r, pm_cats_n, pm_cats_l, pm_cats_d, sz_1, sz_2, sl_1, sl_2, lc_0, lc_lt, lc_le, li_ne, va_rf, wr_m1, we_m1, pm_kill_w, Int32.reduceOfInt, Int64.reduceOfInt, Int32.reduceOfNat, Int32.reduceLT, Int32.reduceLE, Prod.mk.injEq, Nat.reduceEqDiff, reduceCtorEq, and_true, true_and, and_false, false_and, and_self, ite_true, ite_false, ↓reduceIte, not_true_eq_false, not_false_eq_true, pe_ri, pe_rz, pe_rc, Cv_g0_1 hP hA, Cv_k15 hP hA]
  ·
    try dsimp only at e
    try simp -implicitDefEqProofs (disch := first | assumption | exact Nat.le_of_ble_eq_true rfl | decide) only [b1293_0, g1293_2, b1293_2, g1293_3, b1293_3, pe_sipush, pe_istore1, pe_goto_w, pe_iload1, pe_aload0, pe_getfield, pe_call1, pm_af_ret, pm_af_void, pm_af_thr, pe_icmp_ge, pe_call2, pe_if_ne, pe_iinc1, pe_goto, pe_aloadN0, pe_aastoreN, pe_areturnN, pe_null, pm_prog_1, pm_ob_some, Nat.reduceDiv, Nat.reduceMod, Nat.reduceMul, Nat.reduceAdd, Int.reduceToNat, pm_kill_i, pm_kill_r, pm_kill_n, pm_kill_j, pm_kill_l, pm_kill_d, pm_cats_nil, pm_cats_i, pm_cats_r, pm_cats_n, pm_cats_l, pm_cats_d, sz_1, sz_2, sl_1, sl_2, lc_0, lc_lt, lc_le, li_ne, va_rf, wr_m1, we_m1, pm_kill_w, Int32.reduceOfInt, Int64.reduceOfInt, Int32.reduceOfNat, Int32.reduceLT, Int32.reduceLE, Prod.mk.injEq, Nat.reduceEqDiff, reduceCtorEq, and_true, true_and, and_false, false_and, and_self, ite_true, ite_false, ↓reduceIte, not_true_eq_false, not_false_eq_true, pe_ri, pe_rz, pe_rc, Cv_g0_1 hP hA, Cv_k15 hP hA]
    refine z1293_1 hP hA hD k1 ?_
    dsimp only [ex1293_1]
    intro q0 q1
    have e := Option.some.inj e; subst e
    simp -implicitDefEqProofs (disch := first | assumption | exact Nat.le_of_ble_eq_true rfl | decide) only [b1293_0, g1293_2, b1293_2, g1293_3, b1293_3, pe_sipush, pe_istore1, pe_goto_w, pe_iload1, pe_aload0, pe_getfield, pe_call1, pm_af_ret, pm_af_void, pm_af_thr, pe_icmp_ge, pe_call2, pe_if_ne, pe_iinc1, pe_goto, pe_aloadN0, pe_aastoreN, pe_areturnN, pe_null, pm_prog_1, pm_ob_some, Nat.reduceDiv, Nat.reduceMod, Nat.reduceMul, Nat.reduceAdd, Int.reduceToNat, pm_kill_i, pm_kill_r, pm_kill_n, pm_kill_j, pm_kill_l, pm_kill_d, pm_cats_nil, pm_cats_i, pm_cats_r, pm_cats_n, pm_cats_l, pm_cats_d, sz_1, sz_2, sl_1, sl_2, lc_0, lc_lt, lc_le, li_ne, va_rf, wr_m1, we_m1, pm_kill_w, Int32.reduceOfInt, Int64.reduceOfInt, Int32.reduceOfNat, Int32.reduceLT, Int32.reduceLE, Prod.mk.injEq, Nat.reduceEqDiff, reduceCtorEq, and_true, true_and, and_false, false_and, and_self, ite_true, ite_false, ↓reduceIte, not_true_eq_false, not_false_eq_true, pe_ri, pe_rz, pe_rc, Cv_g0_1 hP hA, Cv_k15 hP hA]
/-- TimberHouse$WorkPlans$Board.clear()V -/
theorem c1345 {d : Nat} {h : pm_H} {a : Nat} (hc : pm_cls h a = some 21) : pm_call pm_prog (d + 1) 1345 [.ref a] h = pm_ev pm_prog (pm_call pm_prog d) 1345 0 b1345_0 [.ref a, pm_junk] [] h := pm_cal (pm_rc1 hc rfl) rfl rfl rfl
theorem g1345_1 {cl : pm_C} {ls st : List Value} {h : pm_H} : pm_go pm_prog cl 1345 1 ls st h = pm_ev pm_prog cl 1345 1 b1345_1 ls st h := pm_go_eq pm_prog cl 1345 1 ls st h
theorem g1345_2 {cl : pm_C} {ls st : List Value} {h : pm_H} : pm_go pm_prog cl 1345 2 ls st h = pm_ev pm_prog cl 1345 2 b1345_2 ls st h := pm_go_eq pm_prog cl 1345 2 ls st h
noncomputable def f1345_b1 (mc : Int32) (jc : Int32) (tc : Int32) (ma : Int32) (ja : Int32) (ta : Int32) (oc : Int32 → Int32) (oa : Int32 → Int32) (qa : Int32 → Int32) : Int32 × Int32 × wS → Option ((Int32 × Int32 × wS) ⊕ ((wS))) := fun (x0i, x1, S) =>
  if 0 ≤ x0i ∧ x0i < 3 then
    if x1 < 24 then
      if 0 ≤ x1 ∧ x1 < 24 then
        some (.inl (x0i, (x1 + 1), (sz S (20, x0i, 0) x1 (-1))))
      else none
    else
      some (.inr S)
  else none
/-- TimberHouse$WorkPlans$Board.clear()V -/
noncomputable def f1345 (mc : Int32) (jc : Int32) (tc : Int32) (ma : Int32) (ja : Int32) (ta : Int32) (oc : Int32 → Int32) (oa : Int32 → Int32) (qa : Int32 → Int32) (S : wS) (x0i : Int32) : Option (wS) :=
  if 0 ≤ x0i ∧ x0i < 3 then
    (lp (f1345_b1 mc jc tc ma ja ta oc oa qa) FU (x0i, 0, S)).bind fun S1 =>
    some S1
  else none
def go1345_1 (mc : Int32) (jc : Int32) (tc : Int32) (ma : Int32) (ja : Int32) (ta : Int32) (oc : Int32 → Int32) (oa : Int32 → Int32) (qa : Int32 → Int32) (A : wK → Nat) (h : pm_H) (D : Nat) (R : Outcome × pm_H) : Int32 × Int32 × wS → Prop := fun (x0i, x1, S) => pm_go pm_prog (pm_call pm_prog D) 1345 1 [.ref (A (7, x0i, 0)), .int x1] [] (wput A (Cv_d mc jc tc ma ja ta oc oa qa) S h) = some R
def ex1345_1 (mc : Int32) (jc : Int32) (tc : Int32) (ma : Int32) (ja : Int32) (ta : Int32) (oc : Int32 → Int32) (oa : Int32 → Int32) (qa : Int32 → Int32) (A : wK → Nat) (h : pm_H) (D : Nat) (R : Outcome × pm_H) : (wS) → Prop := fun S => ∀ q0 q1 : Value, pm_go pm_prog (pm_call pm_prog D) 1345 2 [q0, q1] [] (wput A (Cv_d mc jc tc ma ja ta oc oa qa) S h) = some R
theorem y1345_b1 {mc : Int32} {jc : Int32} {tc : Int32} {ma : Int32} {ja : Int32} {ta : Int32} {oc : Int32 → Int32} {oa : Int32 → Int32} {qa : Int32 → Int32} {A : wK → Nat} {h : pm_H} {D : Nat} {R : Outcome × pm_H} (hP : Cv_P mc jc tc ma ja ta oc oa qa) (hA : wok A (Cv_d mc jc tc ma ja ta oc oa qa) h.1) (hD : 0 ≤ D) (a : Int32 × Int32 × wS) (r : (Int32 × Int32 × wS) ⊕ ((wS))) (e : f1345_b1 mc jc tc ma ja ta oc oa qa a = some r) (hc : Sum.elim (go1345_1 mc jc tc ma ja ta oc oa qa A h D R) (ex1345_1 mc jc tc ma ja ta oc oa qa A h D R) r) : go1345_1 mc jc tc ma ja ta oc oa qa A h D R a := by
  obtain ⟨x0i, x1, S⟩ := a
  dsimp only [go1345_1]
  simp only [f1345_b1] at e
  rw [g1345_1, b1345_1]
  by_cases k1 : 0 ≤ x0i ∧ x0i < 3
  · rw [if_pos k1] at e
    by_cases k2 : x1 < 24
    · rw [if_pos k2] at e
      by_cases k3 : 0 ≤ x1 ∧ x1 < 24
      · rw [if_pos k3] at e
        have e := Option.some.inj e; subst e
        dsimp only [Sum.elim_inl, go1345_1] at hc
        simp -implicitDefEqProofs (disch := first | assumption | exact Nat.le_of_ble_eq_true rfl | decide) only [b1345_0, g1345_2, b1345_2, pe_sipush, pe_istore1, pe_goto_w, pe_iload1, pe_icmp_ge, pe_aload0, pe_getfield, pe_iastore, pe_iinc1, pe_goto, pe_return, pe_aloadN0, pe_aastoreN, pe_areturnN, pe_null, pm_prog_1, pm_ob_some, Nat.reduceDiv, Nat.reduceMod, Nat.reduceMul, Nat.reduceAdd, Int.reduceToNat, pm_kill_i, pm_kill_r, pm_kill_n, pm_kill_j, pm_kill_l, pm_kill_d, pm_cats_nil, pm_cats_i, pm_cats_r, pm_cats_n, pm_cats_l, pm_cats_d, sz_1, sz_2, sl_1, sl_2, lc_0, lc_lt, lc_le, li_ne, va_rf, wr_m1, we_m1, pm_kill_w, Int32.reduceOfInt, Int64.reduceOfInt, Int32.reduceOfNat, Int32.reduceLT, Int32.reduceLE, Prod.mk.injEq, Nat.reduceEqDiff, reduceCtorEq, and_true, true_and, and_false, false_and, and_self, ite_true, ite_false, ↓reduceIte, not_true_eq_false, not_false_eq_true, pe_ri, pe_rz, pe_rc, Cv_g7_3 hP hA, Cv_w20 hP hA, eq_true k2, hc]
      · rw [if_neg k3] at e; cases e
    · rw [if_neg k2] at e
      have e := Option.some.inj e; subst e
      dsimp only [Sum.elim_inr, ex1345_1] at hc
      simp -implicitDefEqProofs (disch := first | assumption | exact Nat.le_of_ble_eq_true rfl | decide) only [b1345_0, g1345_2, b1345_2, pe_sipush, pe_istore1, pe_goto_w, pe_iload1, pe_icmp_ge, pe_aload0, pe_getfield, pe_iastore, pe_iinc1, pe_goto, pe_return, pe_aloadN0, pe_aastoreN, pe_areturnN, pe_null, pm_prog_1, pm_ob_some, Nat.reduceDiv, Nat.reduceMod, Nat.reduceMul, Nat.reduceAdd, Int.reduceToNat, pm_kill_i, pm_kill_r, pm_kill_n, pm_kill_j, pm_kill_l, pm_kill_d, pm_cats_nil, pm_cats_i, pm_cats_r, pm_cats_n, pm_cats_l, pm_cats_d, sz_1, sz_2, sl_1, sl_2, lc_0, lc_lt, lc_le, li_ne, va_rf, wr_m1, we_m1, pm_kill_w, Int32.reduceOfInt, Int64.reduceOfInt, Int32.reduceOfNat, Int32.reduceLT, Int32.reduceLE, Prod.mk.injEq, Nat.reduceEqDiff, reduceCtorEq, and_true, true_and, and_false, false_and, and_self, ite_true, ite_false, ↓reduceIte, not_true_eq_false, not_false_eq_true, pe_ri, pe_rz, pe_rc, Cv_g7_3 hP hA, Cv_w20 hP hA, eq_false k2, hc]
  · rw [if_neg k1] at e; cases e
theorem z1345_1 {mc : Int32} {jc : Int32} {tc : Int32} {ma : Int32} {ja : Int32} {ta : Int32} {oc : Int32 → Int32} {oa : Int32 → Int32} {qa : Int32 → Int32} {A : wK → Nat} {h : pm_H} {D : Nat} {R : Outcome × pm_H} (hP : Cv_P mc jc tc ma ja ta oc oa qa) (hA : wok A (Cv_d mc jc tc ma ja ta oc oa qa) h.1) (hD : 0 ≤ D) {n : Nat} {a : Int32 × Int32 × wS} {b : (wS)} (e : lp (f1345_b1 mc jc tc ma ja ta oc oa qa) n a = some b) (hx : ex1345_1 mc jc tc ma ja ta oc oa qa A h D R b) : go1345_1 mc jc tc ma ja ta oc oa qa A h D R a := lp_run (fun a r => y1345_b1 hP hA hD a r) n a b e hx
theorem x1345 {mc : Int32} {jc : Int32} {tc : Int32} {ma : Int32} {ja : Int32} {ta : Int32} {oc : Int32 → Int32} {oa : Int32 → Int32} {qa : Int32 → Int32} {A : wK → Nat} {h : pm_H} {D : Nat} {S : wS} {x0i : Int32} {r : wS} (hP : Cv_P mc jc tc ma ja ta oc oa qa) (hA : wok A (Cv_d mc jc tc ma ja ta oc oa qa) h.1) (hD : 1 ≤ D) (e : f1345 mc jc tc ma ja ta oc oa qa S x0i = some r) : pm_call pm_prog D 1345 [.ref (A (7, x0i, 0))] (wput A (Cv_d mc jc tc ma ja ta oc oa qa) S h) = some (Outcome.returned none, (wput A (Cv_d mc jc tc ma ja ta oc oa qa) r h)) := by
  obtain ⟨D, rfl⟩ : ∃ D', D = D' + 1 := ⟨D - 1, by omega⟩
  have hD : 0 ≤ D := by omega
  simp only [f1345] at e
  have k1 : 0 ≤ x0i ∧ x0i < 3 := by
    by_cases q : 0 ≤ x0i ∧ x0i < 3
    · exact q
    · rw [if_neg q] at e; cases e
  rw [if_pos k1] at e
  rw [c1345 (Cv_c7 hP hA k1), b1345_0]
  obtain ⟨S1, k2, e⟩ := Option.bind_eq_some_iff.mp e
  try dsimp only at e
  try simp -implicitDefEqProofs (disch := first | assumption | exact Nat.le_of_ble_eq_true rfl | decide) only [b1345_0, g1345_2, b1345_2, pe_sipush, pe_istore1, pe_goto_w, pe_iload1, pe_icmp_ge, pe_aload0, pe_getfield, pe_iastore, pe_iinc1, pe_goto, pe_return, pe_aloadN0, pe_aastoreN, pe_areturnN, pe_null, pm_prog_1, pm_ob_some, Nat.reduceDiv, Nat.reduceMod, Nat.reduceMul, Nat.reduceAdd, Int.reduceToNat, pm_kill_i, pm_kill_r, pm_kill_n, pm_kill_j, pm_kill_l, pm_kill_d, pm_cats_nil, pm_cats_i, pm_cats_r, pm_cats_n, pm_cats_l, pm_cats_d, sz_1, sz_2, sl_1, sl_2, lc_0, lc_lt, lc_le, li_ne, va_rf, wr_m1, we_m1, pm_kill_w, Int32.reduceOfInt, Int64.reduceOfInt, Int32.reduceOfNat, Int32.reduceLT, Int32.reduceLE, Prod.mk.injEq, Nat.reduceEqDiff, reduceCtorEq, and_true, true_and, and_false, false_and, and_self, ite_true, ite_false, ↓reduceIte, not_true_eq_false, not_false_eq_true, pe_ri, pe_rz, pe_rc, Cv_g7_3 hP hA, Cv_w20 hP hA]
  refine z1345_1 hP hA hD k2 ?_
  dsimp only [ex1345_1]
  intro q0 q1
  have e := Option.some.inj e; subst e
  simp -implicitDefEqProofs (disch := first | assumption | exact Nat.le_of_ble_eq_true rfl | decide) only [b1345_0, g1345_2, b1345_2, pe_sipush, pe_istore1, pe_goto_w, pe_iload1, pe_icmp_ge, pe_aload0, pe_getfield, pe_iastore, pe_iinc1, pe_goto, pe_return, pe_aloadN0, pe_aastoreN, pe_areturnN, pe_null, pm_prog_1, pm_ob_some, Nat.reduceDiv, Nat.reduceMod, Nat.reduceMul, Nat.reduceAdd, Int.reduceToNat, pm_kill_i, pm_kill_r, pm_kill_n, pm_kill_j, pm_kill_l, pm_kill_d, pm_cats_nil, pm_cats_i, pm_cats_r, pm_cats_n, pm_cats_l, pm_cats_d, sz_1, sz_2, sl_1, sl_2, lc_0, lc_lt, lc_le, li_ne, va_rf, wr_m1, we_m1, pm_kill_w, Int32.reduceOfInt, Int64.reduceOfInt, Int32.reduceOfNat, Int32.reduceLT, Int32.reduceLE, Prod.mk.injEq, Nat.reduceEqDiff, reduceCtorEq, and_true, true_and, and_false, false_and, and_self, ite_true, ite_false, ↓reduceIte, not_true_eq_false, not_false_eq_true, pe_ri, pe_rz, pe_rc, Cv_g7_3 hP hA, Cv_w20 hP hA]
/-- java/util/ArrayList.size()I -/
noncomputable def f4033vv4 (mc : Int32) (jc : Int32) (tc : Int32) (ma : Int32) (ja : Int32) (ta : Int32) (oc : Int32 → Int32) (oa : Int32 → Int32) (qa : Int32 → Int32) (S : wS) : Option (Int32) :=
  some (S.1 (5, 0, 0) 2)
theorem x4033vv4 {mc : Int32} {jc : Int32} {tc : Int32} {ma : Int32} {ja : Int32} {ta : Int32} {oc : Int32 → Int32} {oa : Int32 → Int32} {qa : Int32 → Int32} {A : wK → Nat} {h : pm_H} {D : Nat} {S : wS} {r : Int32} (hP : Cv_P mc jc tc ma ja ta oc oa qa) (hA : wok A (Cv_d mc jc tc ma ja ta oc oa qa) h.1) (hD : 1 ≤ D) (e : f4033vv4 mc jc tc ma ja ta oc oa qa S = some r) : pm_call pm_prog D 4033 [.ref (A (5, 0, 0))] (wput A (Cv_d mc jc tc ma ja ta oc oa qa) S h) = some (Outcome.returned (some (.int r)), (wput A (Cv_d mc jc tc ma ja ta oc oa qa) S h)) := by
  obtain ⟨D, rfl⟩ : ∃ D', D = D' + 1 := ⟨D - 1, by omega⟩
  have hD : 0 ≤ D := by omega
  simp only [f4033vv4] at e
  rw [c4033 (Cv_c5 hP hA), b4033_0]
  have e := Option.some.inj e; subst e
  simp -implicitDefEqProofs (disch := first | assumption | exact Nat.le_of_ble_eq_true rfl | decide) only [b4033_0, pe_aload0, pe_getfield, pe_aloadN0, pe_aastoreN, pe_areturnN, pe_null, pm_prog_1, pm_ob_some, Nat.reduceDiv, Nat.reduceMod, Nat.reduceMul, Nat.reduceAdd, Int.reduceToNat, pm_kill_i, pm_kill_r, pm_kill_n, pm_kill_j, pm_kill_l, pm_kill_d, pm_cats_nil, pm_cats_i, pm_cats_r, pm_cats_n, pm_cats_l, pm_cats_d, sz_1, sz_2, sl_1, sl_2, lc_0, lc_lt, lc_le, li_ne, va_rf, wr_m1, we_m1, pm_kill_w, Int32.reduceOfInt, Int64.reduceOfInt, Int32.reduceOfNat, Int32.reduceLT, Int32.reduceLE, Prod.mk.injEq, Nat.reduceEqDiff, reduceCtorEq, and_true, true_and, and_false, false_and, and_self, ite_true, ite_false, ↓reduceIte, not_true_eq_false, not_false_eq_true, pe_ri, pe_rz, pe_rc, Cv_g5_2 hP hA]
/-- java/util/ArrayList.elementData(I)Ljava/lang/Object; -/
noncomputable def f4035vv3 (mc : Int32) (jc : Int32) (tc : Int32) (ma : Int32) (ja : Int32) (ta : Int32) (oc : Int32 → Int32) (oa : Int32 → Int32) (qa : Int32 → Int32) (S : wS) (x1 : Int32) : Option (Int32) :=
  if 0 < ta then
    if 0 ≤ x1 ∧ x1 < ta then
      if x1 < tc then
        if 0 ≤ x1 ∧ x1 < tc then
          some x1
        else none
      else none
    else none
  else none
theorem x4035vv3 {mc : Int32} {jc : Int32} {tc : Int32} {ma : Int32} {ja : Int32} {ta : Int32} {oc : Int32 → Int32} {oa : Int32 → Int32} {qa : Int32 → Int32} {A : wK → Nat} {h : pm_H} {D : Nat} {S : wS} {x1 : Int32} {r : Int32} (hP : Cv_P mc jc tc ma ja ta oc oa qa) (hA : wok A (Cv_d mc jc tc ma ja ta oc oa qa) h.1) (hD : 1 ≤ D) (e : f4035vv3 mc jc tc ma ja ta oc oa qa S x1 = some r) : pm_call pm_prog D 4035 [.ref (A (5, 0, 0)), .int x1] (wput A (Cv_d mc jc tc ma ja ta oc oa qa) S h) = some (Outcome.returned (some (.ref (A (16, r, 0)))), (wput A (Cv_d mc jc tc ma ja ta oc oa qa) S h)) := by
  obtain ⟨D, rfl⟩ : ∃ D', D = D' + 1 := ⟨D - 1, by omega⟩
  have hD : 0 ≤ D := by omega
  simp only [f4035vv3] at e
  rw [c4035 (Cv_c5 hP hA), b4035_0]
  by_cases k1 : 0 < ta
  · rw [if_pos k1] at e
    by_cases k2 : 0 ≤ x1 ∧ x1 < ta
    · rw [if_pos k2] at e
      by_cases k3 : x1 < tc
      · rw [if_pos k3] at e
        by_cases k4 : 0 ≤ x1 ∧ x1 < tc
        · rw [if_pos k4] at e
          have e := Option.some.inj e; subst e
          simp -implicitDefEqProofs (disch := first | assumption | exact Nat.le_of_ble_eq_true rfl | decide) only [b4035_0, pe_aload0, pe_getfield, pe_iload1, pe_aaload, pe_areturn, pe_aloadN0, pe_aastoreN, pe_areturnN, pe_null, pm_prog_1, pm_ob_some, Nat.reduceDiv, Nat.reduceMod, Nat.reduceMul, Nat.reduceAdd, Int.reduceToNat, pm_kill_i, pm_kill_r, pm_kill_n, pm_kill_j, pm_kill_l, pm_kill_d, pm_cats_nil, pm_cats_i, pm_cats_r, pm_cats_n, pm_cats_l, pm_cats_d, sz_1, sz_2, sl_1, sl_2, lc_0, lc_lt, lc_le, li_ne, va_rf, wr_m1, we_m1, pm_kill_w, Int32.reduceOfInt, Int64.reduceOfInt, Int32.reduceOfNat, Int32.reduceLT, Int32.reduceLE, Prod.mk.injEq, Nat.reduceEqDiff, reduceCtorEq, and_true, true_and, and_false, false_and, and_self, ite_true, ite_false, ↓reduceIte, not_true_eq_false, not_false_eq_true, pe_ri, pe_rz, pe_rc, Cv_g5_1 hP hA, Cv_r6 hP hA]
        · rw [if_neg k4] at e; cases e
      · rw [if_neg k3] at e; cases e
    · rw [if_neg k2] at e; cases e
  · rw [if_neg k1] at e; cases e
/-- java/util/ArrayList.get(I)Ljava/lang/Object; -/
noncomputable def f4034vv3 (mc : Int32) (jc : Int32) (tc : Int32) (ma : Int32) (ja : Int32) (ta : Int32) (oc : Int32 → Int32) (oa : Int32 → Int32) (qa : Int32 → Int32) (S : wS) (x1 : Int32) : Option (Int32) :=
  (f4736 x1 (S.1 (5, 0, 0) 2)).bind fun v1 =>
  (f4035vv3 mc jc tc ma ja ta oc oa qa S x1).bind fun v2i =>
  if 0 ≤ v2i ∧ v2i < tc then
    some v2i
  else none
theorem x4034vv3 {mc : Int32} {jc : Int32} {tc : Int32} {ma : Int32} {ja : Int32} {ta : Int32} {oc : Int32 → Int32} {oa : Int32 → Int32} {qa : Int32 → Int32} {A : wK → Nat} {h : pm_H} {D : Nat} {S : wS} {x1 : Int32} {r : Int32} (hP : Cv_P mc jc tc ma ja ta oc oa qa) (hA : wok A (Cv_d mc jc tc ma ja ta oc oa qa) h.1) (hD : 3 ≤ D) (e : f4034vv3 mc jc tc ma ja ta oc oa qa S x1 = some r) : pm_call pm_prog D 4034 [.ref (A (5, 0, 0)), .int x1] (wput A (Cv_d mc jc tc ma ja ta oc oa qa) S h) = some (Outcome.returned (some (.ref (A (16, r, 0)))), (wput A (Cv_d mc jc tc ma ja ta oc oa qa) S h)) := by
  obtain ⟨D, rfl⟩ : ∃ D', D = D' + 1 := ⟨D - 1, by omega⟩
  have hD : 2 ≤ D := by omega
  simp only [f4034vv3] at e
  rw [c4034 (Cv_c5 hP hA), b4034_0]
  obtain ⟨v1, k1, e⟩ := Option.bind_eq_some_iff.mp e
  try dsimp only at e
  have z1 := fun h => x4736 (D := D) (h := h) (by omega) k1
  obtain ⟨v2i, k2, e⟩ := Option.bind_eq_some_iff.mp e
  try dsimp only at e
  have z2 := x4035vv3 (D := D) (h := h) hP hA (by omega) k2
  by_cases k3 : 0 ≤ v2i ∧ v2i < tc
  · rw [if_pos k3] at e
    have e := Option.some.inj e; subst e
    simp -implicitDefEqProofs (disch := first | assumption | exact Nat.le_of_ble_eq_true rfl | decide) only [b4034_0, pe_iload1, pe_aload0, pe_getfield, pe_call2, pm_af_ret, pm_af_void, pm_af_thr, pe_pop_i, pe_pop_r, pe_areturn, pe_aloadN0, pe_aastoreN, pe_areturnN, pe_null, pm_prog_1, pm_ob_some, Nat.reduceDiv, Nat.reduceMod, Nat.reduceMul, Nat.reduceAdd, Int.reduceToNat, pm_kill_i, pm_kill_r, pm_kill_n, pm_kill_j, pm_kill_l, pm_kill_d, pm_cats_nil, pm_cats_i, pm_cats_r, pm_cats_n, pm_cats_l, pm_cats_d, sz_1, sz_2, sl_1, sl_2, lc_0, lc_lt, lc_le, li_ne, va_rf, wr_m1, we_m1, pm_kill_w, Int32.reduceOfInt, Int64.reduceOfInt, Int32.reduceOfNat, Int32.reduceLT, Int32.reduceLE, Prod.mk.injEq, Nat.reduceEqDiff, reduceCtorEq, and_true, true_and, and_false, false_and, and_self, ite_true, ite_false, ↓reduceIte, not_true_eq_false, not_false_eq_true, pe_ri, pe_rz, pe_rc, Cv_g5_2 hP hA, z1, z2]
  · rw [if_neg k3] at e; cases e
/-- TimberHouse$WorkPlans$Board.busyTo(III)I -/
theorem c1348 {d : Nat} {h : pm_H} {a : Nat} {x0 : Int32} {x1 : Int32} {x2 : Int32} (hc : pm_cls h a = some 21) : pm_call pm_prog (d + 1) 1348 [.ref a, .int x0, .int x1, .int x2] h = pm_ev pm_prog (pm_call pm_prog d) 1348 0 b1348_0 [.ref a, .int x0, .int x1, .int x2, pm_junk, pm_junk] [] h := pm_cal (pm_rc1 hc rfl) rfl rfl rfl
theorem g1348_1 {cl : pm_C} {ls st : List Value} {h : pm_H} : pm_go pm_prog cl 1348 1 ls st h = pm_ev pm_prog cl 1348 1 b1348_1 ls st h := pm_go_eq pm_prog cl 1348 1 ls st h
theorem g1348_2 {cl : pm_C} {ls st : List Value} {h : pm_H} : pm_go pm_prog cl 1348 2 ls st h = pm_ev pm_prog cl 1348 2 b1348_2 ls st h := pm_go_eq pm_prog cl 1348 2 ls st h
theorem g1348_3 {cl : pm_C} {ls st : List Value} {h : pm_H} : pm_go pm_prog cl 1348 3 ls st h = pm_ev pm_prog cl 1348 3 b1348_3 ls st h := pm_go_eq pm_prog cl 1348 3 ls st h
noncomputable def f1348_b1 (mc : Int32) (jc : Int32) (tc : Int32) (ma : Int32) (ja : Int32) (ta : Int32) (oc : Int32 → Int32) (oa : Int32 → Int32) (qa : Int32 → Int32) (S : wS) : Int32 × Int32 × Int32 × Int32 × Int32 → Option ((Int32 × Int32 × Int32 × Int32 × Int32) ⊕ ((Int32) ⊕ (Unit))) := fun (x0i, x1, x2, x3, x4) =>
  if 0 ≤ x0i ∧ x0i < 3 then
    (f4033vv4 mc jc tc ma ja ta oc oa qa S).bind fun v1 =>
    if x4 < v1 then
      (f4034vv3 mc jc tc ma ja ta oc oa qa S x4).bind fun v2i =>
      if 0 ≤ v2i ∧ v2i < tc then
        if 0 ≤ x4 ∧ x4 < 24 then
          if (S.1 (20, x0i, 0) x4) = x1 then
            if x2 < ((S.1 (19, x0i, 0) x4) + (S.1 (16, v2i, 0) 2)) then
              if (S.1 (19, x0i, 0) x4) < (x2 + x3) then
                some (.inr (.inl ((S.1 (19, x0i, 0) x4) + (S.1 (16, v2i, 0) 2))))
              else
                some (.inl (x0i, x1, x2, x3, (x4 + 1)))
            else
              some (.inl (x0i, x1, x2, x3, (x4 + 1)))
          else
            some (.inl (x0i, x1, x2, x3, (x4 + 1)))
        else none
      else none
    else
      some (.inr (.inr (())))
  else none
/-- TimberHouse$WorkPlans$Board.busyTo(III)I -/
noncomputable def f1348 (mc : Int32) (jc : Int32) (tc : Int32) (ma : Int32) (ja : Int32) (ta : Int32) (oc : Int32 → Int32) (oa : Int32 → Int32) (qa : Int32 → Int32) (S : wS) (x0i : Int32) (x1 : Int32) (x2 : Int32) (x3 : Int32) : Option (Int32) :=
  if 0 ≤ x0i ∧ x0i < 3 then
    (lp (f1348_b1 mc jc tc ma ja ta oc oa qa S) FU (x0i, x1, x2, x3, 0)).bind fun b => match b with
    | (.inl v3) =>
      some v3
    | (.inr (())) =>
      some (-1)
  else none
def go1348_1 (mc : Int32) (jc : Int32) (tc : Int32) (ma : Int32) (ja : Int32) (ta : Int32) (oc : Int32 → Int32) (oa : Int32 → Int32) (qa : Int32 → Int32) (A : wK → Nat) (h : pm_H) (D : Nat) (R : Outcome × pm_H) (S : wS) : Int32 × Int32 × Int32 × Int32 × Int32 → Prop := fun (x0i, x1, x2, x3, x4) => ∀ q5 : Value, pm_go pm_prog (pm_call pm_prog D) 1348 1 [.ref (A (7, x0i, 0)), .int x1, .int x2, .int x3, .int x4, q5] [] (wput A (Cv_d mc jc tc ma ja ta oc oa qa) S h) = some R
def ex1348_1 (mc : Int32) (jc : Int32) (tc : Int32) (ma : Int32) (ja : Int32) (ta : Int32) (oc : Int32 → Int32) (oa : Int32 → Int32) (qa : Int32 → Int32) (A : wK → Nat) (h : pm_H) (D : Nat) (R : Outcome × pm_H) (S : wS) : (Int32) ⊕ (Unit) → Prop := fun b => match b with
  | (.inl xr0) => some (Outcome.returned (some (.int xr0)), (wput A (Cv_d mc jc tc ma ja ta oc oa qa) S h)) = some R
  | (.inr (_)) => ∀ q0 q1 q2 q3 q4 q5 : Value, pm_go pm_prog (pm_call pm_prog D) 1348 3 [q0, q1, q2, q3, q4, q5] [] (wput A (Cv_d mc jc tc ma ja ta oc oa qa) S h) = some R
theorem y1348_b1 {mc : Int32} {jc : Int32} {tc : Int32} {ma : Int32} {ja : Int32} {ta : Int32} {oc : Int32 → Int32} {oa : Int32 → Int32} {qa : Int32 → Int32} {A : wK → Nat} {h : pm_H} {D : Nat} {R : Outcome × pm_H} {S : wS} (hP : Cv_P mc jc tc ma ja ta oc oa qa) (hA : wok A (Cv_d mc jc tc ma ja ta oc oa qa) h.1) (hD : 3 ≤ D) (a : Int32 × Int32 × Int32 × Int32 × Int32) (r : (Int32 × Int32 × Int32 × Int32 × Int32) ⊕ ((Int32) ⊕ (Unit))) (e : f1348_b1 mc jc tc ma ja ta oc oa qa S a = some r) (hc : Sum.elim (go1348_1 mc jc tc ma ja ta oc oa qa A h D R S) (ex1348_1 mc jc tc ma ja ta oc oa qa A h D R S) r) : go1348_1 mc jc tc ma ja ta oc oa qa A h D R S a := by
  obtain ⟨x0i, x1, x2, x3, x4⟩ := a
  dsimp only [go1348_1]
  intro q5
  simp only [f1348_b1] at e
  rw [g1348_1, b1348_1]
  by_cases k1 : 0 ≤ x0i ∧ x0i < 3
  · rw [if_pos k1] at e
    obtain ⟨v1, k2, e⟩ := Option.bind_eq_some_iff.mp e
    try dsimp only at e
    have z2 := x4033vv4 (D := D) (h := h) hP hA (by omega) k2
    by_cases k3 : x4 < v1
    · rw [if_pos k3] at e
      obtain ⟨v2i, k4, e⟩ := Option.bind_eq_some_iff.mp e
      try dsimp only at e
      have z4 := x4034vv3 (D := D) (h := h) hP hA (by omega) k4
      by_cases k5 : 0 ≤ v2i ∧ v2i < tc
      · rw [if_pos k5] at e
        by_cases k6 : 0 ≤ x4 ∧ x4 < 24
        · rw [if_pos k6] at e
          by_cases k7 : (S.1 (20, x0i, 0) x4) = x1
          · rw [if_pos k7] at e
            by_cases k8 : x2 < ((S.1 (19, x0i, 0) x4) + (S.1 (16, v2i, 0) 2))
            · rw [if_pos k8] at e
              by_cases k9 : (S.1 (19, x0i, 0) x4) < (x2 + x3)
              · rw [if_pos k9] at e
                have e := Option.some.inj e; subst e
                dsimp only [Sum.elim_inr, ex1348_1] at hc
                have hc := Option.some.inj hc; subst hc
                simp -implicitDefEqProofs (disch := first | assumption | exact Nat.le_of_ble_eq_true rfl | decide) only [b1348_0, g1348_2, b1348_2, g1348_3, b1348_3, pe_sipush, pe_istore4, pe_goto_w, pe_iload4, pe_aload0, pe_getfield, pe_call1, pm_af_ret, pm_af_void, pm_af_thr, pe_icmp_ge, pe_call2, pe_astore5, pe_iaload, pe_iload1, pe_icmp_ne, pe_iload2, pe_aload5, pe_iadd, pe_iload3, pe_iinc4, pe_goto, pe_aloadN0, pe_astoreN5, pe_aloadN5, pe_aastoreN, pe_areturnN, pe_null, pm_prog_1, pm_ob_some, Nat.reduceDiv, Nat.reduceMod, Nat.reduceMul, Nat.reduceAdd, Int.reduceToNat, pm_kill_i, pm_kill_r, pm_kill_n, pm_kill_j, pm_kill_l, pm_kill_d, pm_cats_nil, pm_cats_i, pm_cats_r, pm_cats_n, pm_cats_l, pm_cats_d, sz_1, sz_2, sl_1, sl_2, lc_0, lc_lt, lc_le, li_ne, va_rf, wr_m1, we_m1, pm_kill_w, Int32.reduceOfInt, Int64.reduceOfInt, Int32.reduceOfNat, Int32.reduceLT, Int32.reduceLE, Prod.mk.injEq, Nat.reduceEqDiff, reduceCtorEq, and_true, true_and, and_false, false_and, and_self, ite_true, ite_false, ↓reduceIte, not_true_eq_false, not_false_eq_true, pe_ri, pe_rz, pe_rc, Cv_g16_2 hP hA, Cv_g7_1 hP hA, Cv_g7_2 hP hA, Cv_g7_3 hP hA, Cv_k16 hP hA, Cv_r19 hP hA, Cv_r20 hP hA, z2, eq_true k3, z4, eq_true k7, eq_true k8, eq_true k9]
              · rw [if_neg k9] at e
                have e := Option.some.inj e; subst e
                dsimp only [Sum.elim_inl, go1348_1] at hc
                simp -implicitDefEqProofs (disch := first | assumption | exact Nat.le_of_ble_eq_true rfl | decide) only [b1348_0, g1348_2, b1348_2, g1348_3, b1348_3, pe_sipush, pe_istore4, pe_goto_w, pe_iload4, pe_aload0, pe_getfield, pe_call1, pm_af_ret, pm_af_void, pm_af_thr, pe_icmp_ge, pe_call2, pe_astore5, pe_iaload, pe_iload1, pe_icmp_ne, pe_iload2, pe_aload5, pe_iadd, pe_iload3, pe_iinc4, pe_goto, pe_aloadN0, pe_astoreN5, pe_aloadN5, pe_aastoreN, pe_areturnN, pe_null, pm_prog_1, pm_ob_some, Nat.reduceDiv, Nat.reduceMod, Nat.reduceMul, Nat.reduceAdd, Int.reduceToNat, pm_kill_i, pm_kill_r, pm_kill_n, pm_kill_j, pm_kill_l, pm_kill_d, pm_cats_nil, pm_cats_i, pm_cats_r, pm_cats_n, pm_cats_l, pm_cats_d, sz_1, sz_2, sl_1, sl_2, lc_0, lc_lt, lc_le, li_ne, va_rf, wr_m1, we_m1, pm_kill_w, Int32.reduceOfInt, Int64.reduceOfInt, Int32.reduceOfNat, Int32.reduceLT, Int32.reduceLE, Prod.mk.injEq, Nat.reduceEqDiff, reduceCtorEq, and_true, true_and, and_false, false_and, and_self, ite_true, ite_false, ↓reduceIte, not_true_eq_false, not_false_eq_true, pe_ri, pe_rz, pe_rc, Cv_g16_2 hP hA, Cv_g7_1 hP hA, Cv_g7_2 hP hA, Cv_g7_3 hP hA, Cv_k16 hP hA, Cv_r19 hP hA, Cv_r20 hP hA, z2, eq_true k3, z4, eq_true k7, eq_true k8, eq_false k9, hc]
            · rw [if_neg k8] at e
              have e := Option.some.inj e; subst e
              dsimp only [Sum.elim_inl, go1348_1] at hc
              simp -implicitDefEqProofs (disch := first | assumption | exact Nat.le_of_ble_eq_true rfl | decide) only [b1348_0, g1348_2, b1348_2, g1348_3, b1348_3, pe_sipush, pe_istore4, pe_goto_w, pe_iload4, pe_aload0, pe_getfield, pe_call1, pm_af_ret, pm_af_void, pm_af_thr, pe_icmp_ge, pe_call2, pe_astore5, pe_iaload, pe_iload1, pe_icmp_ne, pe_iload2, pe_aload5, pe_iadd, pe_iload3, pe_iinc4, pe_goto, pe_aloadN0, pe_astoreN5, pe_aloadN5, pe_aastoreN, pe_areturnN, pe_null, pm_prog_1, pm_ob_some, Nat.reduceDiv, Nat.reduceMod, Nat.reduceMul, Nat.reduceAdd, Int.reduceToNat, pm_kill_i, pm_kill_r, pm_kill_n, pm_kill_j, pm_kill_l, pm_kill_d, pm_cats_nil, pm_cats_i, pm_cats_r, pm_cats_n, pm_cats_l, pm_cats_d, sz_1, sz_2, sl_1, sl_2, lc_0, lc_lt, lc_le, li_ne, va_rf, wr_m1, we_m1, pm_kill_w, Int32.reduceOfInt, Int64.reduceOfInt, Int32.reduceOfNat, Int32.reduceLT, Int32.reduceLE, Prod.mk.injEq, Nat.reduceEqDiff, reduceCtorEq, and_true, true_and, and_false, false_and, and_self, ite_true, ite_false, ↓reduceIte, not_true_eq_false, not_false_eq_true, pe_ri, pe_rz, pe_rc, Cv_g16_2 hP hA, Cv_g7_1 hP hA, Cv_g7_2 hP hA, Cv_g7_3 hP hA, Cv_k16 hP hA, Cv_r19 hP hA, Cv_r20 hP hA, z2, eq_true k3, z4, eq_true k7, eq_false k8, hc]
          · rw [if_neg k7] at e
            have e := Option.some.inj e; subst e
            dsimp only [Sum.elim_inl, go1348_1] at hc
            simp -implicitDefEqProofs (disch := first | assumption | exact Nat.le_of_ble_eq_true rfl | decide) only [b1348_0, g1348_2, b1348_2, g1348_3, b1348_3, pe_sipush, pe_istore4, pe_goto_w, pe_iload4, pe_aload0, pe_getfield, pe_call1, pm_af_ret, pm_af_void, pm_af_thr, pe_icmp_ge, pe_call2, pe_astore5, pe_iaload, pe_iload1, pe_icmp_ne, pe_iload2, pe_aload5, pe_iadd, pe_iload3, pe_iinc4, pe_goto, pe_aloadN0, pe_astoreN5, pe_aloadN5, pe_aastoreN, pe_areturnN, pe_null, pm_prog_1, pm_ob_some, Nat.reduceDiv, Nat.reduceMod, Nat.reduceMul, Nat.reduceAdd, Int.reduceToNat, pm_kill_i, pm_kill_r, pm_kill_n, pm_kill_j, pm_kill_l, pm_kill_d, pm_cats_nil, pm_cats_i, pm_cats_r, pm_cats_n, pm_cats_l, pm_cats_d, sz_1, sz_2, sl_1, sl_2, lc_0, lc_lt, lc_le, li_ne, va_rf, wr_m1, we_m1, pm_kill_w, Int32.reduceOfInt, Int64.reduceOfInt, Int32.reduceOfNat, Int32.reduceLT, Int32.reduceLE, Prod.mk.injEq, Nat.reduceEqDiff, reduceCtorEq, and_true, true_and, and_false, false_and, and_self, ite_true, ite_false, ↓reduceIte, not_true_eq_false, not_false_eq_true, pe_ri, pe_rz, pe_rc, Cv_g16_2 hP hA, Cv_g7_1 hP hA, Cv_g7_2 hP hA, Cv_g7_3 hP hA, Cv_k16 hP hA, Cv_r19 hP hA, Cv_r20 hP hA, z2, eq_true k3, z4, eq_false k7, hc]
        · rw [if_neg k6] at e; cases e
      · rw [if_neg k5] at e; cases e
    · rw [if_neg k3] at e
      have e := Option.some.inj e; subst e
      dsimp only [Sum.elim_inr, ex1348_1] at hc
      simp -implicitDefEqProofs (disch := first | assumption | exact Nat.le_of_ble_eq_true rfl | decide) only [b1348_0, g1348_2, b1348_2, g1348_3, b1348_3, pe_sipush, pe_istore4, pe_goto_w, pe_iload4, pe_aload0, pe_getfield, pe_call1, pm_af_ret, pm_af_void, pm_af_thr, pe_icmp_ge, pe_call2, pe_astore5, pe_iaload, pe_iload1, pe_icmp_ne, pe_iload2, pe_aload5, pe_iadd, pe_iload3, pe_iinc4, pe_goto, pe_aloadN0, pe_astoreN5, pe_aloadN5, pe_aastoreN, pe_areturnN, pe_null, pm_prog_1, pm_ob_some, Nat.reduceDiv, Nat.reduceMod, Nat.reduceMul, Nat.reduceAdd, Int.reduceToNat, pm_kill_i, pm_kill_r, pm_kill_n, pm_kill_j, pm_kill_l, pm_kill_d, pm_cats_nil, pm_cats_i, pm_cats_r, pm_cats_n, pm_cats_l, pm_cats_d, sz_1, sz_2, sl_1, sl_2, lc_0, lc_lt, lc_le, li_ne, va_rf, wr_m1, we_m1, pm_kill_w, Int32.reduceOfInt, Int64.reduceOfInt, Int32.reduceOfNat, Int32.reduceLT, Int32.reduceLE, Prod.mk.injEq, Nat.reduceEqDiff, reduceCtorEq, and_true, true_and, and_false, false_and, and_self, ite_true, ite_false, ↓reduceIte, not_true_eq_false, not_false_eq_true, pe_ri, pe_rz, pe_rc, Cv_g16_2 hP hA, Cv_g7_1 hP hA, Cv_g7_2 hP hA, Cv_g7_3 hP hA, Cv_k16 hP hA, Cv_r19 hP hA, Cv_r20 hP hA, z2, eq_false k3, hc]
  · rw [if_neg k1] at e; cases e
theorem z1348_1 {mc : Int32} {jc : Int32} {tc : Int32} {ma : Int32} {ja : Int32} {ta : Int32} {oc : Int32 → Int32} {oa : Int32 → Int32} {qa : Int32 → Int32} {A : wK → Nat} {h : pm_H} {D : Nat} {R : Outcome × pm_H} {S : wS} (hP : Cv_P mc jc tc ma ja ta oc oa qa) (hA : wok A (Cv_d mc jc tc ma ja ta oc oa qa) h.1) (hD : 3 ≤ D) {n : Nat} {a : Int32 × Int32 × Int32 × Int32 × Int32} {b : (Int32) ⊕ (Unit)} (e : lp (f1348_b1 mc jc tc ma ja ta oc oa qa S) n a = some b) (hx : ex1348_1 mc jc tc ma ja ta oc oa qa A h D R S b) : go1348_1 mc jc tc ma ja ta oc oa qa A h D R S a := lp_run (fun a r => y1348_b1 hP hA hD a r) n a b e hx
theorem x1348 {mc : Int32} {jc : Int32} {tc : Int32} {ma : Int32} {ja : Int32} {ta : Int32} {oc : Int32 → Int32} {oa : Int32 → Int32} {qa : Int32 → Int32} {A : wK → Nat} {h : pm_H} {D : Nat} {S : wS} {x0i : Int32} {x1 : Int32} {x2 : Int32} {x3 : Int32} {r : Int32} (hP : Cv_P mc jc tc ma ja ta oc oa qa) (hA : wok A (Cv_d mc jc tc ma ja ta oc oa qa) h.1) (hD : 4 ≤ D) (e : f1348 mc jc tc ma ja ta oc oa qa S x0i x1 x2 x3 = some r) : pm_call pm_prog D 1348 [.ref (A (7, x0i, 0)), .int x1, .int x2, .int x3] (wput A (Cv_d mc jc tc ma ja ta oc oa qa) S h) = some (Outcome.returned (some (.int r)), (wput A (Cv_d mc jc tc ma ja ta oc oa qa) S h)) := by
  obtain ⟨D, rfl⟩ : ∃ D', D = D' + 1 := ⟨D - 1, by omega⟩
  have hD : 3 ≤ D := by omega
  simp only [f1348] at e
  have k1 : 0 ≤ x0i ∧ x0i < 3 := by
    by_cases q : 0 ≤ x0i ∧ x0i < 3
    · exact q
    · rw [if_neg q] at e; cases e
  rw [if_pos k1] at e
  rw [c1348 (Cv_c7 hP hA k1), b1348_0]
  obtain ⟨b, k2, e⟩ := Option.bind_eq_some_iff.mp e
  rcases b with v3 | _
  ·
    try dsimp only at e
    try simp -implicitDefEqProofs (disch := first | assumption | exact Nat.le_of_ble_eq_true rfl | decide) only [b1348_0, g1348_2, b1348_2, g1348_3, b1348_3, pe_sipush, pe_istore4, pe_goto_w, pe_iload4, pe_aload0, pe_getfield, pe_call1, pm_af_ret, pm_af_void, pm_af_thr, pe_icmp_ge, pe_call2, pe_astore5, pe_iaload, pe_iload1, pe_icmp_ne, pe_iload2, pe_aload5, pe_iadd, pe_iload3, pe_iinc4, pe_goto, pe_aloadN0, pe_astoreN5, pe_aloadN5, pe_aastoreN, pe_areturnN, pe_null, pm_prog_1, pm_ob_some, Nat.reduceDiv, Nat.reduceMod, Nat.reduceMul, Nat.reduceAdd, Int.reduceToNat, pm_kill_i, pm_kill_r, pm_kill_n, pm_kill_j, pm_kill_l, pm_kill_d, pm_cats_nil, pm_cats_i, pm_cats_r, pm_cats_n, pm_cats_l, pm_cats_d, sz_1, sz_2, sl_1, sl_2, lc_0, lc_lt, lc_le, li_ne, va_rf, wr_m1, we_m1, pm_kill_w, Int32.reduceOfInt, Int64.reduceOfInt, Int32.reduceOfNat, Int32.reduceLT, Int32.reduceLE, Prod.mk.injEq, Nat.reduceEqDiff, reduceCtorEq, and_true, true_and, and_false, false_and, and_self, ite_true, ite_false, ↓reduceIte, not_true_eq_false, not_false_eq_true, pe_ri, pe_rz, pe_rc, Cv_g16_2 hP hA, Cv_g7_1 hP hA, Cv_g7_2 hP hA, Cv_g7_3 hP hA, Cv_k16 hP hA, Cv_r19 hP hA, Cv_r20 hP hA]
    refine z1348_1 hP hA hD k2 ?_ _
    dsimp only [ex1348_1]
    have e := Option.some.inj e; subst e
    simp -implicitDefEqProofs (disch := first | assumption | exact Nat.le_of_ble_eq_true rfl | decide) only [b1348_0, g1348_2, b1348_2, g1348_3, b1348_3, pe_sipush, pe_istore4, pe_goto_w, pe_iload4, pe_aload0, pe_getfield, pe_call1, pm_af_ret, pm_af_void, pm_af_thr, pe_icmp_ge, pe_call2, pe_astore5, pe_iaload, pe_iload1, pe_icmp_ne, pe_iload2, pe_aload5, pe_iadd, pe_iload3, pe_iinc4, pe_goto, pe_aloadN0, pe_astoreN5, pe_aloadN5, pe_aastoreN, pe_areturnN, pe_null, pm_prog_1, pm_ob_some, Nat.reduceDiv, Nat.reduceMod, Nat.reduceMul, Nat.reduceAdd, Int.reduceToNat, pm_kill_i, pm_kill_r, pm_kill_n, pm_kill_j, pm_kill_l, pm_kill_d, pm_cats_nil, pm_cats_i, pm_cats_r, pm_cats_n, pm_cats_l, pm_cats_d, sz_1, sz_2, sl_1, sl_2, lc_0, lc_lt, lc_le, li_ne, va_rf, wr_m1, we_m1, pm_kill_w, Int32.reduceOfInt, Int64.reduceOfInt, Int32.reduceOfNat, Int32.reduceLT, Int32.reduceLE, Prod.mk.injEq, Nat.reduceEqDiff, reduceCtorEq, and_true, true_and, and_false, false_and, and_self, ite_true, ite_false, ↓reduceIte, not_true_eq_false, not_false_eq_true, pe_ri, pe_rz, pe_rc, Cv_g16_2 hP hA, Cv_g7_1 hP hA, Cv_g7_2 hP hA, Cv_g7_3 hP hA, Cv_k16 hP hA, Cv_r19 hP hA, Cv_r20 hP hA]
  ·
    try dsimp only at e
    try simp -implicitDefEqProofs (disch := first | assumption | exact Nat.le_of_ble_eq_true rfl | decide) only [b1348_0, g1348_2, b1348_2, g1348_3, b1348_3, pe_sipush, pe_istore4, pe_goto_w, pe_iload4, pe_aload0, pe_getfield, pe_call1, pm_af_ret, pm_af_void, pm_af_thr, pe_icmp_ge, pe_call2, pe_astore5, pe_iaload, pe_iload1, pe_icmp_ne, pe_iload2, pe_aload5, pe_iadd, pe_iload3, pe_iinc4, pe_goto, pe_aloadN0, pe_astoreN5, pe_aloadN5, pe_aastoreN, pe_areturnN, pe_null, pm_prog_1, pm_ob_some, Nat.reduceDiv, Nat.reduceMod, Nat.reduceMul, Nat.reduceAdd, Int.reduceToNat, pm_kill_i, pm_kill_r, pm_kill_n, pm_kill_j, pm_kill_l, pm_kill_d, pm_cats_nil, pm_cats_i, pm_cats_r, pm_cats_n, pm_cats_l, pm_cats_d, sz_1, sz_2, sl_1, sl_2, lc_0, lc_lt, lc_le, li_ne, va_rf, wr_m1, we_m1, pm_kill_w, Int32.reduceOfInt, Int64.reduceOfInt, Int32.reduceOfNat, Int32.reduceLT, Int32.reduceLE, Prod.mk.injEq, Nat.reduceEqDiff, reduceCtorEq, and_true, true_and, and_false, false_and, and_self, ite_true, ite_false, ↓reduceIte, not_true_eq_false, not_false_eq_true, pe_ri, pe_rz, pe_rc, Cv_g16_2 hP hA, Cv_g7_1 hP hA, Cv_g7_2 hP hA, Cv_g7_3 hP hA, Cv_k16 hP hA, Cv_r19 hP hA, Cv_r20 hP hA]
    refine z1348_1 hP hA hD k2 ?_ _
    dsimp only [ex1348_1]
    intro q0 q1 q2 q3 q4 q5
    have e := Option.some.inj e; subst e
    simp -implicitDefEqProofs (disch := first | assumption | exact Nat.le_of_ble_eq_true rfl | decide) only [b1348_0, g1348_2, b1348_2, g1348_3, b1348_3, pe_sipush, pe_istore4, pe_goto_w, pe_iload4, pe_aload0, pe_getfield, pe_call1, pm_af_ret, pm_af_void, pm_af_thr, pe_icmp_ge, pe_call2, pe_astore5, pe_iaload, pe_iload1, pe_icmp_ne, pe_iload2, pe_aload5, pe_iadd, pe_iload3, pe_iinc4, pe_goto, pe_aloadN0, pe_astoreN5, pe_aloadN5, pe_aastoreN, pe_areturnN, pe_null, pm_prog_1, pm_ob_some, Nat.reduceDiv, Nat.reduceMod, Nat.reduceMul, Nat.reduceAdd, Int.reduceToNat, pm_kill_i, pm_kill_r, pm_kill_n, pm_kill_j, pm_kill_l, pm_kill_d, pm_cats_nil, pm_cats_i, pm_cats_r, pm_cats_n, pm_cats_l, pm_cats_d, sz_1, sz_2, sl_1, sl_2, lc_0, lc_lt, lc_le, li_ne, va_rf, wr_m1, we_m1, pm_kill_w, Int32.reduceOfInt, Int64.reduceOfInt, Int32.reduceOfNat, Int32.reduceLT, Int32.reduceLE, Prod.mk.injEq, Nat.reduceEqDiff, reduceCtorEq, and_true, true_and, and_false, false_and, and_self, ite_true, ite_false, ↓reduceIte, not_true_eq_false, not_false_eq_true, pe_ri, pe_rz, pe_rc, Cv_g16_2 hP hA, Cv_g7_1 hP hA, Cv_g7_2 hP hA, Cv_g7_3 hP hA, Cv_k16 hP hA, Cv_r19 hP hA, Cv_r20 hP hA]
/-- java/util/ArrayList.elementData(I)Ljava/lang/Object; -/
noncomputable def f4035vv4 (mc : Int32) (jc : Int32) (tc : Int32) (ma : Int32) (ja : Int32) (ta : Int32) (oc : Int32 → Int32) (oa : Int32 → Int32) (qa : Int32 → Int32) (S : wS) (x0i : Int32) (x1 : Int32) : Option (Int32 × Int32) :=
  if 0 ≤ x0i ∧ x0i < mc then
    if 0 < (oa x0i) then
      if 0 ≤ x1 ∧ x1 < (oa x0i) then
        if x1 < (oc x0i) then
          if 0 ≤ x1 ∧ x1 < (oc x0i) then
            some (x0i, x1)
          else none
        else none
      else none
    else none
  else none
theorem x4035vv4 {mc : Int32} {jc : Int32} {tc : Int32} {ma : Int32} {ja : Int32} {ta : Int32} {oc : Int32 → Int32} {oa : Int32 → Int32} {qa : Int32 → Int32} {A : wK → Nat} {h : pm_H} {D : Nat} {S : wS} {x0i : Int32} {x1 : Int32} {r : Int32 × Int32} (hP : Cv_P mc jc tc ma ja ta oc oa qa) (hA : wok A (Cv_d mc jc tc ma ja ta oc oa qa) h.1) (hD : 1 ≤ D) (e : f4035vv4 mc jc tc ma ja ta oc oa qa S x0i x1 = some r) : pm_call pm_prog D 4035 [.ref (A (12, x0i, 0)), .int x1] (wput A (Cv_d mc jc tc ma ja ta oc oa qa) S h) = some (match (generalizing := false) r with | (w0, w1) => (Outcome.returned (some (.ref (A (14, w0, w1)))), (wput A (Cv_d mc jc tc ma ja ta oc oa qa) S h))) := by
  obtain ⟨D, rfl⟩ : ∃ D', D = D' + 1 := ⟨D - 1, by omega⟩
  have hD : 0 ≤ D := by omega
  simp only [f4035vv4] at e
  have k1 : 0 ≤ x0i ∧ x0i < mc := by
    by_cases q : 0 ≤ x0i ∧ x0i < mc
    · exact q
    · rw [if_neg q] at e; cases e
  rw [if_pos k1] at e
  rw [c4035 (Cv_c12 hP hA k1), b4035_0]
  by_cases k2 : 0 < (oa x0i)
  · rw [if_pos k2] at e
    by_cases k3 : 0 ≤ x1 ∧ x1 < (oa x0i)
    · rw [if_pos k3] at e
      by_cases k4 : x1 < (oc x0i)
      · rw [if_pos k4] at e
        by_cases k5 : 0 ≤ x1 ∧ x1 < (oc x0i)
        · rw [if_pos k5] at e
          have e := Option.some.inj e; subst e
          simp -implicitDefEqProofs (disch := first | assumption | exact Nat.le_of_ble_eq_true rfl | decide) only [b4035_0, pe_aload0, pe_getfield, pe_iload1, pe_aaload, pe_areturn, pe_aloadN0, pe_aastoreN, pe_areturnN, pe_null, pm_prog_1, pm_ob_some, Nat.reduceDiv, Nat.reduceMod, Nat.reduceMul, Nat.reduceAdd, Int.reduceToNat, pm_kill_i, pm_kill_r, pm_kill_n, pm_kill_j, pm_kill_l, pm_kill_d, pm_cats_nil, pm_cats_i, pm_cats_r, pm_cats_n, pm_cats_l, pm_cats_d, sz_1, sz_2, sl_1, sl_2, lc_0, lc_lt, lc_le, li_ne, va_rf, wr_m1, we_m1, pm_kill_w, Int32.reduceOfInt, Int64.reduceOfInt, Int32.reduceOfNat, Int32.reduceLT, Int32.reduceLE, Prod.mk.injEq, Nat.reduceEqDiff, reduceCtorEq, and_true, true_and, and_false, false_and, and_self, ite_true, ite_false, ↓reduceIte, not_true_eq_false, not_false_eq_true, pe_ri, pe_rz, pe_rc, Cv_g12_1 hP hA, Cv_r13 hP hA]
        · rw [if_neg k5] at e; cases e
      · rw [if_neg k4] at e; cases e
    · rw [if_neg k3] at e; cases e
  · rw [if_neg k2] at e; cases e
/-- java/util/ArrayList.get(I)Ljava/lang/Object; -/
noncomputable def f4034vv4 (mc : Int32) (jc : Int32) (tc : Int32) (ma : Int32) (ja : Int32) (ta : Int32) (oc : Int32 → Int32) (oa : Int32 → Int32) (qa : Int32 → Int32) (S : wS) (x0i : Int32) (x1 : Int32) : Option (Int32 × Int32) :=
  if 0 ≤ x0i ∧ x0i < mc then
    (f4736 x1 (S.1 (12, x0i, 0) 2)).bind fun v1 =>
    (f4035vv4 mc jc tc ma ja ta oc oa qa S x0i x1).bind fun (v2i, v2j) =>
    if 0 ≤ v2i ∧ v2i < mc then
      if 0 ≤ v2j ∧ v2j < (oc v2i) then
        some (v2i, v2j)
      else none
    else none
  else none
theorem x4034vv4 {mc : Int32} {jc : Int32} {tc : Int32} {ma : Int32} {ja : Int32} {ta : Int32} {oc : Int32 → Int32} {oa : Int32 → Int32} {qa : Int32 → Int32} {A : wK → Nat} {h : pm_H} {D : Nat} {S : wS} {x0i : Int32} {x1 : Int32} {r : Int32 × Int32} (hP : Cv_P mc jc tc ma ja ta oc oa qa) (hA : wok A (Cv_d mc jc tc ma ja ta oc oa qa) h.1) (hD : 3 ≤ D) (e : f4034vv4 mc jc tc ma ja ta oc oa qa S x0i x1 = some r) : pm_call pm_prog D 4034 [.ref (A (12, x0i, 0)), .int x1] (wput A (Cv_d mc jc tc ma ja ta oc oa qa) S h) = some (match (generalizing := false) r with | (w0, w1) => (Outcome.returned (some (.ref (A (14, w0, w1)))), (wput A (Cv_d mc jc tc ma ja ta oc oa qa) S h))) := by
  obtain ⟨D, rfl⟩ : ∃ D', D = D' + 1 := ⟨D - 1, by omega⟩
  have hD : 2 ≤ D := by omega
  simp only [f4034vv4] at e
  have k1 : 0 ≤ x0i ∧ x0i < mc := by
    by_cases q : 0 ≤ x0i ∧ x0i < mc
    · exact q
    · rw [if_neg q] at e; cases e
  rw [if_pos k1] at e
  rw [c4034 (Cv_c12 hP hA k1), b4034_0]
  obtain ⟨v1, k2, e⟩ := Option.bind_eq_some_iff.mp e
  try dsimp only at e
  have z2 := fun h => x4736 (D := D) (h := h) (by omega) k2
  obtain ⟨⟨v2i, v2j⟩, k3, e⟩ := Option.bind_eq_some_iff.mp e
  try dsimp only at e
  have z3 := x4035vv4 (D := D) (h := h) hP hA (by omega) k3
  dsimp only at z3
  by_cases k4 : 0 ≤ v2i ∧ v2i < mc
  · rw [if_pos k4] at e
    by_cases k5 : 0 ≤ v2j ∧ v2j < (oc v2i)
    · rw [if_pos k5] at e
      have e := Option.some.inj e; subst e
      simp -implicitDefEqProofs (disch := first | assumption | exact Nat.le_of_ble_eq_true rfl | decide) only [b4034_0, pe_iload1, pe_aload0, pe_getfield, pe_call2, pm_af_ret, pm_af_void, pm_af_thr, pe_pop_i, pe_pop_r, pe_areturn, pe_aloadN0, pe_aastoreN, pe_areturnN, pe_null, pm_prog_1, pm_ob_some, Nat.reduceDiv, Nat.reduceMod, Nat.reduceMul, Nat.reduceAdd, Int.reduceToNat, pm_kill_i, pm_kill_r, pm_kill_n, pm_kill_j, pm_kill_l, pm_kill_d, pm_cats_nil, pm_cats_i, pm_cats_r, pm_cats_n, pm_cats_l, pm_cats_d, sz_1, sz_2, sl_1, sl_2, lc_0, lc_lt, lc_le, li_ne, va_rf, wr_m1, we_m1, pm_kill_w, Int32.reduceOfInt, Int64.reduceOfInt, Int32.reduceOfNat, Int32.reduceLT, Int32.reduceLE, Prod.mk.injEq, Nat.reduceEqDiff, reduceCtorEq, and_true, true_and, and_false, false_and, and_self, ite_true, ite_false, ↓reduceIte, not_true_eq_false, not_false_eq_true, pe_ri, pe_rz, pe_rc, Cv_g12_2 hP hA, z2, z3]
    · rw [if_neg k5] at e; cases e
  · rw [if_neg k4] at e; cases e
/-- TimberHouse$WorkPlans$Span.meets(II)Z -/
theorem c3393 {d : Nat} {h : pm_H} {a : Nat} {x0 : Int32} {x1 : Int32} (hc : pm_cls h a = some 53) : pm_call pm_prog (d + 1) 3393 [.ref a, .int x0, .int x1] h = pm_ev pm_prog (pm_call pm_prog d) 3393 0 b3393_0 [.ref a, .int x0, .int x1] [] h := pm_cal (pm_rc1 hc rfl) rfl rfl rfl
theorem g3393_1 {cl : pm_C} {ls st : List Value} {h : pm_H} : pm_go pm_prog cl 3393 1 ls st h = pm_ev pm_prog cl 3393 1 b3393_1 ls st h := pm_go_eq pm_prog cl 3393 1 ls st h
theorem g3393_2 {cl : pm_C} {ls st : List Value} {h : pm_H} : pm_go pm_prog cl 3393 2 ls st h = pm_ev pm_prog cl 3393 2 b3393_2 ls st h := pm_go_eq pm_prog cl 3393 2 ls st h
/-- TimberHouse$WorkPlans$Span.meets(II)Z -/
noncomputable def f3393 (mc : Int32) (jc : Int32) (tc : Int32) (ma : Int32) (ja : Int32) (ta : Int32) (oc : Int32 → Int32) (oa : Int32 → Int32) (qa : Int32 → Int32) (S : wS) (x0i : Int32) (x0j : Int32) (x1 : Int32) (x2 : Int32) : Option (Int32) :=
  if 0 ≤ x0i ∧ x0i < mc then
    if 0 ≤ x0j ∧ x0j < (oc x0i) then
      if x1 < (S.1 (14, x0i, x0j) 1) then
        if (S.1 (14, x0i, x0j) 0) < (x1 + x2) then
          some 1
        else
          some 0
      else
        some 0
    else none
  else none
theorem x3393 {mc : Int32} {jc : Int32} {tc : Int32} {ma : Int32} {ja : Int32} {ta : Int32} {oc : Int32 → Int32} {oa : Int32 → Int32} {qa : Int32 → Int32} {A : wK → Nat} {h : pm_H} {D : Nat} {S : wS} {x0i : Int32} {x0j : Int32} {x1 : Int32} {x2 : Int32} {r : Int32} (hP : Cv_P mc jc tc ma ja ta oc oa qa) (hA : wok A (Cv_d mc jc tc ma ja ta oc oa qa) h.1) (hD : 1 ≤ D) (e : f3393 mc jc tc ma ja ta oc oa qa S x0i x0j x1 x2 = some r) : pm_call pm_prog D 3393 [.ref (A (14, x0i, x0j)), .int x1, .int x2] (wput A (Cv_d mc jc tc ma ja ta oc oa qa) S h) = some (Outcome.returned (some (.int r)), (wput A (Cv_d mc jc tc ma ja ta oc oa qa) S h)) := by
  obtain ⟨D, rfl⟩ : ∃ D', D = D' + 1 := ⟨D - 1, by omega⟩
  have hD : 0 ≤ D := by omega
  simp only [f3393] at e
  have k1 : 0 ≤ x0i ∧ x0i < mc := by
    by_cases q : 0 ≤ x0i ∧ x0i < mc
    · exact q
    · rw [if_neg q] at e; cases e
  rw [if_pos k1] at e
  have k2 : 0 ≤ x0j ∧ x0j < (oc x0i) := by
    by_cases q : 0 ≤ x0j ∧ x0j < (oc x0i)
    · exact q
    · rw [if_neg q] at e; cases e
  rw [if_pos k2] at e
  rw [c3393 (Cv_c14 hP hA k1 k2), b3393_0]
  by_cases k3 : x1 < (S.1 (14, x0i, x0j) 1)
  · rw [if_pos k3] at e
    by_cases k4 : (S.1 (14, x0i, x0j) 0) < (x1 + x2)
    · rw [if_pos k4] at e
      have e := Option.some.inj e; subst e
      simp -implicitDefEqProofs (disch := first | assumption | exact Nat.le_of_ble_eq_true rfl | decide) only [b3393_0, g3393_1, b3393_1, g3393_2, b3393_2, pe_iload1, pe_aload0, pe_getfield, pe_icmp_ge, pe_iload2, pe_iadd, pe_sipush, pe_goto, pe_goto_w, pe_aloadN0, pe_aastoreN, pe_areturnN, pe_null, pm_prog_1, pm_ob_some, Nat.reduceDiv, Nat.reduceMod, Nat.reduceMul, Nat.reduceAdd, Int.reduceToNat, pm_kill_i, pm_kill_r, pm_kill_n, pm_kill_j, pm_kill_l, pm_kill_d, pm_cats_nil, pm_cats_i, pm_cats_r, pm_cats_n, pm_cats_l, pm_cats_d, sz_1, sz_2, sl_1, sl_2, lc_0, lc_lt, lc_le, li_ne, va_rf, wr_m1, we_m1, pm_kill_w, Int32.reduceOfInt, Int64.reduceOfInt, Int32.reduceOfNat, Int32.reduceLT, Int32.reduceLE, Prod.mk.injEq, Nat.reduceEqDiff, reduceCtorEq, and_true, true_and, and_false, false_and, and_self, ite_true, ite_false, ↓reduceIte, not_true_eq_false, not_false_eq_true, pe_ri, pe_rz, pe_rc, Cv_g14_0 hP hA, Cv_g14_1 hP hA, eq_true k3, eq_true k4]
    · rw [if_neg k4] at e
      have e := Option.some.inj e; subst e
      simp -implicitDefEqProofs (disch := first | assumption | exact Nat.le_of_ble_eq_true rfl | decide) only [b3393_0, g3393_1, b3393_1, g3393_2, b3393_2, pe_iload1, pe_aload0, pe_getfield, pe_icmp_ge, pe_iload2, pe_iadd, pe_sipush, pe_goto, pe_goto_w, pe_aloadN0, pe_aastoreN, pe_areturnN, pe_null, pm_prog_1, pm_ob_some, Nat.reduceDiv, Nat.reduceMod, Nat.reduceMul, Nat.reduceAdd, Int.reduceToNat, pm_kill_i, pm_kill_r, pm_kill_n, pm_kill_j, pm_kill_l, pm_kill_d, pm_cats_nil, pm_cats_i, pm_cats_r, pm_cats_n, pm_cats_l, pm_cats_d, sz_1, sz_2, sl_1, sl_2, lc_0, lc_lt, lc_le, li_ne, va_rf, wr_m1, we_m1, pm_kill_w, Int32.reduceOfInt, Int64.reduceOfInt, Int32.reduceOfNat, Int32.reduceLT, Int32.reduceLE, Prod.mk.injEq, Nat.reduceEqDiff, reduceCtorEq, and_true, true_and, and_false, false_and, and_self, ite_true, ite_false, ↓reduceIte, not_true_eq_false, not_false_eq_true, pe_ri, pe_rz, pe_rc, Cv_g14_0 hP hA, Cv_g14_1 hP hA, eq_true k3, eq_false k4]
  · rw [if_neg k3] at e
    have e := Option.some.inj e; subst e
    simp -implicitDefEqProofs (disch := first | assumption | exact Nat.le_of_ble_eq_true rfl | decide) only [b3393_0, g3393_1, b3393_1, g3393_2, b3393_2, pe_iload1, pe_aload0, pe_getfield, pe_icmp_ge, pe_iload2, pe_iadd, pe_sipush, pe_goto, pe_goto_w, pe_aloadN0, pe_aastoreN, pe_areturnN, pe_null, pm_prog_1, pm_ob_some, Nat.reduceDiv, Nat.reduceMod, Nat.reduceMul, Nat.reduceAdd, Int.reduceToNat, pm_kill_i, pm_kill_r, pm_kill_n, pm_kill_j, pm_kill_l, pm_kill_d, pm_cats_nil, pm_cats_i, pm_cats_r, pm_cats_n, pm_cats_l, pm_cats_d, sz_1, sz_2, sl_1, sl_2, lc_0, lc_lt, lc_le, li_ne, va_rf, wr_m1, we_m1, pm_kill_w, Int32.reduceOfInt, Int64.reduceOfInt, Int32.reduceOfNat, Int32.reduceLT, Int32.reduceLE, Prod.mk.injEq, Nat.reduceEqDiff, reduceCtorEq, and_true, true_and, and_false, false_and, and_self, ite_true, ite_false, ↓reduceIte, not_true_eq_false, not_false_eq_true, pe_ri, pe_rz, pe_rc, Cv_g14_0 hP hA, Cv_g14_1 hP hA, eq_false k3]
/-- TimberHouse$WorkPlans$Machine.outTo(II)I -/
theorem c3329 {d : Nat} {h : pm_H} {a : Nat} {x0 : Int32} {x1 : Int32} (hc : pm_cls h a = some 52) : pm_call pm_prog (d + 1) 3329 [.ref a, .int x0, .int x1] h = pm_ev pm_prog (pm_call pm_prog d) 3329 0 b3329_0 [.ref a, .int x0, .int x1, pm_junk] [] h := pm_cal (pm_rc1 hc rfl) rfl rfl rfl
theorem g3329_1 {cl : pm_C} {ls st : List Value} {h : pm_H} : pm_go pm_prog cl 3329 1 ls st h = pm_ev pm_prog cl 3329 1 b3329_1 ls st h := pm_go_eq pm_prog cl 3329 1 ls st h
theorem g3329_2 {cl : pm_C} {ls st : List Value} {h : pm_H} : pm_go pm_prog cl 3329 2 ls st h = pm_ev pm_prog cl 3329 2 b3329_2 ls st h := pm_go_eq pm_prog cl 3329 2 ls st h
theorem g3329_3 {cl : pm_C} {ls st : List Value} {h : pm_H} : pm_go pm_prog cl 3329 3 ls st h = pm_ev pm_prog cl 3329 3 b3329_3 ls st h := pm_go_eq pm_prog cl 3329 3 ls st h
noncomputable def f3329_b1 (mc : Int32) (jc : Int32) (tc : Int32) (ma : Int32) (ja : Int32) (ta : Int32) (oc : Int32 → Int32) (oa : Int32 → Int32) (qa : Int32 → Int32) (S : wS) : Int32 × Int32 × Int32 × Int32 → Option ((Int32 × Int32 × Int32 × Int32) ⊕ ((Int32) ⊕ (Unit))) := fun (x0i, x1, x2, x3) =>
  if 0 ≤ x0i ∧ x0i < mc then
    (f4033vv3 mc jc tc ma ja ta oc oa qa S x0i).bind fun v1 =>
    if x3 < v1 then
      (f4034vv4 mc jc tc ma ja ta oc oa qa S x0i x3).bind fun (v2i, v2j) =>
      if 0 ≤ v2i ∧ v2i < mc then
        if 0 ≤ v2j ∧ v2j < (oc v2i) then
          (f3393 mc jc tc ma ja ta oc oa qa S v2i v2j x1 x2).bind fun v3 =>
          if v3 = 0 then
            some (.inl (x0i, x1, x2, (x3 + 1)))
          else
            some (.inr (.inl (S.1 (14, v2i, v2j) 1)))
        else none
      else none
    else
      some (.inr (.inr (())))
  else none
/-- TimberHouse$WorkPlans$Machine.outTo(II)I -/
noncomputable def f3329 (mc : Int32) (jc : Int32) (tc : Int32) (ma : Int32) (ja : Int32) (ta : Int32) (oc : Int32 → Int32) (oa : Int32 → Int32) (qa : Int32 → Int32) (S : wS) (x0i : Int32) (x1 : Int32) (x2 : Int32) : Option (Int32) :=
  if 0 ≤ x0i ∧ x0i < mc then
    (lp (f3329_b1 mc jc tc ma ja ta oc oa qa S) FU (x0i, x1, x2, 0)).bind fun b => match b with
    | (.inl v4) =>
      some v4
    | (.inr (())) =>
      some (-1)
  else none
def go3329_1 (mc : Int32) (jc : Int32) (tc : Int32) (ma : Int32) (ja : Int32) (ta : Int32) (oc : Int32 → Int32) (oa : Int32 → Int32) (qa : Int32 → Int32) (A : wK → Nat) (h : pm_H) (D : Nat) (R : Outcome × pm_H) (S : wS) : Int32 × Int32 × Int32 × Int32 → Prop := fun (x0i, x1, x2, x3) => pm_go pm_prog (pm_call pm_prog D) 3329 1 [.ref (A (11, x0i, 0)), .int x1, .int x2, .int x3] [] (wput A (Cv_d mc jc tc ma ja ta oc oa qa) S h) = some R
def ex3329_1 (mc : Int32) (jc : Int32) (tc : Int32) (ma : Int32) (ja : Int32) (ta : Int32) (oc : Int32 → Int32) (oa : Int32 → Int32) (qa : Int32 → Int32) (A : wK → Nat) (h : pm_H) (D : Nat) (R : Outcome × pm_H) (S : wS) : (Int32) ⊕ (Unit) → Prop := fun b => match b with
  | (.inl xr0) => some (Outcome.returned (some (.int xr0)), (wput A (Cv_d mc jc tc ma ja ta oc oa qa) S h)) = some R
  | (.inr (_)) => ∀ q0 q1 q2 q3 : Value, pm_go pm_prog (pm_call pm_prog D) 3329 3 [q0, q1, q2, q3] [] (wput A (Cv_d mc jc tc ma ja ta oc oa qa) S h) = some R
theorem y3329_b1 {mc : Int32} {jc : Int32} {tc : Int32} {ma : Int32} {ja : Int32} {ta : Int32} {oc : Int32 → Int32} {oa : Int32 → Int32} {qa : Int32 → Int32} {A : wK → Nat} {h : pm_H} {D : Nat} {R : Outcome × pm_H} {S : wS} (hP : Cv_P mc jc tc ma ja ta oc oa qa) (hA : wok A (Cv_d mc jc tc ma ja ta oc oa qa) h.1) (hD : 3 ≤ D) (a : Int32 × Int32 × Int32 × Int32) (r : (Int32 × Int32 × Int32 × Int32) ⊕ ((Int32) ⊕ (Unit))) (e : f3329_b1 mc jc tc ma ja ta oc oa qa S a = some r) (hc : Sum.elim (go3329_1 mc jc tc ma ja ta oc oa qa A h D R S) (ex3329_1 mc jc tc ma ja ta oc oa qa A h D R S) r) : go3329_1 mc jc tc ma ja ta oc oa qa A h D R S a := by
  obtain ⟨x0i, x1, x2, x3⟩ := a
  dsimp only [go3329_1]
  simp only [f3329_b1] at e
  rw [g3329_1, b3329_1]
  by_cases k1 : 0 ≤ x0i ∧ x0i < mc
  · rw [if_pos k1] at e
    obtain ⟨v1, k2, e⟩ := Option.bind_eq_some_iff.mp e
    try dsimp only at e
    have z2 := x4033vv3 (D := D) (h := h) hP hA (by omega) k2
    by_cases k3 : x3 < v1
    · rw [if_pos k3] at e
      obtain ⟨⟨v2i, v2j⟩, k4, e⟩ := Option.bind_eq_some_iff.mp e
      try dsimp only at e
      have z4 := x4034vv4 (D := D) (h := h) hP hA (by omega) k4
      dsimp only at z4
      by_cases k5 : 0 ≤ v2i ∧ v2i < mc
      · rw [if_pos k5] at e
        by_cases k6 : 0 ≤ v2j ∧ v2j < (oc v2i)
        · rw [if_pos k6] at e
          obtain ⟨v3, k7, e⟩ := Option.bind_eq_some_iff.mp e
          try dsimp only at e
          have z7 := x3393 (D := D) (h := h) hP hA (by omega) k7
          by_cases k8 : v3 = 0
          · rw [if_pos k8] at e
            have e := Option.some.inj e; subst e
            dsimp only [Sum.elim_inl, go3329_1] at hc
            simp -implicitDefEqProofs (disch := first | assumption | exact Nat.le_of_ble_eq_true rfl | decide) only [b3329_0, g3329_2, b3329_2, g3329_3, b3329_3, pe_sipush, pe_istore3, pe_goto_w, pe_iload3, pe_aload0, pe_getfield, pe_call1, pm_af_ret, pm_af_void, pm_af_thr, pe_icmp_ge, pe_call2, pe_iload1, pe_iload2, pe_call3, pe_if_eq, pe_iinc3, pe_goto, pe_aloadN0, pe_aastoreN, pe_areturnN, pe_null, pm_prog_1, pm_ob_some, Nat.reduceDiv, Nat.reduceMod, Nat.reduceMul, Nat.reduceAdd, Int.reduceToNat, pm_kill_i, pm_kill_r, pm_kill_n, pm_kill_j, pm_kill_l, pm_kill_d, pm_cats_nil, pm_cats_i, pm_cats_r, pm_cats_n, pm_cats_l, pm_cats_d, sz_1, sz_2, sl_1, sl_2, lc_0, lc_lt, lc_le, li_ne, va_rf, wr_m1, we_m1, pm_kill_w, Int32.reduceOfInt, Int64.reduceOfInt, Int32.reduceOfNat, Int32.reduceLT, Int32.reduceLE, Prod.mk.injEq, Nat.reduceEqDiff, reduceCtorEq, and_true, true_and, and_false, false_and, and_self, ite_true, ite_false, ↓reduceIte, not_true_eq_false, not_false_eq_true, pe_ri, pe_rz, pe_rc, Cv_g11_1 hP hA, Cv_g14_1 hP hA, Cv_k14 hP hA, z2, eq_true k3, z4, z7, eq_true k8, hc]
          · rw [if_neg k8] at e
            have e := Option.some.inj e; subst e
            dsimp only [Sum.elim_inr, ex3329_1] at hc
            have hc := Option.some.inj hc; subst hc
            simp -implicitDefEqProofs (disch := first | assumption | exact Nat.le_of_ble_eq_true rfl | decide) only [b3329_0, g3329_2, b3329_2, g3329_3, b3329_3, pe_sipush, pe_istore3, pe_goto_w, pe_iload3, pe_aload0, pe_getfield, pe_call1, pm_af_ret, pm_af_void, pm_af_thr, pe_icmp_ge, pe_call2, pe_iload1, pe_iload2, pe_call3, pe_if_eq, pe_iinc3, pe_goto, pe_aloadN0, pe_aastoreN, pe_areturnN, pe_null, pm_prog_1, pm_ob_some, Nat.reduceDiv, Nat.reduceMod, Nat.reduceMul, Nat.reduceAdd, Int.reduceToNat, pm_kill_i, pm_kill_r, pm_kill_n, pm_kill_j, pm_kill_l, pm_kill_d, pm_cats_nil, pm_cats_i, pm_cats_r, pm_cats_n, pm_cats_l, pm_cats_d, sz_1, sz_2, sl_1, sl_2, lc_0, lc_lt, lc_le, li_ne, va_rf, wr_m1, we_m1, pm_kill_w, Int32.reduceOfInt, Int64.reduceOfInt, Int32.reduceOfNat, Int32.reduceLT, Int32.reduceLE, Prod.mk.injEq, Nat.reduceEqDiff, reduceCtorEq, and_true, true_and, and_false, false_and, and_self, ite_true, ite_false, ↓reduceIte, not_true_eq_false, not_false_eq_true, pe_ri, pe_rz, pe_rc, Cv_g11_1 hP hA, Cv_g14_1 hP hA, Cv_k14 hP hA, z2, eq_true k3, z4, z7, eq_false k8]
        · rw [if_neg k6] at e; cases e
      · rw [if_neg k5] at e; cases e
    · rw [if_neg k3] at e
      have e := Option.some.inj e; subst e
      dsimp only [Sum.elim_inr, ex3329_1] at hc
      simp -implicitDefEqProofs (disch := first | assumption | exact Nat.le_of_ble_eq_true rfl | decide) only [b3329_0, g3329_2, b3329_2, g3329_3, b3329_3, pe_sipush, pe_istore3, pe_goto_w, pe_iload3, pe_aload0, pe_getfield, pe_call1, pm_af_ret, pm_af_void, pm_af_thr, pe_icmp_ge, pe_call2, pe_iload1, pe_iload2, pe_call3, pe_if_eq, pe_iinc3, pe_goto, pe_aloadN0, pe_aastoreN, pe_areturnN, pe_null, pm_prog_1, pm_ob_some, Nat.reduceDiv, Nat.reduceMod, Nat.reduceMul, Nat.reduceAdd, Int.reduceToNat, pm_kill_i, pm_kill_r, pm_kill_n, pm_kill_j, pm_kill_l, pm_kill_d, pm_cats_nil, pm_cats_i, pm_cats_r, pm_cats_n, pm_cats_l, pm_cats_d, sz_1, sz_2, sl_1, sl_2, lc_0, lc_lt, lc_le, li_ne, va_rf, wr_m1, we_m1, pm_kill_w, Int32.reduceOfInt, Int64.reduceOfInt, Int32.reduceOfNat, Int32.reduceLT, Int32.reduceLE, Prod.mk.injEq, Nat.reduceEqDiff, reduceCtorEq, and_true, true_and, and_false, false_and, and_self, ite_true, ite_false, ↓reduceIte, not_true_eq_false, not_false_eq_true, pe_ri, pe_rz, pe_rc, Cv_g11_1 hP hA, Cv_g14_1 hP hA, Cv_k14 hP hA, z2, eq_false k3, hc]
  · rw [if_neg k1] at e; cases e
theorem z3329_1 {mc : Int32} {jc : Int32} {tc : Int32} {ma : Int32} {ja : Int32} {ta : Int32} {oc : Int32 → Int32} {oa : Int32 → Int32} {qa : Int32 → Int32} {A : wK → Nat} {h : pm_H} {D : Nat} {R : Outcome × pm_H} {S : wS} (hP : Cv_P mc jc tc ma ja ta oc oa qa) (hA : wok A (Cv_d mc jc tc ma ja ta oc oa qa) h.1) (hD : 3 ≤ D) {n : Nat} {a : Int32 × Int32 × Int32 × Int32} {b : (Int32) ⊕ (Unit)} (e : lp (f3329_b1 mc jc tc ma ja ta oc oa qa S) n a = some b) (hx : ex3329_1 mc jc tc ma ja ta oc oa qa A h D R S b) : go3329_1 mc jc tc ma ja ta oc oa qa A h D R S a := lp_run (fun a r => y3329_b1 hP hA hD a r) n a b e hx
theorem x3329 {mc : Int32} {jc : Int32} {tc : Int32} {ma : Int32} {ja : Int32} {ta : Int32} {oc : Int32 → Int32} {oa : Int32 → Int32} {qa : Int32 → Int32} {A : wK → Nat} {h : pm_H} {D : Nat} {S : wS} {x0i : Int32} {x1 : Int32} {x2 : Int32} {r : Int32} (hP : Cv_P mc jc tc ma ja ta oc oa qa) (hA : wok A (Cv_d mc jc tc ma ja ta oc oa qa) h.1) (hD : 4 ≤ D) (e : f3329 mc jc tc ma ja ta oc oa qa S x0i x1 x2 = some r) : pm_call pm_prog D 3329 [.ref (A (11, x0i, 0)), .int x1, .int x2] (wput A (Cv_d mc jc tc ma ja ta oc oa qa) S h) = some (Outcome.returned (some (.int r)), (wput A (Cv_d mc jc tc ma ja ta oc oa qa) S h)) := by
  obtain ⟨D, rfl⟩ : ∃ D', D = D' + 1 := ⟨D - 1, by omega⟩
  have hD : 3 ≤ D := by omega
  simp only [f3329] at e
  have k1 : 0 ≤ x0i ∧ x0i < mc := by
    by_cases q : 0 ≤ x0i ∧ x0i < mc
    · exact q
    · rw [if_neg q] at e; cases e
  rw [if_pos k1] at e
  rw [c3329 (Cv_c11 hP hA k1), b3329_0]
  obtain ⟨b, k2, e⟩ := Option.bind_eq_some_iff.mp e
  rcases b with v4 | _
  ·
    try dsimp only at e
    try simp -implicitDefEqProofs (disch := first | assumption | exact Nat.le_of_ble_eq_true rfl | decide) only [b3329_0, g3329_2, b3329_2, g3329_3, b3329_3, pe_sipush, pe_istore3, pe_goto_w, pe_iload3, pe_aload0, pe_getfield, pe_call1, pm_af_ret, pm_af_void, pm_af_thr, pe_icmp_ge, pe_call2, pe_iload1, pe_iload2, pe_call3, pe_if_eq, pe_iinc3, pe_goto, pe_aloadN0, pe_aastoreN, pe_areturnN, pe_null, pm_prog_1, pm_ob_some, Nat.reduceDiv, Nat.reduceMod, Nat.reduceMul, Nat.reduceAdd, Int.reduceToNat, pm_kill_i, pm_kill_r, pm_kill_n, pm_kill_j, pm_kill_l, pm_kill_d, pm_cats_nil, pm_cats_i, pm_cats_r, pm_cats_n, pm_cats_l, pm_cats_d, sz_1, sz_2, sl_1, sl_2, lc_0, lc_lt, lc_le, li_ne, va_rf, wr_m1, we_m1, pm_kill_w, Int32.reduceOfInt, Int64.reduceOfInt, Int32.reduceOfNat, Int32.reduceLT, Int32.reduceLE, Prod.mk.injEq, Nat.reduceEqDiff, reduceCtorEq, and_true, true_and, and_false, false_and, and_self, ite_true, ite_false, ↓reduceIte, not_true_eq_false, not_false_eq_true, pe_ri, pe_rz, pe_rc, Cv_g11_1 hP hA, Cv_g14_1 hP hA, Cv_k14 hP hA]
    refine z3329_1 hP hA hD k2 ?_
    dsimp only [ex3329_1]
    have e := Option.some.inj e; subst e
    simp -implicitDefEqProofs (disch := first | assumption | exact Nat.le_of_ble_eq_true rfl | decide) only [b3329_0, g3329_2, b3329_2, g3329_3, b3329_3, pe_sipush, pe_istore3, pe_goto_w, pe_iload3, pe_aload0, pe_getfield, pe_call1, pm_af_ret, pm_af_void, pm_af_thr, pe_icmp_ge, pe_call2, pe_iload1, pe_iload2, pe_call3, pe_if_eq, pe_iinc3, pe_goto, pe_aloadN0, pe_aastoreN, pe_areturnN, pe_null, pm_prog_1, pm_ob_some, Nat.reduceDiv, Nat.reduceMod, Nat.reduceMul, Nat.reduceAdd, Int.reduceToNat, pm_kill_i, pm_kill_r, pm_kill_n, pm_kill_j, pm_kill_l, pm_kill_d, pm_cats_nil, pm_cats_i, pm_cats_r, pm_cats_n, pm_cats_l, pm_cats_d, sz_1, sz_2, sl_1, sl_2, lc_0, lc_lt, lc_le, li_ne, va_rf, wr_m1, we_m1, pm_kill_w, Int32.reduceOfInt, Int64.reduceOfInt, Int32.reduceOfNat, Int32.reduceLT, Int32.reduceLE, Prod.mk.injEq, Nat.reduceEqDiff, reduceCtorEq, and_true, true_and, and_false, false_and, and_self, ite_true, ite_false, ↓reduceIte, not_true_eq_false, not_false_eq_true, pe_ri, pe_rz, pe_rc, Cv_g11_1 hP hA, Cv_g14_1 hP hA, Cv_k14 hP hA]
  ·
    try dsimp only at e
    try simp -implicitDefEqProofs (disch := first | assumption | exact Nat.le_of_ble_eq_true rfl | decide) only [b3329_0, g3329_2, b3329_2, g3329_3, b3329_3, pe_sipush, pe_istore3, pe_goto_w, pe_iload3, pe_aload0, pe_getfield, pe_call1, pm_af_ret, pm_af_void, pm_af_thr, pe_icmp_ge, pe_call2, pe_iload1, pe_iload2, pe_call3, pe_if_eq, pe_iinc3, pe_goto, pe_aloadN0, pe_aastoreN, pe_areturnN, pe_null, pm_prog_1, pm_ob_some, Nat.reduceDiv, Nat.reduceMod, Nat.reduceMul, Nat.reduceAdd, Int.reduceToNat, pm_kill_i, pm_kill_r, pm_kill_n, pm_kill_j, pm_kill_l, pm_kill_d, pm_cats_nil, pm_cats_i, pm_cats_r, pm_cats_n, pm_cats_l, pm_cats_d, sz_1, sz_2, sl_1, sl_2, lc_0, lc_lt, lc_le, li_ne, va_rf, wr_m1, we_m1, pm_kill_w, Int32.reduceOfInt, Int64.reduceOfInt, Int32.reduceOfNat, Int32.reduceLT, Int32.reduceLE, Prod.mk.injEq, Nat.reduceEqDiff, reduceCtorEq, and_true, true_and, and_false, false_and, and_self, ite_true, ite_false, ↓reduceIte, not_true_eq_false, not_false_eq_true, pe_ri, pe_rz, pe_rc, Cv_g11_1 hP hA, Cv_g14_1 hP hA, Cv_k14 hP hA]
    refine z3329_1 hP hA hD k2 ?_
    dsimp only [ex3329_1]
    intro q0 q1 q2 q3
    have e := Option.some.inj e; subst e
    simp -implicitDefEqProofs (disch := first | assumption | exact Nat.le_of_ble_eq_true rfl | decide) only [b3329_0, g3329_2, b3329_2, g3329_3, b3329_3, pe_sipush, pe_istore3, pe_goto_w, pe_iload3, pe_aload0, pe_getfield, pe_call1, pm_af_ret, pm_af_void, pm_af_thr, pe_icmp_ge, pe_call2, pe_iload1, pe_iload2, pe_call3, pe_if_eq, pe_iinc3, pe_goto, pe_aloadN0, pe_aastoreN, pe_areturnN, pe_null, pm_prog_1, pm_ob_some, Nat.reduceDiv, Nat.reduceMod, Nat.reduceMul, Nat.reduceAdd, Int.reduceToNat, pm_kill_i, pm_kill_r, pm_kill_n, pm_kill_j, pm_kill_l, pm_kill_d, pm_cats_nil, pm_cats_i, pm_cats_r, pm_cats_n, pm_cats_l, pm_cats_d, sz_1, sz_2, sl_1, sl_2, lc_0, lc_lt, lc_le, li_ne, va_rf, wr_m1, we_m1, pm_kill_w, Int32.reduceOfInt, Int64.reduceOfInt, Int32.reduceOfNat, Int32.reduceLT, Int32.reduceLE, Prod.mk.injEq, Nat.reduceEqDiff, reduceCtorEq, and_true, true_and, and_false, false_and, and_self, ite_true, ite_false, ↓reduceIte, not_true_eq_false, not_false_eq_true, pe_ri, pe_rz, pe_rc, Cv_g11_1 hP hA, Cv_g14_1 hP hA, Cv_k14 hP hA]
/-- TimberHouse$WorkPlans$Board.first(III)I -/
theorem c1347 {d : Nat} {h : pm_H} {a : Nat} {x0 : Int32} {x1 : Int32} {x2 : Int32} (hc : pm_cls h a = some 21) : pm_call pm_prog (d + 1) 1347 [.ref a, .int x0, .int x1, .int x2] h = pm_ev pm_prog (pm_call pm_prog d) 1347 0 b1347_0 [.ref a, .int x0, .int x1, .int x2, pm_junk, pm_junk] [] h := pm_cal (pm_rc1 hc rfl) rfl rfl rfl
theorem g1347_1 {cl : pm_C} {ls st : List Value} {h : pm_H} : pm_go pm_prog cl 1347 1 ls st h = pm_ev pm_prog cl 1347 1 b1347_1 ls st h := pm_go_eq pm_prog cl 1347 1 ls st h
theorem g1347_2 {cl : pm_C} {ls st : List Value} {h : pm_H} : pm_go pm_prog cl 1347 2 ls st h = pm_ev pm_prog cl 1347 2 b1347_2 ls st h := pm_go_eq pm_prog cl 1347 2 ls st h
noncomputable def f1347_b1 (mc : Int32) (jc : Int32) (tc : Int32) (ma : Int32) (ja : Int32) (ta : Int32) (oc : Int32 → Int32) (oa : Int32 → Int32) (qa : Int32 → Int32) (S : wS) : Int32 × Int32 × Int32 × Int32 × Int32 → Option ((Int32 × Int32 × Int32 × Int32 × Int32) ⊕ ((Int32))) := fun (x0i, x1, x3, x4, x5) =>
  if 0 ≤ x0i ∧ x0i < 3 then
    if x5 = (-1) then
      some (.inr x4)
    else
      (f1348 mc jc tc ma ja ta oc oa qa S x0i x1 x5 x3).bind fun v1 =>
      (f4034vv1 mc jc tc ma ja ta oc oa qa S x1).bind fun v2i =>
      if 0 ≤ v2i ∧ v2i < mc then
        (f3329 mc jc tc ma ja ta oc oa qa S v2i x5 x3).bind fun v3 =>
        (f3841 v1 v3).bind fun v4 =>
        some (.inl (x0i, x1, x3, x5, v4))
      else none
  else none
/-- TimberHouse$WorkPlans$Board.first(III)I -/
noncomputable def f1347 (mc : Int32) (jc : Int32) (tc : Int32) (ma : Int32) (ja : Int32) (ta : Int32) (oc : Int32 → Int32) (oa : Int32 → Int32) (qa : Int32 → Int32) (S : wS) (x0i : Int32) (x1 : Int32) (x2 : Int32) (x3 : Int32) : Option (Int32) :=
  if 0 ≤ x0i ∧ x0i < 3 then
    (lp (f1347_b1 mc jc tc ma ja ta oc oa qa S) FU (x0i, x1, x3, x2, x2)).bind fun v5 =>
    some v5
  else none
def go1347_1 (mc : Int32) (jc : Int32) (tc : Int32) (ma : Int32) (ja : Int32) (ta : Int32) (oc : Int32 → Int32) (oa : Int32 → Int32) (qa : Int32 → Int32) (A : wK → Nat) (h : pm_H) (D : Nat) (R : Outcome × pm_H) (S : wS) : Int32 × Int32 × Int32 × Int32 × Int32 → Prop := fun (x0i, x1, x3, x4, x5) => ∀ q2 : Value, pm_go pm_prog (pm_call pm_prog D) 1347 1 [.ref (A (7, x0i, 0)), .int x1, q2, .int x3, .int x4, .int x5] [] (wput A (Cv_d mc jc tc ma ja ta oc oa qa) S h) = some R
def ex1347_1 (mc : Int32) (jc : Int32) (tc : Int32) (ma : Int32) (ja : Int32) (ta : Int32) (oc : Int32 → Int32) (oa : Int32 → Int32) (qa : Int32 → Int32) (A : wK → Nat) (h : pm_H) (D : Nat) (R : Outcome × pm_H) (S : wS) : (Int32) → Prop := fun x4 => ∀ q0 q1 q2 q3 q5 : Value, pm_go pm_prog (pm_call pm_prog D) 1347 2 [q0, q1, q2, q3, .int x4, q5] [] (wput A (Cv_d mc jc tc ma ja ta oc oa qa) S h) = some R
theorem y1347_b1 {mc : Int32} {jc : Int32} {tc : Int32} {ma : Int32} {ja : Int32} {ta : Int32} {oc : Int32 → Int32} {oa : Int32 → Int32} {qa : Int32 → Int32} {A : wK → Nat} {h : pm_H} {D : Nat} {R : Outcome × pm_H} {S : wS} (hP : Cv_P mc jc tc ma ja ta oc oa qa) (hA : wok A (Cv_d mc jc tc ma ja ta oc oa qa) h.1) (hD : 4 ≤ D) (a : Int32 × Int32 × Int32 × Int32 × Int32) (r : (Int32 × Int32 × Int32 × Int32 × Int32) ⊕ ((Int32))) (e : f1347_b1 mc jc tc ma ja ta oc oa qa S a = some r) (hc : Sum.elim (go1347_1 mc jc tc ma ja ta oc oa qa A h D R S) (ex1347_1 mc jc tc ma ja ta oc oa qa A h D R S) r) : go1347_1 mc jc tc ma ja ta oc oa qa A h D R S a := by
  obtain ⟨x0i, x1, x3, x4, x5⟩ := a
  dsimp only [go1347_1]
  intro q2
  simp only [f1347_b1] at e
  rw [g1347_1, b1347_1]
  by_cases k1 : 0 ≤ x0i ∧ x0i < 3
  · rw [if_pos k1] at e
    by_cases k2 : x5 = (-1)
    · rw [if_pos k2] at e
      have e := Option.some.inj e; subst e
      dsimp only [Sum.elim_inr, ex1347_1] at hc
      simp -implicitDefEqProofs (disch := first | assumption | exact Nat.le_of_ble_eq_true rfl | decide) only [b1347_0, g1347_2, b1347_2, pe_iload2, pe_istore4, pe_iload4, pe_istore5, pe_goto_w, pe_iload5, pe_sipush, pe_icmp_eq, pe_aload0, pe_iload1, pe_iload3, pe_call4, pm_af_ret, pm_af_void, pm_af_thr, pe_getfield, pe_call2, pe_call3, pe_goto, pe_aloadN0, pe_aastoreN, pe_areturnN, pe_null, pm_prog_1, pm_ob_some, Nat.reduceDiv, Nat.reduceMod, Nat.reduceMul, Nat.reduceAdd, Int.reduceToNat, pm_kill_i, pm_kill_r, pm_kill_n, pm_kill_j, pm_kill_l, pm_kill_d, pm_cats_nil, pm_cats_i, pm_cats_r, pm_cats_n, pm_cats_l, pm_cats_d, sz_1, sz_2, sl_1, sl_2, lc_0, lc_lt, lc_le, li_ne, va_rf, wr_m1, we_m1, pm_kill_w, Int32.reduceOfInt, Int64.reduceOfInt, Int32.reduceOfNat, Int32.reduceLT, Int32.reduceLE, Prod.mk.injEq, Nat.reduceEqDiff, reduceCtorEq, and_true, true_and, and_false, false_and, and_self, ite_true, ite_false, ↓reduceIte, not_true_eq_false, not_false_eq_true, pe_ri, pe_rz, pe_rc, Cv_g7_0 hP hA, Cv_k11 hP hA, eq_true k2, hc]
    · rw [if_neg k2] at e
      obtain ⟨v1, k3, e⟩ := Option.bind_eq_some_iff.mp e
      try dsimp only at e
      have z3 := x1348 (D := D) (h := h) hP hA (by omega) k3
      obtain ⟨v2i, k4, e⟩ := Option.bind_eq_some_iff.mp e
      try dsimp only at e
      have z4 := x4034vv1 (D := D) (h := h) hP hA (by omega) k4
      by_cases k5 : 0 ≤ v2i ∧ v2i < mc
      · rw [if_pos k5] at e
        obtain ⟨v3, k6, e⟩ := Option.bind_eq_some_iff.mp e
        try dsimp only at e
        have z6 := x3329 (D := D) (h := h) hP hA (by omega) k6
        obtain ⟨v4, k7, e⟩ := Option.bind_eq_some_iff.mp e
        try dsimp only at e
        have z7 := fun h => x3841 (D := D) (h := h) (by omega) k7
        have e := Option.some.inj e; subst e
        dsimp only [Sum.elim_inl, go1347_1] at hc
        simp -implicitDefEqProofs (disch := first | assumption | exact Nat.le_of_ble_eq_true rfl | decide) only [b1347_0, g1347_2, b1347_2, pe_iload2, pe_istore4, pe_iload4, pe_istore5, pe_goto_w, pe_iload5, pe_sipush, pe_icmp_eq, pe_aload0, pe_iload1, pe_iload3, pe_call4, pm_af_ret, pm_af_void, pm_af_thr, pe_getfield, pe_call2, pe_call3, pe_goto, pe_aloadN0, pe_aastoreN, pe_areturnN, pe_null, pm_prog_1, pm_ob_some, Nat.reduceDiv, Nat.reduceMod, Nat.reduceMul, Nat.reduceAdd, Int.reduceToNat, pm_kill_i, pm_kill_r, pm_kill_n, pm_kill_j, pm_kill_l, pm_kill_d, pm_cats_nil, pm_cats_i, pm_cats_r, pm_cats_n, pm_cats_l, pm_cats_d, sz_1, sz_2, sl_1, sl_2, lc_0, lc_lt, lc_le, li_ne, va_rf, wr_m1, we_m1, pm_kill_w, Int32.reduceOfInt, Int64.reduceOfInt, Int32.reduceOfNat, Int32.reduceLT, Int32.reduceLE, Prod.mk.injEq, Nat.reduceEqDiff, reduceCtorEq, and_true, true_and, and_false, false_and, and_self, ite_true, ite_false, ↓reduceIte, not_true_eq_false, not_false_eq_true, pe_ri, pe_rz, pe_rc, Cv_g7_0 hP hA, Cv_k11 hP hA, eq_false k2, z3, z4, z6, z7, hc]
      · rw [if_neg k5] at e; cases e
  · rw [if_neg k1] at e; cases e
theorem z1347_1 {mc : Int32} {jc : Int32} {tc : Int32} {ma : Int32} {ja : Int32} {ta : Int32} {oc : Int32 → Int32} {oa : Int32 → Int32} {qa : Int32 → Int32} {A : wK → Nat} {h : pm_H} {D : Nat} {R : Outcome × pm_H} {S : wS} (hP : Cv_P mc jc tc ma ja ta oc oa qa) (hA : wok A (Cv_d mc jc tc ma ja ta oc oa qa) h.1) (hD : 4 ≤ D) {n : Nat} {a : Int32 × Int32 × Int32 × Int32 × Int32} {b : (Int32)} (e : lp (f1347_b1 mc jc tc ma ja ta oc oa qa S) n a = some b) (hx : ex1347_1 mc jc tc ma ja ta oc oa qa A h D R S b) : go1347_1 mc jc tc ma ja ta oc oa qa A h D R S a := lp_run (fun a r => y1347_b1 hP hA hD a r) n a b e hx
theorem x1347 {mc : Int32} {jc : Int32} {tc : Int32} {ma : Int32} {ja : Int32} {ta : Int32} {oc : Int32 → Int32} {oa : Int32 → Int32} {qa : Int32 → Int32} {A : wK → Nat} {h : pm_H} {D : Nat} {S : wS} {x0i : Int32} {x1 : Int32} {x2 : Int32} {x3 : Int32} {r : Int32} (hP : Cv_P mc jc tc ma ja ta oc oa qa) (hA : wok A (Cv_d mc jc tc ma ja ta oc oa qa) h.1) (hD : 5 ≤ D) (e : f1347 mc jc tc ma ja ta oc oa qa S x0i x1 x2 x3 = some r) : pm_call pm_prog D 1347 [.ref (A (7, x0i, 0)), .int x1, .int x2, .int x3] (wput A (Cv_d mc jc tc ma ja ta oc oa qa) S h) = some (Outcome.returned (some (.int r)), (wput A (Cv_d mc jc tc ma ja ta oc oa qa) S h)) := by
  obtain ⟨D, rfl⟩ : ∃ D', D = D' + 1 := ⟨D - 1, by omega⟩
  have hD : 4 ≤ D := by omega
  simp only [f1347] at e
  have k1 : 0 ≤ x0i ∧ x0i < 3 := by
    by_cases q : 0 ≤ x0i ∧ x0i < 3
    · exact q
    · rw [if_neg q] at e; cases e
  rw [if_pos k1] at e
  rw [c1347 (Cv_c7 hP hA k1), b1347_0]
  obtain ⟨v5, k2, e⟩ := Option.bind_eq_some_iff.mp e
  try dsimp only at e
  try simp -implicitDefEqProofs (disch := first | assumption | exact Nat.le_of_ble_eq_true rfl | decide) only [b1347_0, g1347_2, b1347_2, pe_iload2, pe_istore4, pe_iload4, pe_istore5, pe_goto_w, pe_iload5, pe_sipush, pe_icmp_eq, pe_aload0, pe_iload1, pe_iload3, pe_call4, pm_af_ret, pm_af_void, pm_af_thr, pe_getfield, pe_call2, pe_call3, pe_goto, pe_aloadN0, pe_aastoreN, pe_areturnN, pe_null, pm_prog_1, pm_ob_some, Nat.reduceDiv, Nat.reduceMod, Nat.reduceMul, Nat.reduceAdd, Int.reduceToNat, pm_kill_i, pm_kill_r, pm_kill_n, pm_kill_j, pm_kill_l, pm_kill_d, pm_cats_nil, pm_cats_i, pm_cats_r, pm_cats_n, pm_cats_l, pm_cats_d, sz_1, sz_2, sl_1, sl_2, lc_0, lc_lt, lc_le, li_ne, va_rf, wr_m1, we_m1, pm_kill_w, Int32.reduceOfInt, Int64.reduceOfInt, Int32.reduceOfNat, Int32.reduceLT, Int32.reduceLE, Prod.mk.injEq, Nat.reduceEqDiff, reduceCtorEq, and_true, true_and, and_false, false_and, and_self, ite_true, ite_false, ↓reduceIte, not_true_eq_false, not_false_eq_true, pe_ri, pe_rz, pe_rc, Cv_g7_0 hP hA, Cv_k11 hP hA]
  refine z1347_1 hP hA hD k2 ?_ _
  dsimp only [ex1347_1]
  intro q0 q1 q2 q3 q5
  have e := Option.some.inj e; subst e
  simp -implicitDefEqProofs (disch := first | assumption | exact Nat.le_of_ble_eq_true rfl | decide) only [b1347_0, g1347_2, b1347_2, pe_iload2, pe_istore4, pe_iload4, pe_istore5, pe_goto_w, pe_iload5, pe_sipush, pe_icmp_eq, pe_aload0, pe_iload1, pe_iload3, pe_call4, pm_af_ret, pm_af_void, pm_af_thr, pe_getfield, pe_call2, pe_call3, pe_goto, pe_aloadN0, pe_aastoreN, pe_areturnN, pe_null, pm_prog_1, pm_ob_some, Nat.reduceDiv, Nat.reduceMod, Nat.reduceMul, Nat.reduceAdd, Int.reduceToNat, pm_kill_i, pm_kill_r, pm_kill_n, pm_kill_j, pm_kill_l, pm_kill_d, pm_cats_nil, pm_cats_i, pm_cats_r, pm_cats_n, pm_cats_l, pm_cats_d, sz_1, sz_2, sl_1, sl_2, lc_0, lc_lt, lc_le, li_ne, va_rf, wr_m1, we_m1, pm_kill_w, Int32.reduceOfInt, Int64.reduceOfInt, Int32.reduceOfNat, Int32.reduceLT, Int32.reduceLE, Prod.mk.injEq, Nat.reduceEqDiff, reduceCtorEq, and_true, true_and, and_false, false_and, and_self, ite_true, ite_false, ↓reduceIte, not_true_eq_false, not_false_eq_true, pe_ri, pe_rz, pe_rc, Cv_g7_0 hP hA, Cv_k11 hP hA]
/-- TimberHouse$WorkPlans$Board.put(LTimberHouse$WorkPlans$Job;)I -/
theorem c1346 {d : Nat} {h : pm_H} {a : Nat} {r0 : Nat} (hc : pm_cls h a = some 21) : pm_call pm_prog (d + 1) 1346 [.ref a, .ref r0] h = pm_ev pm_prog (pm_call pm_prog d) 1346 0 b1346_0 [.ref a, .ref r0, pm_junk, pm_junk, pm_junk, pm_junk, pm_junk, pm_junk, pm_junk, pm_junk] [] h := pm_cal (pm_rc1 hc rfl) rfl rfl rfl
theorem g1346_1 {cl : pm_C} {ls st : List Value} {h : pm_H} : pm_go pm_prog cl 1346 1 ls st h = pm_ev pm_prog cl 1346 1 b1346_1 ls st h := pm_go_eq pm_prog cl 1346 1 ls st h
theorem g1346_2 {cl : pm_C} {ls st : List Value} {h : pm_H} : pm_go pm_prog cl 1346 2 ls st h = pm_ev pm_prog cl 1346 2 b1346_2 ls st h := pm_go_eq pm_prog cl 1346 2 ls st h
theorem g1346_3 {cl : pm_C} {ls st : List Value} {h : pm_H} : pm_go pm_prog cl 1346 3 ls st h = pm_ev pm_prog cl 1346 3 b1346_3 ls st h := pm_go_eq pm_prog cl 1346 3 ls st h
theorem g1346_4 {cl : pm_C} {ls st : List Value} {h : pm_H} : pm_go pm_prog cl 1346 4 ls st h = pm_ev pm_prog cl 1346 4 b1346_4 ls st h := pm_go_eq pm_prog cl 1346 4 ls st h
theorem g1346_5 {cl : pm_C} {ls st : List Value} {h : pm_H} : pm_go pm_prog cl 1346 5 ls st h = pm_ev pm_prog cl 1346 5 b1346_5 ls st h := pm_go_eq pm_prog cl 1346 5 ls st h
theorem g1346_6 {cl : pm_C} {ls st : List Value} {h : pm_H} : pm_go pm_prog cl 1346 6 ls st h = pm_ev pm_prog cl 1346 6 b1346_6 ls st h := pm_go_eq pm_prog cl 1346 6 ls st h
noncomputable def f1346_b2 (mc : Int32) (jc : Int32) (tc : Int32) (ma : Int32) (ja : Int32) (ta : Int32) (oc : Int32 → Int32) (oa : Int32 → Int32) (qa : Int32 → Int32) (S : wS) : Int32 × Int32 × Int32 × Int32 × Int32 × Int32 × Int32 × Int32 → Option ((Int32 × Int32 × Int32 × Int32 × Int32 × Int32 × Int32 × Int32) ⊕ ((Int32 × Int32 × Int32 × Int32 × Int32 × Int32))) := fun (x0i, x1i, x2, x4, x5i, x6, x7, x8) =>
  if 0 ≤ x0i ∧ x0i < 3 then
    if 0 ≤ x1i ∧ x1i < jc then
      if 0 ≤ x5i ∧ x5i < tc then
        (f4033vv2 mc jc tc ma ja ta oc oa qa S).bind fun v3 =>
        if x8 < v3 then
          (f4034vv1 mc jc tc ma ja ta oc oa qa S x8).bind fun v4i =>
          if 0 ≤ v4i ∧ v4i < mc then
            if (S.1 (11, v4i, 0) 0) = (S.1 (16, x5i, 0) 1) then
              (f1347 mc jc tc ma ja ta oc oa qa S x0i x8 x2 (S.1 (16, x5i, 0) 2)).bind fun v5 =>
              if v5 < x6 then
                some (.inl (x0i, x1i, x2, x4, x5i, v5, x8, (x8 + 1)))
              else
                some (.inl (x0i, x1i, x2, x4, x5i, x6, x7, (x8 + 1)))
            else
              some (.inl (x0i, x1i, x2, x4, x5i, x6, x7, (x8 + 1)))
          else none
        else
          some (.inr (x0i, x1i, x4, x5i, x6, x7))
      else none
    else none
  else none
noncomputable def f1346_b1 (mc : Int32) (jc : Int32) (tc : Int32) (ma : Int32) (ja : Int32) (ta : Int32) (oc : Int32 → Int32) (oa : Int32 → Int32) (qa : Int32 → Int32) : Int32 × Int32 × Int32 × Int32 × Int32 × wS → Option ((Int32 × Int32 × Int32 × Int32 × Int32 × wS) ⊕ ((Int32 × wS))) := fun (x0i, x1i, x2, x3, x4, S) =>
  if 0 ≤ x0i ∧ x0i < 3 then
    if 0 ≤ x1i ∧ x1i < jc then
      (f4033vv1 mc jc tc ma ja ta oc oa qa S x1i).bind fun v1 =>
      if x4 < v1 then
        (f4034vv2 mc jc tc ma ja ta oc oa qa S x1i x4).bind fun v2i =>
        if 0 ≤ v2i ∧ v2i < tc then
          (lp (f1346_b2 mc jc tc ma ja ta oc oa qa S) FU (x0i, x1i, x2, x4, v2i, 2147483647, (-1), 0)).bind fun (v6i, v7i, v8, v9i, v10, v11) =>
          if 0 ≤ v6i ∧ v6i < 3 then
            if 0 ≤ v7i ∧ v7i < jc then
              if 0 ≤ v9i ∧ v9i < tc then
                if 0 ≤ (S.1 (16, v9i, 0) 0) ∧ (S.1 (16, v9i, 0) 0) < 24 then
                  some (.inl (v6i, v7i, ((v10 + (S.1 (16, v9i, 0) 2)) + (S.1 (16, v9i, 0) 3)), (v10 + (S.1 (16, v9i, 0) 2)), (v8 + 1), (sz (sz S (19, v6i, 0) (S.1 (16, v9i, 0) 0) v10) (20, v6i, 0) (S.1 (16, v9i, 0) 0) v11)))
                else none
              else none
            else none
          else none
        else none
      else
        some (.inr (x3, S))
    else none
  else none
/-- TimberHouse$WorkPlans$Board.put(LTimberHouse$WorkPlans$Job;)I -/
noncomputable def f1346 (mc : Int32) (jc : Int32) (tc : Int32) (ma : Int32) (ja : Int32) (ta : Int32) (oc : Int32 → Int32) (oa : Int32 → Int32) (qa : Int32 → Int32) (S : wS) (x0i : Int32) (x1i : Int32) : Option (Int32 × wS) :=
  if 0 ≤ x0i ∧ x0i < 3 then
    if 0 ≤ x1i ∧ x1i < jc then
      (lp (f1346_b1 mc jc tc ma ja ta oc oa qa) FU (x0i, x1i, 0, 0, 0, S)).bind fun (v13, S12) =>
      some (v13, S12)
    else none
  else none
def go1346_2 (mc : Int32) (jc : Int32) (tc : Int32) (ma : Int32) (ja : Int32) (ta : Int32) (oc : Int32 → Int32) (oa : Int32 → Int32) (qa : Int32 → Int32) (A : wK → Nat) (h : pm_H) (D : Nat) (R : Outcome × pm_H) (S : wS) : Int32 × Int32 × Int32 × Int32 × Int32 × Int32 × Int32 × Int32 → Prop := fun (x0i, x1i, x2, x4, x5i, x6, x7, x8) => ∀ q3 q9 : Value, pm_go pm_prog (pm_call pm_prog D) 1346 2 [.ref (A (7, x0i, 0)), .ref (A (15, x1i, 0)), .int x2, q3, .int x4, .ref (A (16, x5i, 0)), .int x6, .int x7, .int x8, q9] [] (wput A (Cv_d mc jc tc ma ja ta oc oa qa) S h) = some R
def ex1346_2 (mc : Int32) (jc : Int32) (tc : Int32) (ma : Int32) (ja : Int32) (ta : Int32) (oc : Int32 → Int32) (oa : Int32 → Int32) (qa : Int32 → Int32) (A : wK → Nat) (h : pm_H) (D : Nat) (R : Outcome × pm_H) (S : wS) : (Int32 × Int32 × Int32 × Int32 × Int32 × Int32) → Prop := fun (x0i, x1i, x4, x5i, x6, x7) => ∀ q2 q3 q8 q9 : Value, pm_go pm_prog (pm_call pm_prog D) 1346 5 [.ref (A (7, x0i, 0)), .ref (A (15, x1i, 0)), q2, q3, .int x4, .ref (A (16, x5i, 0)), .int x6, .int x7, q8, q9] [] (wput A (Cv_d mc jc tc ma ja ta oc oa qa) S h) = some R
theorem y1346_b2 {mc : Int32} {jc : Int32} {tc : Int32} {ma : Int32} {ja : Int32} {ta : Int32} {oc : Int32 → Int32} {oa : Int32 → Int32} {qa : Int32 → Int32} {A : wK → Nat} {h : pm_H} {D : Nat} {R : Outcome × pm_H} {S : wS} (hP : Cv_P mc jc tc ma ja ta oc oa qa) (hA : wok A (Cv_d mc jc tc ma ja ta oc oa qa) h.1) (hD : 5 ≤ D) (a : Int32 × Int32 × Int32 × Int32 × Int32 × Int32 × Int32 × Int32) (r : (Int32 × Int32 × Int32 × Int32 × Int32 × Int32 × Int32 × Int32) ⊕ ((Int32 × Int32 × Int32 × Int32 × Int32 × Int32))) (e : f1346_b2 mc jc tc ma ja ta oc oa qa S a = some r) (hc : Sum.elim (go1346_2 mc jc tc ma ja ta oc oa qa A h D R S) (ex1346_2 mc jc tc ma ja ta oc oa qa A h D R S) r) : go1346_2 mc jc tc ma ja ta oc oa qa A h D R S a := by
  obtain ⟨x0i, x1i, x2, x4, x5i, x6, x7, x8⟩ := a
  dsimp only [go1346_2]
  intro q3 q9
  simp only [f1346_b2] at e
  rw [g1346_2, b1346_2]
  by_cases k1 : 0 ≤ x0i ∧ x0i < 3
  · rw [if_pos k1] at e
    by_cases k2 : 0 ≤ x1i ∧ x1i < jc
    · rw [if_pos k2] at e
      by_cases k3 : 0 ≤ x5i ∧ x5i < tc
      · rw [if_pos k3] at e
        obtain ⟨v3, k4, e⟩ := Option.bind_eq_some_iff.mp e
        try dsimp only at e
        have z4 := x4033vv2 (D := D) (h := h) hP hA (by omega) k4
        by_cases k5 : x8 < v3
        · rw [if_pos k5] at e
          obtain ⟨v4i, k6, e⟩ := Option.bind_eq_some_iff.mp e
          try dsimp only at e
          have z6 := x4034vv1 (D := D) (h := h) hP hA (by omega) k6
          by_cases k7 : 0 ≤ v4i ∧ v4i < mc
          · rw [if_pos k7] at e
            by_cases k8 : (S.1 (11, v4i, 0) 0) = (S.1 (16, x5i, 0) 1)
            · rw [if_pos k8] at e
              obtain ⟨v5, k9, e⟩ := Option.bind_eq_some_iff.mp e
              try dsimp only at e
              have z9 := x1347 (D := D) (h := h) hP hA (by omega) k9
              by_cases k10 : v5 < x6
              · rw [if_pos k10] at e
                have e := Option.some.inj e; subst e
                dsimp only [Sum.elim_inl, go1346_2] at hc
                simp -implicitDefEqProofs (disch := first | assumption | exact Nat.le_of_ble_eq_true rfl | decide) only [b1346_0, g1346_3, b1346_3, g1346_4, b1346_4, g1346_5, b1346_5, g1346_6, b1346_6, pe_sipush, pe_istore2, pe_istore3, pe_istore4, pe_goto_w, pe_iload4, pe_aload1, pe_getfield, pe_call1, pm_af_ret, pm_af_void, pm_af_thr, pe_icmp_ge, pe_call2, pe_astore5, pe_istore6, pe_istore7, pe_istore8, pe_iload8, pe_aload0, pe_aload5, pe_icmp_eq, pe_goto, pe_iload2, pe_call4, pe_istore9, pe_iload9, pe_iload6, pe_iinc8, pe_iastore, pe_iload7, pe_iadd, pe_iload3, pe_iinc4, pe_aloadN1, pe_astoreN5, pe_aloadN0, pe_aloadN5, pe_aastoreN, pe_areturnN, pe_null, pm_prog_1, pm_ob_some, Nat.reduceDiv, Nat.reduceMod, Nat.reduceMul, Nat.reduceAdd, Int.reduceToNat, pm_kill_i, pm_kill_r, pm_kill_n, pm_kill_j, pm_kill_l, pm_kill_d, pm_cats_nil, pm_cats_i, pm_cats_r, pm_cats_n, pm_cats_l, pm_cats_d, sz_1, sz_2, sl_1, sl_2, lc_0, lc_lt, lc_le, li_ne, va_rf, wr_m1, we_m1, pm_kill_w, Int32.reduceOfInt, Int64.reduceOfInt, Int32.reduceOfNat, Int32.reduceLT, Int32.reduceLE, Prod.mk.injEq, Nat.reduceEqDiff, reduceCtorEq, and_true, true_and, and_false, false_and, and_self, ite_true, ite_false, ↓reduceIte, not_true_eq_false, not_false_eq_true, pe_ri, pe_rz, pe_rc, Cv_g11_0 hP hA, Cv_g15_2 hP hA, Cv_g16_0 hP hA, Cv_g16_1 hP hA, Cv_g16_2 hP hA, Cv_g16_3 hP hA, Cv_g7_0 hP hA, Cv_g7_2 hP hA, Cv_g7_3 hP hA, Cv_k11 hP hA, Cv_k16 hP hA, Cv_w19 hP hA, Cv_w20 hP hA, z4, eq_true k5, z6, eq_true k8, z9, eq_true k10, hc]
              · rw [if_neg k10] at e
                have e := Option.some.inj e; subst e
                dsimp only [Sum.elim_inl, go1346_2] at hc
                simp -implicitDefEqProofs (disch := first | assumption | exact Nat.le_of_ble_eq_true rfl | decide) only [b1346_0, g1346_3, b1346_3, g1346_4, b1346_4, g1346_5, b1346_5, g1346_6, b1346_6, pe_sipush, pe_istore2, pe_istore3, pe_istore4, pe_goto_w, pe_iload4, pe_aload1, pe_getfield, pe_call1, pm_af_ret, pm_af_void, pm_af_thr, pe_icmp_ge, pe_call2, pe_astore5, pe_istore6, pe_istore7, pe_istore8, pe_iload8, pe_aload0, pe_aload5, pe_icmp_eq, pe_goto, pe_iload2, pe_call4, pe_istore9, pe_iload9, pe_iload6, pe_iinc8, pe_iastore, pe_iload7, pe_iadd, pe_iload3, pe_iinc4, pe_aloadN1, pe_astoreN5, pe_aloadN0, pe_aloadN5, pe_aastoreN, pe_areturnN, pe_null, pm_prog_1, pm_ob_some, Nat.reduceDiv, Nat.reduceMod, Nat.reduceMul, Nat.reduceAdd, Int.reduceToNat, pm_kill_i, pm_kill_r, pm_kill_n, pm_kill_j, pm_kill_l, pm_kill_d, pm_cats_nil, pm_cats_i, pm_cats_r, pm_cats_n, pm_cats_l, pm_cats_d, sz_1, sz_2, sl_1, sl_2, lc_0, lc_lt, lc_le, li_ne, va_rf, wr_m1, we_m1, pm_kill_w, Int32.reduceOfInt, Int64.reduceOfInt, Int32.reduceOfNat, Int32.reduceLT, Int32.reduceLE, Prod.mk.injEq, Nat.reduceEqDiff, reduceCtorEq, and_true, true_and, and_false, false_and, and_self, ite_true, ite_false, ↓reduceIte, not_true_eq_false, not_false_eq_true, pe_ri, pe_rz, pe_rc, Cv_g11_0 hP hA, Cv_g15_2 hP hA, Cv_g16_0 hP hA, Cv_g16_1 hP hA, Cv_g16_2 hP hA, Cv_g16_3 hP hA, Cv_g7_0 hP hA, Cv_g7_2 hP hA, Cv_g7_3 hP hA, Cv_k11 hP hA, Cv_k16 hP hA, Cv_w19 hP hA, Cv_w20 hP hA, z4, eq_true k5, z6, eq_true k8, z9, eq_false k10, hc]
            · rw [if_neg k8] at e
              have e := Option.some.inj e; subst e
              dsimp only [Sum.elim_inl, go1346_2] at hc
              simp -implicitDefEqProofs (disch := first | assumption | exact Nat.le_of_ble_eq_true rfl | decide) only [b1346_0, g1346_3, b1346_3, g1346_4, b1346_4, g1346_5, b1346_5, g1346_6, b1346_6, pe_sipush, pe_istore2, pe_istore3, pe_istore4, pe_goto_w, pe_iload4, pe_aload1, pe_getfield, pe_call1, pm_af_ret, pm_af_void, pm_af_thr, pe_icmp_ge, pe_call2, pe_astore5, pe_istore6, pe_istore7, pe_istore8, pe_iload8, pe_aload0, pe_aload5, pe_icmp_eq, pe_goto, pe_iload2, pe_call4, pe_istore9, pe_iload9, pe_iload6, pe_iinc8, pe_iastore, pe_iload7, pe_iadd, pe_iload3, pe_iinc4, pe_aloadN1, pe_astoreN5, pe_aloadN0, pe_aloadN5, pe_aastoreN, pe_areturnN, pe_null, pm_prog_1, pm_ob_some, Nat.reduceDiv, Nat.reduceMod, Nat.reduceMul, Nat.reduceAdd, Int.reduceToNat, pm_kill_i, pm_kill_r, pm_kill_n, pm_kill_j, pm_kill_l, pm_kill_d, pm_cats_nil, pm_cats_i, pm_cats_r, pm_cats_n, pm_cats_l, pm_cats_d, sz_1, sz_2, sl_1, sl_2, lc_0, lc_lt, lc_le, li_ne, va_rf, wr_m1, we_m1, pm_kill_w, Int32.reduceOfInt, Int64.reduceOfInt, Int32.reduceOfNat, Int32.reduceLT, Int32.reduceLE, Prod.mk.injEq, Nat.reduceEqDiff, reduceCtorEq, and_true, true_and, and_false, false_and, and_self, ite_true, ite_false, ↓reduceIte, not_true_eq_false, not_false_eq_true, pe_ri, pe_rz, pe_rc, Cv_g11_0 hP hA, Cv_g15_2 hP hA, Cv_g16_0 hP hA, Cv_g16_1 hP hA, Cv_g16_2 hP hA, Cv_g16_3 hP hA, Cv_g7_0 hP hA, Cv_g7_2 hP hA, Cv_g7_3 hP hA, Cv_k11 hP hA, Cv_k16 hP hA, Cv_w19 hP hA, Cv_w20 hP hA, z4, eq_true k5, z6, eq_false k8, hc]
          · rw [if_neg k7] at e; cases e
        · rw [if_neg k5] at e
          have e := Option.some.inj e; subst e
          dsimp only [Sum.elim_inr, ex1346_2] at hc
          simp -implicitDefEqProofs (disch := first | assumption | exact Nat.le_of_ble_eq_true rfl | decide) only [b1346_0, g1346_3, b1346_3, g1346_4, b1346_4, g1346_5, b1346_5, g1346_6, b1346_6, pe_sipush, pe_istore2, pe_istore3, pe_istore4, pe_goto_w, pe_iload4, pe_aload1, pe_getfield, pe_call1, pm_af_ret, pm_af_void, pm_af_thr, pe_icmp_ge, pe_call2, pe_astore5, pe_istore6, pe_istore7, pe_istore8, pe_iload8, pe_aload0, pe_aload5, pe_icmp_eq, pe_goto, pe_iload2, pe_call4, pe_istore9, pe_iload9, pe_iload6, pe_iinc8, pe_iastore, pe_iload7, pe_iadd, pe_iload3, pe_iinc4, pe_aloadN1, pe_astoreN5, pe_aloadN0, pe_aloadN5, pe_aastoreN, pe_areturnN, pe_null, pm_prog_1, pm_ob_some, Nat.reduceDiv, Nat.reduceMod, Nat.reduceMul, Nat.reduceAdd, Int.reduceToNat, pm_kill_i, pm_kill_r, pm_kill_n, pm_kill_j, pm_kill_l, pm_kill_d, pm_cats_nil, pm_cats_i, pm_cats_r, pm_cats_n, pm_cats_l, pm_cats_d, sz_1, sz_2, sl_1, sl_2, lc_0, lc_lt, lc_le, li_ne, va_rf, wr_m1, we_m1, pm_kill_w, Int32.reduceOfInt, Int64.reduceOfInt, Int32.reduceOfNat, Int32.reduceLT, Int32.reduceLE, Prod.mk.injEq, Nat.reduceEqDiff, reduceCtorEq, and_true, true_and, and_false, false_and, and_self, ite_true, ite_false, ↓reduceIte, not_true_eq_false, not_false_eq_true, pe_ri, pe_rz, pe_rc, Cv_g11_0 hP hA, Cv_g15_2 hP hA, Cv_g16_0 hP hA, Cv_g16_1 hP hA, Cv_g16_2 hP hA, Cv_g16_3 hP hA, Cv_g7_0 hP hA, Cv_g7_2 hP hA, Cv_g7_3 hP hA, Cv_k11 hP hA, Cv_k16 hP hA, Cv_w19 hP hA, Cv_w20 hP hA, z4, eq_false k5, hc]
      · rw [if_neg k3] at e; cases e
    · rw [if_neg k2] at e; cases e
  · rw [if_neg k1] at e; cases e
theorem z1346_2 {mc : Int32} {jc : Int32} {tc : Int32} {ma : Int32} {ja : Int32} {ta : Int32} {oc : Int32 → Int32} {oa : Int32 → Int32} {qa : Int32 → Int32} {A : wK → Nat} {h : pm_H} {D : Nat} {R : Outcome × pm_H} {S : wS} (hP : Cv_P mc jc tc ma ja ta oc oa qa) (hA : wok A (Cv_d mc jc tc ma ja ta oc oa qa) h.1) (hD : 5 ≤ D) {n : Nat} {a : Int32 × Int32 × Int32 × Int32 × Int32 × Int32 × Int32 × Int32} {b : (Int32 × Int32 × Int32 × Int32 × Int32 × Int32)} (e : lp (f1346_b2 mc jc tc ma ja ta oc oa qa S) n a = some b) (hx : ex1346_2 mc jc tc ma ja ta oc oa qa A h D R S b) : go1346_2 mc jc tc ma ja ta oc oa qa A h D R S a := lp_run (fun a r => y1346_b2 hP hA hD a r) n a b e hx
def go1346_1 (mc : Int32) (jc : Int32) (tc : Int32) (ma : Int32) (ja : Int32) (ta : Int32) (oc : Int32 → Int32) (oa : Int32 → Int32) (qa : Int32 → Int32) (A : wK → Nat) (h : pm_H) (D : Nat) (R : Outcome × pm_H) : Int32 × Int32 × Int32 × Int32 × Int32 × wS → Prop := fun (x0i, x1i, x2, x3, x4, S) => ∀ q5 q6 q7 q8 q9 : Value, pm_go pm_prog (pm_call pm_prog D) 1346 1 [.ref (A (7, x0i, 0)), .ref (A (15, x1i, 0)), .int x2, .int x3, .int x4, q5, q6, q7, q8, q9] [] (wput A (Cv_d mc jc tc ma ja ta oc oa qa) S h) = some R
def ex1346_1 (mc : Int32) (jc : Int32) (tc : Int32) (ma : Int32) (ja : Int32) (ta : Int32) (oc : Int32 → Int32) (oa : Int32 → Int32) (qa : Int32 → Int32) (A : wK → Nat) (h : pm_H) (D : Nat) (R : Outcome × pm_H) : (Int32 × wS) → Prop := fun (x3, S) => ∀ q0 q1 q2 q4 q5 q6 q7 q8 q9 : Value, pm_go pm_prog (pm_call pm_prog D) 1346 6 [q0, q1, q2, .int x3, q4, q5, q6, q7, q8, q9] [] (wput A (Cv_d mc jc tc ma ja ta oc oa qa) S h) = some R
theorem y1346_b1 {mc : Int32} {jc : Int32} {tc : Int32} {ma : Int32} {ja : Int32} {ta : Int32} {oc : Int32 → Int32} {oa : Int32 → Int32} {qa : Int32 → Int32} {A : wK → Nat} {h : pm_H} {D : Nat} {R : Outcome × pm_H} (hP : Cv_P mc jc tc ma ja ta oc oa qa) (hA : wok A (Cv_d mc jc tc ma ja ta oc oa qa) h.1) (hD : 5 ≤ D) (a : Int32 × Int32 × Int32 × Int32 × Int32 × wS) (r : (Int32 × Int32 × Int32 × Int32 × Int32 × wS) ⊕ ((Int32 × wS))) (e : f1346_b1 mc jc tc ma ja ta oc oa qa a = some r) (hc : Sum.elim (go1346_1 mc jc tc ma ja ta oc oa qa A h D R) (ex1346_1 mc jc tc ma ja ta oc oa qa A h D R) r) : go1346_1 mc jc tc ma ja ta oc oa qa A h D R a := by
  obtain ⟨x0i, x1i, x2, x3, x4, S⟩ := a
  dsimp only [go1346_1]
  intro q5 q6 q7 q8 q9
  simp only [f1346_b1] at e
  rw [g1346_1, b1346_1]
  by_cases k1 : 0 ≤ x0i ∧ x0i < 3
  · rw [if_pos k1] at e
    by_cases k2 : 0 ≤ x1i ∧ x1i < jc
    · rw [if_pos k2] at e
      obtain ⟨v1, k3, e⟩ := Option.bind_eq_some_iff.mp e
      try dsimp only at e
      have z3 := x4033vv1 (D := D) (h := h) hP hA (by omega) k3
      by_cases k4 : x4 < v1
      · rw [if_pos k4] at e
        obtain ⟨v2i, k5, e⟩ := Option.bind_eq_some_iff.mp e
        try dsimp only at e
        have z5 := x4034vv2 (D := D) (h := h) hP hA (by omega) k5
        by_cases k6 : 0 ≤ v2i ∧ v2i < tc
        · rw [if_pos k6] at e
          obtain ⟨⟨v6i, v7i, v8, v9i, v10, v11⟩, k7, e⟩ := Option.bind_eq_some_iff.mp e
          try dsimp only at e
          try simp -implicitDefEqProofs (disch := first | assumption | exact Nat.le_of_ble_eq_true rfl | decide) only [b1346_0, g1346_3, b1346_3, g1346_4, b1346_4, g1346_5, b1346_5, g1346_6, b1346_6, pe_sipush, pe_istore2, pe_istore3, pe_istore4, pe_goto_w, pe_iload4, pe_aload1, pe_getfield, pe_call1, pm_af_ret, pm_af_void, pm_af_thr, pe_icmp_ge, pe_call2, pe_astore5, pe_istore6, pe_istore7, pe_istore8, pe_iload8, pe_aload0, pe_aload5, pe_icmp_eq, pe_goto, pe_iload2, pe_call4, pe_istore9, pe_iload9, pe_iload6, pe_iinc8, pe_iastore, pe_iload7, pe_iadd, pe_iload3, pe_iinc4, pe_aloadN1, pe_astoreN5, pe_aloadN0, pe_aloadN5, pe_aastoreN, pe_areturnN, pe_null, pm_prog_1, pm_ob_some, Nat.reduceDiv, Nat.reduceMod, Nat.reduceMul, Nat.reduceAdd, Int.reduceToNat, pm_kill_i, pm_kill_r, pm_kill_n, pm_kill_j, pm_kill_l, pm_kill_d, pm_cats_nil, pm_cats_i, pm_cats_r, pm_cats_n, pm_cats_l, pm_cats_d, sz_1, sz_2, sl_1, sl_2, lc_0, lc_lt, lc_le, li_ne, va_rf, wr_m1, we_m1, pm_kill_w, Int32.reduceOfInt, Int64.reduceOfInt, Int32.reduceOfNat, Int32.reduceLT, Int32.reduceLE, Prod.mk.injEq, Nat.reduceEqDiff, reduceCtorEq, and_true, true_and, and_false, false_and, and_self, ite_true, ite_false, ↓reduceIte, not_true_eq_false, not_false_eq_true, pe_ri, pe_rz, pe_rc, Cv_g11_0 hP hA, Cv_g15_2 hP hA, Cv_g16_0 hP hA, Cv_g16_1 hP hA, Cv_g16_2 hP hA, Cv_g16_3 hP hA, Cv_g7_0 hP hA, Cv_g7_2 hP hA, Cv_g7_3 hP hA, Cv_k11 hP hA, Cv_k16 hP hA, Cv_w19 hP hA, Cv_w20 hP hA, z3, eq_true k4, z5]
          refine z1346_2 hP hA hD k7 ?_ _ _
          dsimp only [ex1346_2]
          intro q2 q3 q8 q9
          by_cases k8 : 0 ≤ v6i ∧ v6i < 3
          · rw [if_pos k8] at e
            by_cases k9 : 0 ≤ v7i ∧ v7i < jc
            · rw [if_pos k9] at e
              by_cases k10 : 0 ≤ v9i ∧ v9i < tc
              · rw [if_pos k10] at e
                by_cases k11 : 0 ≤ (S.1 (16, v9i, 0) 0) ∧ (S.1 (16, v9i, 0) 0) < 24
                · rw [if_pos k11] at e
                  have e := Option.some.inj e; subst e
                  dsimp only [Sum.elim_inl, go1346_1] at hc
                  simp -implicitDefEqProofs (disch := first | assumption | exact Nat.le_of_ble_eq_true rfl | decide) only [b1346_0, g1346_3, b1346_3, g1346_4, b1346_4, g1346_5, b1346_5, g1346_6, b1346_6, pe_sipush, pe_istore2, pe_istore3, pe_istore4, pe_goto_w, pe_iload4, pe_aload1, pe_getfield, pe_call1, pm_af_ret, pm_af_void, pm_af_thr, pe_icmp_ge, pe_call2, pe_astore5, pe_istore6, pe_istore7, pe_istore8, pe_iload8, pe_aload0, pe_aload5, pe_icmp_eq, pe_goto, pe_iload2, pe_call4, pe_istore9, pe_iload9, pe_iload6, pe_iinc8, pe_iastore, pe_iload7, pe_iadd, pe_iload3, pe_iinc4, pe_aloadN1, pe_astoreN5, pe_aloadN0, pe_aloadN5, pe_aastoreN, pe_areturnN, pe_null, pm_prog_1, pm_ob_some, Nat.reduceDiv, Nat.reduceMod, Nat.reduceMul, Nat.reduceAdd, Int.reduceToNat, pm_kill_i, pm_kill_r, pm_kill_n, pm_kill_j, pm_kill_l, pm_kill_d, pm_cats_nil, pm_cats_i, pm_cats_r, pm_cats_n, pm_cats_l, pm_cats_d, sz_1, sz_2, sl_1, sl_2, lc_0, lc_lt, lc_le, li_ne, va_rf, wr_m1, we_m1, pm_kill_w, Int32.reduceOfInt, Int64.reduceOfInt, Int32.reduceOfNat, Int32.reduceLT, Int32.reduceLE, Prod.mk.injEq, Nat.reduceEqDiff, reduceCtorEq, and_true, true_and, and_false, false_and, and_self, ite_true, ite_false, ↓reduceIte, not_true_eq_false, not_false_eq_true, pe_ri, pe_rz, pe_rc, Cv_g11_0 hP hA, Cv_g15_2 hP hA, Cv_g16_0 hP hA, Cv_g16_1 hP hA, Cv_g16_2 hP hA, Cv_g16_3 hP hA, Cv_g7_0 hP hA, Cv_g7_2 hP hA, Cv_g7_3 hP hA, Cv_k11 hP hA, Cv_k16 hP hA, Cv_w19 hP hA, Cv_w20 hP hA, z3, eq_true k4, z5, hc]
                · rw [if_neg k11] at e; cases e
              · rw [if_neg k10] at e; cases e
            · rw [if_neg k9] at e; cases e
          · rw [if_neg k8] at e; cases e
        · rw [if_neg k6] at e; cases e
      · rw [if_neg k4] at e
        have e := Option.some.inj e; subst e
        dsimp only [Sum.elim_inr, ex1346_1] at hc
        simp -implicitDefEqProofs (disch := first | assumption | exact Nat.le_of_ble_eq_true rfl | decide) only [b1346_0, g1346_3, b1346_3, g1346_4, b1346_4, g1346_5, b1346_5, g1346_6, b1346_6, pe_sipush, pe_istore2, pe_istore3, pe_istore4, pe_goto_w, pe_iload4, pe_aload1, pe_getfield, pe_call1, pm_af_ret, pm_af_void, pm_af_thr, pe_icmp_ge, pe_call2, pe_astore5, pe_istore6, pe_istore7, pe_istore8, pe_iload8, pe_aload0, pe_aload5, pe_icmp_eq, pe_goto, pe_iload2, pe_call4, pe_istore9, pe_iload9, pe_iload6, pe_iinc8, pe_iastore, pe_iload7, pe_iadd, pe_iload3, pe_iinc4, pe_aloadN1, pe_astoreN5, pe_aloadN0, pe_aloadN5, pe_aastoreN, pe_areturnN, pe_null, pm_prog_1, pm_ob_some, Nat.reduceDiv, Nat.reduceMod, Nat.reduceMul, Nat.reduceAdd, Int.reduceToNat, pm_kill_i, pm_kill_r, pm_kill_n, pm_kill_j, pm_kill_l, pm_kill_d, pm_cats_nil, pm_cats_i, pm_cats_r, pm_cats_n, pm_cats_l, pm_cats_d, sz_1, sz_2, sl_1, sl_2, lc_0, lc_lt, lc_le, li_ne, va_rf, wr_m1, we_m1, pm_kill_w, Int32.reduceOfInt, Int64.reduceOfInt, Int32.reduceOfNat, Int32.reduceLT, Int32.reduceLE, Prod.mk.injEq, Nat.reduceEqDiff, reduceCtorEq, and_true, true_and, and_false, false_and, and_self, ite_true, ite_false, ↓reduceIte, not_true_eq_false, not_false_eq_true, pe_ri, pe_rz, pe_rc, Cv_g11_0 hP hA, Cv_g15_2 hP hA, Cv_g16_0 hP hA, Cv_g16_1 hP hA, Cv_g16_2 hP hA, Cv_g16_3 hP hA, Cv_g7_0 hP hA, Cv_g7_2 hP hA, Cv_g7_3 hP hA, Cv_k11 hP hA, Cv_k16 hP hA, Cv_w19 hP hA, Cv_w20 hP hA, z3, eq_false k4, hc]
    · rw [if_neg k2] at e; cases e
  · rw [if_neg k1] at e; cases e
theorem z1346_1 {mc : Int32} {jc : Int32} {tc : Int32} {ma : Int32} {ja : Int32} {ta : Int32} {oc : Int32 → Int32} {oa : Int32 → Int32} {qa : Int32 → Int32} {A : wK → Nat} {h : pm_H} {D : Nat} {R : Outcome × pm_H} (hP : Cv_P mc jc tc ma ja ta oc oa qa) (hA : wok A (Cv_d mc jc tc ma ja ta oc oa qa) h.1) (hD : 5 ≤ D) {n : Nat} {a : Int32 × Int32 × Int32 × Int32 × Int32 × wS} {b : (Int32 × wS)} (e : lp (f1346_b1 mc jc tc ma ja ta oc oa qa) n a = some b) (hx : ex1346_1 mc jc tc ma ja ta oc oa qa A h D R b) : go1346_1 mc jc tc ma ja ta oc oa qa A h D R a := lp_run (fun a r => y1346_b1 hP hA hD a r) n a b e hx
theorem x1346 {mc : Int32} {jc : Int32} {tc : Int32} {ma : Int32} {ja : Int32} {ta : Int32} {oc : Int32 → Int32} {oa : Int32 → Int32} {qa : Int32 → Int32} {A : wK → Nat} {h : pm_H} {D : Nat} {S : wS} {x0i : Int32} {x1i : Int32} {r : Int32 × wS} (hP : Cv_P mc jc tc ma ja ta oc oa qa) (hA : wok A (Cv_d mc jc tc ma ja ta oc oa qa) h.1) (hD : 6 ≤ D) (e : f1346 mc jc tc ma ja ta oc oa qa S x0i x1i = some r) : pm_call pm_prog D 1346 [.ref (A (7, x0i, 0)), .ref (A (15, x1i, 0))] (wput A (Cv_d mc jc tc ma ja ta oc oa qa) S h) = some (match (generalizing := false) r with | (w0, S1) => (Outcome.returned (some (.int w0)), (wput A (Cv_d mc jc tc ma ja ta oc oa qa) S1 h))) := by
  obtain ⟨D, rfl⟩ : ∃ D', D = D' + 1 := ⟨D - 1, by omega⟩
  have hD : 5 ≤ D := by omega
  simp only [f1346] at e
  have k1 : 0 ≤ x0i ∧ x0i < 3 := by
    by_cases q : 0 ≤ x0i ∧ x0i < 3
    · exact q
    · rw [if_neg q] at e; cases e
  rw [if_pos k1] at e
  have k2 : 0 ≤ x1i ∧ x1i < jc := by
    by_cases q : 0 ≤ x1i ∧ x1i < jc
    · exact q
    · rw [if_neg q] at e; cases e
  rw [if_pos k2] at e
  rw [c1346 (Cv_c7 hP hA k1), b1346_0]
  obtain ⟨⟨v13, S12⟩, k3, e⟩ := Option.bind_eq_some_iff.mp e
  try dsimp only at e
  try simp -implicitDefEqProofs (disch := first | assumption | exact Nat.le_of_ble_eq_true rfl | decide) only [b1346_0, g1346_3, b1346_3, g1346_4, b1346_4, g1346_5, b1346_5, g1346_6, b1346_6, pe_sipush, pe_istore2, pe_istore3, pe_istore4, pe_goto_w, pe_iload4, pe_aload1, pe_getfield, pe_call1, pm_af_ret, pm_af_void, pm_af_thr, pe_icmp_ge, pe_call2, pe_astore5, pe_istore6, pe_istore7, pe_istore8, pe_iload8, pe_aload0, pe_aload5, pe_icmp_eq, pe_goto, pe_iload2, pe_call4, pe_istore9, pe_iload9, pe_iload6, pe_iinc8, pe_iastore, pe_iload7, pe_iadd, pe_iload3, pe_iinc4, pe_aloadN1, pe_astoreN5, pe_aloadN0, pe_aloadN5, pe_aastoreN, pe_areturnN, pe_null, pm_prog_1, pm_ob_some, Nat.reduceDiv, Nat.reduceMod, Nat.reduceMul, Nat.reduceAdd, Int.reduceToNat, pm_kill_i, pm_kill_r, pm_kill_n, pm_kill_j, pm_kill_l, pm_kill_d, pm_cats_nil, pm_cats_i, pm_cats_r, pm_cats_n, pm_cats_l, pm_cats_d, sz_1, sz_2, sl_1, sl_2, lc_0, lc_lt, lc_le, li_ne, va_rf, wr_m1, we_m1, pm_kill_w, Int32.reduceOfInt, Int64.reduceOfInt, Int32.reduceOfNat, Int32.reduceLT, Int32.reduceLE, Prod.mk.injEq, Nat.reduceEqDiff, reduceCtorEq, and_true, true_and, and_false, false_and, and_self, ite_true, ite_false, ↓reduceIte, not_true_eq_false, not_false_eq_true, pe_ri, pe_rz, pe_rc, Cv_g11_0 hP hA, Cv_g15_2 hP hA, Cv_g16_0 hP hA, Cv_g16_1 hP hA, Cv_g16_2 hP hA, Cv_g16_3 hP hA, Cv_g7_0 hP hA, Cv_g7_2 hP hA, Cv_g7_3 hP hA, Cv_k11 hP hA, Cv_k16 hP hA, Cv_w19 hP hA, Cv_w20 hP hA]
  refine z1346_1 hP hA hD k3 ?_ _ _ _ _ _
  dsimp only [ex1346_1]
  intro q0 q1 q2 q4 q5 q6 q7 q8 q9
  have e := Option.some.inj e; subst e
  simp -implicitDefEqProofs (disch := first | assumption | exact Nat.le_of_ble_eq_true rfl | decide) only [b1346_0, g1346_3, b1346_3, g1346_4, b1346_4, g1346_5, b1346_5, g1346_6, b1346_6, pe_sipush, pe_istore2, pe_istore3, pe_istore4, pe_goto_w, pe_iload4, pe_aload1, pe_getfield, pe_call1, pm_af_ret, pm_af_void, pm_af_thr, pe_icmp_ge, pe_call2, pe_astore5, pe_istore6, pe_istore7, pe_istore8, pe_iload8, pe_aload0, pe_aload5, pe_icmp_eq, pe_goto, pe_iload2, pe_call4, pe_istore9, pe_iload9, pe_iload6, pe_iinc8, pe_iastore, pe_iload7, pe_iadd, pe_iload3, pe_iinc4, pe_aloadN1, pe_astoreN5, pe_aloadN0, pe_aloadN5, pe_aastoreN, pe_areturnN, pe_null, pm_prog_1, pm_ob_some, Nat.reduceDiv, Nat.reduceMod, Nat.reduceMul, Nat.reduceAdd, Int.reduceToNat, pm_kill_i, pm_kill_r, pm_kill_n, pm_kill_j, pm_kill_l, pm_kill_d, pm_cats_nil, pm_cats_i, pm_cats_r, pm_cats_n, pm_cats_l, pm_cats_d, sz_1, sz_2, sl_1, sl_2, lc_0, lc_lt, lc_le, li_ne, va_rf, wr_m1, we_m1, pm_kill_w, Int32.reduceOfInt, Int64.reduceOfInt, Int32.reduceOfNat, Int32.reduceLT, Int32.reduceLE, Prod.mk.injEq, Nat.reduceEqDiff, reduceCtorEq, and_true, true_and, and_false, false_and, and_self, ite_true, ite_false, ↓reduceIte, not_true_eq_false, not_false_eq_true, pe_ri, pe_rz, pe_rc, Cv_g11_0 hP hA, Cv_g15_2 hP hA, Cv_g16_0 hP hA, Cv_g16_1 hP hA, Cv_g16_2 hP hA, Cv_g16_3 hP hA, Cv_g7_0 hP hA, Cv_g7_2 hP hA, Cv_g7_3 hP hA, Cv_k11 hP hA, Cv_k16 hP hA, Cv_w19 hP hA, Cv_w20 hP hA]
/-- TimberHouse$WorkPlans$Job.cost(I)I -/
theorem c3457 {d : Nat} {h : pm_H} {a : Nat} {x0 : Int32} (hc : pm_cls h a = some 54) : pm_call pm_prog (d + 1) 3457 [.ref a, .int x0] h = pm_ev pm_prog (pm_call pm_prog d) 3457 0 b3457_0 [.ref a, .int x0] [] h := pm_cal (pm_rc1 hc rfl) rfl rfl rfl
theorem g3457_1 {cl : pm_C} {ls st : List Value} {h : pm_H} : pm_go pm_prog cl 3457 1 ls st h = pm_ev pm_prog cl 3457 1 b3457_1 ls st h := pm_go_eq pm_prog cl 3457 1 ls st h
theorem g3457_2 {cl : pm_C} {ls st : List Value} {h : pm_H} : pm_go pm_prog cl 3457 2 ls st h = pm_ev pm_prog cl 3457 2 b3457_2 ls st h := pm_go_eq pm_prog cl 3457 2 ls st h
/-- TimberHouse$WorkPlans$Job.cost(I)I -/
noncomputable def f3457 (mc : Int32) (jc : Int32) (tc : Int32) (ma : Int32) (ja : Int32) (ta : Int32) (oc : Int32 → Int32) (oa : Int32 → Int32) (qa : Int32 → Int32) (S : wS) (x0i : Int32) (x1 : Int32) : Option (Int32) :=
  if 0 ≤ x0i ∧ x0i < jc then
    if x1 ≤ (S.1 (15, x0i, 0) 0) then
      some 0
    else
      some ((S.1 (15, x0i, 0) 1) * (x1 - (S.1 (15, x0i, 0) 0)))
  else none
theorem x3457 {mc : Int32} {jc : Int32} {tc : Int32} {ma : Int32} {ja : Int32} {ta : Int32} {oc : Int32 → Int32} {oa : Int32 → Int32} {qa : Int32 → Int32} {A : wK → Nat} {h : pm_H} {D : Nat} {S : wS} {x0i : Int32} {x1 : Int32} {r : Int32} (hP : Cv_P mc jc tc ma ja ta oc oa qa) (hA : wok A (Cv_d mc jc tc ma ja ta oc oa qa) h.1) (hD : 1 ≤ D) (e : f3457 mc jc tc ma ja ta oc oa qa S x0i x1 = some r) : pm_call pm_prog D 3457 [.ref (A (15, x0i, 0)), .int x1] (wput A (Cv_d mc jc tc ma ja ta oc oa qa) S h) = some (Outcome.returned (some (.int r)), (wput A (Cv_d mc jc tc ma ja ta oc oa qa) S h)) := by
  obtain ⟨D, rfl⟩ : ∃ D', D = D' + 1 := ⟨D - 1, by omega⟩
  have hD : 0 ≤ D := by omega
  simp only [f3457] at e
  have k1 : 0 ≤ x0i ∧ x0i < jc := by
    by_cases q : 0 ≤ x0i ∧ x0i < jc
    · exact q
    · rw [if_neg q] at e; cases e
  rw [if_pos k1] at e
  rw [c3457 (Cv_c15 hP hA k1), b3457_0]
  by_cases k2 : x1 ≤ (S.1 (15, x0i, 0) 0)
  · rw [if_pos k2] at e
    have e := Option.some.inj e; subst e
    simp -implicitDefEqProofs (disch := first | assumption | exact Nat.le_of_ble_eq_true rfl | decide) only [b3457_0, g3457_1, b3457_1, g3457_2, b3457_2, pe_iload1, pe_aload0, pe_getfield, pe_icmp_le, pe_isub, pe_imul, pe_goto, pe_sipush, pe_goto_w, pe_aloadN0, pe_aastoreN, pe_areturnN, pe_null, pm_prog_1, pm_ob_some, Nat.reduceDiv, Nat.reduceMod, Nat.reduceMul, Nat.reduceAdd, Int.reduceToNat, pm_kill_i, pm_kill_r, pm_kill_n, pm_kill_j, pm_kill_l, pm_kill_d, pm_cats_nil, pm_cats_i, pm_cats_r, pm_cats_n, pm_cats_l, pm_cats_d, sz_1, sz_2, sl_1, sl_2, lc_0, lc_lt, lc_le, li_ne, va_rf, wr_m1, we_m1, pm_kill_w, Int32.reduceOfInt, Int64.reduceOfInt, Int32.reduceOfNat, Int32.reduceLT, Int32.reduceLE, Prod.mk.injEq, Nat.reduceEqDiff, reduceCtorEq, and_true, true_and, and_false, false_and, and_self, ite_true, ite_false, ↓reduceIte, not_true_eq_false, not_false_eq_true, pe_ri, pe_rz, pe_rc, Cv_g15_0 hP hA, Cv_g15_1 hP hA, eq_true k2]
  · rw [if_neg k2] at e
    have e := Option.some.inj e; subst e
    simp -implicitDefEqProofs (disch := first | assumption | exact Nat.le_of_ble_eq_true rfl | decide) only [b3457_0, g3457_1, b3457_1, g3457_2, b3457_2, pe_iload1, pe_aload0, pe_getfield, pe_icmp_le, pe_isub, pe_imul, pe_goto, pe_sipush, pe_goto_w, pe_aloadN0, pe_aastoreN, pe_areturnN, pe_null, pm_prog_1, pm_ob_some, Nat.reduceDiv, Nat.reduceMod, Nat.reduceMul, Nat.reduceAdd, Int.reduceToNat, pm_kill_i, pm_kill_r, pm_kill_n, pm_kill_j, pm_kill_l, pm_kill_d, pm_cats_nil, pm_cats_i, pm_cats_r, pm_cats_n, pm_cats_l, pm_cats_d, sz_1, sz_2, sl_1, sl_2, lc_0, lc_lt, lc_le, li_ne, va_rf, wr_m1, we_m1, pm_kill_w, Int32.reduceOfInt, Int64.reduceOfInt, Int32.reduceOfNat, Int32.reduceLT, Int32.reduceLE, Prod.mk.injEq, Nat.reduceEqDiff, reduceCtorEq, and_true, true_and, and_false, false_and, and_self, ite_true, ite_false, ↓reduceIte, not_true_eq_false, not_false_eq_true, pe_ri, pe_rz, pe_rc, Cv_g15_0 hP hA, Cv_g15_1 hP hA, eq_false k2]
/-- TimberHouse$WorkPlans.aloneOf(LTimberHouse$WorkPlans$Job;)I -/
theorem c1295 {d : Nat} {h : pm_H} {a : Nat} {r0 : Nat} (hc : pm_cls h a = some 20) : pm_call pm_prog (d + 1) 1295 [.ref a, .ref r0] h = pm_ev pm_prog (pm_call pm_prog d) 1295 0 b1295_0 [.ref a, .ref r0] [] h := pm_cal (pm_rc1 hc rfl) rfl rfl rfl
/-- TimberHouse$WorkPlans.aloneOf(LTimberHouse$WorkPlans$Job;)I -/
noncomputable def f1295 (mc : Int32) (jc : Int32) (tc : Int32) (ma : Int32) (ja : Int32) (ta : Int32) (oc : Int32 → Int32) (oa : Int32 → Int32) (qa : Int32 → Int32) (S : wS) (x1i : Int32) : Option (Int32 × wS) :=
  if 0 ≤ x1i ∧ x1i < jc then
    (f1345 mc jc tc ma ja ta oc oa qa S 0).bind fun S1 =>
    (f1346 mc jc tc ma ja ta oc oa qa S1 0 x1i).bind fun (v2, S3) =>
    (f3457 mc jc tc ma ja ta oc oa qa S3 x1i v2).bind fun v4 =>
    some (v4, S3)
  else none
theorem x1295 {mc : Int32} {jc : Int32} {tc : Int32} {ma : Int32} {ja : Int32} {ta : Int32} {oc : Int32 → Int32} {oa : Int32 → Int32} {qa : Int32 → Int32} {A : wK → Nat} {h : pm_H} {D : Nat} {S : wS} {x1i : Int32} {r : Int32 × wS} (hP : Cv_P mc jc tc ma ja ta oc oa qa) (hA : wok A (Cv_d mc jc tc ma ja ta oc oa qa) h.1) (hD : 7 ≤ D) (e : f1295 mc jc tc ma ja ta oc oa qa S x1i = some r) : pm_call pm_prog D 1295 [.ref (A (0, 0, 0)), .ref (A (15, x1i, 0))] (wput A (Cv_d mc jc tc ma ja ta oc oa qa) S h) = some (match (generalizing := false) r with | (w0, S1) => (Outcome.returned (some (.int w0)), (wput A (Cv_d mc jc tc ma ja ta oc oa qa) S1 h))) := by
  obtain ⟨D, rfl⟩ : ∃ D', D = D' + 1 := ⟨D - 1, by omega⟩
  have hD : 6 ≤ D := by omega
  simp only [f1295] at e
  have k1 : 0 ≤ x1i ∧ x1i < jc := by
    by_cases q : 0 ≤ x1i ∧ x1i < jc
    · exact q
    · rw [if_neg q] at e; cases e
  rw [if_pos k1] at e
  rw [c1295 (Cv_c0 hP hA), b1295_0]
  obtain ⟨S1, k2, e⟩ := Option.bind_eq_some_iff.mp e
  try dsimp only at e
  have z2 := x1345 (D := D) (h := h) hP hA (by omega) k2
  obtain ⟨⟨v2, S3⟩, k3, e⟩ := Option.bind_eq_some_iff.mp e
  try dsimp only at e
  have z3 := x1346 (D := D) (h := h) hP hA (by omega) k3
  dsimp only at z3
  obtain ⟨v4, k4, e⟩ := Option.bind_eq_some_iff.mp e
  try dsimp only at e
  have z4 := x3457 (D := D) (h := h) hP hA (by omega) k4
  have e := Option.some.inj e; subst e
  simp -implicitDefEqProofs (disch := first | assumption | exact Nat.le_of_ble_eq_true rfl | decide) only [b1295_0, pe_aload0, pe_getfield, pe_call1, pm_af_ret, pm_af_void, pm_af_thr, pe_aload1, pe_call2, pe_aloadN0, pe_aloadN1, pe_aastoreN, pe_areturnN, pe_null, pm_prog_1, pm_ob_some, Nat.reduceDiv, Nat.reduceMod, Nat.reduceMul, Nat.reduceAdd, Int.reduceToNat, pm_kill_i, pm_kill_r, pm_kill_n, pm_kill_j, pm_kill_l, pm_kill_d, pm_cats_nil, pm_cats_i, pm_cats_r, pm_cats_n, pm_cats_l, pm_cats_d, sz_1, sz_2, sl_1, sl_2, lc_0, lc_lt, lc_le, li_ne, va_rf, wr_m1, we_m1, pm_kill_w, Int32.reduceOfInt, Int64.reduceOfInt, Int32.reduceOfNat, Int32.reduceLT, Int32.reduceLE, Prod.mk.injEq, Nat.reduceEqDiff, reduceCtorEq, and_true, true_and, and_false, false_and, and_self, ite_true, ite_false, ↓reduceIte, not_true_eq_false, not_false_eq_true, pe_ri, pe_rz, pe_rc, Cv_g0_3 hP hA, z2, z3, z4]
/-- TimberHouse$WorkPlans.byDue()V -/
theorem c1296 {d : Nat} {h : pm_H} {a : Nat} (hc : pm_cls h a = some 20) : pm_call pm_prog (d + 1) 1296 [.ref a] h = pm_ev pm_prog (pm_call pm_prog d) 1296 0 b1296_0 [.ref a, pm_junk, pm_junk] [] h := pm_cal (pm_rc1 hc rfl) rfl rfl rfl
theorem g1296_1 {cl : pm_C} {ls st : List Value} {h : pm_H} : pm_go pm_prog cl 1296 1 ls st h = pm_ev pm_prog cl 1296 1 b1296_1 ls st h := pm_go_eq pm_prog cl 1296 1 ls st h
theorem g1296_2 {cl : pm_C} {ls st : List Value} {h : pm_H} : pm_go pm_prog cl 1296 2 ls st h = pm_ev pm_prog cl 1296 2 b1296_2 ls st h := pm_go_eq pm_prog cl 1296 2 ls st h
theorem g1296_3 {cl : pm_C} {ls st : List Value} {h : pm_H} : pm_go pm_prog cl 1296 3 ls st h = pm_ev pm_prog cl 1296 3 b1296_3 ls st h := pm_go_eq pm_prog cl 1296 3 ls st h
theorem g1296_4 {cl : pm_C} {ls st : List Value} {h : pm_H} : pm_go pm_prog cl 1296 4 ls st h = pm_ev pm_prog cl 1296 4 b1296_4 ls st h := pm_go_eq pm_prog cl 1296 4 ls st h
noncomputable def f1296_b2 (mc : Int32) (jc : Int32) (tc : Int32) (ma : Int32) (ja : Int32) (ta : Int32) (oc : Int32 → Int32) (oa : Int32 → Int32) (qa : Int32 → Int32) : Int32 × Int32 × wS → Option ((Int32 × Int32 × wS) ⊕ ((Int32 × Int32 × wS))) := fun (x1, x2, S) =>
  if x2 ≤ 0 then
    some (.inr (x1, x2, S))
  else
    if 0 ≤ (x2 - 1) ∧ (x2 - 1) < 6 then
      (f4034v mc jc tc ma ja ta oc oa qa S (S.1 (9, 0, 0) (x2 - 1))).bind fun v2i =>
      if 0 ≤ v2i ∧ v2i < jc then
        (f4034v mc jc tc ma ja ta oc oa qa S x1).bind fun v3i =>
        if 0 ≤ v3i ∧ v3i < jc then
          if (S.1 (15, v2i, 0) 0) ≤ (S.1 (15, v3i, 0) 0) then
            some (.inr (x1, x2, S))
          else
            if 0 ≤ x2 ∧ x2 < 6 then
              some (.inl (x1, (x2 + (-1)), (sz S (9, 0, 0) x2 (S.1 (9, 0, 0) (x2 - 1)))))
            else none
        else none
      else none
    else none
noncomputable def f1296_b1 (mc : Int32) (jc : Int32) (tc : Int32) (ma : Int32) (ja : Int32) (ta : Int32) (oc : Int32 → Int32) (oa : Int32 → Int32) (qa : Int32 → Int32) : Int32 × wS → Option ((Int32 × wS) ⊕ ((wS))) := fun (x1, S) =>
  (f4033v mc jc tc ma ja ta oc oa qa S).bind fun v1 =>
  if x1 < v1 then
    (lp (f1296_b2 mc jc tc ma ja ta oc oa qa) FU (x1, x1, S)).bind fun (v6, v7, S4) =>
    if 0 ≤ v7 ∧ v7 < 6 then
      some (.inl ((v6 + 1), (sz S4 (9, 0, 0) v7 v6)))
    else none
  else
    some (.inr S)
/-- TimberHouse$WorkPlans.byDue()V -/
noncomputable def f1296 (mc : Int32) (jc : Int32) (tc : Int32) (ma : Int32) (ja : Int32) (ta : Int32) (oc : Int32 → Int32) (oa : Int32 → Int32) (qa : Int32 → Int32) (S : wS) : Option (wS) :=
  (lp (f1296_b1 mc jc tc ma ja ta oc oa qa) FU (0, S)).bind fun S8 =>
  some S8
def go1296_2 (mc : Int32) (jc : Int32) (tc : Int32) (ma : Int32) (ja : Int32) (ta : Int32) (oc : Int32 → Int32) (oa : Int32 → Int32) (qa : Int32 → Int32) (A : wK → Nat) (h : pm_H) (D : Nat) (R : Outcome × pm_H) : Int32 × Int32 × wS → Prop := fun (x1, x2, S) => pm_go pm_prog (pm_call pm_prog D) 1296 2 [.ref (A (0, 0, 0)), .int x1, .int x2] [] (wput A (Cv_d mc jc tc ma ja ta oc oa qa) S h) = some R
def ex1296_2 (mc : Int32) (jc : Int32) (tc : Int32) (ma : Int32) (ja : Int32) (ta : Int32) (oc : Int32 → Int32) (oa : Int32 → Int32) (qa : Int32 → Int32) (A : wK → Nat) (h : pm_H) (D : Nat) (R : Outcome × pm_H) : (Int32 × Int32 × wS) → Prop := fun (x1, x2, S) => pm_go pm_prog (pm_call pm_prog D) 1296 3 [.ref (A (0, 0, 0)), .int x1, .int x2] [] (wput A (Cv_d mc jc tc ma ja ta oc oa qa) S h) = some R
theorem y1296_b2 {mc : Int32} {jc : Int32} {tc : Int32} {ma : Int32} {ja : Int32} {ta : Int32} {oc : Int32 → Int32} {oa : Int32 → Int32} {qa : Int32 → Int32} {A : wK → Nat} {h : pm_H} {D : Nat} {R : Outcome × pm_H} (hP : Cv_P mc jc tc ma ja ta oc oa qa) (hA : wok A (Cv_d mc jc tc ma ja ta oc oa qa) h.1) (hD : 3 ≤ D) (a : Int32 × Int32 × wS) (r : (Int32 × Int32 × wS) ⊕ ((Int32 × Int32 × wS))) (e : f1296_b2 mc jc tc ma ja ta oc oa qa a = some r) (hc : Sum.elim (go1296_2 mc jc tc ma ja ta oc oa qa A h D R) (ex1296_2 mc jc tc ma ja ta oc oa qa A h D R) r) : go1296_2 mc jc tc ma ja ta oc oa qa A h D R a := by
  obtain ⟨x1, x2, S⟩ := a
  dsimp only [go1296_2]
  simp only [f1296_b2] at e
  rw [g1296_2, b1296_2]
  by_cases k1 : x2 ≤ 0
  · rw [if_pos k1] at e
    have e := Option.some.inj e; subst e
    dsimp only [Sum.elim_inr, ex1296_2] at hc
    simp -implicitDefEqProofs (disch := first | assumption | exact Nat.le_of_ble_eq_true rfl | decide) only [b1296_0, g1296_3, b1296_3, g1296_4, b1296_4, pe_sipush, pe_istore1, pe_goto_w, pe_iload1, pe_aload0, pe_getfield, pe_call1, pm_af_ret, pm_af_void, pm_af_thr, pe_icmp_ge, pe_istore2, pe_iload2, pe_if_le, pe_isub, pe_iaload, pe_call2, pe_icmp_le, pe_iastore, pe_iinc2, pe_goto, pe_iinc1, pe_return, pe_aloadN0, pe_aastoreN, pe_areturnN, pe_null, pm_prog_1, pm_ob_some, Nat.reduceDiv, Nat.reduceMod, Nat.reduceMul, Nat.reduceAdd, Int.reduceToNat, pm_kill_i, pm_kill_r, pm_kill_n, pm_kill_j, pm_kill_l, pm_kill_d, pm_cats_nil, pm_cats_i, pm_cats_r, pm_cats_n, pm_cats_l, pm_cats_d, sz_1, sz_2, sl_1, sl_2, lc_0, lc_lt, lc_le, li_ne, va_rf, wr_m1, we_m1, pm_kill_w, Int32.reduceOfInt, Int64.reduceOfInt, Int32.reduceOfNat, Int32.reduceLT, Int32.reduceLE, Prod.mk.injEq, Nat.reduceEqDiff, reduceCtorEq, and_true, true_and, and_false, false_and, and_self, ite_true, ite_false, ↓reduceIte, not_true_eq_false, not_false_eq_true, pe_ri, pe_rz, pe_rc, Cv_g0_1 hP hA, Cv_g0_7 hP hA, Cv_g15_0 hP hA, Cv_k15 hP hA, Cv_r9 hP hA, Cv_w9 hP hA, eq_true k1, hc]
  · rw [if_neg k1] at e
    by_cases k2 : 0 ≤ (x2 - 1) ∧ (x2 - 1) < 6
    · rw [if_pos k2] at e
      obtain ⟨v2i, k3, e⟩ := Option.bind_eq_some_iff.mp e
      try dsimp only at e
      have z3 := x4034v (D := D) (h := h) hP hA (by omega) k3
      by_cases k4 : 0 ≤ v2i ∧ v2i < jc
      · rw [if_pos k4] at e
        obtain ⟨v3i, k5, e⟩ := Option.bind_eq_some_iff.mp e
        try dsimp only at e
        have z5 := x4034v (D := D) (h := h) hP hA (by omega) k5
        by_cases k6 : 0 ≤ v3i ∧ v3i < jc
        · rw [if_pos k6] at e
          by_cases k7 : (S.1 (15, v2i, 0) 0) ≤ (S.1 (15, v3i, 0) 0)
          · rw [if_pos k7] at e
            have e := Option.some.inj e; subst e
            dsimp only [Sum.elim_inr, ex1296_2] at hc
            simp -implicitDefEqProofs (disch := first | assumption | exact Nat.le_of_ble_eq_true rfl | decide) only [b1296_0, g1296_3, b1296_3, g1296_4, b1296_4, pe_sipush, pe_istore1, pe_goto_w, pe_iload1, pe_aload0, pe_getfield, pe_call1, pm_af_ret, pm_af_void, pm_af_thr, pe_icmp_ge, pe_istore2, pe_iload2, pe_if_le, pe_isub, pe_iaload, pe_call2, pe_icmp_le, pe_iastore, pe_iinc2, pe_goto, pe_iinc1, pe_return, pe_aloadN0, pe_aastoreN, pe_areturnN, pe_null, pm_prog_1, pm_ob_some, Nat.reduceDiv, Nat.reduceMod, Nat.reduceMul, Nat.reduceAdd, Int.reduceToNat, pm_kill_i, pm_kill_r, pm_kill_n, pm_kill_j, pm_kill_l, pm_kill_d, pm_cats_nil, pm_cats_i, pm_cats_r, pm_cats_n, pm_cats_l, pm_cats_d, sz_1, sz_2, sl_1, sl_2, lc_0, lc_lt, lc_le, li_ne, va_rf, wr_m1, we_m1, pm_kill_w, Int32.reduceOfInt, Int64.reduceOfInt, Int32.reduceOfNat, Int32.reduceLT, Int32.reduceLE, Prod.mk.injEq, Nat.reduceEqDiff, reduceCtorEq, and_true, true_and, and_false, false_and, and_self, ite_true, ite_false, ↓reduceIte, not_true_eq_false, not_false_eq_true, pe_ri, pe_rz, pe_rc, Cv_g0_1 hP hA, Cv_g0_7 hP hA, Cv_g15_0 hP hA, Cv_k15 hP hA, Cv_r9 hP hA, Cv_w9 hP hA, eq_false k1, z3, z5, eq_true k7, hc]
          · rw [if_neg k7] at e
            by_cases k8 : 0 ≤ x2 ∧ x2 < 6
            · rw [if_pos k8] at e
              have e := Option.some.inj e; subst e
              dsimp only [Sum.elim_inl, go1296_2] at hc
              simp -implicitDefEqProofs (disch := first | assumption | exact Nat.le_of_ble_eq_true rfl | decide) only [b1296_0, g1296_3, b1296_3, g1296_4, b1296_4, pe_sipush, pe_istore1, pe_goto_w, pe_iload1, pe_aload0, pe_getfield, pe_call1, pm_af_ret, pm_af_void, pm_af_thr, pe_icmp_ge, pe_istore2, pe_iload2, pe_if_le, pe_isub, pe_iaload, pe_call2, pe_icmp_le, pe_iastore, pe_iinc2, pe_goto, pe_iinc1, pe_return, pe_aloadN0, pe_aastoreN, pe_areturnN, pe_null, pm_prog_1, pm_ob_some, Nat.reduceDiv, Nat.reduceMod, Nat.reduceMul, Nat.reduceAdd, Int.reduceToNat, pm_kill_i, pm_kill_r, pm_kill_n, pm_kill_j, pm_kill_l, pm_kill_d, pm_cats_nil, pm_cats_i, pm_cats_r, pm_cats_n, pm_cats_l, pm_cats_d, sz_1, sz_2, sl_1, sl_2, lc_0, lc_lt, lc_le, li_ne, va_rf, wr_m1, we_m1, pm_kill_w, Int32.reduceOfInt, Int64.reduceOfInt, Int32.reduceOfNat, Int32.reduceLT, Int32.reduceLE, Prod.mk.injEq, Nat.reduceEqDiff, reduceCtorEq, and_true, true_and, and_false, false_and, and_self, ite_true, ite_false, ↓reduceIte, not_true_eq_false, not_false_eq_true, pe_ri, pe_rz, pe_rc, Cv_g0_1 hP hA, Cv_g0_7 hP hA, Cv_g15_0 hP hA, Cv_k15 hP hA, Cv_r9 hP hA, Cv_w9 hP hA, eq_false k1, z3, z5, eq_false k7, hc]
            · rw [if_neg k8] at e; cases e
        · rw [if_neg k6] at e; cases e
      · rw [if_neg k4] at e; cases e
    · rw [if_neg k2] at e; cases e
theorem z1296_2 {mc : Int32} {jc : Int32} {tc : Int32} {ma : Int32} {ja : Int32} {ta : Int32} {oc : Int32 → Int32} {oa : Int32 → Int32} {qa : Int32 → Int32} {A : wK → Nat} {h : pm_H} {D : Nat} {R : Outcome × pm_H} (hP : Cv_P mc jc tc ma ja ta oc oa qa) (hA : wok A (Cv_d mc jc tc ma ja ta oc oa qa) h.1) (hD : 3 ≤ D) {n : Nat} {a : Int32 × Int32 × wS} {b : (Int32 × Int32 × wS)} (e : lp (f1296_b2 mc jc tc ma ja ta oc oa qa) n a = some b) (hx : ex1296_2 mc jc tc ma ja ta oc oa qa A h D R b) : go1296_2 mc jc tc ma ja ta oc oa qa A h D R a := lp_run (fun a r => y1296_b2 hP hA hD a r) n a b e hx
def go1296_1 (mc : Int32) (jc : Int32) (tc : Int32) (ma : Int32) (ja : Int32) (ta : Int32) (oc : Int32 → Int32) (oa : Int32 → Int32) (qa : Int32 → Int32) (A : wK → Nat) (h : pm_H) (D : Nat) (R : Outcome × pm_H) : Int32 × wS → Prop := fun (x1, S) => ∀ q2 : Value, pm_go pm_prog (pm_call pm_prog D) 1296 1 [.ref (A (0, 0, 0)), .int x1, q2] [] (wput A (Cv_d mc jc tc ma ja ta oc oa qa) S h) = some R
def ex1296_1 (mc : Int32) (jc : Int32) (tc : Int32) (ma : Int32) (ja : Int32) (ta : Int32) (oc : Int32 → Int32) (oa : Int32 → Int32) (qa : Int32 → Int32) (A : wK → Nat) (h : pm_H) (D : Nat) (R : Outcome × pm_H) : (wS) → Prop := fun S => ∀ q0 q1 q2 : Value, pm_go pm_prog (pm_call pm_prog D) 1296 4 [q0, q1, q2] [] (wput A (Cv_d mc jc tc ma ja ta oc oa qa) S h) = some R
theorem y1296_b1 {mc : Int32} {jc : Int32} {tc : Int32} {ma : Int32} {ja : Int32} {ta : Int32} {oc : Int32 → Int32} {oa : Int32 → Int32} {qa : Int32 → Int32} {A : wK → Nat} {h : pm_H} {D : Nat} {R : Outcome × pm_H} (hP : Cv_P mc jc tc ma ja ta oc oa qa) (hA : wok A (Cv_d mc jc tc ma ja ta oc oa qa) h.1) (hD : 3 ≤ D) (a : Int32 × wS) (r : (Int32 × wS) ⊕ ((wS))) (e : f1296_b1 mc jc tc ma ja ta oc oa qa a = some r) (hc : Sum.elim (go1296_1 mc jc tc ma ja ta oc oa qa A h D R) (ex1296_1 mc jc tc ma ja ta oc oa qa A h D R) r) : go1296_1 mc jc tc ma ja ta oc oa qa A h D R a := by
  obtain ⟨x1, S⟩ := a
  dsimp only [go1296_1]
  intro q2
  simp only [f1296_b1] at e
  rw [g1296_1, b1296_1]
  obtain ⟨v1, k1, e⟩ := Option.bind_eq_some_iff.mp e
  try dsimp only at e
  have z1 := x4033v (D := D) (h := h) hP hA (by omega) k1
  by_cases k2 : x1 < v1
  · rw [if_pos k2] at e
    obtain ⟨⟨v6, v7, S4⟩, k3, e⟩ := Option.bind_eq_some_iff.mp e
    try dsimp only at e
    try simp -implicitDefEqProofs (disch := first | assumption | exact Nat.le_of_ble_eq_true rfl | decide) only [b1296_0, g1296_3, b1296_3, g1296_4, b1296_4, pe_sipush, pe_istore1, pe_goto_w, pe_iload1, pe_aload0, pe_getfield, pe_call1, pm_af_ret, pm_af_void, pm_af_thr, pe_icmp_ge, pe_istore2, pe_iload2, pe_if_le, pe_isub, pe_iaload, pe_call2, pe_icmp_le, pe_iastore, pe_iinc2, pe_goto, pe_iinc1, pe_return, pe_aloadN0, pe_aastoreN, pe_areturnN, pe_null, pm_prog_1, pm_ob_some, Nat.reduceDiv, Nat.reduceMod, Nat.reduceMul, Nat.reduceAdd, Int.reduceToNat, pm_kill_i, pm_kill_r, pm_kill_n, pm_kill_j, pm_kill_l, pm_kill_d, pm_cats_nil, pm_cats_i, pm_cats_r, pm_cats_n, pm_cats_l, pm_cats_d, sz_1, sz_2, sl_1, sl_2, lc_0, lc_lt, lc_le, li_ne, va_rf, wr_m1, we_m1, pm_kill_w, Int32.reduceOfInt, Int64.reduceOfInt, Int32.reduceOfNat, Int32.reduceLT, Int32.reduceLE, Prod.mk.injEq, Nat.reduceEqDiff, reduceCtorEq, and_true, true_and, and_false, false_and, and_self, ite_true, ite_false, ↓reduceIte, not_true_eq_false, not_false_eq_true, pe_ri, pe_rz, pe_rc, Cv_g0_1 hP hA, Cv_g0_7 hP hA, Cv_g15_0 hP hA, Cv_k15 hP hA, Cv_r9 hP hA, Cv_w9 hP hA, z1, eq_true k2]
    refine z1296_2 hP hA hD k3 ?_
    dsimp only [ex1296_2]
    by_cases k4 : 0 ≤ v7 ∧ v7 < 6
    · rw [if_pos k4] at e
      have e := Option.some.inj e; subst e
      dsimp only [Sum.elim_inl, go1296_1] at hc
      simp -implicitDefEqProofs (disch := first | assumption | exact Nat.le_of_ble_eq_true rfl | decide) only [b1296_0, g1296_3, b1296_3, g1296_4, b1296_4, pe_sipush, pe_istore1, pe_goto_w, pe_iload1, pe_aload0, pe_getfield, pe_call1, pm_af_ret, pm_af_void, pm_af_thr, pe_icmp_ge, pe_istore2, pe_iload2, pe_if_le, pe_isub, pe_iaload, pe_call2, pe_icmp_le, pe_iastore, pe_iinc2, pe_goto, pe_iinc1, pe_return, pe_aloadN0, pe_aastoreN, pe_areturnN, pe_null, pm_prog_1, pm_ob_some, Nat.reduceDiv, Nat.reduceMod, Nat.reduceMul, Nat.reduceAdd, Int.reduceToNat, pm_kill_i, pm_kill_r, pm_kill_n, pm_kill_j, pm_kill_l, pm_kill_d, pm_cats_nil, pm_cats_i, pm_cats_r, pm_cats_n, pm_cats_l, pm_cats_d, sz_1, sz_2, sl_1, sl_2, lc_0, lc_lt, lc_le, li_ne, va_rf, wr_m1, we_m1, pm_kill_w, Int32.reduceOfInt, Int64.reduceOfInt, Int32.reduceOfNat, Int32.reduceLT, Int32.reduceLE, Prod.mk.injEq, Nat.reduceEqDiff, reduceCtorEq, and_true, true_and, and_false, false_and, and_self, ite_true, ite_false, ↓reduceIte, not_true_eq_false, not_false_eq_true, pe_ri, pe_rz, pe_rc, Cv_g0_1 hP hA, Cv_g0_7 hP hA, Cv_g15_0 hP hA, Cv_k15 hP hA, Cv_r9 hP hA, Cv_w9 hP hA, z1, eq_true k2, hc]
    · rw [if_neg k4] at e; cases e
  · rw [if_neg k2] at e
    have e := Option.some.inj e; subst e
    dsimp only [Sum.elim_inr, ex1296_1] at hc
    simp -implicitDefEqProofs (disch := first | assumption | exact Nat.le_of_ble_eq_true rfl | decide) only [b1296_0, g1296_3, b1296_3, g1296_4, b1296_4, pe_sipush, pe_istore1, pe_goto_w, pe_iload1, pe_aload0, pe_getfield, pe_call1, pm_af_ret, pm_af_void, pm_af_thr, pe_icmp_ge, pe_istore2, pe_iload2, pe_if_le, pe_isub, pe_iaload, pe_call2, pe_icmp_le, pe_iastore, pe_iinc2, pe_goto, pe_iinc1, pe_return, pe_aloadN0, pe_aastoreN, pe_areturnN, pe_null, pm_prog_1, pm_ob_some, Nat.reduceDiv, Nat.reduceMod, Nat.reduceMul, Nat.reduceAdd, Int.reduceToNat, pm_kill_i, pm_kill_r, pm_kill_n, pm_kill_j, pm_kill_l, pm_kill_d, pm_cats_nil, pm_cats_i, pm_cats_r, pm_cats_n, pm_cats_l, pm_cats_d, sz_1, sz_2, sl_1, sl_2, lc_0, lc_lt, lc_le, li_ne, va_rf, wr_m1, we_m1, pm_kill_w, Int32.reduceOfInt, Int64.reduceOfInt, Int32.reduceOfNat, Int32.reduceLT, Int32.reduceLE, Prod.mk.injEq, Nat.reduceEqDiff, reduceCtorEq, and_true, true_and, and_false, false_and, and_self, ite_true, ite_false, ↓reduceIte, not_true_eq_false, not_false_eq_true, pe_ri, pe_rz, pe_rc, Cv_g0_1 hP hA, Cv_g0_7 hP hA, Cv_g15_0 hP hA, Cv_k15 hP hA, Cv_r9 hP hA, Cv_w9 hP hA, z1, eq_false k2, hc]
theorem z1296_1 {mc : Int32} {jc : Int32} {tc : Int32} {ma : Int32} {ja : Int32} {ta : Int32} {oc : Int32 → Int32} {oa : Int32 → Int32} {qa : Int32 → Int32} {A : wK → Nat} {h : pm_H} {D : Nat} {R : Outcome × pm_H} (hP : Cv_P mc jc tc ma ja ta oc oa qa) (hA : wok A (Cv_d mc jc tc ma ja ta oc oa qa) h.1) (hD : 3 ≤ D) {n : Nat} {a : Int32 × wS} {b : (wS)} (e : lp (f1296_b1 mc jc tc ma ja ta oc oa qa) n a = some b) (hx : ex1296_1 mc jc tc ma ja ta oc oa qa A h D R b) : go1296_1 mc jc tc ma ja ta oc oa qa A h D R a := lp_run (fun a r => y1296_b1 hP hA hD a r) n a b e hx
theorem x1296 {mc : Int32} {jc : Int32} {tc : Int32} {ma : Int32} {ja : Int32} {ta : Int32} {oc : Int32 → Int32} {oa : Int32 → Int32} {qa : Int32 → Int32} {A : wK → Nat} {h : pm_H} {D : Nat} {S : wS} {r : wS} (hP : Cv_P mc jc tc ma ja ta oc oa qa) (hA : wok A (Cv_d mc jc tc ma ja ta oc oa qa) h.1) (hD : 4 ≤ D) (e : f1296 mc jc tc ma ja ta oc oa qa S = some r) : pm_call pm_prog D 1296 [.ref (A (0, 0, 0))] (wput A (Cv_d mc jc tc ma ja ta oc oa qa) S h) = some (Outcome.returned none, (wput A (Cv_d mc jc tc ma ja ta oc oa qa) r h)) := by
  obtain ⟨D, rfl⟩ : ∃ D', D = D' + 1 := ⟨D - 1, by omega⟩
  have hD : 3 ≤ D := by omega
  simp only [f1296] at e
  rw [c1296 (Cv_c0 hP hA), b1296_0]
  obtain ⟨S8, k1, e⟩ := Option.bind_eq_some_iff.mp e
  try dsimp only at e
  try simp -implicitDefEqProofs (disch := first | assumption | exact Nat.le_of_ble_eq_true rfl | decide) only [b1296_0, g1296_3, b1296_3, g1296_4, b1296_4, pe_sipush, pe_istore1, pe_goto_w, pe_iload1, pe_aload0, pe_getfield, pe_call1, pm_af_ret, pm_af_void, pm_af_thr, pe_icmp_ge, pe_istore2, pe_iload2, pe_if_le, pe_isub, pe_iaload, pe_call2, pe_icmp_le, pe_iastore, pe_iinc2, pe_goto, pe_iinc1, pe_return, pe_aloadN0, pe_aastoreN, pe_areturnN, pe_null, pm_prog_1, pm_ob_some, Nat.reduceDiv, Nat.reduceMod, Nat.reduceMul, Nat.reduceAdd, Int.reduceToNat, pm_kill_i, pm_kill_r, pm_kill_n, pm_kill_j, pm_kill_l, pm_kill_d, pm_cats_nil, pm_cats_i, pm_cats_r, pm_cats_n, pm_cats_l, pm_cats_d, sz_1, sz_2, sl_1, sl_2, lc_0, lc_lt, lc_le, li_ne, va_rf, wr_m1, we_m1, pm_kill_w, Int32.reduceOfInt, Int64.reduceOfInt, Int32.reduceOfNat, Int32.reduceLT, Int32.reduceLE, Prod.mk.injEq, Nat.reduceEqDiff, reduceCtorEq, and_true, true_and, and_false, false_and, and_self, ite_true, ite_false, ↓reduceIte, not_true_eq_false, not_false_eq_true, pe_ri, pe_rz, pe_rc, Cv_g0_1 hP hA, Cv_g0_7 hP hA, Cv_g15_0 hP hA, Cv_k15 hP hA, Cv_r9 hP hA, Cv_w9 hP hA]
  refine z1296_1 hP hA hD k1 ?_ _
  dsimp only [ex1296_1]
  intro q0 q1 q2
  have e := Option.some.inj e; subst e
  simp -implicitDefEqProofs (disch := first | assumption | exact Nat.le_of_ble_eq_true rfl | decide) only [b1296_0, g1296_3, b1296_3, g1296_4, b1296_4, pe_sipush, pe_istore1, pe_goto_w, pe_iload1, pe_aload0, pe_getfield, pe_call1, pm_af_ret, pm_af_void, pm_af_thr, pe_icmp_ge, pe_istore2, pe_iload2, pe_if_le, pe_isub, pe_iaload, pe_call2, pe_icmp_le, pe_iastore, pe_iinc2, pe_goto, pe_iinc1, pe_return, pe_aloadN0, pe_aastoreN, pe_areturnN, pe_null, pm_prog_1, pm_ob_some, Nat.reduceDiv, Nat.reduceMod, Nat.reduceMul, Nat.reduceAdd, Int.reduceToNat, pm_kill_i, pm_kill_r, pm_kill_n, pm_kill_j, pm_kill_l, pm_kill_d, pm_cats_nil, pm_cats_i, pm_cats_r, pm_cats_n, pm_cats_l, pm_cats_d, sz_1, sz_2, sl_1, sl_2, lc_0, lc_lt, lc_le, li_ne, va_rf, wr_m1, we_m1, pm_kill_w, Int32.reduceOfInt, Int64.reduceOfInt, Int32.reduceOfNat, Int32.reduceLT, Int32.reduceLE, Prod.mk.injEq, Nat.reduceEqDiff, reduceCtorEq, and_true, true_and, and_false, false_and, and_self, ite_true, ite_false, ↓reduceIte, not_true_eq_false, not_false_eq_true, pe_ri, pe_rz, pe_rc, Cv_g0_1 hP hA, Cv_g0_7 hP hA, Cv_g15_0 hP hA, Cv_k15 hP hA, Cv_r9 hP hA, Cv_w9 hP hA]
/-- TimberHouse$WorkPlans$Board.putAll([ILjava/util/ArrayList;)I -/
theorem c1349 {d : Nat} {h : pm_H} {a : Nat} {r0 : Nat} {r1 : Nat} (hc : pm_cls h a = some 21) : pm_call pm_prog (d + 1) 1349 [.ref a, .ref r0, .ref r1] h = pm_ev pm_prog (pm_call pm_prog d) 1349 0 b1349_0 [.ref a, .ref r0, .ref r1, pm_junk, pm_junk, pm_junk] [] h := pm_cal (pm_rc1 hc rfl) rfl rfl rfl
theorem g1349_1 {cl : pm_C} {ls st : List Value} {h : pm_H} : pm_go pm_prog cl 1349 1 ls st h = pm_ev pm_prog cl 1349 1 b1349_1 ls st h := pm_go_eq pm_prog cl 1349 1 ls st h
theorem g1349_2 {cl : pm_C} {ls st : List Value} {h : pm_H} : pm_go pm_prog cl 1349 2 ls st h = pm_ev pm_prog cl 1349 2 b1349_2 ls st h := pm_go_eq pm_prog cl 1349 2 ls st h
noncomputable def f1349_b1 (mc : Int32) (jc : Int32) (tc : Int32) (ma : Int32) (ja : Int32) (ta : Int32) (oc : Int32 → Int32) (oa : Int32 → Int32) (qa : Int32 → Int32) : Int32 × Int32 × Int32 × wS → Option ((Int32 × Int32 × Int32 × wS) ⊕ ((Int32 × wS))) := fun (x0i, x3, x4, S) =>
  if 0 ≤ x0i ∧ x0i < 3 then
    (f4033v mc jc tc ma ja ta oc oa qa S).bind fun v2 =>
    if x4 < v2 then
      if 0 ≤ x4 ∧ x4 < 6 then
        (f4034v mc jc tc ma ja ta oc oa qa S (S.1 (9, 0, 0) x4)).bind fun v3i =>
        if 0 ≤ v3i ∧ v3i < jc then
          (f1346 mc jc tc ma ja ta oc oa qa S x0i v3i).bind fun (v4, S5) =>
          (f3457 mc jc tc ma ja ta oc oa qa S5 v3i v4).bind fun v6 =>
          some (.inl (x0i, (x3 + v6), (x4 + 1), S5))
        else none
      else none
    else
      some (.inr (x3, S))
  else none
/-- TimberHouse$WorkPlans$Board.putAll([ILjava/util/ArrayList;)I -/
noncomputable def f1349 (mc : Int32) (jc : Int32) (tc : Int32) (ma : Int32) (ja : Int32) (ta : Int32) (oc : Int32 → Int32) (oa : Int32 → Int32) (qa : Int32 → Int32) (S : wS) (x0i : Int32) : Option (Int32 × wS) :=
  if 0 ≤ x0i ∧ x0i < 3 then
    (f1345 mc jc tc ma ja ta oc oa qa S x0i).bind fun S1 =>
    (lp (f1349_b1 mc jc tc ma ja ta oc oa qa) FU (x0i, 0, 0, S1)).bind fun (v8, S7) =>
    some (v8, S7)
  else none
def go1349_1 (mc : Int32) (jc : Int32) (tc : Int32) (ma : Int32) (ja : Int32) (ta : Int32) (oc : Int32 → Int32) (oa : Int32 → Int32) (qa : Int32 → Int32) (A : wK → Nat) (h : pm_H) (D : Nat) (R : Outcome × pm_H) : Int32 × Int32 × Int32 × wS → Prop := fun (x0i, x3, x4, S) => ∀ q5 : Value, pm_go pm_prog (pm_call pm_prog D) 1349 1 [.ref (A (7, x0i, 0)), .ref (A (9, 0, 0)), .ref (A (3, 0, 0)), .int x3, .int x4, q5] [] (wput A (Cv_d mc jc tc ma ja ta oc oa qa) S h) = some R
def ex1349_1 (mc : Int32) (jc : Int32) (tc : Int32) (ma : Int32) (ja : Int32) (ta : Int32) (oc : Int32 → Int32) (oa : Int32 → Int32) (qa : Int32 → Int32) (A : wK → Nat) (h : pm_H) (D : Nat) (R : Outcome × pm_H) : (Int32 × wS) → Prop := fun (x3, S) => ∀ q0 q1 q2 q4 q5 : Value, pm_go pm_prog (pm_call pm_prog D) 1349 2 [q0, q1, q2, .int x3, q4, q5] [] (wput A (Cv_d mc jc tc ma ja ta oc oa qa) S h) = some R
theorem y1349_b1 {mc : Int32} {jc : Int32} {tc : Int32} {ma : Int32} {ja : Int32} {ta : Int32} {oc : Int32 → Int32} {oa : Int32 → Int32} {qa : Int32 → Int32} {A : wK → Nat} {h : pm_H} {D : Nat} {R : Outcome × pm_H} (hP : Cv_P mc jc tc ma ja ta oc oa qa) (hA : wok A (Cv_d mc jc tc ma ja ta oc oa qa) h.1) (hD : 6 ≤ D) (a : Int32 × Int32 × Int32 × wS) (r : (Int32 × Int32 × Int32 × wS) ⊕ ((Int32 × wS))) (e : f1349_b1 mc jc tc ma ja ta oc oa qa a = some r) (hc : Sum.elim (go1349_1 mc jc tc ma ja ta oc oa qa A h D R) (ex1349_1 mc jc tc ma ja ta oc oa qa A h D R) r) : go1349_1 mc jc tc ma ja ta oc oa qa A h D R a := by
  obtain ⟨x0i, x3, x4, S⟩ := a
  dsimp only [go1349_1]
  intro q5
  simp only [f1349_b1] at e
  rw [g1349_1, b1349_1]
  by_cases k1 : 0 ≤ x0i ∧ x0i < 3
  · rw [if_pos k1] at e
    obtain ⟨v2, k2, e⟩ := Option.bind_eq_some_iff.mp e
    try dsimp only at e
    have z2 := x4033v (D := D) (h := h) hP hA (by omega) k2
    by_cases k3 : x4 < v2
    · rw [if_pos k3] at e
      by_cases k4 : 0 ≤ x4 ∧ x4 < 6
      · rw [if_pos k4] at e
        obtain ⟨v3i, k5, e⟩ := Option.bind_eq_some_iff.mp e
        try dsimp only at e
        have z5 := x4034v (D := D) (h := h) hP hA (by omega) k5
        by_cases k6 : 0 ≤ v3i ∧ v3i < jc
        · rw [if_pos k6] at e
          obtain ⟨⟨v4, S5⟩, k7, e⟩ := Option.bind_eq_some_iff.mp e
          try dsimp only at e
          have z7 := x1346 (D := D) (h := h) hP hA (by omega) k7
          dsimp only at z7
          obtain ⟨v6, k8, e⟩ := Option.bind_eq_some_iff.mp e
          try dsimp only at e
          have z8 := x3457 (D := D) (h := h) hP hA (by omega) k8
          have e := Option.some.inj e; subst e
          dsimp only [Sum.elim_inl, go1349_1] at hc
          simp -implicitDefEqProofs (disch := first | assumption | exact Nat.le_of_ble_eq_true rfl | decide) only [b1349_0, g1349_2, b1349_2, pe_aload0, pe_call1, pm_af_ret, pm_af_void, pm_af_thr, pe_sipush, pe_istore3, pe_istore4, pe_goto_w, pe_iload4, pe_aload2, pe_icmp_ge, pe_aload1, pe_iaload, pe_call2, pe_astore5, pe_iload3, pe_aload5, pe_iadd, pe_iinc4, pe_goto, pe_aloadN0, pe_aloadN2, pe_aloadN1, pe_astoreN5, pe_aloadN5, pe_aastoreN, pe_areturnN, pe_null, pm_prog_1, pm_ob_some, Nat.reduceDiv, Nat.reduceMod, Nat.reduceMul, Nat.reduceAdd, Int.reduceToNat, pm_kill_i, pm_kill_r, pm_kill_n, pm_kill_j, pm_kill_l, pm_kill_d, pm_cats_nil, pm_cats_i, pm_cats_r, pm_cats_n, pm_cats_l, pm_cats_d, sz_1, sz_2, sl_1, sl_2, lc_0, lc_lt, lc_le, li_ne, va_rf, wr_m1, we_m1, pm_kill_w, Int32.reduceOfInt, Int64.reduceOfInt, Int32.reduceOfNat, Int32.reduceLT, Int32.reduceLE, Prod.mk.injEq, Nat.reduceEqDiff, reduceCtorEq, and_true, true_and, and_false, false_and, and_self, ite_true, ite_false, ↓reduceIte, not_true_eq_false, not_false_eq_true, pe_ri, pe_rz, pe_rc, Cv_k15 hP hA, Cv_r9 hP hA, z2, eq_true k3, z5, z7, z8, hc]
        · rw [if_neg k6] at e; cases e
      · rw [if_neg k4] at e; cases e
    · rw [if_neg k3] at e
      have e := Option.some.inj e; subst e
      dsimp only [Sum.elim_inr, ex1349_1] at hc
      simp -implicitDefEqProofs (disch := first | assumption | exact Nat.le_of_ble_eq_true rfl | decide) only [b1349_0, g1349_2, b1349_2, pe_aload0, pe_call1, pm_af_ret, pm_af_void, pm_af_thr, pe_sipush, pe_istore3, pe_istore4, pe_goto_w, pe_iload4, pe_aload2, pe_icmp_ge, pe_aload1, pe_iaload, pe_call2, pe_astore5, pe_iload3, pe_aload5, pe_iadd, pe_iinc4, pe_goto, pe_aloadN0, pe_aloadN2, pe_aloadN1, pe_astoreN5, pe_aloadN5, pe_aastoreN, pe_areturnN, pe_null, pm_prog_1, pm_ob_some, Nat.reduceDiv, Nat.reduceMod, Nat.reduceMul, Nat.reduceAdd, Int.reduceToNat, pm_kill_i, pm_kill_r, pm_kill_n, pm_kill_j, pm_kill_l, pm_kill_d, pm_cats_nil, pm_cats_i, pm_cats_r, pm_cats_n, pm_cats_l, pm_cats_d, sz_1, sz_2, sl_1, sl_2, lc_0, lc_lt, lc_le, li_ne, va_rf, wr_m1, we_m1, pm_kill_w, Int32.reduceOfInt, Int64.reduceOfInt, Int32.reduceOfNat, Int32.reduceLT, Int32.reduceLE, Prod.mk.injEq, Nat.reduceEqDiff, reduceCtorEq, and_true, true_and, and_false, false_and, and_self, ite_true, ite_false, ↓reduceIte, not_true_eq_false, not_false_eq_true, pe_ri, pe_rz, pe_rc, Cv_k15 hP hA, Cv_r9 hP hA, z2, eq_false k3, hc]
  · rw [if_neg k1] at e; cases e
theorem z1349_1 {mc : Int32} {jc : Int32} {tc : Int32} {ma : Int32} {ja : Int32} {ta : Int32} {oc : Int32 → Int32} {oa : Int32 → Int32} {qa : Int32 → Int32} {A : wK → Nat} {h : pm_H} {D : Nat} {R : Outcome × pm_H} (hP : Cv_P mc jc tc ma ja ta oc oa qa) (hA : wok A (Cv_d mc jc tc ma ja ta oc oa qa) h.1) (hD : 6 ≤ D) {n : Nat} {a : Int32 × Int32 × Int32 × wS} {b : (Int32 × wS)} (e : lp (f1349_b1 mc jc tc ma ja ta oc oa qa) n a = some b) (hx : ex1349_1 mc jc tc ma ja ta oc oa qa A h D R b) : go1349_1 mc jc tc ma ja ta oc oa qa A h D R a := lp_run (fun a r => y1349_b1 hP hA hD a r) n a b e hx
theorem x1349 {mc : Int32} {jc : Int32} {tc : Int32} {ma : Int32} {ja : Int32} {ta : Int32} {oc : Int32 → Int32} {oa : Int32 → Int32} {qa : Int32 → Int32} {A : wK → Nat} {h : pm_H} {D : Nat} {S : wS} {x0i : Int32} {r : Int32 × wS} (hP : Cv_P mc jc tc ma ja ta oc oa qa) (hA : wok A (Cv_d mc jc tc ma ja ta oc oa qa) h.1) (hD : 7 ≤ D) (e : f1349 mc jc tc ma ja ta oc oa qa S x0i = some r) : pm_call pm_prog D 1349 [.ref (A (7, x0i, 0)), .ref (A (9, 0, 0)), .ref (A (3, 0, 0))] (wput A (Cv_d mc jc tc ma ja ta oc oa qa) S h) = some (match (generalizing := false) r with | (w0, S1) => (Outcome.returned (some (.int w0)), (wput A (Cv_d mc jc tc ma ja ta oc oa qa) S1 h))) := by
  obtain ⟨D, rfl⟩ : ∃ D', D = D' + 1 := ⟨D - 1, by omega⟩
  have hD : 6 ≤ D := by omega
  simp only [f1349] at e
  have k1 : 0 ≤ x0i ∧ x0i < 3 := by
    by_cases q : 0 ≤ x0i ∧ x0i < 3
    · exact q
    · rw [if_neg q] at e; cases e
  rw [if_pos k1] at e
  rw [c1349 (Cv_c7 hP hA k1), b1349_0]
  obtain ⟨S1, k2, e⟩ := Option.bind_eq_some_iff.mp e
  try dsimp only at e
  have z2 := x1345 (D := D) (h := h) hP hA (by omega) k2
  obtain ⟨⟨v8, S7⟩, k3, e⟩ := Option.bind_eq_some_iff.mp e
  try dsimp only at e
  try simp -implicitDefEqProofs (disch := first | assumption | exact Nat.le_of_ble_eq_true rfl | decide) only [b1349_0, g1349_2, b1349_2, pe_aload0, pe_call1, pm_af_ret, pm_af_void, pm_af_thr, pe_sipush, pe_istore3, pe_istore4, pe_goto_w, pe_iload4, pe_aload2, pe_icmp_ge, pe_aload1, pe_iaload, pe_call2, pe_astore5, pe_iload3, pe_aload5, pe_iadd, pe_iinc4, pe_goto, pe_aloadN0, pe_aloadN2, pe_aloadN1, pe_astoreN5, pe_aloadN5, pe_aastoreN, pe_areturnN, pe_null, pm_prog_1, pm_ob_some, Nat.reduceDiv, Nat.reduceMod, Nat.reduceMul, Nat.reduceAdd, Int.reduceToNat, pm_kill_i, pm_kill_r, pm_kill_n, pm_kill_j, pm_kill_l, pm_kill_d, pm_cats_nil, pm_cats_i, pm_cats_r, pm_cats_n, pm_cats_l, pm_cats_d, sz_1, sz_2, sl_1, sl_2, lc_0, lc_lt, lc_le, li_ne, va_rf, wr_m1, we_m1, pm_kill_w, Int32.reduceOfInt, Int64.reduceOfInt, Int32.reduceOfNat, Int32.reduceLT, Int32.reduceLE, Prod.mk.injEq, Nat.reduceEqDiff, reduceCtorEq, and_true, true_and, and_false, false_and, and_self, ite_true, ite_false, ↓reduceIte, not_true_eq_false, not_false_eq_true, pe_ri, pe_rz, pe_rc, Cv_k15 hP hA, Cv_r9 hP hA, z2]
  refine z1349_1 hP hA hD k3 ?_ _
  dsimp only [ex1349_1]
  intro q0 q1 q2 q4 q5
  have e := Option.some.inj e; subst e
  simp -implicitDefEqProofs (disch := first | assumption | exact Nat.le_of_ble_eq_true rfl | decide) only [b1349_0, g1349_2, b1349_2, pe_aload0, pe_call1, pm_af_ret, pm_af_void, pm_af_thr, pe_sipush, pe_istore3, pe_istore4, pe_goto_w, pe_iload4, pe_aload2, pe_icmp_ge, pe_aload1, pe_iaload, pe_call2, pe_astore5, pe_iload3, pe_aload5, pe_iadd, pe_iinc4, pe_goto, pe_aloadN0, pe_aloadN2, pe_aloadN1, pe_astoreN5, pe_aloadN5, pe_aastoreN, pe_areturnN, pe_null, pm_prog_1, pm_ob_some, Nat.reduceDiv, Nat.reduceMod, Nat.reduceMul, Nat.reduceAdd, Int.reduceToNat, pm_kill_i, pm_kill_r, pm_kill_n, pm_kill_j, pm_kill_l, pm_kill_d, pm_cats_nil, pm_cats_i, pm_cats_r, pm_cats_n, pm_cats_l, pm_cats_d, sz_1, sz_2, sl_1, sl_2, lc_0, lc_lt, lc_le, li_ne, va_rf, wr_m1, we_m1, pm_kill_w, Int32.reduceOfInt, Int64.reduceOfInt, Int32.reduceOfNat, Int32.reduceLT, Int32.reduceLE, Prod.mk.injEq, Nat.reduceEqDiff, reduceCtorEq, and_true, true_and, and_false, false_and, and_self, ite_true, ite_false, ↓reduceIte, not_true_eq_false, not_false_eq_true, pe_ri, pe_rz, pe_rc, Cv_k15 hP hA, Cv_r9 hP hA, z2]
/-- TimberHouse$WorkPlans.has([III)Z -/
theorem c1298 {d : Nat} {h : pm_H} {r0 : Nat} {x1 : Int32} {x2 : Int32} : pm_call pm_prog (d + 1) 1298 [.ref r0, .int x1, .int x2] h = pm_ev pm_prog (pm_call pm_prog d) 1298 0 b1298_0 [.ref r0, .int x1, .int x2, pm_junk] [] h := pm_cal (pm_rc0 rfl) rfl rfl rfl
theorem g1298_1 {cl : pm_C} {ls st : List Value} {h : pm_H} : pm_go pm_prog cl 1298 1 ls st h = pm_ev pm_prog cl 1298 1 b1298_1 ls st h := pm_go_eq pm_prog cl 1298 1 ls st h
theorem g1298_2 {cl : pm_C} {ls st : List Value} {h : pm_H} : pm_go pm_prog cl 1298 2 ls st h = pm_ev pm_prog cl 1298 2 b1298_2 ls st h := pm_go_eq pm_prog cl 1298 2 ls st h
theorem g1298_3 {cl : pm_C} {ls st : List Value} {h : pm_H} : pm_go pm_prog cl 1298 3 ls st h = pm_ev pm_prog cl 1298 3 b1298_3 ls st h := pm_go_eq pm_prog cl 1298 3 ls st h
noncomputable def f1298_b1 (mc : Int32) (jc : Int32) (tc : Int32) (ma : Int32) (ja : Int32) (ta : Int32) (oc : Int32 → Int32) (oa : Int32 → Int32) (qa : Int32 → Int32) (S : wS) : Int32 × Int32 × Int32 → Option ((Int32 × Int32 × Int32) ⊕ ((Int32) ⊕ (Unit))) := fun (x1, x2, x3) =>
  if x3 < x1 then
    if 0 ≤ x3 ∧ x3 < 6 then
      if (S.1 (8, 0, 0) x3) = x2 then
        some (.inr (.inl 1))
      else
        some (.inl (x1, x2, (x3 + 1)))
    else none
  else
    some (.inr (.inr (())))
/-- TimberHouse$WorkPlans.has([III)Z -/
noncomputable def f1298 (mc : Int32) (jc : Int32) (tc : Int32) (ma : Int32) (ja : Int32) (ta : Int32) (oc : Int32 → Int32) (oa : Int32 → Int32) (qa : Int32 → Int32) (S : wS) (x1 : Int32) (x2 : Int32) : Option (Int32) :=
  (lp (f1298_b1 mc jc tc ma ja ta oc oa qa S) FU (x1, x2, 0)).bind fun b => match b with
  | (.inl v1) =>
    some v1
  | (.inr (())) =>
    some 0
def go1298_1 (mc : Int32) (jc : Int32) (tc : Int32) (ma : Int32) (ja : Int32) (ta : Int32) (oc : Int32 → Int32) (oa : Int32 → Int32) (qa : Int32 → Int32) (A : wK → Nat) (h : pm_H) (D : Nat) (R : Outcome × pm_H) (S : wS) : Int32 × Int32 × Int32 → Prop := fun (x1, x2, x3) => pm_go pm_prog (pm_call pm_prog D) 1298 1 [.ref (A (8, 0, 0)), .int x1, .int x2, .int x3] [] (wput A (Cv_d mc jc tc ma ja ta oc oa qa) S h) = some R
def ex1298_1 (mc : Int32) (jc : Int32) (tc : Int32) (ma : Int32) (ja : Int32) (ta : Int32) (oc : Int32 → Int32) (oa : Int32 → Int32) (qa : Int32 → Int32) (A : wK → Nat) (h : pm_H) (D : Nat) (R : Outcome × pm_H) (S : wS) : (Int32) ⊕ (Unit) → Prop := fun b => match b with
  | (.inl xr0) => some (Outcome.returned (some (.int xr0)), (wput A (Cv_d mc jc tc ma ja ta oc oa qa) S h)) = some R
  | (.inr (_)) => ∀ q0 q1 q2 q3 : Value, pm_go pm_prog (pm_call pm_prog D) 1298 3 [q0, q1, q2, q3] [] (wput A (Cv_d mc jc tc ma ja ta oc oa qa) S h) = some R
theorem y1298_b1 {mc : Int32} {jc : Int32} {tc : Int32} {ma : Int32} {ja : Int32} {ta : Int32} {oc : Int32 → Int32} {oa : Int32 → Int32} {qa : Int32 → Int32} {A : wK → Nat} {h : pm_H} {D : Nat} {R : Outcome × pm_H} {S : wS} (hP : Cv_P mc jc tc ma ja ta oc oa qa) (hA : wok A (Cv_d mc jc tc ma ja ta oc oa qa) h.1) (hD : 0 ≤ D) (a : Int32 × Int32 × Int32) (r : (Int32 × Int32 × Int32) ⊕ ((Int32) ⊕ (Unit))) (e : f1298_b1 mc jc tc ma ja ta oc oa qa S a = some r) (hc : Sum.elim (go1298_1 mc jc tc ma ja ta oc oa qa A h D R S) (ex1298_1 mc jc tc ma ja ta oc oa qa A h D R S) r) : go1298_1 mc jc tc ma ja ta oc oa qa A h D R S a := by
  obtain ⟨x1, x2, x3⟩ := a
  dsimp only [go1298_1]
  simp only [f1298_b1] at e
  rw [g1298_1, b1298_1]
  by_cases k1 : x3 < x1
  · rw [if_pos k1] at e
    by_cases k2 : 0 ≤ x3 ∧ x3 < 6
    · rw [if_pos k2] at e
      by_cases k3 : (S.1 (8, 0, 0) x3) = x2
      · rw [if_pos k3] at e
        have e := Option.some.inj e; subst e
        dsimp only [Sum.elim_inr, ex1298_1] at hc
        have hc := Option.some.inj hc; subst hc
        simp -implicitDefEqProofs (disch := first | assumption | exact Nat.le_of_ble_eq_true rfl | decide) only [b1298_0, g1298_2, b1298_2, g1298_3, b1298_3, pe_sipush, pe_istore3, pe_goto_w, pe_iload3, pe_iload1, pe_icmp_ge, pe_aload0, pe_iaload, pe_iload2, pe_icmp_ne, pe_iinc3, pe_goto, pe_aloadN0, pe_aastoreN, pe_areturnN, pe_null, pm_prog_1, pm_ob_some, Nat.reduceDiv, Nat.reduceMod, Nat.reduceMul, Nat.reduceAdd, Int.reduceToNat, pm_kill_i, pm_kill_r, pm_kill_n, pm_kill_j, pm_kill_l, pm_kill_d, pm_cats_nil, pm_cats_i, pm_cats_r, pm_cats_n, pm_cats_l, pm_cats_d, sz_1, sz_2, sl_1, sl_2, lc_0, lc_lt, lc_le, li_ne, va_rf, wr_m1, we_m1, pm_kill_w, Int32.reduceOfInt, Int64.reduceOfInt, Int32.reduceOfNat, Int32.reduceLT, Int32.reduceLE, Prod.mk.injEq, Nat.reduceEqDiff, reduceCtorEq, and_true, true_and, and_false, false_and, and_self, ite_true, ite_false, ↓reduceIte, not_true_eq_false, not_false_eq_true, pe_ri, pe_rz, pe_rc, Cv_r8 hP hA, eq_true k1, eq_true k3]
      · rw [if_neg k3] at e
        have e := Option.some.inj e; subst e
        dsimp only [Sum.elim_inl, go1298_1] at hc
        simp -implicitDefEqProofs (disch := first | assumption | exact Nat.le_of_ble_eq_true rfl | decide) only [b1298_0, g1298_2, b1298_2, g1298_3, b1298_3, pe_sipush, pe_istore3, pe_goto_w, pe_iload3, pe_iload1, pe_icmp_ge, pe_aload0, pe_iaload, pe_iload2, pe_icmp_ne, pe_iinc3, pe_goto, pe_aloadN0, pe_aastoreN, pe_areturnN, pe_null, pm_prog_1, pm_ob_some, Nat.reduceDiv, Nat.reduceMod, Nat.reduceMul, Nat.reduceAdd, Int.reduceToNat, pm_kill_i, pm_kill_r, pm_kill_n, pm_kill_j, pm_kill_l, pm_kill_d, pm_cats_nil, pm_cats_i, pm_cats_r, pm_cats_n, pm_cats_l, pm_cats_d, sz_1, sz_2, sl_1, sl_2, lc_0, lc_lt, lc_le, li_ne, va_rf, wr_m1, we_m1, pm_kill_w, Int32.reduceOfInt, Int64.reduceOfInt, Int32.reduceOfNat, Int32.reduceLT, Int32.reduceLE, Prod.mk.injEq, Nat.reduceEqDiff, reduceCtorEq, and_true, true_and, and_false, false_and, and_self, ite_true, ite_false, ↓reduceIte, not_true_eq_false, not_false_eq_true, pe_ri, pe_rz, pe_rc, Cv_r8 hP hA, eq_true k1, eq_false k3, hc]
    · rw [if_neg k2] at e; cases e
  · rw [if_neg k1] at e
    have e := Option.some.inj e; subst e
    dsimp only [Sum.elim_inr, ex1298_1] at hc
    simp -implicitDefEqProofs (disch := first | assumption | exact Nat.le_of_ble_eq_true rfl | decide) only [b1298_0, g1298_2, b1298_2, g1298_3, b1298_3, pe_sipush, pe_istore3, pe_goto_w, pe_iload3, pe_iload1, pe_icmp_ge, pe_aload0, pe_iaload, pe_iload2, pe_icmp_ne, pe_iinc3, pe_goto, pe_aloadN0, pe_aastoreN, pe_areturnN, pe_null, pm_prog_1, pm_ob_some, Nat.reduceDiv, Nat.reduceMod, Nat.reduceMul, Nat.reduceAdd, Int.reduceToNat, pm_kill_i, pm_kill_r, pm_kill_n, pm_kill_j, pm_kill_l, pm_kill_d, pm_cats_nil, pm_cats_i, pm_cats_r, pm_cats_n, pm_cats_l, pm_cats_d, sz_1, sz_2, sl_1, sl_2, lc_0, lc_lt, lc_le, li_ne, va_rf, wr_m1, we_m1, pm_kill_w, Int32.reduceOfInt, Int64.reduceOfInt, Int32.reduceOfNat, Int32.reduceLT, Int32.reduceLE, Prod.mk.injEq, Nat.reduceEqDiff, reduceCtorEq, and_true, true_and, and_false, false_and, and_self, ite_true, ite_false, ↓reduceIte, not_true_eq_false, not_false_eq_true, pe_ri, pe_rz, pe_rc, Cv_r8 hP hA, eq_false k1, hc]
theorem z1298_1 {mc : Int32} {jc : Int32} {tc : Int32} {ma : Int32} {ja : Int32} {ta : Int32} {oc : Int32 → Int32} {oa : Int32 → Int32} {qa : Int32 → Int32} {A : wK → Nat} {h : pm_H} {D : Nat} {R : Outcome × pm_H} {S : wS} (hP : Cv_P mc jc tc ma ja ta oc oa qa) (hA : wok A (Cv_d mc jc tc ma ja ta oc oa qa) h.1) (hD : 0 ≤ D) {n : Nat} {a : Int32 × Int32 × Int32} {b : (Int32) ⊕ (Unit)} (e : lp (f1298_b1 mc jc tc ma ja ta oc oa qa S) n a = some b) (hx : ex1298_1 mc jc tc ma ja ta oc oa qa A h D R S b) : go1298_1 mc jc tc ma ja ta oc oa qa A h D R S a := lp_run (fun a r => y1298_b1 hP hA hD a r) n a b e hx
theorem x1298 {mc : Int32} {jc : Int32} {tc : Int32} {ma : Int32} {ja : Int32} {ta : Int32} {oc : Int32 → Int32} {oa : Int32 → Int32} {qa : Int32 → Int32} {A : wK → Nat} {h : pm_H} {D : Nat} {S : wS} {x1 : Int32} {x2 : Int32} {r : Int32} (hP : Cv_P mc jc tc ma ja ta oc oa qa) (hA : wok A (Cv_d mc jc tc ma ja ta oc oa qa) h.1) (hD : 1 ≤ D) (e : f1298 mc jc tc ma ja ta oc oa qa S x1 x2 = some r) : pm_call pm_prog D 1298 [.ref (A (8, 0, 0)), .int x1, .int x2] (wput A (Cv_d mc jc tc ma ja ta oc oa qa) S h) = some (Outcome.returned (some (.int r)), (wput A (Cv_d mc jc tc ma ja ta oc oa qa) S h)) := by
  obtain ⟨D, rfl⟩ : ∃ D', D = D' + 1 := ⟨D - 1, by omega⟩
  have hD : 0 ≤ D := by omega
  simp only [f1298] at e
  rw [c1298, b1298_0]
  obtain ⟨b, k1, e⟩ := Option.bind_eq_some_iff.mp e
  rcases b with v1 | _
  ·
    try dsimp only at e
    try simp -implicitDefEqProofs (disch := first | assumption | exact Nat.le_of_ble_eq_true rfl | decide) only [b1298_0, g1298_2, b1298_2, g1298_3, b1298_3, pe_sipush, pe_istore3, pe_goto_w, pe_iload3, pe_iload1, pe_icmp_ge, pe_aload0, pe_iaload, pe_iload2, pe_icmp_ne, pe_iinc3, pe_goto, pe_aloadN0, pe_aastoreN, pe_areturnN, pe_null, pm_prog_1, pm_ob_some, Nat.reduceDiv, Nat.reduceMod, Nat.reduceMul, Nat.reduceAdd, Int.reduceToNat, pm_kill_i, pm_kill_r, pm_kill_n, pm_kill_j, pm_kill_l, pm_kill_d, pm_cats_nil, pm_cats_i, pm_cats_r, pm_cats_n, pm_cats_l, pm_cats_d, sz_1, sz_2, sl_1, sl_2, lc_0, lc_lt, lc_le, li_ne, va_rf, wr_m1, we_m1, pm_kill_w, Int32.reduceOfInt, Int64.reduceOfInt, Int32.reduceOfNat, Int32.reduceLT, Int32.reduceLE, Prod.mk.injEq, Nat.reduceEqDiff, reduceCtorEq, and_true, true_and, and_false, false_and, and_self, ite_true, ite_false, ↓reduceIte, not_true_eq_false, not_false_eq_true, pe_ri, pe_rz, pe_rc, Cv_r8 hP hA]
    refine z1298_1 hP hA hD k1 ?_
    dsimp only [ex1298_1]
    have e := Option.some.inj e; subst e
    simp -implicitDefEqProofs (disch := first | assumption | exact Nat.le_of_ble_eq_true rfl | decide) only [b1298_0, g1298_2, b1298_2, g1298_3, b1298_3, pe_sipush, pe_istore3, pe_goto_w, pe_iload3, pe_iload1, pe_icmp_ge, pe_aload0, pe_iaload, pe_iload2, pe_icmp_ne, pe_iinc3, pe_goto, pe_aloadN0, pe_aastoreN, pe_areturnN, pe_null, pm_prog_1, pm_ob_some, Nat.reduceDiv, Nat.reduceMod, Nat.reduceMul, Nat.reduceAdd, Int.reduceToNat, pm_kill_i, pm_kill_r, pm_kill_n, pm_kill_j, pm_kill_l, pm_kill_d, pm_cats_nil, pm_cats_i, pm_cats_r, pm_cats_n, pm_cats_l, pm_cats_d, sz_1, sz_2, sl_1, sl_2, lc_0, lc_lt, lc_le, li_ne, va_rf, wr_m1, we_m1, pm_kill_w, Int32.reduceOfInt, Int64.reduceOfInt, Int32.reduceOfNat, Int32.reduceLT, Int32.reduceLE, Prod.mk.injEq, Nat.reduceEqDiff, reduceCtorEq, and_true, true_and, and_false, false_and, and_self, ite_true, ite_false, ↓reduceIte, not_true_eq_false, not_false_eq_true, pe_ri, pe_rz, pe_rc, Cv_r8 hP hA]
  ·
    try dsimp only at e
    try simp -implicitDefEqProofs (disch := first | assumption | exact Nat.le_of_ble_eq_true rfl | decide) only [b1298_0, g1298_2, b1298_2, g1298_3, b1298_3, pe_sipush, pe_istore3, pe_goto_w, pe_iload3, pe_iload1, pe_icmp_ge, pe_aload0, pe_iaload, pe_iload2, pe_icmp_ne, pe_iinc3, pe_goto, pe_aloadN0, pe_aastoreN, pe_areturnN, pe_null, pm_prog_1, pm_ob_some, Nat.reduceDiv, Nat.reduceMod, Nat.reduceMul, Nat.reduceAdd, Int.reduceToNat, pm_kill_i, pm_kill_r, pm_kill_n, pm_kill_j, pm_kill_l, pm_kill_d, pm_cats_nil, pm_cats_i, pm_cats_r, pm_cats_n, pm_cats_l, pm_cats_d, sz_1, sz_2, sl_1, sl_2, lc_0, lc_lt, lc_le, li_ne, va_rf, wr_m1, we_m1, pm_kill_w, Int32.reduceOfInt, Int64.reduceOfInt, Int32.reduceOfNat, Int32.reduceLT, Int32.reduceLE, Prod.mk.injEq, Nat.reduceEqDiff, reduceCtorEq, and_true, true_and, and_false, false_and, and_self, ite_true, ite_false, ↓reduceIte, not_true_eq_false, not_false_eq_true, pe_ri, pe_rz, pe_rc, Cv_r8 hP hA]
    refine z1298_1 hP hA hD k1 ?_
    dsimp only [ex1298_1]
    intro q0 q1 q2 q3
    have e := Option.some.inj e; subst e
    simp -implicitDefEqProofs (disch := first | assumption | exact Nat.le_of_ble_eq_true rfl | decide) only [b1298_0, g1298_2, b1298_2, g1298_3, b1298_3, pe_sipush, pe_istore3, pe_goto_w, pe_iload3, pe_iload1, pe_icmp_ge, pe_aload0, pe_iaload, pe_iload2, pe_icmp_ne, pe_iinc3, pe_goto, pe_aloadN0, pe_aastoreN, pe_areturnN, pe_null, pm_prog_1, pm_ob_some, Nat.reduceDiv, Nat.reduceMod, Nat.reduceMul, Nat.reduceAdd, Int.reduceToNat, pm_kill_i, pm_kill_r, pm_kill_n, pm_kill_j, pm_kill_l, pm_kill_d, pm_cats_nil, pm_cats_i, pm_cats_r, pm_cats_n, pm_cats_l, pm_cats_d, sz_1, sz_2, sl_1, sl_2, lc_0, lc_lt, lc_le, li_ne, va_rf, wr_m1, we_m1, pm_kill_w, Int32.reduceOfInt, Int64.reduceOfInt, Int32.reduceOfNat, Int32.reduceLT, Int32.reduceLE, Prod.mk.injEq, Nat.reduceEqDiff, reduceCtorEq, and_true, true_and, and_false, false_and, and_self, ite_true, ite_false, ↓reduceIte, not_true_eq_false, not_false_eq_true, pe_ri, pe_rz, pe_rc, Cv_r8 hP hA]
/-- TimberHouse$WorkPlans$Board.take(LTimberHouse$WorkPlans$Job;)V -/
theorem c1350 {d : Nat} {h : pm_H} {a : Nat} {r0 : Nat} (hc : pm_cls h a = some 21) : pm_call pm_prog (d + 1) 1350 [.ref a, .ref r0] h = pm_ev pm_prog (pm_call pm_prog d) 1350 0 b1350_0 [.ref a, .ref r0, pm_junk] [] h := pm_cal (pm_rc1 hc rfl) rfl rfl rfl
theorem g1350_1 {cl : pm_C} {ls st : List Value} {h : pm_H} : pm_go pm_prog cl 1350 1 ls st h = pm_ev pm_prog cl 1350 1 b1350_1 ls st h := pm_go_eq pm_prog cl 1350 1 ls st h
theorem g1350_2 {cl : pm_C} {ls st : List Value} {h : pm_H} : pm_go pm_prog cl 1350 2 ls st h = pm_ev pm_prog cl 1350 2 b1350_2 ls st h := pm_go_eq pm_prog cl 1350 2 ls st h
noncomputable def f1350_b1 (mc : Int32) (jc : Int32) (tc : Int32) (ma : Int32) (ja : Int32) (ta : Int32) (oc : Int32 → Int32) (oa : Int32 → Int32) (qa : Int32 → Int32) : Int32 × Int32 × Int32 × wS → Option ((Int32 × Int32 × Int32 × wS) ⊕ ((wS))) := fun (x0i, x1i, x2, S) =>
  if 0 ≤ x0i ∧ x0i < 3 then
    if 0 ≤ x1i ∧ x1i < jc then
      (f4033vv1 mc jc tc ma ja ta oc oa qa S x1i).bind fun v1 =>
      if x2 < v1 then
        (f4034vv2 mc jc tc ma ja ta oc oa qa S x1i x2).bind fun v2i =>
        if 0 ≤ v2i ∧ v2i < tc then
          if 0 ≤ (S.1 (16, v2i, 0) 0) ∧ (S.1 (16, v2i, 0) 0) < 24 then
            some (.inl (x0i, x1i, (x2 + 1), (sz S (20, x0i, 0) (S.1 (16, v2i, 0) 0) (-1))))
          else none
        else none
      else
        some (.inr S)
    else none
  else none
/-- TimberHouse$WorkPlans$Board.take(LTimberHouse$WorkPlans$Job;)V -/
noncomputable def f1350 (mc : Int32) (jc : Int32) (tc : Int32) (ma : Int32) (ja : Int32) (ta : Int32) (oc : Int32 → Int32) (oa : Int32 → Int32) (qa : Int32 → Int32) (S : wS) (x0i : Int32) (x1i : Int32) : Option (wS) :=
  if 0 ≤ x0i ∧ x0i < 3 then
    if 0 ≤ x1i ∧ x1i < jc then
      (lp (f1350_b1 mc jc tc ma ja ta oc oa qa) FU (x0i, x1i, 0, S)).bind fun S3 =>
      some S3
    else none
  else none
def go1350_1 (mc : Int32) (jc : Int32) (tc : Int32) (ma : Int32) (ja : Int32) (ta : Int32) (oc : Int32 → Int32) (oa : Int32 → Int32) (qa : Int32 → Int32) (A : wK → Nat) (h : pm_H) (D : Nat) (R : Outcome × pm_H) : Int32 × Int32 × Int32 × wS → Prop := fun (x0i, x1i, x2, S) => pm_go pm_prog (pm_call pm_prog D) 1350 1 [.ref (A (7, x0i, 0)), .ref (A (15, x1i, 0)), .int x2] [] (wput A (Cv_d mc jc tc ma ja ta oc oa qa) S h) = some R
def ex1350_1 (mc : Int32) (jc : Int32) (tc : Int32) (ma : Int32) (ja : Int32) (ta : Int32) (oc : Int32 → Int32) (oa : Int32 → Int32) (qa : Int32 → Int32) (A : wK → Nat) (h : pm_H) (D : Nat) (R : Outcome × pm_H) : (wS) → Prop := fun S => ∀ q0 q1 q2 : Value, pm_go pm_prog (pm_call pm_prog D) 1350 2 [q0, q1, q2] [] (wput A (Cv_d mc jc tc ma ja ta oc oa qa) S h) = some R
theorem y1350_b1 {mc : Int32} {jc : Int32} {tc : Int32} {ma : Int32} {ja : Int32} {ta : Int32} {oc : Int32 → Int32} {oa : Int32 → Int32} {qa : Int32 → Int32} {A : wK → Nat} {h : pm_H} {D : Nat} {R : Outcome × pm_H} (hP : Cv_P mc jc tc ma ja ta oc oa qa) (hA : wok A (Cv_d mc jc tc ma ja ta oc oa qa) h.1) (hD : 3 ≤ D) (a : Int32 × Int32 × Int32 × wS) (r : (Int32 × Int32 × Int32 × wS) ⊕ ((wS))) (e : f1350_b1 mc jc tc ma ja ta oc oa qa a = some r) (hc : Sum.elim (go1350_1 mc jc tc ma ja ta oc oa qa A h D R) (ex1350_1 mc jc tc ma ja ta oc oa qa A h D R) r) : go1350_1 mc jc tc ma ja ta oc oa qa A h D R a := by
  obtain ⟨x0i, x1i, x2, S⟩ := a
  dsimp only [go1350_1]
  simp only [f1350_b1] at e
  rw [g1350_1, b1350_1]
  by_cases k1 : 0 ≤ x0i ∧ x0i < 3
  · rw [if_pos k1] at e
    by_cases k2 : 0 ≤ x1i ∧ x1i < jc
    · rw [if_pos k2] at e
      obtain ⟨v1, k3, e⟩ := Option.bind_eq_some_iff.mp e
      try dsimp only at e
      have z3 := x4033vv1 (D := D) (h := h) hP hA (by omega) k3
      by_cases k4 : x2 < v1
      · rw [if_pos k4] at e
        obtain ⟨v2i, k5, e⟩ := Option.bind_eq_some_iff.mp e
        try dsimp only at e
        have z5 := x4034vv2 (D := D) (h := h) hP hA (by omega) k5
        by_cases k6 : 0 ≤ v2i ∧ v2i < tc
        · rw [if_pos k6] at e
          by_cases k7 : 0 ≤ (S.1 (16, v2i, 0) 0) ∧ (S.1 (16, v2i, 0) 0) < 24
          · rw [if_pos k7] at e
            have e := Option.some.inj e; subst e
            dsimp only [Sum.elim_inl, go1350_1] at hc
            simp -implicitDefEqProofs (disch := first | assumption | exact Nat.le_of_ble_eq_true rfl | decide) only [b1350_0, g1350_2, b1350_2, pe_sipush, pe_istore2, pe_goto_w, pe_iload2, pe_aload1, pe_getfield, pe_call1, pm_af_ret, pm_af_void, pm_af_thr, pe_icmp_ge, pe_aload0, pe_call2, pe_iastore, pe_iinc2, pe_goto, pe_return, pe_aloadN1, pe_aloadN0, pe_aastoreN, pe_areturnN, pe_null, pm_prog_1, pm_ob_some, Nat.reduceDiv, Nat.reduceMod, Nat.reduceMul, Nat.reduceAdd, Int.reduceToNat, pm_kill_i, pm_kill_r, pm_kill_n, pm_kill_j, pm_kill_l, pm_kill_d, pm_cats_nil, pm_cats_i, pm_cats_r, pm_cats_n, pm_cats_l, pm_cats_d, sz_1, sz_2, sl_1, sl_2, lc_0, lc_lt, lc_le, li_ne, va_rf, wr_m1, we_m1, pm_kill_w, Int32.reduceOfInt, Int64.reduceOfInt, Int32.reduceOfNat, Int32.reduceLT, Int32.reduceLE, Prod.mk.injEq, Nat.reduceEqDiff, reduceCtorEq, and_true, true_and, and_false, false_and, and_self, ite_true, ite_false, ↓reduceIte, not_true_eq_false, not_false_eq_true, pe_ri, pe_rz, pe_rc, Cv_g15_2 hP hA, Cv_g16_0 hP hA, Cv_g7_3 hP hA, Cv_k16 hP hA, Cv_w20 hP hA, z3, eq_true k4, z5, hc]
          · rw [if_neg k7] at e; cases e
        · rw [if_neg k6] at e; cases e
      · rw [if_neg k4] at e
        have e := Option.some.inj e; subst e
        dsimp only [Sum.elim_inr, ex1350_1] at hc
        simp -implicitDefEqProofs (disch := first | assumption | exact Nat.le_of_ble_eq_true rfl | decide) only [b1350_0, g1350_2, b1350_2, pe_sipush, pe_istore2, pe_goto_w, pe_iload2, pe_aload1, pe_getfield, pe_call1, pm_af_ret, pm_af_void, pm_af_thr, pe_icmp_ge, pe_aload0, pe_call2, pe_iastore, pe_iinc2, pe_goto, pe_return, pe_aloadN1, pe_aloadN0, pe_aastoreN, pe_areturnN, pe_null, pm_prog_1, pm_ob_some, Nat.reduceDiv, Nat.reduceMod, Nat.reduceMul, Nat.reduceAdd, Int.reduceToNat, pm_kill_i, pm_kill_r, pm_kill_n, pm_kill_j, pm_kill_l, pm_kill_d, pm_cats_nil, pm_cats_i, pm_cats_r, pm_cats_n, pm_cats_l, pm_cats_d, sz_1, sz_2, sl_1, sl_2, lc_0, lc_lt, lc_le, li_ne, va_rf, wr_m1, we_m1, pm_kill_w, Int32.reduceOfInt, Int64.reduceOfInt, Int32.reduceOfNat, Int32.reduceLT, Int32.reduceLE, Prod.mk.injEq, Nat.reduceEqDiff, reduceCtorEq, and_true, true_and, and_false, false_and, and_self, ite_true, ite_false, ↓reduceIte, not_true_eq_false, not_false_eq_true, pe_ri, pe_rz, pe_rc, Cv_g15_2 hP hA, Cv_g16_0 hP hA, Cv_g7_3 hP hA, Cv_k16 hP hA, Cv_w20 hP hA, z3, eq_false k4, hc]
    · rw [if_neg k2] at e; cases e
  · rw [if_neg k1] at e; cases e
theorem z1350_1 {mc : Int32} {jc : Int32} {tc : Int32} {ma : Int32} {ja : Int32} {ta : Int32} {oc : Int32 → Int32} {oa : Int32 → Int32} {qa : Int32 → Int32} {A : wK → Nat} {h : pm_H} {D : Nat} {R : Outcome × pm_H} (hP : Cv_P mc jc tc ma ja ta oc oa qa) (hA : wok A (Cv_d mc jc tc ma ja ta oc oa qa) h.1) (hD : 3 ≤ D) {n : Nat} {a : Int32 × Int32 × Int32 × wS} {b : (wS)} (e : lp (f1350_b1 mc jc tc ma ja ta oc oa qa) n a = some b) (hx : ex1350_1 mc jc tc ma ja ta oc oa qa A h D R b) : go1350_1 mc jc tc ma ja ta oc oa qa A h D R a := lp_run (fun a r => y1350_b1 hP hA hD a r) n a b e hx
theorem x1350 {mc : Int32} {jc : Int32} {tc : Int32} {ma : Int32} {ja : Int32} {ta : Int32} {oc : Int32 → Int32} {oa : Int32 → Int32} {qa : Int32 → Int32} {A : wK → Nat} {h : pm_H} {D : Nat} {S : wS} {x0i : Int32} {x1i : Int32} {r : wS} (hP : Cv_P mc jc tc ma ja ta oc oa qa) (hA : wok A (Cv_d mc jc tc ma ja ta oc oa qa) h.1) (hD : 4 ≤ D) (e : f1350 mc jc tc ma ja ta oc oa qa S x0i x1i = some r) : pm_call pm_prog D 1350 [.ref (A (7, x0i, 0)), .ref (A (15, x1i, 0))] (wput A (Cv_d mc jc tc ma ja ta oc oa qa) S h) = some (Outcome.returned none, (wput A (Cv_d mc jc tc ma ja ta oc oa qa) r h)) := by
  obtain ⟨D, rfl⟩ : ∃ D', D = D' + 1 := ⟨D - 1, by omega⟩
  have hD : 3 ≤ D := by omega
  simp only [f1350] at e
  have k1 : 0 ≤ x0i ∧ x0i < 3 := by
    by_cases q : 0 ≤ x0i ∧ x0i < 3
    · exact q
    · rw [if_neg q] at e; cases e
  rw [if_pos k1] at e
  have k2 : 0 ≤ x1i ∧ x1i < jc := by
    by_cases q : 0 ≤ x1i ∧ x1i < jc
    · exact q
    · rw [if_neg q] at e; cases e
  rw [if_pos k2] at e
  rw [c1350 (Cv_c7 hP hA k1), b1350_0]
  obtain ⟨S3, k3, e⟩ := Option.bind_eq_some_iff.mp e
  try dsimp only at e
  try simp -implicitDefEqProofs (disch := first | assumption | exact Nat.le_of_ble_eq_true rfl | decide) only [b1350_0, g1350_2, b1350_2, pe_sipush, pe_istore2, pe_goto_w, pe_iload2, pe_aload1, pe_getfield, pe_call1, pm_af_ret, pm_af_void, pm_af_thr, pe_icmp_ge, pe_aload0, pe_call2, pe_iastore, pe_iinc2, pe_goto, pe_return, pe_aloadN1, pe_aloadN0, pe_aastoreN, pe_areturnN, pe_null, pm_prog_1, pm_ob_some, Nat.reduceDiv, Nat.reduceMod, Nat.reduceMul, Nat.reduceAdd, Int.reduceToNat, pm_kill_i, pm_kill_r, pm_kill_n, pm_kill_j, pm_kill_l, pm_kill_d, pm_cats_nil, pm_cats_i, pm_cats_r, pm_cats_n, pm_cats_l, pm_cats_d, sz_1, sz_2, sl_1, sl_2, lc_0, lc_lt, lc_le, li_ne, va_rf, wr_m1, we_m1, pm_kill_w, Int32.reduceOfInt, Int64.reduceOfInt, Int32.reduceOfNat, Int32.reduceLT, Int32.reduceLE, Prod.mk.injEq, Nat.reduceEqDiff, reduceCtorEq, and_true, true_and, and_false, false_and, and_self, ite_true, ite_false, ↓reduceIte, not_true_eq_false, not_false_eq_true, pe_ri, pe_rz, pe_rc, Cv_g15_2 hP hA, Cv_g16_0 hP hA, Cv_g7_3 hP hA, Cv_k16 hP hA, Cv_w20 hP hA]
  refine z1350_1 hP hA hD k3 ?_
  dsimp only [ex1350_1]
  intro q0 q1 q2
  have e := Option.some.inj e; subst e
  simp -implicitDefEqProofs (disch := first | assumption | exact Nat.le_of_ble_eq_true rfl | decide) only [b1350_0, g1350_2, b1350_2, pe_sipush, pe_istore2, pe_goto_w, pe_iload2, pe_aload1, pe_getfield, pe_call1, pm_af_ret, pm_af_void, pm_af_thr, pe_icmp_ge, pe_aload0, pe_call2, pe_iastore, pe_iinc2, pe_goto, pe_return, pe_aloadN1, pe_aloadN0, pe_aastoreN, pe_areturnN, pe_null, pm_prog_1, pm_ob_some, Nat.reduceDiv, Nat.reduceMod, Nat.reduceMul, Nat.reduceAdd, Int.reduceToNat, pm_kill_i, pm_kill_r, pm_kill_n, pm_kill_j, pm_kill_l, pm_kill_d, pm_cats_nil, pm_cats_i, pm_cats_r, pm_cats_n, pm_cats_l, pm_cats_d, sz_1, sz_2, sl_1, sl_2, lc_0, lc_lt, lc_le, li_ne, va_rf, wr_m1, we_m1, pm_kill_w, Int32.reduceOfInt, Int64.reduceOfInt, Int32.reduceOfNat, Int32.reduceLT, Int32.reduceLE, Prod.mk.injEq, Nat.reduceEqDiff, reduceCtorEq, and_true, true_and, and_false, false_and, and_self, ite_true, ite_false, ↓reduceIte, not_true_eq_false, not_false_eq_true, pe_ri, pe_rz, pe_rc, Cv_g15_2 hP hA, Cv_g16_0 hP hA, Cv_g7_3 hP hA, Cv_k16 hP hA, Cv_w20 hP hA]
/-- TimberHouse$WorkPlans.branch(III)Z -/
theorem c1297 {d : Nat} {h : pm_H} {a : Nat} {x0 : Int32} {x1 : Int32} {x2 : Int32} (hc : pm_cls h a = some 20) : pm_call pm_prog (d + 1) 1297 [.ref a, .int x0, .int x1, .int x2] h = pm_ev pm_prog (pm_call pm_prog d) 1297 0 b1297_0 [.ref a, .int x0, .int x1, .int x2, pm_junk, pm_junk, pm_junk, pm_junk] [] h := pm_cal (pm_rc1 hc rfl) rfl rfl rfl
theorem g1297_1 {cl : pm_C} {ls st : List Value} {h : pm_H} : pm_go pm_prog cl 1297 1 ls st h = pm_ev pm_prog cl 1297 1 b1297_1 ls st h := pm_go_eq pm_prog cl 1297 1 ls st h
theorem g1297_2 {cl : pm_C} {ls st : List Value} {h : pm_H} : pm_go pm_prog cl 1297 2 ls st h = pm_ev pm_prog cl 1297 2 b1297_2 ls st h := pm_go_eq pm_prog cl 1297 2 ls st h
theorem g1297_3 {cl : pm_C} {ls st : List Value} {h : pm_H} : pm_go pm_prog cl 1297 3 ls st h = pm_ev pm_prog cl 1297 3 b1297_3 ls st h := pm_go_eq pm_prog cl 1297 3 ls st h
theorem g1297_4 {cl : pm_C} {ls st : List Value} {h : pm_H} : pm_go pm_prog cl 1297 4 ls st h = pm_ev pm_prog cl 1297 4 b1297_4 ls st h := pm_go_eq pm_prog cl 1297 4 ls st h
theorem g1297_5 {cl : pm_C} {ls st : List Value} {h : pm_H} : pm_go pm_prog cl 1297 5 ls st h = pm_ev pm_prog cl 1297 5 b1297_5 ls st h := pm_go_eq pm_prog cl 1297 5 ls st h
theorem g1297_6 {cl : pm_C} {ls st : List Value} {h : pm_H} : pm_go pm_prog cl 1297 6 ls st h = pm_ev pm_prog cl 1297 6 b1297_6 ls st h := pm_go_eq pm_prog cl 1297 6 ls st h
theorem g1297_7 {cl : pm_C} {ls st : List Value} {h : pm_H} : pm_go pm_prog cl 1297 7 ls st h = pm_ev pm_prog cl 1297 7 b1297_7 ls st h := pm_go_eq pm_prog cl 1297 7 ls st h
def FOK1297 (mc : Int32) (jc : Int32) (tc : Int32) (ma : Int32) (ja : Int32) (ta : Int32) (oc : Int32 → Int32) (oa : Int32 → Int32) (qa : Int32 → Int32) (A : wK → Nat) (h : pm_H) (E : Nat) (F : wS → Int32 → Int32 → Int32 → Option (Int32 × wS)) : Prop := ∀ (D : Nat) (S : wS) (x1 : Int32) (x2 : Int32) (x3 : Int32) (r : Int32 × wS), E ≤ D → F S x1 x2 x3 = some r → pm_call pm_prog D 1297 [.ref (A (0, 0, 0)), .int x1, .int x2, .int x3] (wput A (Cv_d mc jc tc ma ja ta oc oa qa) S h) = some (match (generalizing := false) r with | (w0, S1) => (Outcome.returned (some (.int w0)), (wput A (Cv_d mc jc tc ma ja ta oc oa qa) S1 h)))
noncomputable def f1297_5_1 (mc : Int32) (jc : Int32) (tc : Int32) (ma : Int32) (ja : Int32) (ta : Int32) (oc : Int32 → Int32) (oa : Int32 → Int32) (qa : Int32 → Int32) (F : wS → Int32 → Int32 → Int32 → Option (Int32 × wS)) (S : wS) (x1 : Int32) (x2 : Int32) (x3 : Int32) (x4 : Int32) (x5i : Int32) (x7 : Int32) : Option ((Int32 × Int32 × Int32 × Int32 × wS) ⊕ ((Int32 × wS) ⊕ (wS))) :=
  if 0 ≤ x5i ∧ x5i < jc then
    (f1350 mc jc tc ma ja ta oc oa qa S 0 x5i).bind fun S8 =>
    if x7 = 0 then
      some (.inr (.inl (0, S8)))
    else
      some (.inl (x1, x2, x3, (x4 + 1), S8))
  else none
noncomputable def f1297_b1 (mc : Int32) (jc : Int32) (tc : Int32) (ma : Int32) (ja : Int32) (ta : Int32) (oc : Int32 → Int32) (oa : Int32 → Int32) (qa : Int32 → Int32) (F : wS → Int32 → Int32 → Int32 → Option (Int32 × wS)) : Int32 × Int32 × Int32 × Int32 × wS → Option ((Int32 × Int32 × Int32 × Int32 × wS) ⊕ ((Int32 × wS) ⊕ (wS))) := fun (x1, x2, x3, x4, S) =>
  (f4033v mc jc tc ma ja ta oc oa qa S).bind fun v1 =>
  if x4 < v1 then
    (f1298 mc jc tc ma ja ta oc oa qa S x1 x4).bind fun v2 =>
    if v2 = 0 then
      if (S.1 (0, 0, 0) 11) = (S.1 (0, 0, 0) 12) then
        some (.inr (.inl (0, S)))
      else
        if 0 ≤ x1 ∧ x1 < 6 then
          (f4034v mc jc tc ma ja ta oc oa qa (sz (sz S (0, 0, 0) 11 ((S.1 (0, 0, 0) 11) + 1)) (8, 0, 0) x1 x4) x4).bind fun v3i =>
          if 0 ≤ v3i ∧ v3i < jc then
            (f1346 mc jc tc ma ja ta oc oa qa (sz (sz S (0, 0, 0) 11 ((S.1 (0, 0, 0) 11) + 1)) (8, 0, 0) x1 x4) 0 v3i).bind fun (v4, S5) =>
            (f3457 mc jc tc ma ja ta oc oa qa S5 v3i v4).bind fun v6 =>
            if 0 ≤ x4 ∧ x4 < 6 then
              if (((x2 + v6) + x3) - (S5.1 (10, 0, 0) x4)) < (S5.1 (0, 0, 0) 10) then
                (f4033v mc jc tc ma ja ta oc oa qa S5).bind fun v7 =>
                if (x1 + 1) = v7 then
                  if (0 : Int32) ≤ 0 ∧ (0 : Int32) ≤ 0 ∧ (0 : Int32) ≤ (x1 + 1) ∧ ((x1 + 1) : Int32) ≤ 6 - 0 ∧ ((x1 + 1) : Int32) ≤ 6 - 0 then
                    f1297_5_1 mc jc tc ma ja ta oc oa qa F (szc (sz S5 (0, 0, 0) 10 (x2 + v6)) (9, 0, 0) 0 (8, 0, 0) 0 (x1 + 1)) x1 x2 x3 x4 v3i 1
                  else none
                else
                  (F S5 (x1 + 1) (x2 + v6) (x3 - (S5.1 (10, 0, 0) x4))).bind fun (v9, S10) =>
                  f1297_5_1 mc jc tc ma ja ta oc oa qa F S10 x1 x2 x3 x4 v3i v9
              else
                f1297_5_1 mc jc tc ma ja ta oc oa qa F S5 x1 x2 x3 x4 v3i 1
            else none
          else none
        else none
    else
      some (.inl (x1, x2, x3, (x4 + 1), S))
  else
    some (.inr (.inr (S)))
/-- TimberHouse$WorkPlans.branch(III)Z -/
noncomputable def f1297 (mc : Int32) (jc : Int32) (tc : Int32) (ma : Int32) (ja : Int32) (ta : Int32) (oc : Int32 → Int32) (oa : Int32 → Int32) (qa : Int32 → Int32) (F : wS → Int32 → Int32 → Int32 → Option (Int32 × wS)) (S : wS) (x1 : Int32) (x2 : Int32) (x3 : Int32) : Option (Int32 × wS) :=
  (lp (f1297_b1 mc jc tc ma ja ta oc oa qa F) FU (x1, x2, x3, 0, S)).bind fun b => match b with
  | (.inl (v12, S11)) =>
    some (v12, S11)
  | (.inr (S13)) =>
    some (1, S13)
def go1297_1 (mc : Int32) (jc : Int32) (tc : Int32) (ma : Int32) (ja : Int32) (ta : Int32) (oc : Int32 → Int32) (oa : Int32 → Int32) (qa : Int32 → Int32) (A : wK → Nat) (h : pm_H) (D : Nat) (R : Outcome × pm_H) : Int32 × Int32 × Int32 × Int32 × wS → Prop := fun (x1, x2, x3, x4, S) => ∀ q5 q6 q7 : Value, pm_go pm_prog (pm_call pm_prog D) 1297 1 [.ref (A (0, 0, 0)), .int x1, .int x2, .int x3, .int x4, q5, q6, q7] [] (wput A (Cv_d mc jc tc ma ja ta oc oa qa) S h) = some R
def ex1297_1 (mc : Int32) (jc : Int32) (tc : Int32) (ma : Int32) (ja : Int32) (ta : Int32) (oc : Int32 → Int32) (oa : Int32 → Int32) (qa : Int32 → Int32) (A : wK → Nat) (h : pm_H) (D : Nat) (R : Outcome × pm_H) : (Int32 × wS) ⊕ (wS) → Prop := fun b => match b with
  | (.inl (xr0, S)) => some (Outcome.returned (some (.int xr0)), (wput A (Cv_d mc jc tc ma ja ta oc oa qa) S h)) = some R
  | (.inr (S)) => ∀ q0 q1 q2 q3 q4 q5 q6 q7 : Value, pm_go pm_prog (pm_call pm_prog D) 1297 7 [q0, q1, q2, q3, q4, q5, q6, q7] [] (wput A (Cv_d mc jc tc ma ja ta oc oa qa) S h) = some R
theorem y1297_5_1 {mc : Int32} {jc : Int32} {tc : Int32} {ma : Int32} {ja : Int32} {ta : Int32} {oc : Int32 → Int32} {oa : Int32 → Int32} {qa : Int32 → Int32} {A : wK → Nat} {h : pm_H} {D : Nat} {F : wS → Int32 → Int32 → Int32 → Option (Int32 × wS)} {E : Nat} {R : Outcome × pm_H} {S : wS} {x1 : Int32} {x2 : Int32} {x3 : Int32} {x4 : Int32} {x5i : Int32} {x7 : Int32} {r : (Int32 × Int32 × Int32 × Int32 × wS) ⊕ ((Int32 × wS) ⊕ (wS))} (hP : Cv_P mc jc tc ma ja ta oc oa qa) (hA : wok A (Cv_d mc jc tc ma ja ta oc oa qa) h.1) (hF : FOK1297 mc jc tc ma ja ta oc oa qa A h E F) (hE : E + 0 ≤ D) (hD : 6 ≤ D) (e : f1297_5_1 mc jc tc ma ja ta oc oa qa F S x1 x2 x3 x4 x5i x7 = some r) (hc : Sum.elim (go1297_1 mc jc tc ma ja ta oc oa qa A h D R) (ex1297_1 mc jc tc ma ja ta oc oa qa A h D R) r) : ∀ q6 : Value, pm_go pm_prog (pm_call pm_prog D) 1297 5 [.ref (A (0, 0, 0)), .int x1, .int x2, .int x3, .int x4, .ref (A (15, x5i, 0)), q6, .int x7] [] (wput A (Cv_d mc jc tc ma ja ta oc oa qa) S h) = some R := by
  intro q6
  simp only [f1297_5_1] at e
  rw [g1297_5, b1297_5]
  by_cases k1 : 0 ≤ x5i ∧ x5i < jc
  · rw [if_pos k1] at e
    obtain ⟨S8, k2, e⟩ := Option.bind_eq_some_iff.mp e
    try dsimp only at e
    have z2 := x1350 (D := D) (h := h) hP hA (by omega) k2
    by_cases k3 : x7 = 0
    · rw [if_pos k3] at e
      have e := Option.some.inj e; subst e
      dsimp only [Sum.elim_inr, ex1297_1] at hc
      have hc := Option.some.inj hc; subst hc
      simp -implicitDefEqProofs (disch := first | assumption | exact Nat.le_of_ble_eq_true rfl | decide) only [b1297_0, g1297_2, b1297_2, g1297_3, b1297_3, g1297_4, b1297_4, g1297_6, b1297_6, g1297_7, b1297_7, pe_sipush, pe_istore4, pe_goto_w, pe_iload4, pe_aload0, pe_getfield, pe_call1, pm_af_ret, pm_af_void, pm_af_thr, pe_icmp_ge, pe_iload1, pe_call3, pe_if_eq, pe_goto, pe_icmp_ne, pe_dup_i, pe_dup_r, pe_iadd, pe_putfield, pe_iastore, pe_call2, pe_astore5, pe_iload2, pe_aload5, pe_istore6, pe_istore7, pe_iload6, pe_iload3, pe_iaload, pe_isub, pe_acopy, pe_call4, pe_iload7, pe_if_ne, pe_iinc4, pe_aloadN0, pe_astoreN5, pe_aloadN5, pe_aastoreN, pe_areturnN, pe_null, pm_prog_1, pm_ob_some, Nat.reduceDiv, Nat.reduceMod, Nat.reduceMul, Nat.reduceAdd, Int.reduceToNat, pm_kill_i, pm_kill_r, pm_kill_n, pm_kill_j, pm_kill_l, pm_kill_d, pm_cats_nil, pm_cats_i, pm_cats_r, pm_cats_n, pm_cats_l, pm_cats_d, sz_1, sz_2, sl_1, sl_2, lc_0, lc_lt, lc_le, li_ne, va_rf, wr_m1, we_m1, pm_kill_w, Int32.reduceOfInt, Int64.reduceOfInt, Int32.reduceOfNat, Int32.reduceLT, Int32.reduceLE, Prod.mk.injEq, Nat.reduceEqDiff, reduceCtorEq, and_true, true_and, and_false, false_and, and_self, ite_true, ite_false, ↓reduceIte, not_true_eq_false, not_false_eq_true, pe_ri, pe_rz, pe_rc, Cv_g0_1 hP hA, Cv_g0_10 hP hA, Cv_g0_11 hP hA, Cv_g0_12 hP hA, Cv_g0_3 hP hA, Cv_g0_6 hP hA, Cv_g0_7 hP hA, Cv_g0_8 hP hA, Cv_k15 hP hA, Cv_p0_10 hP hA, Cv_p0_11 hP hA, Cv_r10 hP hA, Cv_w8 hP hA, Cv_y9_8 hP hA, z2, eq_true k3]
    · rw [if_neg k3] at e
      have e := Option.some.inj e; subst e
      dsimp only [Sum.elim_inl, go1297_1] at hc
      simp -implicitDefEqProofs (disch := first | assumption | exact Nat.le_of_ble_eq_true rfl | decide) only [b1297_0, g1297_2, b1297_2, g1297_3, b1297_3, g1297_4, b1297_4, g1297_6, b1297_6, g1297_7, b1297_7, pe_sipush, pe_istore4, pe_goto_w, pe_iload4, pe_aload0, pe_getfield, pe_call1, pm_af_ret, pm_af_void, pm_af_thr, pe_icmp_ge, pe_iload1, pe_call3, pe_if_eq, pe_goto, pe_icmp_ne, pe_dup_i, pe_dup_r, pe_iadd, pe_putfield, pe_iastore, pe_call2, pe_astore5, pe_iload2, pe_aload5, pe_istore6, pe_istore7, pe_iload6, pe_iload3, pe_iaload, pe_isub, pe_acopy, pe_call4, pe_iload7, pe_if_ne, pe_iinc4, pe_aloadN0, pe_astoreN5, pe_aloadN5, pe_aastoreN, pe_areturnN, pe_null, pm_prog_1, pm_ob_some, Nat.reduceDiv, Nat.reduceMod, Nat.reduceMul, Nat.reduceAdd, Int.reduceToNat, pm_kill_i, pm_kill_r, pm_kill_n, pm_kill_j, pm_kill_l, pm_kill_d, pm_cats_nil, pm_cats_i, pm_cats_r, pm_cats_n, pm_cats_l, pm_cats_d, sz_1, sz_2, sl_1, sl_2, lc_0, lc_lt, lc_le, li_ne, va_rf, wr_m1, we_m1, pm_kill_w, Int32.reduceOfInt, Int64.reduceOfInt, Int32.reduceOfNat, Int32.reduceLT, Int32.reduceLE, Prod.mk.injEq, Nat.reduceEqDiff, reduceCtorEq, and_true, true_and, and_false, false_and, and_self, ite_true, ite_false, ↓reduceIte, not_true_eq_false, not_false_eq_true, pe_ri, pe_rz, pe_rc, Cv_g0_1 hP hA, Cv_g0_10 hP hA, Cv_g0_11 hP hA, Cv_g0_12 hP hA, Cv_g0_3 hP hA, Cv_g0_6 hP hA, Cv_g0_7 hP hA, Cv_g0_8 hP hA, Cv_k15 hP hA, Cv_p0_10 hP hA, Cv_p0_11 hP hA, Cv_r10 hP hA, Cv_w8 hP hA, Cv_y9_8 hP hA, z2, eq_false k3, hc]
  · rw [if_neg k1] at e; cases e
theorem y1297_b1 {mc : Int32} {jc : Int32} {tc : Int32} {ma : Int32} {ja : Int32} {ta : Int32} {oc : Int32 → Int32} {oa : Int32 → Int32} {qa : Int32 → Int32} {A : wK → Nat} {h : pm_H} {D : Nat} {F : wS → Int32 → Int32 → Int32 → Option (Int32 × wS)} {E : Nat} {R : Outcome × pm_H} (hP : Cv_P mc jc tc ma ja ta oc oa qa) (hA : wok A (Cv_d mc jc tc ma ja ta oc oa qa) h.1) (hF : FOK1297 mc jc tc ma ja ta oc oa qa A h E F) (hE : E + 0 ≤ D) (hD : 6 ≤ D) (a : Int32 × Int32 × Int32 × Int32 × wS) (r : (Int32 × Int32 × Int32 × Int32 × wS) ⊕ ((Int32 × wS) ⊕ (wS))) (e : f1297_b1 mc jc tc ma ja ta oc oa qa F a = some r) (hc : Sum.elim (go1297_1 mc jc tc ma ja ta oc oa qa A h D R) (ex1297_1 mc jc tc ma ja ta oc oa qa A h D R) r) : go1297_1 mc jc tc ma ja ta oc oa qa A h D R a := by
  obtain ⟨x1, x2, x3, x4, S⟩ := a
  dsimp only [go1297_1]
  intro q5 q6 q7
  simp only [f1297_b1] at e
  rw [g1297_1, b1297_1]
  obtain ⟨v1, k1, e⟩ := Option.bind_eq_some_iff.mp e
  try dsimp only at e
  have z1 := x4033v (D := D) (h := h) hP hA (by omega) k1
  by_cases k2 : x4 < v1
  · rw [if_pos k2] at e
    obtain ⟨v2, k3, e⟩ := Option.bind_eq_some_iff.mp e
    try dsimp only at e
    have z3 := x1298 (D := D) (h := h) hP hA (by omega) k3
    by_cases k4 : v2 = 0
    · rw [if_pos k4] at e
      by_cases k5 : (S.1 (0, 0, 0) 11) = (S.1 (0, 0, 0) 12)
      · rw [if_pos k5] at e
        have e := Option.some.inj e; subst e
        dsimp only [Sum.elim_inr, ex1297_1] at hc
        have hc := Option.some.inj hc; subst hc
        simp -implicitDefEqProofs (disch := first | assumption | exact Nat.le_of_ble_eq_true rfl | decide) only [b1297_0, g1297_2, b1297_2, g1297_3, b1297_3, g1297_4, b1297_4, g1297_6, b1297_6, g1297_7, b1297_7, pe_sipush, pe_istore4, pe_goto_w, pe_iload4, pe_aload0, pe_getfield, pe_call1, pm_af_ret, pm_af_void, pm_af_thr, pe_icmp_ge, pe_iload1, pe_call3, pe_if_eq, pe_goto, pe_icmp_ne, pe_dup_i, pe_dup_r, pe_iadd, pe_putfield, pe_iastore, pe_call2, pe_astore5, pe_iload2, pe_aload5, pe_istore6, pe_istore7, pe_iload6, pe_iload3, pe_iaload, pe_isub, pe_acopy, pe_call4, pe_iload7, pe_if_ne, pe_iinc4, pe_aloadN0, pe_astoreN5, pe_aloadN5, pe_aastoreN, pe_areturnN, pe_null, pm_prog_1, pm_ob_some, Nat.reduceDiv, Nat.reduceMod, Nat.reduceMul, Nat.reduceAdd, Int.reduceToNat, pm_kill_i, pm_kill_r, pm_kill_n, pm_kill_j, pm_kill_l, pm_kill_d, pm_cats_nil, pm_cats_i, pm_cats_r, pm_cats_n, pm_cats_l, pm_cats_d, sz_1, sz_2, sl_1, sl_2, lc_0, lc_lt, lc_le, li_ne, va_rf, wr_m1, we_m1, pm_kill_w, Int32.reduceOfInt, Int64.reduceOfInt, Int32.reduceOfNat, Int32.reduceLT, Int32.reduceLE, Prod.mk.injEq, Nat.reduceEqDiff, reduceCtorEq, and_true, true_and, and_false, false_and, and_self, ite_true, ite_false, ↓reduceIte, not_true_eq_false, not_false_eq_true, pe_ri, pe_rz, pe_rc, Cv_g0_1 hP hA, Cv_g0_10 hP hA, Cv_g0_11 hP hA, Cv_g0_12 hP hA, Cv_g0_3 hP hA, Cv_g0_6 hP hA, Cv_g0_7 hP hA, Cv_g0_8 hP hA, Cv_k15 hP hA, Cv_p0_10 hP hA, Cv_p0_11 hP hA, Cv_r10 hP hA, Cv_w8 hP hA, Cv_y9_8 hP hA, z1, eq_true k2, z3, eq_true k4, eq_true k5]
      · rw [if_neg k5] at e
        by_cases k6 : 0 ≤ x1 ∧ x1 < 6
        · rw [if_pos k6] at e
          obtain ⟨v3i, k7, e⟩ := Option.bind_eq_some_iff.mp e
          try dsimp only at e
          have z7 := x4034v (D := D) (h := h) hP hA (by omega) k7
          by_cases k8 : 0 ≤ v3i ∧ v3i < jc
          · rw [if_pos k8] at e
            obtain ⟨⟨v4, S5⟩, k9, e⟩ := Option.bind_eq_some_iff.mp e
            try dsimp only at e
            have z9 := x1346 (D := D) (h := h) hP hA (by omega) k9
            dsimp only at z9
            obtain ⟨v6, k10, e⟩ := Option.bind_eq_some_iff.mp e
            try dsimp only at e
            have z10 := x3457 (D := D) (h := h) hP hA (by omega) k10
            by_cases k11 : 0 ≤ x4 ∧ x4 < 6
            · rw [if_pos k11] at e
              by_cases k12 : (((x2 + v6) + x3) - (S5.1 (10, 0, 0) x4)) < (S5.1 (0, 0, 0) 10)
              · rw [if_pos k12] at e
                obtain ⟨v7, k13, e⟩ := Option.bind_eq_some_iff.mp e
                try dsimp only at e
                have z13 := x4033v (D := D) (h := h) hP hA (by omega) k13
                by_cases k14 : (x1 + 1) = v7
                · rw [if_pos k14] at e
                  by_cases k15 : (0 : Int32) ≤ 0 ∧ (0 : Int32) ≤ 0 ∧ (0 : Int32) ≤ (x1 + 1) ∧ ((x1 + 1) : Int32) ≤ 6 - 0 ∧ ((x1 + 1) : Int32) ≤ 6 - 0
                  · rw [if_pos k15] at e
                    have k16 := y1297_5_1 (h := h) hP hA hF hE hD e hc
                    simp -implicitDefEqProofs (disch := first | assumption | exact Nat.le_of_ble_eq_true rfl | decide) only [b1297_0, g1297_2, b1297_2, g1297_3, b1297_3, g1297_4, b1297_4, g1297_6, b1297_6, g1297_7, b1297_7, pe_sipush, pe_istore4, pe_goto_w, pe_iload4, pe_aload0, pe_getfield, pe_call1, pm_af_ret, pm_af_void, pm_af_thr, pe_icmp_ge, pe_iload1, pe_call3, pe_if_eq, pe_goto, pe_icmp_ne, pe_dup_i, pe_dup_r, pe_iadd, pe_putfield, pe_iastore, pe_call2, pe_astore5, pe_iload2, pe_aload5, pe_istore6, pe_istore7, pe_iload6, pe_iload3, pe_iaload, pe_isub, pe_acopy, pe_call4, pe_iload7, pe_if_ne, pe_iinc4, pe_aloadN0, pe_astoreN5, pe_aloadN5, pe_aastoreN, pe_areturnN, pe_null, pm_prog_1, pm_ob_some, Nat.reduceDiv, Nat.reduceMod, Nat.reduceMul, Nat.reduceAdd, Int.reduceToNat, pm_kill_i, pm_kill_r, pm_kill_n, pm_kill_j, pm_kill_l, pm_kill_d, pm_cats_nil, pm_cats_i, pm_cats_r, pm_cats_n, pm_cats_l, pm_cats_d, sz_1, sz_2, sl_1, sl_2, lc_0, lc_lt, lc_le, li_ne, va_rf, wr_m1, we_m1, pm_kill_w, Int32.reduceOfInt, Int64.reduceOfInt, Int32.reduceOfNat, Int32.reduceLT, Int32.reduceLE, Prod.mk.injEq, Nat.reduceEqDiff, reduceCtorEq, and_true, true_and, and_false, false_and, and_self, ite_true, ite_false, ↓reduceIte, not_true_eq_false, not_false_eq_true, pe_ri, pe_rz, pe_rc, Cv_g0_1 hP hA, Cv_g0_10 hP hA, Cv_g0_11 hP hA, Cv_g0_12 hP hA, Cv_g0_3 hP hA, Cv_g0_6 hP hA, Cv_g0_7 hP hA, Cv_g0_8 hP hA, Cv_k15 hP hA, Cv_p0_10 hP hA, Cv_p0_11 hP hA, Cv_r10 hP hA, Cv_w8 hP hA, Cv_y9_8 hP hA, z1, eq_true k2, z3, eq_true k4, eq_false k5, z7, z9, z10, eq_true k12, z13, eq_true k14, k16]
                  · rw [if_neg k15] at e; cases e
                · rw [if_neg k14] at e
                  obtain ⟨⟨v9, S10⟩, k17, e⟩ := Option.bind_eq_some_iff.mp e
                  try dsimp only at e
                  have z17 := hF D _ _ _ _ _ (by omega) k17
                  dsimp only at z17
                  have k18 := y1297_5_1 (h := h) hP hA hF hE hD e hc
                  simp -implicitDefEqProofs (disch := first | assumption | exact Nat.le_of_ble_eq_true rfl | decide) only [b1297_0, g1297_2, b1297_2, g1297_3, b1297_3, g1297_4, b1297_4, g1297_6, b1297_6, g1297_7, b1297_7, pe_sipush, pe_istore4, pe_goto_w, pe_iload4, pe_aload0, pe_getfield, pe_call1, pm_af_ret, pm_af_void, pm_af_thr, pe_icmp_ge, pe_iload1, pe_call3, pe_if_eq, pe_goto, pe_icmp_ne, pe_dup_i, pe_dup_r, pe_iadd, pe_putfield, pe_iastore, pe_call2, pe_astore5, pe_iload2, pe_aload5, pe_istore6, pe_istore7, pe_iload6, pe_iload3, pe_iaload, pe_isub, pe_acopy, pe_call4, pe_iload7, pe_if_ne, pe_iinc4, pe_aloadN0, pe_astoreN5, pe_aloadN5, pe_aastoreN, pe_areturnN, pe_null, pm_prog_1, pm_ob_some, Nat.reduceDiv, Nat.reduceMod, Nat.reduceMul, Nat.reduceAdd, Int.reduceToNat, pm_kill_i, pm_kill_r, pm_kill_n, pm_kill_j, pm_kill_l, pm_kill_d, pm_cats_nil, pm_cats_i, pm_cats_r, pm_cats_n, pm_cats_l, pm_cats_d, sz_1, sz_2, sl_1, sl_2, lc_0, lc_lt, lc_le, li_ne, va_rf, wr_m1, we_m1, pm_kill_w, Int32.reduceOfInt, Int64.reduceOfInt, Int32.reduceOfNat, Int32.reduceLT, Int32.reduceLE, Prod.mk.injEq, Nat.reduceEqDiff, reduceCtorEq, and_true, true_and, and_false, false_and, and_self, ite_true, ite_false, ↓reduceIte, not_true_eq_false, not_false_eq_true, pe_ri, pe_rz, pe_rc, Cv_g0_1 hP hA, Cv_g0_10 hP hA, Cv_g0_11 hP hA, Cv_g0_12 hP hA, Cv_g0_3 hP hA, Cv_g0_6 hP hA, Cv_g0_7 hP hA, Cv_g0_8 hP hA, Cv_k15 hP hA, Cv_p0_10 hP hA, Cv_p0_11 hP hA, Cv_r10 hP hA, Cv_w8 hP hA, Cv_y9_8 hP hA, z1, eq_true k2, z3, eq_true k4, eq_false k5, z7, z9, z10, eq_true k12, z13, eq_false k14, z17, k18]
              · rw [if_neg k12] at e
                have k19 := y1297_5_1 (h := h) hP hA hF hE hD e hc
                simp -implicitDefEqProofs (disch := first | assumption | exact Nat.le_of_ble_eq_true rfl | decide) only [b1297_0, g1297_2, b1297_2, g1297_3, b1297_3, g1297_4, b1297_4, g1297_6, b1297_6, g1297_7, b1297_7, pe_sipush, pe_istore4, pe_goto_w, pe_iload4, pe_aload0, pe_getfield, pe_call1, pm_af_ret, pm_af_void, pm_af_thr, pe_icmp_ge, pe_iload1, pe_call3, pe_if_eq, pe_goto, pe_icmp_ne, pe_dup_i, pe_dup_r, pe_iadd, pe_putfield, pe_iastore, pe_call2, pe_astore5, pe_iload2, pe_aload5, pe_istore6, pe_istore7, pe_iload6, pe_iload3, pe_iaload, pe_isub, pe_acopy, pe_call4, pe_iload7, pe_if_ne, pe_iinc4, pe_aloadN0, pe_astoreN5, pe_aloadN5, pe_aastoreN, pe_areturnN, pe_null, pm_prog_1, pm_ob_some, Nat.reduceDiv, Nat.reduceMod, Nat.reduceMul, Nat.reduceAdd, Int.reduceToNat, pm_kill_i, pm_kill_r, pm_kill_n, pm_kill_j, pm_kill_l, pm_kill_d, pm_cats_nil, pm_cats_i, pm_cats_r, pm_cats_n, pm_cats_l, pm_cats_d, sz_1, sz_2, sl_1, sl_2, lc_0, lc_lt, lc_le, li_ne, va_rf, wr_m1, we_m1, pm_kill_w, Int32.reduceOfInt, Int64.reduceOfInt, Int32.reduceOfNat, Int32.reduceLT, Int32.reduceLE, Prod.mk.injEq, Nat.reduceEqDiff, reduceCtorEq, and_true, true_and, and_false, false_and, and_self, ite_true, ite_false, ↓reduceIte, not_true_eq_false, not_false_eq_true, pe_ri, pe_rz, pe_rc, Cv_g0_1 hP hA, Cv_g0_10 hP hA, Cv_g0_11 hP hA, Cv_g0_12 hP hA, Cv_g0_3 hP hA, Cv_g0_6 hP hA, Cv_g0_7 hP hA, Cv_g0_8 hP hA, Cv_k15 hP hA, Cv_p0_10 hP hA, Cv_p0_11 hP hA, Cv_r10 hP hA, Cv_w8 hP hA, Cv_y9_8 hP hA, z1, eq_true k2, z3, eq_true k4, eq_false k5, z7, z9, z10, eq_false k12, k19]
            · rw [if_neg k11] at e; cases e
          · rw [if_neg k8] at e; cases e
        · rw [if_neg k6] at e; cases e
    · rw [if_neg k4] at e
      have e := Option.some.inj e; subst e
      dsimp only [Sum.elim_inl, go1297_1] at hc
      simp -implicitDefEqProofs (disch := first | assumption | exact Nat.le_of_ble_eq_true rfl | decide) only [b1297_0, g1297_2, b1297_2, g1297_3, b1297_3, g1297_4, b1297_4, g1297_6, b1297_6, g1297_7, b1297_7, pe_sipush, pe_istore4, pe_goto_w, pe_iload4, pe_aload0, pe_getfield, pe_call1, pm_af_ret, pm_af_void, pm_af_thr, pe_icmp_ge, pe_iload1, pe_call3, pe_if_eq, pe_goto, pe_icmp_ne, pe_dup_i, pe_dup_r, pe_iadd, pe_putfield, pe_iastore, pe_call2, pe_astore5, pe_iload2, pe_aload5, pe_istore6, pe_istore7, pe_iload6, pe_iload3, pe_iaload, pe_isub, pe_acopy, pe_call4, pe_iload7, pe_if_ne, pe_iinc4, pe_aloadN0, pe_astoreN5, pe_aloadN5, pe_aastoreN, pe_areturnN, pe_null, pm_prog_1, pm_ob_some, Nat.reduceDiv, Nat.reduceMod, Nat.reduceMul, Nat.reduceAdd, Int.reduceToNat, pm_kill_i, pm_kill_r, pm_kill_n, pm_kill_j, pm_kill_l, pm_kill_d, pm_cats_nil, pm_cats_i, pm_cats_r, pm_cats_n, pm_cats_l, pm_cats_d, sz_1, sz_2, sl_1, sl_2, lc_0, lc_lt, lc_le, li_ne, va_rf, wr_m1, we_m1, pm_kill_w, Int32.reduceOfInt, Int64.reduceOfInt, Int32.reduceOfNat, Int32.reduceLT, Int32.reduceLE, Prod.mk.injEq, Nat.reduceEqDiff, reduceCtorEq, and_true, true_and, and_false, false_and, and_self, ite_true, ite_false, ↓reduceIte, not_true_eq_false, not_false_eq_true, pe_ri, pe_rz, pe_rc, Cv_g0_1 hP hA, Cv_g0_10 hP hA, Cv_g0_11 hP hA, Cv_g0_12 hP hA, Cv_g0_3 hP hA, Cv_g0_6 hP hA, Cv_g0_7 hP hA, Cv_g0_8 hP hA, Cv_k15 hP hA, Cv_p0_10 hP hA, Cv_p0_11 hP hA, Cv_r10 hP hA, Cv_w8 hP hA, Cv_y9_8 hP hA, z1, eq_true k2, z3, eq_false k4, hc]
  · rw [if_neg k2] at e
    have e := Option.some.inj e; subst e
    dsimp only [Sum.elim_inr, ex1297_1] at hc
    simp -implicitDefEqProofs (disch := first | assumption | exact Nat.le_of_ble_eq_true rfl | decide) only [b1297_0, g1297_2, b1297_2, g1297_3, b1297_3, g1297_4, b1297_4, g1297_6, b1297_6, g1297_7, b1297_7, pe_sipush, pe_istore4, pe_goto_w, pe_iload4, pe_aload0, pe_getfield, pe_call1, pm_af_ret, pm_af_void, pm_af_thr, pe_icmp_ge, pe_iload1, pe_call3, pe_if_eq, pe_goto, pe_icmp_ne, pe_dup_i, pe_dup_r, pe_iadd, pe_putfield, pe_iastore, pe_call2, pe_astore5, pe_iload2, pe_aload5, pe_istore6, pe_istore7, pe_iload6, pe_iload3, pe_iaload, pe_isub, pe_acopy, pe_call4, pe_iload7, pe_if_ne, pe_iinc4, pe_aloadN0, pe_astoreN5, pe_aloadN5, pe_aastoreN, pe_areturnN, pe_null, pm_prog_1, pm_ob_some, Nat.reduceDiv, Nat.reduceMod, Nat.reduceMul, Nat.reduceAdd, Int.reduceToNat, pm_kill_i, pm_kill_r, pm_kill_n, pm_kill_j, pm_kill_l, pm_kill_d, pm_cats_nil, pm_cats_i, pm_cats_r, pm_cats_n, pm_cats_l, pm_cats_d, sz_1, sz_2, sl_1, sl_2, lc_0, lc_lt, lc_le, li_ne, va_rf, wr_m1, we_m1, pm_kill_w, Int32.reduceOfInt, Int64.reduceOfInt, Int32.reduceOfNat, Int32.reduceLT, Int32.reduceLE, Prod.mk.injEq, Nat.reduceEqDiff, reduceCtorEq, and_true, true_and, and_false, false_and, and_self, ite_true, ite_false, ↓reduceIte, not_true_eq_false, not_false_eq_true, pe_ri, pe_rz, pe_rc, Cv_g0_1 hP hA, Cv_g0_10 hP hA, Cv_g0_11 hP hA, Cv_g0_12 hP hA, Cv_g0_3 hP hA, Cv_g0_6 hP hA, Cv_g0_7 hP hA, Cv_g0_8 hP hA, Cv_k15 hP hA, Cv_p0_10 hP hA, Cv_p0_11 hP hA, Cv_r10 hP hA, Cv_w8 hP hA, Cv_y9_8 hP hA, z1, eq_false k2, hc]
theorem z1297_1 {mc : Int32} {jc : Int32} {tc : Int32} {ma : Int32} {ja : Int32} {ta : Int32} {oc : Int32 → Int32} {oa : Int32 → Int32} {qa : Int32 → Int32} {A : wK → Nat} {h : pm_H} {D : Nat} {F : wS → Int32 → Int32 → Int32 → Option (Int32 × wS)} {E : Nat} {R : Outcome × pm_H} (hP : Cv_P mc jc tc ma ja ta oc oa qa) (hA : wok A (Cv_d mc jc tc ma ja ta oc oa qa) h.1) (hF : FOK1297 mc jc tc ma ja ta oc oa qa A h E F) (hE : E + 0 ≤ D) (hD : 6 ≤ D) {n : Nat} {a : Int32 × Int32 × Int32 × Int32 × wS} {b : (Int32 × wS) ⊕ (wS)} (e : lp (f1297_b1 mc jc tc ma ja ta oc oa qa F) n a = some b) (hx : ex1297_1 mc jc tc ma ja ta oc oa qa A h D R b) : go1297_1 mc jc tc ma ja ta oc oa qa A h D R a := lp_run (fun a r => y1297_b1 hP hA hF hE hD a r) n a b e hx
theorem x1297 {mc : Int32} {jc : Int32} {tc : Int32} {ma : Int32} {ja : Int32} {ta : Int32} {oc : Int32 → Int32} {oa : Int32 → Int32} {qa : Int32 → Int32} {A : wK → Nat} {h : pm_H} {D : Nat} {F : wS → Int32 → Int32 → Int32 → Option (Int32 × wS)} {E : Nat} {S : wS} {x1 : Int32} {x2 : Int32} {x3 : Int32} {r : Int32 × wS} (hP : Cv_P mc jc tc ma ja ta oc oa qa) (hA : wok A (Cv_d mc jc tc ma ja ta oc oa qa) h.1) (hF : FOK1297 mc jc tc ma ja ta oc oa qa A h E F) (hE : E + 1 ≤ D) (hD : 7 ≤ D) (e : f1297 mc jc tc ma ja ta oc oa qa F S x1 x2 x3 = some r) : pm_call pm_prog D 1297 [.ref (A (0, 0, 0)), .int x1, .int x2, .int x3] (wput A (Cv_d mc jc tc ma ja ta oc oa qa) S h) = some (match (generalizing := false) r with | (w0, S1) => (Outcome.returned (some (.int w0)), (wput A (Cv_d mc jc tc ma ja ta oc oa qa) S1 h))) := by
  obtain ⟨D, rfl⟩ : ∃ D', D = D' + 1 := ⟨D - 1, by omega⟩
  have hE : E + 0 ≤ D := by omega
  have hD : 6 ≤ D := by omega
  simp only [f1297] at e
  rw [c1297 (Cv_c0 hP hA), b1297_0]
  obtain ⟨b, k1, e⟩ := Option.bind_eq_some_iff.mp e
  rcases b with ⟨v12, S11⟩ | S13
  ·
    try dsimp only at e
    try simp -implicitDefEqProofs (disch := first | assumption | exact Nat.le_of_ble_eq_true rfl | decide) only [b1297_0, g1297_2, b1297_2, g1297_3, b1297_3, g1297_4, b1297_4, g1297_6, b1297_6, g1297_7, b1297_7, pe_sipush, pe_istore4, pe_goto_w, pe_iload4, pe_aload0, pe_getfield, pe_call1, pm_af_ret, pm_af_void, pm_af_thr, pe_icmp_ge, pe_iload1, pe_call3, pe_if_eq, pe_goto, pe_icmp_ne, pe_dup_i, pe_dup_r, pe_iadd, pe_putfield, pe_iastore, pe_call2, pe_astore5, pe_iload2, pe_aload5, pe_istore6, pe_istore7, pe_iload6, pe_iload3, pe_iaload, pe_isub, pe_acopy, pe_call4, pe_iload7, pe_if_ne, pe_iinc4, pe_aloadN0, pe_astoreN5, pe_aloadN5, pe_aastoreN, pe_areturnN, pe_null, pm_prog_1, pm_ob_some, Nat.reduceDiv, Nat.reduceMod, Nat.reduceMul, Nat.reduceAdd, Int.reduceToNat, pm_kill_i, pm_kill_r, pm_kill_n, pm_kill_j, pm_kill_l, pm_kill_d, pm_cats_nil, pm_cats_i, pm_cats_r, pm_cats_n, pm_cats_l, pm_cats_d, sz_1, sz_2, sl_1, sl_2, lc_0, lc_lt, lc_le, li_ne, va_rf, wr_m1, we_m1, pm_kill_w, Int32.reduceOfInt, Int64.reduceOfInt, Int32.reduceOfNat, Int32.reduceLT, Int32.reduceLE, Prod.mk.injEq, Nat.reduceEqDiff, reduceCtorEq, and_true, true_and, and_false, false_and, and_self, ite_true, ite_false, ↓reduceIte, not_true_eq_false, not_false_eq_true, pe_ri, pe_rz, pe_rc, Cv_g0_1 hP hA, Cv_g0_10 hP hA, Cv_g0_11 hP hA, Cv_g0_12 hP hA, Cv_g0_3 hP hA, Cv_g0_6 hP hA, Cv_g0_7 hP hA, Cv_g0_8 hP hA, Cv_k15 hP hA, Cv_p0_10 hP hA, Cv_p0_11 hP hA, Cv_r10 hP hA, Cv_w8 hP hA, Cv_y9_8 hP hA]
    refine z1297_1 hP hA hF hE hD k1 ?_ _ _ _
    dsimp only [ex1297_1]
    have e := Option.some.inj e; subst e
    simp -implicitDefEqProofs (disch := first | assumption | exact Nat.le_of_ble_eq_true rfl | decide) only [b1297_0, g1297_2, b1297_2, g1297_3, b1297_3, g1297_4, b1297_4, g1297_6, b1297_6, g1297_7, b1297_7, pe_sipush, pe_istore4, pe_goto_w, pe_iload4, pe_aload0, pe_getfield, pe_call1, pm_af_ret, pm_af_void, pm_af_thr, pe_icmp_ge, pe_iload1, pe_call3, pe_if_eq, pe_goto, pe_icmp_ne, pe_dup_i, pe_dup_r, pe_iadd, pe_putfield, pe_iastore, pe_call2, pe_astore5, pe_iload2, pe_aload5, pe_istore6, pe_istore7, pe_iload6, pe_iload3, pe_iaload, pe_isub, pe_acopy, pe_call4, pe_iload7, pe_if_ne, pe_iinc4, pe_aloadN0, pe_astoreN5, pe_aloadN5, pe_aastoreN, pe_areturnN, pe_null, pm_prog_1, pm_ob_some, Nat.reduceDiv, Nat.reduceMod, Nat.reduceMul, Nat.reduceAdd, Int.reduceToNat, pm_kill_i, pm_kill_r, pm_kill_n, pm_kill_j, pm_kill_l, pm_kill_d, pm_cats_nil, pm_cats_i, pm_cats_r, pm_cats_n, pm_cats_l, pm_cats_d, sz_1, sz_2, sl_1, sl_2, lc_0, lc_lt, lc_le, li_ne, va_rf, wr_m1, we_m1, pm_kill_w, Int32.reduceOfInt, Int64.reduceOfInt, Int32.reduceOfNat, Int32.reduceLT, Int32.reduceLE, Prod.mk.injEq, Nat.reduceEqDiff, reduceCtorEq, and_true, true_and, and_false, false_and, and_self, ite_true, ite_false, ↓reduceIte, not_true_eq_false, not_false_eq_true, pe_ri, pe_rz, pe_rc, Cv_g0_1 hP hA, Cv_g0_10 hP hA, Cv_g0_11 hP hA, Cv_g0_12 hP hA, Cv_g0_3 hP hA, Cv_g0_6 hP hA, Cv_g0_7 hP hA, Cv_g0_8 hP hA, Cv_k15 hP hA, Cv_p0_10 hP hA, Cv_p0_11 hP hA, Cv_r10 hP hA, Cv_w8 hP hA, Cv_y9_8 hP hA]
  ·
    try dsimp only at e
    try simp -implicitDefEqProofs (disch := first | assumption | exact Nat.le_of_ble_eq_true rfl | decide) only [b1297_0, g1297_2, b1297_2, g1297_3, b1297_3, g1297_4, b1297_4, g1297_6, b1297_6, g1297_7, b1297_7, pe_sipush, pe_istore4, pe_goto_w, pe_iload4, pe_aload0, pe_getfield, pe_call1, pm_af_ret, pm_af_void, pm_af_thr, pe_icmp_ge, pe_iload1, pe_call3, pe_if_eq, pe_goto, pe_icmp_ne, pe_dup_i, pe_dup_r, pe_iadd, pe_putfield, pe_iastore, pe_call2, pe_astore5, pe_iload2, pe_aload5, pe_istore6, pe_istore7, pe_iload6, pe_iload3, pe_iaload, pe_isub, pe_acopy, pe_call4, pe_iload7, pe_if_ne, pe_iinc4, pe_aloadN0, pe_astoreN5, pe_aloadN5, pe_aastoreN, pe_areturnN, pe_null, pm_prog_1, pm_ob_some, Nat.reduceDiv, Nat.reduceMod, Nat.reduceMul, Nat.reduceAdd, Int.reduceToNat, pm_kill_i, pm_kill_r, pm_kill_n, pm_kill_j, pm_kill_l, pm_kill_d, pm_cats_nil, pm_cats_i, pm_cats_r, pm_cats_n, pm_cats_l, pm_cats_d, sz_1, sz_2, sl_1, sl_2, lc_0, lc_lt, lc_le, li_ne, va_rf, wr_m1, we_m1, pm_kill_w, Int32.reduceOfInt, Int64.reduceOfInt, Int32.reduceOfNat, Int32.reduceLT, Int32.reduceLE, Prod.mk.injEq, Nat.reduceEqDiff, reduceCtorEq, and_true, true_and, and_false, false_and, and_self, ite_true, ite_false, ↓reduceIte, not_true_eq_false, not_false_eq_true, pe_ri, pe_rz, pe_rc, Cv_g0_1 hP hA, Cv_g0_10 hP hA, Cv_g0_11 hP hA, Cv_g0_12 hP hA, Cv_g0_3 hP hA, Cv_g0_6 hP hA, Cv_g0_7 hP hA, Cv_g0_8 hP hA, Cv_k15 hP hA, Cv_p0_10 hP hA, Cv_p0_11 hP hA, Cv_r10 hP hA, Cv_w8 hP hA, Cv_y9_8 hP hA]
    refine z1297_1 hP hA hF hE hD k1 ?_ _ _ _
    dsimp only [ex1297_1]
    intro q0 q1 q2 q3 q4 q5 q6 q7
    have e := Option.some.inj e; subst e
    simp -implicitDefEqProofs (disch := first | assumption | exact Nat.le_of_ble_eq_true rfl | decide) only [b1297_0, g1297_2, b1297_2, g1297_3, b1297_3, g1297_4, b1297_4, g1297_6, b1297_6, g1297_7, b1297_7, pe_sipush, pe_istore4, pe_goto_w, pe_iload4, pe_aload0, pe_getfield, pe_call1, pm_af_ret, pm_af_void, pm_af_thr, pe_icmp_ge, pe_iload1, pe_call3, pe_if_eq, pe_goto, pe_icmp_ne, pe_dup_i, pe_dup_r, pe_iadd, pe_putfield, pe_iastore, pe_call2, pe_astore5, pe_iload2, pe_aload5, pe_istore6, pe_istore7, pe_iload6, pe_iload3, pe_iaload, pe_isub, pe_acopy, pe_call4, pe_iload7, pe_if_ne, pe_iinc4, pe_aloadN0, pe_astoreN5, pe_aloadN5, pe_aastoreN, pe_areturnN, pe_null, pm_prog_1, pm_ob_some, Nat.reduceDiv, Nat.reduceMod, Nat.reduceMul, Nat.reduceAdd, Int.reduceToNat, pm_kill_i, pm_kill_r, pm_kill_n, pm_kill_j, pm_kill_l, pm_kill_d, pm_cats_nil, pm_cats_i, pm_cats_r, pm_cats_n, pm_cats_l, pm_cats_d, sz_1, sz_2, sl_1, sl_2, lc_0, lc_lt, lc_le, li_ne, va_rf, wr_m1, we_m1, pm_kill_w, Int32.reduceOfInt, Int64.reduceOfInt, Int32.reduceOfNat, Int32.reduceLT, Int32.reduceLE, Prod.mk.injEq, Nat.reduceEqDiff, reduceCtorEq, and_true, true_and, and_false, false_and, and_self, ite_true, ite_false, ↓reduceIte, not_true_eq_false, not_false_eq_true, pe_ri, pe_rz, pe_rc, Cv_g0_1 hP hA, Cv_g0_10 hP hA, Cv_g0_11 hP hA, Cv_g0_12 hP hA, Cv_g0_3 hP hA, Cv_g0_6 hP hA, Cv_g0_7 hP hA, Cv_g0_8 hP hA, Cv_k15 hP hA, Cv_p0_10 hP hA, Cv_p0_11 hP hA, Cv_r10 hP hA, Cv_w8 hP hA, Cv_y9_8 hP hA]
noncomputable def r1297 (mc : Int32) (jc : Int32) (tc : Int32) (ma : Int32) (ja : Int32) (ta : Int32) (oc : Int32 → Int32) (oa : Int32 → Int32) (qa : Int32 → Int32) : Nat → wS → Int32 → Int32 → Int32 → Option (Int32 × wS)
  | 0 => fun _ _ _ _ => none
  | n + 1 => fun S x1 x2 x3 => f1297 mc jc tc ma ja ta oc oa qa (r1297 mc jc tc ma ja ta oc oa qa n) S x1 x2 x3
theorem w1297 {mc : Int32} {jc : Int32} {tc : Int32} {ma : Int32} {ja : Int32} {ta : Int32} {oc : Int32 → Int32} {oa : Int32 → Int32} {qa : Int32 → Int32} {A : wK → Nat} {h : pm_H} (hP : Cv_P mc jc tc ma ja ta oc oa qa) (hA : wok A (Cv_d mc jc tc ma ja ta oc oa qa) h.1) : ∀ n, FOK1297 mc jc tc ma ja ta oc oa qa A h (7 + 1 * n) (r1297 mc jc tc ma ja ta oc oa qa n)
  | 0 => by
    intro D S x1 x2 x3 r _ e
    exact absurd e (by simp [r1297])
  | n + 1 => by
    intro D S x1 x2 x3 r hE e
    exact x1297 hP hA (w1297 hP hA n) (by omega) (by omega) e
/-- TimberHouse$WorkPlans$Board.copy(LTimberHouse$WorkPlans$Board;)V -/
theorem c1351 {d : Nat} {h : pm_H} {a : Nat} {r0 : Nat} (hc : pm_cls h a = some 21) : pm_call pm_prog (d + 1) 1351 [.ref a, .ref r0] h = pm_ev pm_prog (pm_call pm_prog d) 1351 0 b1351_0 [.ref a, .ref r0] [] h := pm_cal (pm_rc1 hc rfl) rfl rfl rfl
/-- TimberHouse$WorkPlans$Board.copy(LTimberHouse$WorkPlans$Board;)V -/
noncomputable def f1351 (mc : Int32) (jc : Int32) (tc : Int32) (ma : Int32) (ja : Int32) (ta : Int32) (oc : Int32 → Int32) (oa : Int32 → Int32) (qa : Int32 → Int32) (S : wS) (x0i : Int32) (x1i : Int32) : Option (wS) :=
  if 0 ≤ x0i ∧ x0i < 3 then
    if 0 ≤ x1i ∧ x1i < 3 then
      if (0 : Int32) ≤ 0 ∧ (0 : Int32) ≤ 0 ∧ (0 : Int32) ≤ 24 ∧ (24 : Int32) ≤ 24 - 0 ∧ (24 : Int32) ≤ 24 - 0 then
        some (szc (szc S (19, x0i, 0) 0 (19, x1i, 0) 0 24) (20, x0i, 0) 0 (20, x1i, 0) 0 24)
      else none
    else none
  else none
theorem x1351 {mc : Int32} {jc : Int32} {tc : Int32} {ma : Int32} {ja : Int32} {ta : Int32} {oc : Int32 → Int32} {oa : Int32 → Int32} {qa : Int32 → Int32} {A : wK → Nat} {h : pm_H} {D : Nat} {S : wS} {x0i : Int32} {x1i : Int32} {r : wS} (hP : Cv_P mc jc tc ma ja ta oc oa qa) (hA : wok A (Cv_d mc jc tc ma ja ta oc oa qa) h.1) (hD : 1 ≤ D) (e : f1351 mc jc tc ma ja ta oc oa qa S x0i x1i = some r) : pm_call pm_prog D 1351 [.ref (A (7, x0i, 0)), .ref (A (7, x1i, 0))] (wput A (Cv_d mc jc tc ma ja ta oc oa qa) S h) = some (Outcome.returned none, (wput A (Cv_d mc jc tc ma ja ta oc oa qa) r h)) := by
  obtain ⟨D, rfl⟩ : ∃ D', D = D' + 1 := ⟨D - 1, by omega⟩
  have hD : 0 ≤ D := by omega
  simp only [f1351] at e
  have k1 : 0 ≤ x0i ∧ x0i < 3 := by
    by_cases q : 0 ≤ x0i ∧ x0i < 3
    · exact q
    · rw [if_neg q] at e; cases e
  rw [if_pos k1] at e
  have k2 : 0 ≤ x1i ∧ x1i < 3 := by
    by_cases q : 0 ≤ x1i ∧ x1i < 3
    · exact q
    · rw [if_neg q] at e; cases e
  rw [if_pos k2] at e
  rw [c1351 (Cv_c7 hP hA k1), b1351_0]
  by_cases k3 : (0 : Int32) ≤ 0 ∧ (0 : Int32) ≤ 0 ∧ (0 : Int32) ≤ 24 ∧ (24 : Int32) ≤ 24 - 0 ∧ (24 : Int32) ≤ 24 - 0
  · rw [if_pos k3] at e
    have e := Option.some.inj e; subst e
    simp -implicitDefEqProofs (disch := first | assumption | exact Nat.le_of_ble_eq_true rfl | decide) only [b1351_0, pe_aload1, pe_getfield, pe_sipush, pe_aload0, pe_acopy, pe_return, pe_aloadN1, pe_aloadN0, pe_aastoreN, pe_areturnN, pe_null, pm_prog_1, pm_ob_some, Nat.reduceDiv, Nat.reduceMod, Nat.reduceMul, Nat.reduceAdd, Int.reduceToNat, pm_kill_i, pm_kill_r, pm_kill_n, pm_kill_j, pm_kill_l, pm_kill_d, pm_cats_nil, pm_cats_i, pm_cats_r, pm_cats_n, pm_cats_l, pm_cats_d, sz_1, sz_2, sl_1, sl_2, lc_0, lc_lt, lc_le, li_ne, va_rf, wr_m1, we_m1, pm_kill_w, Int32.reduceOfInt, Int64.reduceOfInt, Int32.reduceOfNat, Int32.reduceLT, Int32.reduceLE, Prod.mk.injEq, Nat.reduceEqDiff, reduceCtorEq, and_true, true_and, and_false, false_and, and_self, ite_true, ite_false, ↓reduceIte, not_true_eq_false, not_false_eq_true, pe_ri, pe_rz, pe_rc, Cv_g7_2 hP hA, Cv_g7_3 hP hA, Cv_y19_19 hP hA, Cv_y20_20 hP hA]
  · rw [if_neg k3] at e; cases e
/-- TimberHouse$WorkPlans.take()V -/
theorem c1299 {d : Nat} {h : pm_H} {a : Nat} (hc : pm_cls h a = some 20) : pm_call pm_prog (d + 1) 1299 [.ref a] h = pm_ev pm_prog (pm_call pm_prog d) 1299 0 b1299_0 [.ref a] [] h := pm_cal (pm_rc1 hc rfl) rfl rfl rfl
/-- TimberHouse$WorkPlans.take()V -/
noncomputable def f1299 (mc : Int32) (jc : Int32) (tc : Int32) (ma : Int32) (ja : Int32) (ta : Int32) (oc : Int32 → Int32) (oa : Int32 → Int32) (qa : Int32 → Int32) (S : wS) : Option (wS) :=
  (f1351 mc jc tc ma ja ta oc oa qa S 2 1).bind fun S1 =>
  (f1349 mc jc tc ma ja ta oc oa qa S1 1).bind fun (v2, S3) =>
  (f4033v mc jc tc ma ja ta oc oa qa (sz S3 (0, 0, 0) 10 v2)).bind fun v4 =>
  some (sz (sz S3 (0, 0, 0) 10 v2) (0, 0, 0) 9 v4)
theorem x1299 {mc : Int32} {jc : Int32} {tc : Int32} {ma : Int32} {ja : Int32} {ta : Int32} {oc : Int32 → Int32} {oa : Int32 → Int32} {qa : Int32 → Int32} {A : wK → Nat} {h : pm_H} {D : Nat} {S : wS} {r : wS} (hP : Cv_P mc jc tc ma ja ta oc oa qa) (hA : wok A (Cv_d mc jc tc ma ja ta oc oa qa) h.1) (hD : 8 ≤ D) (e : f1299 mc jc tc ma ja ta oc oa qa S = some r) : pm_call pm_prog D 1299 [.ref (A (0, 0, 0))] (wput A (Cv_d mc jc tc ma ja ta oc oa qa) S h) = some (Outcome.returned none, (wput A (Cv_d mc jc tc ma ja ta oc oa qa) r h)) := by
  obtain ⟨D, rfl⟩ : ∃ D', D = D' + 1 := ⟨D - 1, by omega⟩
  have hD : 7 ≤ D := by omega
  simp only [f1299] at e
  rw [c1299 (Cv_c0 hP hA), b1299_0]
  obtain ⟨S1, k1, e⟩ := Option.bind_eq_some_iff.mp e
  try dsimp only at e
  have z1 := x1351 (D := D) (h := h) hP hA (by omega) k1
  obtain ⟨⟨v2, S3⟩, k2, e⟩ := Option.bind_eq_some_iff.mp e
  try dsimp only at e
  have z2 := x1349 (D := D) (h := h) hP hA (by omega) k2
  dsimp only at z2
  obtain ⟨v4, k3, e⟩ := Option.bind_eq_some_iff.mp e
  try dsimp only at e
  have z3 := x4033v (D := D) (h := h) hP hA (by omega) k3
  have e := Option.some.inj e; subst e
  simp -implicitDefEqProofs (disch := first | assumption | exact Nat.le_of_ble_eq_true rfl | decide) only [b1299_0, pe_aload0, pe_getfield, pe_call2, pm_af_ret, pm_af_void, pm_af_thr, pe_call3, pe_putfield, pe_call1, pe_return, pe_aloadN0, pe_aastoreN, pe_areturnN, pe_null, pm_prog_1, pm_ob_some, Nat.reduceDiv, Nat.reduceMod, Nat.reduceMul, Nat.reduceAdd, Int.reduceToNat, pm_kill_i, pm_kill_r, pm_kill_n, pm_kill_j, pm_kill_l, pm_kill_d, pm_cats_nil, pm_cats_i, pm_cats_r, pm_cats_n, pm_cats_l, pm_cats_d, sz_1, sz_2, sl_1, sl_2, lc_0, lc_lt, lc_le, li_ne, va_rf, wr_m1, we_m1, pm_kill_w, Int32.reduceOfInt, Int64.reduceOfInt, Int32.reduceOfNat, Int32.reduceLT, Int32.reduceLE, Prod.mk.injEq, Nat.reduceEqDiff, reduceCtorEq, and_true, true_and, and_false, false_and, and_self, ite_true, ite_false, ↓reduceIte, not_true_eq_false, not_false_eq_true, pe_ri, pe_rz, pe_rc, Cv_g0_1 hP hA, Cv_g0_4 hP hA, Cv_g0_5 hP hA, Cv_g0_7 hP hA, Cv_p0_10 hP hA, Cv_p0_9 hP hA, z1, z2, z3]
/-- TimberHouse$WorkPlans.run(I)I -/
theorem c1292 {d : Nat} {h : pm_H} {a : Nat} {x0 : Int32} (hc : pm_cls h a = some 20) : pm_call pm_prog (d + 1) 1292 [.ref a, .int x0] h = pm_ev pm_prog (pm_call pm_prog d) 1292 0 b1292_0 [.ref a, .int x0, pm_junk, pm_junk] [] h := pm_cal (pm_rc1 hc rfl) rfl rfl rfl
theorem g1292_1 {cl : pm_C} {ls st : List Value} {h : pm_H} : pm_go pm_prog cl 1292 1 ls st h = pm_ev pm_prog cl 1292 1 b1292_1 ls st h := pm_go_eq pm_prog cl 1292 1 ls st h
theorem g1292_2 {cl : pm_C} {ls st : List Value} {h : pm_H} : pm_go pm_prog cl 1292 2 ls st h = pm_ev pm_prog cl 1292 2 b1292_2 ls st h := pm_go_eq pm_prog cl 1292 2 ls st h
theorem g1292_3 {cl : pm_C} {ls st : List Value} {h : pm_H} : pm_go pm_prog cl 1292 3 ls st h = pm_ev pm_prog cl 1292 3 b1292_3 ls st h := pm_go_eq pm_prog cl 1292 3 ls st h
theorem g1292_4 {cl : pm_C} {ls st : List Value} {h : pm_H} : pm_go pm_prog cl 1292 4 ls st h = pm_ev pm_prog cl 1292 4 b1292_4 ls st h := pm_go_eq pm_prog cl 1292 4 ls st h
theorem g1292_5 {cl : pm_C} {ls st : List Value} {h : pm_H} : pm_go pm_prog cl 1292 5 ls st h = pm_ev pm_prog cl 1292 5 b1292_5 ls st h := pm_go_eq pm_prog cl 1292 5 ls st h
theorem g1292_6 {cl : pm_C} {ls st : List Value} {h : pm_H} : pm_go pm_prog cl 1292 6 ls st h = pm_ev pm_prog cl 1292 6 b1292_6 ls st h := pm_go_eq pm_prog cl 1292 6 ls st h
theorem t1292 {cl : pm_C} {j : Nat} {ls : List Value} {c : Nat} {h : pm_H} : pm_thr pm_prog cl 1292 j ls c h = some (.threw c, h) := rfl
noncomputable def f1292_b3 (mc : Int32) (jc : Int32) (tc : Int32) (ma : Int32) (ja : Int32) (ta : Int32) (oc : Int32 → Int32) (oa : Int32 → Int32) (qa : Int32 → Int32) : Int32 × Int32 × Int32 × wS → Option ((Int32 × Int32 × Int32 × wS) ⊕ ((Int32 × Int32 × wS))) := fun (x1, x2, x3, S) =>
  (f4033v mc jc tc ma ja ta oc oa qa S).bind fun v4 =>
  if x3 < v4 then
    (f4034v mc jc tc ma ja ta oc oa qa S x3).bind fun v5i =>
    if 0 ≤ v5i ∧ v5i < jc then
      (f1295 mc jc tc ma ja ta oc oa qa S v5i).bind fun (v6, S7) =>
      if 0 ≤ x3 ∧ x3 < 6 then
        some (.inl (x1, (x2 + v6), (x3 + 1), (sz S7 (10, 0, 0) x3 v6)))
      else none
    else none
  else
    some (.inr (x1, x2, S))
noncomputable def f1292_2 (mc : Int32) (jc : Int32) (tc : Int32) (ma : Int32) (ja : Int32) (ta : Int32) (oc : Int32 → Int32) (oa : Int32 → Int32) (qa : Int32 → Int32) (S : wS) (x1 : Int32) (y0 : Int32) : Option ((Nat × wS) ⊕ (Int32 × wS)) :=
  (f1285 y0).bind fun r => match r with
  | .inl c19 =>
    some (.inl (c19, S))
  | .inr _ =>
  (lp (f1292_b3 mc jc tc ma ja ta oc oa qa) FU (x1, 0, 0, S)).bind fun (v10, v11, S8) =>
  (f1296 mc jc tc ma ja ta oc oa qa (sl S8 (0, 0, 0) 15 (Int32.toInt64 v11))).bind fun S12 =>
  (f1349 mc jc tc ma ja ta oc oa qa S12 0).bind fun (v13, S14) =>
  (f1345 mc jc tc ma ja ta oc oa qa (sz S14 (0, 0, 0) 10 v13) 0).bind fun S15 =>
  (f1297 mc jc tc ma ja ta oc oa qa (r1297 mc jc tc ma ja ta oc oa qa 12) (sz (sz S15 (0, 0, 0) 11 0) (0, 0, 0) 12 v10) 0 0 v11).bind fun (v16, S17) =>
  (f1299 mc jc tc ma ja ta oc oa qa S17).bind fun S18 =>
  if v16 = 0 then
    some (.inr (1, (sz (sz S18 (0, 0, 0) 13 1) (0, 0, 0) 14 0)))
  else
    some (.inr (0, (sz (sz S18 (0, 0, 0) 13 1) (0, 0, 0) 14 0)))
/-- TimberHouse$WorkPlans.run(I)I -/
noncomputable def f1292 (mc : Int32) (jc : Int32) (tc : Int32) (ma : Int32) (ja : Int32) (ta : Int32) (oc : Int32 → Int32) (oa : Int32 → Int32) (qa : Int32 → Int32) (S : wS) (x1 : Int32) : Option ((Nat × wS) ⊕ (Int32 × wS)) :=
  (f1283 x1 1 2000).bind fun v1 =>
  (f1284 v1).bind fun r => match r with
  | .inl c20 =>
    some (.inl (c20, S))
  | .inr _ =>
  (f4040v mc jc tc ma ja ta oc oa qa S).bind fun v2 =>
  if v2 = 0 then
    (f1293 mc jc tc ma ja ta oc oa qa S).bind fun v3 =>
    if v3 = 0 then
      f1292_2 mc jc tc ma ja ta oc oa qa S x1 0
    else
      f1292_2 mc jc tc ma ja ta oc oa qa S x1 1
  else
    f1292_2 mc jc tc ma ja ta oc oa qa S x1 0
def go1292_3 (mc : Int32) (jc : Int32) (tc : Int32) (ma : Int32) (ja : Int32) (ta : Int32) (oc : Int32 → Int32) (oa : Int32 → Int32) (qa : Int32 → Int32) (A : wK → Nat) (h : pm_H) (D : Nat) (R : Outcome × pm_H) : Int32 × Int32 × Int32 × wS → Prop := fun (x1, x2, x3, S) => pm_go pm_prog (pm_call pm_prog D) 1292 3 [.ref (A (0, 0, 0)), .int x1, .int x2, .int x3] [] (wput A (Cv_d mc jc tc ma ja ta oc oa qa) S h) = some R
def ex1292_3 (mc : Int32) (jc : Int32) (tc : Int32) (ma : Int32) (ja : Int32) (ta : Int32) (oc : Int32 → Int32) (oa : Int32 → Int32) (qa : Int32 → Int32) (A : wK → Nat) (h : pm_H) (D : Nat) (R : Outcome × pm_H) : (Int32 × Int32 × wS) → Prop := fun (x1, x2, S) => ∀ q3 : Value, pm_go pm_prog (pm_call pm_prog D) 1292 4 [.ref (A (0, 0, 0)), .int x1, .int x2, q3] [] (wput A (Cv_d mc jc tc ma ja ta oc oa qa) S h) = some R
theorem y1292_b3 {mc : Int32} {jc : Int32} {tc : Int32} {ma : Int32} {ja : Int32} {ta : Int32} {oc : Int32 → Int32} {oa : Int32 → Int32} {qa : Int32 → Int32} {A : wK → Nat} {h : pm_H} {D : Nat} {R : Outcome × pm_H} (hP : Cv_P mc jc tc ma ja ta oc oa qa) (hA : wok A (Cv_d mc jc tc ma ja ta oc oa qa) h.1) (hD : 20 ≤ D) (a : Int32 × Int32 × Int32 × wS) (r : (Int32 × Int32 × Int32 × wS) ⊕ ((Int32 × Int32 × wS))) (e : f1292_b3 mc jc tc ma ja ta oc oa qa a = some r) (hc : Sum.elim (go1292_3 mc jc tc ma ja ta oc oa qa A h D R) (ex1292_3 mc jc tc ma ja ta oc oa qa A h D R) r) : go1292_3 mc jc tc ma ja ta oc oa qa A h D R a := by
  obtain ⟨x1, x2, x3, S⟩ := a
  dsimp only [go1292_3]
  simp only [f1292_b3] at e
  rw [g1292_3, b1292_3]
  obtain ⟨v4, k1, e⟩ := Option.bind_eq_some_iff.mp e
  try dsimp only at e
  have z1 := x4033v (D := D) (h := h) hP hA (by omega) k1
  by_cases k2 : x3 < v4
  · rw [if_pos k2] at e
    obtain ⟨v5i, k3, e⟩ := Option.bind_eq_some_iff.mp e
    try dsimp only at e
    have z3 := x4034v (D := D) (h := h) hP hA (by omega) k3
    by_cases k4 : 0 ≤ v5i ∧ v5i < jc
    · rw [if_pos k4] at e
      obtain ⟨⟨v6, S7⟩, k5, e⟩ := Option.bind_eq_some_iff.mp e
      try dsimp only at e
      have z5 := x1295 (D := D) (h := h) hP hA (by omega) k5
      dsimp only at z5
      by_cases k6 : 0 ≤ x3 ∧ x3 < 6
      · rw [if_pos k6] at e
        have e := Option.some.inj e; subst e
        dsimp only [Sum.elim_inl, go1292_3] at hc
        simp -implicitDefEqProofs (disch := first | assumption | exact Nat.le_of_ble_eq_true rfl | decide) only [b1292_0, g1292_1, b1292_1, g1292_4, b1292_4, g1292_5, b1292_5, g1292_6, b1292_6, pe_iload1, pe_sipush, pe_call3, pm_af_ret, pm_af_void, pm_af_thr, pe_call1, pe_aload0, pe_getfield, pe_if_ne, pe_if_eq, pe_goto, pe_goto_w, pe_istore2, pe_istore3, pe_iload3, pe_icmp_ge, pe_call2, pe_iastore, pe_iload2, pe_iaload, pe_iadd, pe_iinc3, pe_i2l, pe_putfield, pe_call4, pe_aloadN0, pe_aastoreN, pe_areturnN, pe_null, pm_prog_1, pm_ob_some, Nat.reduceDiv, Nat.reduceMod, Nat.reduceMul, Nat.reduceAdd, Int.reduceToNat, pm_kill_i, pm_kill_r, pm_kill_n, pm_kill_j, pm_kill_l, pm_kill_d, pm_cats_nil, pm_cats_i, pm_cats_r, pm_cats_n, pm_cats_l, pm_cats_d, sz_1, sz_2, sl_1, sl_2, lc_0, lc_lt, lc_le, li_ne, va_rf, wr_m1, we_m1, pm_kill_w, Int32.reduceOfInt, Int64.reduceOfInt, Int32.reduceOfNat, Int32.reduceLT, Int32.reduceLE, Prod.mk.injEq, Nat.reduceEqDiff, reduceCtorEq, and_true, true_and, and_false, false_and, and_self, ite_true, ite_false, ↓reduceIte, not_true_eq_false, not_false_eq_true, pe_ri, pe_rz, pe_rc, p_throw, t1292, w_junk hA, Cv_g0_1 hP hA, Cv_g0_3 hP hA, Cv_g0_7 hP hA, Cv_g0_8 hP hA, Cv_k15 hP hA, Cv_p0_10 hP hA, Cv_p0_11 hP hA, Cv_p0_12 hP hA, Cv_p0_13 hP hA, Cv_p0_14 hP hA, Cv_p0_15 hP hA, Cv_r10 hP hA, Cv_w10 hP hA, z1, eq_true k2, z3, z5, hc]
      · rw [if_neg k6] at e; cases e
    · rw [if_neg k4] at e; cases e
  · rw [if_neg k2] at e
    have e := Option.some.inj e; subst e
    dsimp only [Sum.elim_inr, ex1292_3] at hc
    simp -implicitDefEqProofs (disch := first | assumption | exact Nat.le_of_ble_eq_true rfl | decide) only [b1292_0, g1292_1, b1292_1, g1292_4, b1292_4, g1292_5, b1292_5, g1292_6, b1292_6, pe_iload1, pe_sipush, pe_call3, pm_af_ret, pm_af_void, pm_af_thr, pe_call1, pe_aload0, pe_getfield, pe_if_ne, pe_if_eq, pe_goto, pe_goto_w, pe_istore2, pe_istore3, pe_iload3, pe_icmp_ge, pe_call2, pe_iastore, pe_iload2, pe_iaload, pe_iadd, pe_iinc3, pe_i2l, pe_putfield, pe_call4, pe_aloadN0, pe_aastoreN, pe_areturnN, pe_null, pm_prog_1, pm_ob_some, Nat.reduceDiv, Nat.reduceMod, Nat.reduceMul, Nat.reduceAdd, Int.reduceToNat, pm_kill_i, pm_kill_r, pm_kill_n, pm_kill_j, pm_kill_l, pm_kill_d, pm_cats_nil, pm_cats_i, pm_cats_r, pm_cats_n, pm_cats_l, pm_cats_d, sz_1, sz_2, sl_1, sl_2, lc_0, lc_lt, lc_le, li_ne, va_rf, wr_m1, we_m1, pm_kill_w, Int32.reduceOfInt, Int64.reduceOfInt, Int32.reduceOfNat, Int32.reduceLT, Int32.reduceLE, Prod.mk.injEq, Nat.reduceEqDiff, reduceCtorEq, and_true, true_and, and_false, false_and, and_self, ite_true, ite_false, ↓reduceIte, not_true_eq_false, not_false_eq_true, pe_ri, pe_rz, pe_rc, p_throw, t1292, w_junk hA, Cv_g0_1 hP hA, Cv_g0_3 hP hA, Cv_g0_7 hP hA, Cv_g0_8 hP hA, Cv_k15 hP hA, Cv_p0_10 hP hA, Cv_p0_11 hP hA, Cv_p0_12 hP hA, Cv_p0_13 hP hA, Cv_p0_14 hP hA, Cv_p0_15 hP hA, Cv_r10 hP hA, Cv_w10 hP hA, z1, eq_false k2, hc]
theorem z1292_3 {mc : Int32} {jc : Int32} {tc : Int32} {ma : Int32} {ja : Int32} {ta : Int32} {oc : Int32 → Int32} {oa : Int32 → Int32} {qa : Int32 → Int32} {A : wK → Nat} {h : pm_H} {D : Nat} {R : Outcome × pm_H} (hP : Cv_P mc jc tc ma ja ta oc oa qa) (hA : wok A (Cv_d mc jc tc ma ja ta oc oa qa) h.1) (hD : 20 ≤ D) {n : Nat} {a : Int32 × Int32 × Int32 × wS} {b : (Int32 × Int32 × wS)} (e : lp (f1292_b3 mc jc tc ma ja ta oc oa qa) n a = some b) (hx : ex1292_3 mc jc tc ma ja ta oc oa qa A h D R b) : go1292_3 mc jc tc ma ja ta oc oa qa A h D R a := lp_run (fun a r => y1292_b3 hP hA hD a r) n a b e hx
theorem y1292_2 {mc : Int32} {jc : Int32} {tc : Int32} {ma : Int32} {ja : Int32} {ta : Int32} {oc : Int32 → Int32} {oa : Int32 → Int32} {qa : Int32 → Int32} {A : wK → Nat} {h : pm_H} {D : Nat} {S : wS} {x1 : Int32} {y0 : Int32} {r : (Nat × wS) ⊕ (Int32 × wS)} (hP : Cv_P mc jc tc ma ja ta oc oa qa) (hA : wok A (Cv_d mc jc tc ma ja ta oc oa qa) h.1) (hD : 20 ≤ D) (e : f1292_2 mc jc tc ma ja ta oc oa qa S x1 y0 = some r) : ∀ q2 q3 : Value, pm_go pm_prog (pm_call pm_prog D) 1292 2 [.ref (A (0, 0, 0)), .int x1, q2, q3] [.int y0] (wput A (Cv_d mc jc tc ma ja ta oc oa qa) S h) = some (match (generalizing := false) r with | .inl (c, S1) => (Outcome.threw c, (wput A (Cv_d mc jc tc ma ja ta oc oa qa) S1 (pm_new h 6 (.inr (c, []))))) | .inr (w0, S1) => (Outcome.returned (some (.int w0)), (wput A (Cv_d mc jc tc ma ja ta oc oa qa) S1 h))) := by
  intro q2 q3
  simp only [f1292_2] at e
  rw [g1292_2, b1292_2]
  obtain ⟨r, k1, e⟩ := Option.bind_eq_some_iff.mp e
  have z1 := fun h => x1285 (D := D) (h := h) (by omega) k1
  rcases r with c19 | _
  · dsimp only at e z1
    have e := Option.some.inj e; subst e
    simp -implicitDefEqProofs (disch := first | assumption | exact Nat.le_of_ble_eq_true rfl | decide) only [b1292_0, g1292_1, b1292_1, g1292_4, b1292_4, g1292_5, b1292_5, g1292_6, b1292_6, pe_iload1, pe_sipush, pe_call3, pm_af_ret, pm_af_void, pm_af_thr, pe_call1, pe_aload0, pe_getfield, pe_if_ne, pe_if_eq, pe_goto, pe_goto_w, pe_istore2, pe_istore3, pe_iload3, pe_icmp_ge, pe_call2, pe_iastore, pe_iload2, pe_iaload, pe_iadd, pe_iinc3, pe_i2l, pe_putfield, pe_call4, pe_aloadN0, pe_aastoreN, pe_areturnN, pe_null, pm_prog_1, pm_ob_some, Nat.reduceDiv, Nat.reduceMod, Nat.reduceMul, Nat.reduceAdd, Int.reduceToNat, pm_kill_i, pm_kill_r, pm_kill_n, pm_kill_j, pm_kill_l, pm_kill_d, pm_cats_nil, pm_cats_i, pm_cats_r, pm_cats_n, pm_cats_l, pm_cats_d, sz_1, sz_2, sl_1, sl_2, lc_0, lc_lt, lc_le, li_ne, va_rf, wr_m1, we_m1, pm_kill_w, Int32.reduceOfInt, Int64.reduceOfInt, Int32.reduceOfNat, Int32.reduceLT, Int32.reduceLE, Prod.mk.injEq, Nat.reduceEqDiff, reduceCtorEq, and_true, true_and, and_false, false_and, and_self, ite_true, ite_false, ↓reduceIte, not_true_eq_false, not_false_eq_true, pe_ri, pe_rz, pe_rc, p_throw, t1292, w_junk hA, Cv_g0_1 hP hA, Cv_g0_3 hP hA, Cv_g0_7 hP hA, Cv_g0_8 hP hA, Cv_k15 hP hA, Cv_p0_10 hP hA, Cv_p0_11 hP hA, Cv_p0_12 hP hA, Cv_p0_13 hP hA, Cv_p0_14 hP hA, Cv_p0_15 hP hA, Cv_r10 hP hA, Cv_w10 hP hA, z1]
  · dsimp only at e z1
    obtain ⟨⟨v10, v11, S8⟩, k2, e⟩ := Option.bind_eq_some_iff.mp e
    try dsimp only at e
    try simp -implicitDefEqProofs (disch := first | assumption | exact Nat.le_of_ble_eq_true rfl | decide) only [b1292_0, g1292_1, b1292_1, g1292_4, b1292_4, g1292_5, b1292_5, g1292_6, b1292_6, pe_iload1, pe_sipush, pe_call3, pm_af_ret, pm_af_void, pm_af_thr, pe_call1, pe_aload0, pe_getfield, pe_if_ne, pe_if_eq, pe_goto, pe_goto_w, pe_istore2, pe_istore3, pe_iload3, pe_icmp_ge, pe_call2, pe_iastore, pe_iload2, pe_iaload, pe_iadd, pe_iinc3, pe_i2l, pe_putfield, pe_call4, pe_aloadN0, pe_aastoreN, pe_areturnN, pe_null, pm_prog_1, pm_ob_some, Nat.reduceDiv, Nat.reduceMod, Nat.reduceMul, Nat.reduceAdd, Int.reduceToNat, pm_kill_i, pm_kill_r, pm_kill_n, pm_kill_j, pm_kill_l, pm_kill_d, pm_cats_nil, pm_cats_i, pm_cats_r, pm_cats_n, pm_cats_l, pm_cats_d, sz_1, sz_2, sl_1, sl_2, lc_0, lc_lt, lc_le, li_ne, va_rf, wr_m1, we_m1, pm_kill_w, Int32.reduceOfInt, Int64.reduceOfInt, Int32.reduceOfNat, Int32.reduceLT, Int32.reduceLE, Prod.mk.injEq, Nat.reduceEqDiff, reduceCtorEq, and_true, true_and, and_false, false_and, and_self, ite_true, ite_false, ↓reduceIte, not_true_eq_false, not_false_eq_true, pe_ri, pe_rz, pe_rc, p_throw, t1292, w_junk hA, Cv_g0_1 hP hA, Cv_g0_3 hP hA, Cv_g0_7 hP hA, Cv_g0_8 hP hA, Cv_k15 hP hA, Cv_p0_10 hP hA, Cv_p0_11 hP hA, Cv_p0_12 hP hA, Cv_p0_13 hP hA, Cv_p0_14 hP hA, Cv_p0_15 hP hA, Cv_r10 hP hA, Cv_w10 hP hA, z1]
    refine z1292_3 hP hA hD k2 ?_
    dsimp only [ex1292_3]
    intro q3
    obtain ⟨S12, k3, e⟩ := Option.bind_eq_some_iff.mp e
    try dsimp only at e
    have z3 := x1296 (D := D) (h := h) hP hA (by omega) k3
    obtain ⟨⟨v13, S14⟩, k4, e⟩ := Option.bind_eq_some_iff.mp e
    try dsimp only at e
    have z4 := x1349 (D := D) (h := h) hP hA (by omega) k4
    dsimp only at z4
    obtain ⟨S15, k5, e⟩ := Option.bind_eq_some_iff.mp e
    try dsimp only at e
    have z5 := x1345 (D := D) (h := h) hP hA (by omega) k5
    obtain ⟨⟨v16, S17⟩, k6, e⟩ := Option.bind_eq_some_iff.mp e
    try dsimp only at e
    have z6 := x1297 (D := D) (h := h) hP hA (w1297 hP hA 12) (by omega) (by omega) k6
    dsimp only at z6
    obtain ⟨S18, k7, e⟩ := Option.bind_eq_some_iff.mp e
    try dsimp only at e
    have z7 := x1299 (D := D) (h := h) hP hA (by omega) k7
    by_cases k8 : v16 = 0
    · rw [if_pos k8] at e
      have e := Option.some.inj e; subst e
      simp -implicitDefEqProofs (disch := first | assumption | exact Nat.le_of_ble_eq_true rfl | decide) only [b1292_0, g1292_1, b1292_1, g1292_4, b1292_4, g1292_5, b1292_5, g1292_6, b1292_6, pe_iload1, pe_sipush, pe_call3, pm_af_ret, pm_af_void, pm_af_thr, pe_call1, pe_aload0, pe_getfield, pe_if_ne, pe_if_eq, pe_goto, pe_goto_w, pe_istore2, pe_istore3, pe_iload3, pe_icmp_ge, pe_call2, pe_iastore, pe_iload2, pe_iaload, pe_iadd, pe_iinc3, pe_i2l, pe_putfield, pe_call4, pe_aloadN0, pe_aastoreN, pe_areturnN, pe_null, pm_prog_1, pm_ob_some, Nat.reduceDiv, Nat.reduceMod, Nat.reduceMul, Nat.reduceAdd, Int.reduceToNat, pm_kill_i, pm_kill_r, pm_kill_n, pm_kill_j, pm_kill_l, pm_kill_d, pm_cats_nil, pm_cats_i, pm_cats_r, pm_cats_n, pm_cats_l, pm_cats_d, sz_1, sz_2, sl_1, sl_2, lc_0, lc_lt, lc_le, li_ne, va_rf, wr_m1, we_m1, pm_kill_w, Int32.reduceOfInt, Int64.reduceOfInt, Int32.reduceOfNat, Int32.reduceLT, Int32.reduceLE, Prod.mk.injEq, Nat.reduceEqDiff, reduceCtorEq, and_true, true_and, and_false, false_and, and_self, ite_true, ite_false, ↓reduceIte, not_true_eq_false, not_false_eq_true, pe_ri, pe_rz, pe_rc, p_throw, t1292, w_junk hA, Cv_g0_1 hP hA, Cv_g0_3 hP hA, Cv_g0_7 hP hA, Cv_g0_8 hP hA, Cv_k15 hP hA, Cv_p0_10 hP hA, Cv_p0_11 hP hA, Cv_p0_12 hP hA, Cv_p0_13 hP hA, Cv_p0_14 hP hA, Cv_p0_15 hP hA, Cv_r10 hP hA, Cv_w10 hP hA, z1, z3, z4, z5, z6, z7, eq_true k8]
    · rw [if_neg k8] at e
      have e := Option.some.inj e; subst e
      simp -implicitDefEqProofs (disch := first | assumption | exact Nat.le_of_ble_eq_true rfl | decide) only [b1292_0, g1292_1, b1292_1, g1292_4, b1292_4, g1292_5, b1292_5, g1292_6, b1292_6, pe_iload1, pe_sipush, pe_call3, pm_af_ret, pm_af_void, pm_af_thr, pe_call1, pe_aload0, pe_getfield, pe_if_ne, pe_if_eq, pe_goto, pe_goto_w, pe_istore2, pe_istore3, pe_iload3, pe_icmp_ge, pe_call2, pe_iastore, pe_iload2, pe_iaload, pe_iadd, pe_iinc3, pe_i2l, pe_putfield, pe_call4, pe_aloadN0, pe_aastoreN, pe_areturnN, pe_null, pm_prog_1, pm_ob_some, Nat.reduceDiv, Nat.reduceMod, Nat.reduceMul, Nat.reduceAdd, Int.reduceToNat, pm_kill_i, pm_kill_r, pm_kill_n, pm_kill_j, pm_kill_l, pm_kill_d, pm_cats_nil, pm_cats_i, pm_cats_r, pm_cats_n, pm_cats_l, pm_cats_d, sz_1, sz_2, sl_1, sl_2, lc_0, lc_lt, lc_le, li_ne, va_rf, wr_m1, we_m1, pm_kill_w, Int32.reduceOfInt, Int64.reduceOfInt, Int32.reduceOfNat, Int32.reduceLT, Int32.reduceLE, Prod.mk.injEq, Nat.reduceEqDiff, reduceCtorEq, and_true, true_and, and_false, false_and, and_self, ite_true, ite_false, ↓reduceIte, not_true_eq_false, not_false_eq_true, pe_ri, pe_rz, pe_rc, p_throw, t1292, w_junk hA, Cv_g0_1 hP hA, Cv_g0_3 hP hA, Cv_g0_7 hP hA, Cv_g0_8 hP hA, Cv_k15 hP hA, Cv_p0_10 hP hA, Cv_p0_11 hP hA, Cv_p0_12 hP hA, Cv_p0_13 hP hA, Cv_p0_14 hP hA, Cv_p0_15 hP hA, Cv_r10 hP hA, Cv_w10 hP hA, z1, z3, z4, z5, z6, z7, eq_false k8]
theorem x1292 {mc : Int32} {jc : Int32} {tc : Int32} {ma : Int32} {ja : Int32} {ta : Int32} {oc : Int32 → Int32} {oa : Int32 → Int32} {qa : Int32 → Int32} {A : wK → Nat} {h : pm_H} {D : Nat} {S : wS} {x1 : Int32} {r : (Nat × wS) ⊕ (Int32 × wS)} (hP : Cv_P mc jc tc ma ja ta oc oa qa) (hA : wok A (Cv_d mc jc tc ma ja ta oc oa qa) h.1) (hD : 21 ≤ D) (e : f1292 mc jc tc ma ja ta oc oa qa S x1 = some r) : pm_call pm_prog D 1292 [.ref (A (0, 0, 0)), .int x1] (wput A (Cv_d mc jc tc ma ja ta oc oa qa) S h) = some (match (generalizing := false) r with | .inl (c, S1) => (Outcome.threw c, (wput A (Cv_d mc jc tc ma ja ta oc oa qa) S1 (pm_new h 6 (.inr (c, []))))) | .inr (w0, S1) => (Outcome.returned (some (.int w0)), (wput A (Cv_d mc jc tc ma ja ta oc oa qa) S1 h))) := by
  obtain ⟨D, rfl⟩ : ∃ D', D = D' + 1 := ⟨D - 1, by omega⟩
  have hD : 20 ≤ D := by omega
  simp only [f1292] at e
  rw [c1292 (Cv_c0 hP hA), b1292_0]
  obtain ⟨v1, k1, e⟩ := Option.bind_eq_some_iff.mp e
  try dsimp only at e
  have z1 := fun h => x1283 (D := D) (h := h) (by omega) k1
  obtain ⟨r, k2, e⟩ := Option.bind_eq_some_iff.mp e
  have z2 := fun h => x1284 (D := D) (h := h) (by omega) k2
  rcases r with c20 | _
  · dsimp only at e z2
    have e := Option.some.inj e; subst e
    simp -implicitDefEqProofs (disch := first | assumption | exact Nat.le_of_ble_eq_true rfl | decide) only [b1292_0, g1292_1, b1292_1, g1292_4, b1292_4, g1292_5, b1292_5, g1292_6, b1292_6, pe_iload1, pe_sipush, pe_call3, pm_af_ret, pm_af_void, pm_af_thr, pe_call1, pe_aload0, pe_getfield, pe_if_ne, pe_if_eq, pe_goto, pe_goto_w, pe_istore2, pe_istore3, pe_iload3, pe_icmp_ge, pe_call2, pe_iastore, pe_iload2, pe_iaload, pe_iadd, pe_iinc3, pe_i2l, pe_putfield, pe_call4, pe_aloadN0, pe_aastoreN, pe_areturnN, pe_null, pm_prog_1, pm_ob_some, Nat.reduceDiv, Nat.reduceMod, Nat.reduceMul, Nat.reduceAdd, Int.reduceToNat, pm_kill_i, pm_kill_r, pm_kill_n, pm_kill_j, pm_kill_l, pm_kill_d, pm_cats_nil, pm_cats_i, pm_cats_r, pm_cats_n, pm_cats_l, pm_cats_d, sz_1, sz_2, sl_1, sl_2, lc_0, lc_lt, lc_le, li_ne, va_rf, wr_m1, we_m1, pm_kill_w, Int32.reduceOfInt, Int64.reduceOfInt, Int32.reduceOfNat, Int32.reduceLT, Int32.reduceLE, Prod.mk.injEq, Nat.reduceEqDiff, reduceCtorEq, and_true, true_and, and_false, false_and, and_self, ite_true, ite_false, ↓reduceIte, not_true_eq_false, not_false_eq_true, pe_ri, pe_rz, pe_rc, p_throw, t1292, w_junk hA, Cv_g0_1 hP hA, Cv_g0_3 hP hA, Cv_g0_7 hP hA, Cv_g0_8 hP hA, Cv_k15 hP hA, Cv_p0_10 hP hA, Cv_p0_11 hP hA, Cv_p0_12 hP hA, Cv_p0_13 hP hA, Cv_p0_14 hP hA, Cv_p0_15 hP hA, Cv_r10 hP hA, Cv_w10 hP hA, z1, z2]
  · dsimp only at e z2
    obtain ⟨v2, k3, e⟩ := Option.bind_eq_some_iff.mp e
    try dsimp only at e
    have z3 := x4040v (D := D) (h := h) hP hA (by omega) k3
    by_cases k4 : v2 = 0
    · rw [if_pos k4] at e
      obtain ⟨v3, k5, e⟩ := Option.bind_eq_some_iff.mp e
      try dsimp only at e
      have z5 := x1293 (D := D) (h := h) hP hA (by omega) k5
      by_cases k6 : v3 = 0
      · rw [if_pos k6] at e
        have k7 := y1292_2 (h := h) hP hA hD e
        simp -implicitDefEqProofs (disch := first | assumption | exact Nat.le_of_ble_eq_true rfl | decide) only [b1292_0, g1292_1, b1292_1, g1292_4, b1292_4, g1292_5, b1292_5, g1292_6, b1292_6, pe_iload1, pe_sipush, pe_call3, pm_af_ret, pm_af_void, pm_af_thr, pe_call1, pe_aload0, pe_getfield, pe_if_ne, pe_if_eq, pe_goto, pe_goto_w, pe_istore2, pe_istore3, pe_iload3, pe_icmp_ge, pe_call2, pe_iastore, pe_iload2, pe_iaload, pe_iadd, pe_iinc3, pe_i2l, pe_putfield, pe_call4, pe_aloadN0, pe_aastoreN, pe_areturnN, pe_null, pm_prog_1, pm_ob_some, Nat.reduceDiv, Nat.reduceMod, Nat.reduceMul, Nat.reduceAdd, Int.reduceToNat, pm_kill_i, pm_kill_r, pm_kill_n, pm_kill_j, pm_kill_l, pm_kill_d, pm_cats_nil, pm_cats_i, pm_cats_r, pm_cats_n, pm_cats_l, pm_cats_d, sz_1, sz_2, sl_1, sl_2, lc_0, lc_lt, lc_le, li_ne, va_rf, wr_m1, we_m1, pm_kill_w, Int32.reduceOfInt, Int64.reduceOfInt, Int32.reduceOfNat, Int32.reduceLT, Int32.reduceLE, Prod.mk.injEq, Nat.reduceEqDiff, reduceCtorEq, and_true, true_and, and_false, false_and, and_self, ite_true, ite_false, ↓reduceIte, not_true_eq_false, not_false_eq_true, pe_ri, pe_rz, pe_rc, p_throw, t1292, w_junk hA, Cv_g0_1 hP hA, Cv_g0_3 hP hA, Cv_g0_7 hP hA, Cv_g0_8 hP hA, Cv_k15 hP hA, Cv_p0_10 hP hA, Cv_p0_11 hP hA, Cv_p0_12 hP hA, Cv_p0_13 hP hA, Cv_p0_14 hP hA, Cv_p0_15 hP hA, Cv_r10 hP hA, Cv_w10 hP hA, z1, z2, z3, eq_true k4, z5, eq_true k6, k7]
      · rw [if_neg k6] at e
        have k8 := y1292_2 (h := h) hP hA hD e
        simp -implicitDefEqProofs (disch := first | assumption | exact Nat.le_of_ble_eq_true rfl | decide) only [b1292_0, g1292_1, b1292_1, g1292_4, b1292_4, g1292_5, b1292_5, g1292_6, b1292_6, pe_iload1, pe_sipush, pe_call3, pm_af_ret, pm_af_void, pm_af_thr, pe_call1, pe_aload0, pe_getfield, pe_if_ne, pe_if_eq, pe_goto, pe_goto_w, pe_istore2, pe_istore3, pe_iload3, pe_icmp_ge, pe_call2, pe_iastore, pe_iload2, pe_iaload, pe_iadd, pe_iinc3, pe_i2l, pe_putfield, pe_call4, pe_aloadN0, pe_aastoreN, pe_areturnN, pe_null, pm_prog_1, pm_ob_some, Nat.reduceDiv, Nat.reduceMod, Nat.reduceMul, Nat.reduceAdd, Int.reduceToNat, pm_kill_i, pm_kill_r, pm_kill_n, pm_kill_j, pm_kill_l, pm_kill_d, pm_cats_nil, pm_cats_i, pm_cats_r, pm_cats_n, pm_cats_l, pm_cats_d, sz_1, sz_2, sl_1, sl_2, lc_0, lc_lt, lc_le, li_ne, va_rf, wr_m1, we_m1, pm_kill_w, Int32.reduceOfInt, Int64.reduceOfInt, Int32.reduceOfNat, Int32.reduceLT, Int32.reduceLE, Prod.mk.injEq, Nat.reduceEqDiff, reduceCtorEq, and_true, true_and, and_false, false_and, and_self, ite_true, ite_false, ↓reduceIte, not_true_eq_false, not_false_eq_true, pe_ri, pe_rz, pe_rc, p_throw, t1292, w_junk hA, Cv_g0_1 hP hA, Cv_g0_3 hP hA, Cv_g0_7 hP hA, Cv_g0_8 hP hA, Cv_k15 hP hA, Cv_p0_10 hP hA, Cv_p0_11 hP hA, Cv_p0_12 hP hA, Cv_p0_13 hP hA, Cv_p0_14 hP hA, Cv_p0_15 hP hA, Cv_r10 hP hA, Cv_w10 hP hA, z1, z2, z3, eq_true k4, z5, eq_false k6, k8]
    · rw [if_neg k4] at e
      have k9 := y1292_2 (h := h) hP hA hD e
      simp -implicitDefEqProofs (disch := first | assumption | exact Nat.le_of_ble_eq_true rfl | decide) only [b1292_0, g1292_1, b1292_1, g1292_4, b1292_4, g1292_5, b1292_5, g1292_6, b1292_6, pe_iload1, pe_sipush, pe_call3, pm_af_ret, pm_af_void, pm_af_thr, pe_call1, pe_aload0, pe_getfield, pe_if_ne, pe_if_eq, pe_goto, pe_goto_w, pe_istore2, pe_istore3, pe_iload3, pe_icmp_ge, pe_call2, pe_iastore, pe_iload2, pe_iaload, pe_iadd, pe_iinc3, pe_i2l, pe_putfield, pe_call4, pe_aloadN0, pe_aastoreN, pe_areturnN, pe_null, pm_prog_1, pm_ob_some, Nat.reduceDiv, Nat.reduceMod, Nat.reduceMul, Nat.reduceAdd, Int.reduceToNat, pm_kill_i, pm_kill_r, pm_kill_n, pm_kill_j, pm_kill_l, pm_kill_d, pm_cats_nil, pm_cats_i, pm_cats_r, pm_cats_n, pm_cats_l, pm_cats_d, sz_1, sz_2, sl_1, sl_2, lc_0, lc_lt, lc_le, li_ne, va_rf, wr_m1, we_m1, pm_kill_w, Int32.reduceOfInt, Int64.reduceOfInt, Int32.reduceOfNat, Int32.reduceLT, Int32.reduceLE, Prod.mk.injEq, Nat.reduceEqDiff, reduceCtorEq, and_true, true_and, and_false, false_and, and_self, ite_true, ite_false, ↓reduceIte, not_true_eq_false, not_false_eq_true, pe_ri, pe_rz, pe_rc, p_throw, t1292, w_junk hA, Cv_g0_1 hP hA, Cv_g0_3 hP hA, Cv_g0_7 hP hA, Cv_g0_8 hP hA, Cv_k15 hP hA, Cv_p0_10 hP hA, Cv_p0_11 hP hA, Cv_p0_12 hP hA, Cv_p0_13 hP hA, Cv_p0_14 hP hA, Cv_p0_15 hP hA, Cv_r10 hP hA, Cv_w10 hP hA, z1, z2, z3, eq_false k4, k9]
/-- TimberHouse$WorkPlans.drawn()I -/
theorem c1301 {d : Nat} {h : pm_H} {a : Nat} (hc : pm_cls h a = some 20) : pm_call pm_prog (d + 1) 1301 [.ref a] h = pm_ev pm_prog (pm_call pm_prog d) 1301 0 b1301_0 [.ref a] [] h := pm_cal (pm_rc1 hc rfl) rfl rfl rfl
/-- TimberHouse$WorkPlans.drawn()I -/
noncomputable def f1301 (mc : Int32) (jc : Int32) (tc : Int32) (ma : Int32) (ja : Int32) (ta : Int32) (oc : Int32 → Int32) (oa : Int32 → Int32) (qa : Int32 → Int32) (S : wS) : Option (Int32 × wS) :=
  (f4033v mc jc tc ma ja ta oc oa qa (sl S (0, 0, 0) 16 (((S.2 (0, 0, 0) 16) * 6364136223846793005) + 1442695040888963407))).bind fun v1 =>
  if ¬ (Int32.toInt64 v1) = 0 then
    some ((Int64.toInt32 ((UInt64.toInt64 (Int64.toUInt64 (((S.2 (0, 0, 0) 16) * 6364136223846793005) + 1442695040888963407) >>> (Int64.toUInt64 (Int32.toInt64 (33 : Int32)) &&& Int64.toUInt64 63))) - (UInt64.toInt64 (Int64.toUInt64 (((S.2 (0, 0, 0) 16) * 6364136223846793005) + 1442695040888963407) >>> (Int64.toUInt64 (Int32.toInt64 (33 : Int32)) &&& Int64.toUInt64 63))) / (Int32.toInt64 v1) * (Int32.toInt64 v1))), (sl S (0, 0, 0) 16 (((S.2 (0, 0, 0) 16) * 6364136223846793005) + 1442695040888963407)))
  else none
theorem x1301 {mc : Int32} {jc : Int32} {tc : Int32} {ma : Int32} {ja : Int32} {ta : Int32} {oc : Int32 → Int32} {oa : Int32 → Int32} {qa : Int32 → Int32} {A : wK → Nat} {h : pm_H} {D : Nat} {S : wS} {r : Int32 × wS} (hP : Cv_P mc jc tc ma ja ta oc oa qa) (hA : wok A (Cv_d mc jc tc ma ja ta oc oa qa) h.1) (hD : 2 ≤ D) (e : f1301 mc jc tc ma ja ta oc oa qa S = some r) : pm_call pm_prog D 1301 [.ref (A (0, 0, 0))] (wput A (Cv_d mc jc tc ma ja ta oc oa qa) S h) = some (match (generalizing := false) r with | (w0, S1) => (Outcome.returned (some (.int w0)), (wput A (Cv_d mc jc tc ma ja ta oc oa qa) S1 h))) := by
  obtain ⟨D, rfl⟩ : ∃ D', D = D' + 1 := ⟨D - 1, by omega⟩
  have hD : 1 ≤ D := by omega
  simp only [f1301] at e
  rw [c1301 (Cv_c0 hP hA), b1301_0]
  obtain ⟨v1, k1, e⟩ := Option.bind_eq_some_iff.mp e
  try dsimp only at e
  have z1 := x4033v (D := D) (h := h) hP hA (by omega) k1
  by_cases k2 : ¬ (Int32.toInt64 v1) = 0
  · rw [if_pos k2] at e
    have e := Option.some.inj e; subst e
    simp -implicitDefEqProofs (disch := first | assumption | exact Nat.le_of_ble_eq_true rfl | decide) only [b1301_0, pe_aload0, pe_getfield, pe_bipush, pe_lmul, pe_ladd, pe_putfield, pe_sipush, pe_lushr, pe_call1, pm_af_ret, pm_af_void, pm_af_thr, pe_i2l, pe_lrem, pe_l2i, pe_aloadN0, pe_aastoreN, pe_areturnN, pe_null, pm_prog_1, pm_ob_some, Nat.reduceDiv, Nat.reduceMod, Nat.reduceMul, Nat.reduceAdd, Int.reduceToNat, pm_kill_i, pm_kill_r, pm_kill_n, pm_kill_j, pm_kill_l, pm_kill_d, pm_cats_nil, pm_cats_i, pm_cats_r, pm_cats_n, pm_cats_l, pm_cats_d, sz_1, sz_2, sl_1, sl_2, lc_0, lc_lt, lc_le, li_ne, va_rf, wr_m1, we_m1, pm_kill_w, Int32.reduceOfInt, Int64.reduceOfInt, Int32.reduceOfNat, Int32.reduceLT, Int32.reduceLE, Prod.mk.injEq, Nat.reduceEqDiff, reduceCtorEq, and_true, true_and, and_false, false_and, and_self, ite_true, ite_false, ↓reduceIte, not_true_eq_false, not_false_eq_true, pe_ri, pe_rz, pe_rc, Cv_g0_1 hP hA, Cv_g0_16 hP hA, Cv_p0_16 hP hA, z1]
  · rw [if_neg k2] at e; cases e
/-- TimberHouse$WorkPlans.swap(II)V -/
theorem c1302 {d : Nat} {h : pm_H} {a : Nat} {x0 : Int32} {x1 : Int32} (hc : pm_cls h a = some 20) : pm_call pm_prog (d + 1) 1302 [.ref a, .int x0, .int x1] h = pm_ev pm_prog (pm_call pm_prog d) 1302 0 b1302_0 [.ref a, .int x0, .int x1, pm_junk] [] h := pm_cal (pm_rc1 hc rfl) rfl rfl rfl
/-- TimberHouse$WorkPlans.swap(II)V -/
noncomputable def f1302 (mc : Int32) (jc : Int32) (tc : Int32) (ma : Int32) (ja : Int32) (ta : Int32) (oc : Int32 → Int32) (oa : Int32 → Int32) (qa : Int32 → Int32) (S : wS) (x1 : Int32) (x2 : Int32) : Option (wS) :=
  if 0 ≤ x1 ∧ x1 < 6 then
    if 0 ≤ x2 ∧ x2 < 6 then
      some (sz (sz S (9, 0, 0) x1 (S.1 (9, 0, 0) x2)) (9, 0, 0) x2 (S.1 (9, 0, 0) x1))
    else none
  else none
theorem x1302 {mc : Int32} {jc : Int32} {tc : Int32} {ma : Int32} {ja : Int32} {ta : Int32} {oc : Int32 → Int32} {oa : Int32 → Int32} {qa : Int32 → Int32} {A : wK → Nat} {h : pm_H} {D : Nat} {S : wS} {x1 : Int32} {x2 : Int32} {r : wS} (hP : Cv_P mc jc tc ma ja ta oc oa qa) (hA : wok A (Cv_d mc jc tc ma ja ta oc oa qa) h.1) (hD : 1 ≤ D) (e : f1302 mc jc tc ma ja ta oc oa qa S x1 x2 = some r) : pm_call pm_prog D 1302 [.ref (A (0, 0, 0)), .int x1, .int x2] (wput A (Cv_d mc jc tc ma ja ta oc oa qa) S h) = some (Outcome.returned none, (wput A (Cv_d mc jc tc ma ja ta oc oa qa) r h)) := by
  obtain ⟨D, rfl⟩ : ∃ D', D = D' + 1 := ⟨D - 1, by omega⟩
  have hD : 0 ≤ D := by omega
  simp only [f1302] at e
  rw [c1302 (Cv_c0 hP hA), b1302_0]
  by_cases k1 : 0 ≤ x1 ∧ x1 < 6
  · rw [if_pos k1] at e
    by_cases k2 : 0 ≤ x2 ∧ x2 < 6
    · rw [if_pos k2] at e
      have e := Option.some.inj e; subst e
      simp -implicitDefEqProofs (disch := first | assumption | exact Nat.le_of_ble_eq_true rfl | decide) only [b1302_0, pe_aload0, pe_getfield, pe_iload1, pe_iaload, pe_istore3, pe_iload2, pe_iastore, pe_iload3, pe_return, pe_aloadN0, pe_aastoreN, pe_areturnN, pe_null, pm_prog_1, pm_ob_some, Nat.reduceDiv, Nat.reduceMod, Nat.reduceMul, Nat.reduceAdd, Int.reduceToNat, pm_kill_i, pm_kill_r, pm_kill_n, pm_kill_j, pm_kill_l, pm_kill_d, pm_cats_nil, pm_cats_i, pm_cats_r, pm_cats_n, pm_cats_l, pm_cats_d, sz_1, sz_2, sl_1, sl_2, lc_0, lc_lt, lc_le, li_ne, va_rf, wr_m1, we_m1, pm_kill_w, Int32.reduceOfInt, Int64.reduceOfInt, Int32.reduceOfNat, Int32.reduceLT, Int32.reduceLE, Prod.mk.injEq, Nat.reduceEqDiff, reduceCtorEq, and_true, true_and, and_false, false_and, and_self, ite_true, ite_false, ↓reduceIte, not_true_eq_false, not_false_eq_true, pe_ri, pe_rz, pe_rc, Cv_g0_7 hP hA, Cv_r9 hP hA, Cv_w9 hP hA]
    · rw [if_neg k2] at e; cases e
  · rw [if_neg k1] at e; cases e
/-- TimberHouse$WorkPlans.improve(I)I -/
theorem c1300 {d : Nat} {h : pm_H} {a : Nat} {x0 : Int32} (hc : pm_cls h a = some 20) : pm_call pm_prog (d + 1) 1300 [.ref a, .int x0] h = pm_ev pm_prog (pm_call pm_prog d) 1300 0 b1300_0 [.ref a, .int x0, pm_junk, pm_junk, pm_junk, pm_junk, pm_junk] [] h := pm_cal (pm_rc1 hc rfl) rfl rfl rfl
theorem g1300_1 {cl : pm_C} {ls st : List Value} {h : pm_H} : pm_go pm_prog cl 1300 1 ls st h = pm_ev pm_prog cl 1300 1 b1300_1 ls st h := pm_go_eq pm_prog cl 1300 1 ls st h
theorem g1300_2 {cl : pm_C} {ls st : List Value} {h : pm_H} : pm_go pm_prog cl 1300 2 ls st h = pm_ev pm_prog cl 1300 2 b1300_2 ls st h := pm_go_eq pm_prog cl 1300 2 ls st h
theorem g1300_3 {cl : pm_C} {ls st : List Value} {h : pm_H} : pm_go pm_prog cl 1300 3 ls st h = pm_ev pm_prog cl 1300 3 b1300_3 ls st h := pm_go_eq pm_prog cl 1300 3 ls st h
theorem g1300_4 {cl : pm_C} {ls st : List Value} {h : pm_H} : pm_go pm_prog cl 1300 4 ls st h = pm_ev pm_prog cl 1300 4 b1300_4 ls st h := pm_go_eq pm_prog cl 1300 4 ls st h
theorem g1300_5 {cl : pm_C} {ls st : List Value} {h : pm_H} : pm_go pm_prog cl 1300 5 ls st h = pm_ev pm_prog cl 1300 5 b1300_5 ls st h := pm_go_eq pm_prog cl 1300 5 ls st h
theorem g1300_6 {cl : pm_C} {ls st : List Value} {h : pm_H} : pm_go pm_prog cl 1300 6 ls st h = pm_ev pm_prog cl 1300 6 b1300_6 ls st h := pm_go_eq pm_prog cl 1300 6 ls st h
theorem t1300 {cl : pm_C} {j : Nat} {ls : List Value} {c : Nat} {h : pm_H} : pm_thr pm_prog cl 1300 j ls c h = some (.threw c, h) := rfl
noncomputable def f1300_b3 (mc : Int32) (jc : Int32) (tc : Int32) (ma : Int32) (ja : Int32) (ta : Int32) (oc : Int32 → Int32) (oa : Int32 → Int32) (qa : Int32 → Int32) : Int32 × Int32 × Int32 × wS → Option ((Int32 × Int32 × Int32 × wS) ⊕ ((Int32 × wS))) := fun (x1, x2, x3, S) =>
  if x3 < x1 then
    (f1301 mc jc tc ma ja ta oc oa qa S).bind fun (v2, S3) =>
    (f1301 mc jc tc ma ja ta oc oa qa S3).bind fun (v4, S5) =>
    (f1302 mc jc tc ma ja ta oc oa qa S5 v2 v4).bind fun S6 =>
    (f1349 mc jc tc ma ja ta oc oa qa S6 0).bind fun (v7, S8) =>
    if v7 < (S8.1 (0, 0, 0) 10) then
      some (.inl (x1, (x2 + 1), (x3 + 1), (sz S8 (0, 0, 0) 10 v7)))
    else
      (f1302 mc jc tc ma ja ta oc oa qa S8 v2 v4).bind fun S9 =>
      some (.inl (x1, x2, (x3 + 1), S9))
  else
    some (.inr (x2, S))
noncomputable def f1300_2 (mc : Int32) (jc : Int32) (tc : Int32) (ma : Int32) (ja : Int32) (ta : Int32) (oc : Int32 → Int32) (oa : Int32 → Int32) (qa : Int32 → Int32) (S : wS) (x1 : Int32) (y0 : Int32) : Option ((Nat × wS) ⊕ (Int32 × wS)) :=
  (f1285 y0).bind fun r => match r with
  | .inl c14 =>
    some (.inl (c14, S))
  | .inr _ =>
  (lp (f1300_b3 mc jc tc ma ja ta oc oa qa) FU (x1, 0, 0, S)).bind fun (v12, S10) =>
  (f1299 mc jc tc ma ja ta oc oa qa S10).bind fun S13 =>
  some (.inr (v12, S13))
/-- TimberHouse$WorkPlans.improve(I)I -/
noncomputable def f1300 (mc : Int32) (jc : Int32) (tc : Int32) (ma : Int32) (ja : Int32) (ta : Int32) (oc : Int32 → Int32) (oa : Int32 → Int32) (qa : Int32 → Int32) (S : wS) (x1 : Int32) : Option ((Nat × wS) ⊕ (Int32 × wS)) :=
  (f1283 x1 0 100).bind fun v1 =>
  (f1284 v1).bind fun r => match r with
  | .inl c15 =>
    some (.inl (c15, S))
  | .inr _ =>
  if (S.1 (0, 0, 0) 13) = 0 then
    f1300_2 mc jc tc ma ja ta oc oa qa S x1 0
  else
    if (S.1 (0, 0, 0) 14) = 0 then
      f1300_2 mc jc tc ma ja ta oc oa qa S x1 1
    else
      f1300_2 mc jc tc ma ja ta oc oa qa S x1 0
def go1300_3 (mc : Int32) (jc : Int32) (tc : Int32) (ma : Int32) (ja : Int32) (ta : Int32) (oc : Int32 → Int32) (oa : Int32 → Int32) (qa : Int32 → Int32) (A : wK → Nat) (h : pm_H) (D : Nat) (R : Outcome × pm_H) : Int32 × Int32 × Int32 × wS → Prop := fun (x1, x2, x3, S) => ∀ q4 q5 q6 : Value, pm_go pm_prog (pm_call pm_prog D) 1300 3 [.ref (A (0, 0, 0)), .int x1, .int x2, .int x3, q4, q5, q6] [] (wput A (Cv_d mc jc tc ma ja ta oc oa qa) S h) = some R
def ex1300_3 (mc : Int32) (jc : Int32) (tc : Int32) (ma : Int32) (ja : Int32) (ta : Int32) (oc : Int32 → Int32) (oa : Int32 → Int32) (qa : Int32 → Int32) (A : wK → Nat) (h : pm_H) (D : Nat) (R : Outcome × pm_H) : (Int32 × wS) → Prop := fun (x2, S) => ∀ q1 q3 q4 q5 q6 : Value, pm_go pm_prog (pm_call pm_prog D) 1300 6 [.ref (A (0, 0, 0)), q1, .int x2, q3, q4, q5, q6] [] (wput A (Cv_d mc jc tc ma ja ta oc oa qa) S h) = some R
theorem y1300_b3 {mc : Int32} {jc : Int32} {tc : Int32} {ma : Int32} {ja : Int32} {ta : Int32} {oc : Int32 → Int32} {oa : Int32 → Int32} {qa : Int32 → Int32} {A : wK → Nat} {h : pm_H} {D : Nat} {R : Outcome × pm_H} (hP : Cv_P mc jc tc ma ja ta oc oa qa) (hA : wok A (Cv_d mc jc tc ma ja ta oc oa qa) h.1) (hD : 8 ≤ D) (a : Int32 × Int32 × Int32 × wS) (r : (Int32 × Int32 × Int32 × wS) ⊕ ((Int32 × wS))) (e : f1300_b3 mc jc tc ma ja ta oc oa qa a = some r) (hc : Sum.elim (go1300_3 mc jc tc ma ja ta oc oa qa A h D R) (ex1300_3 mc jc tc ma ja ta oc oa qa A h D R) r) : go1300_3 mc jc tc ma ja ta oc oa qa A h D R a := by
  obtain ⟨x1, x2, x3, S⟩ := a
  dsimp only [go1300_3]
  intro q4 q5 q6
  simp only [f1300_b3] at e
  rw [g1300_3, b1300_3]
  by_cases k1 : x3 < x1
  · rw [if_pos k1] at e
    obtain ⟨⟨v2, S3⟩, k2, e⟩ := Option.bind_eq_some_iff.mp e
    try dsimp only at e
    have z2 := x1301 (D := D) (h := h) hP hA (by omega) k2
    dsimp only at z2
    obtain ⟨⟨v4, S5⟩, k3, e⟩ := Option.bind_eq_some_iff.mp e
    try dsimp only at e
    have z3 := x1301 (D := D) (h := h) hP hA (by omega) k3
    dsimp only at z3
    obtain ⟨S6, k4, e⟩ := Option.bind_eq_some_iff.mp e
    try dsimp only at e
    have z4 := x1302 (D := D) (h := h) hP hA (by omega) k4
    obtain ⟨⟨v7, S8⟩, k5, e⟩ := Option.bind_eq_some_iff.mp e
    try dsimp only at e
    have z5 := x1349 (D := D) (h := h) hP hA (by omega) k5
    dsimp only at z5
    by_cases k6 : v7 < (S8.1 (0, 0, 0) 10)
    · rw [if_pos k6] at e
      have e := Option.some.inj e; subst e
      dsimp only [Sum.elim_inl, go1300_3] at hc
      simp -implicitDefEqProofs (disch := first | assumption | exact Nat.le_of_ble_eq_true rfl | decide) only [b1300_0, g1300_1, b1300_1, g1300_4, b1300_4, g1300_5, b1300_5, g1300_6, b1300_6, pe_iload1, pe_sipush, pe_call3, pm_af_ret, pm_af_void, pm_af_thr, pe_call1, pe_aload0, pe_getfield, pe_if_eq, pe_if_ne, pe_goto, pe_goto_w, pe_istore2, pe_istore3, pe_iload3, pe_icmp_ge, pe_istore4, pe_istore5, pe_iload4, pe_iload5, pe_istore6, pe_iload6, pe_putfield, pe_iinc2, pe_iinc3, pe_iload2, pe_aloadN0, pe_aastoreN, pe_areturnN, pe_null, pm_prog_1, pm_ob_some, Nat.reduceDiv, Nat.reduceMod, Nat.reduceMul, Nat.reduceAdd, Int.reduceToNat, pm_kill_i, pm_kill_r, pm_kill_n, pm_kill_j, pm_kill_l, pm_kill_d, pm_cats_nil, pm_cats_i, pm_cats_r, pm_cats_n, pm_cats_l, pm_cats_d, sz_1, sz_2, sl_1, sl_2, lc_0, lc_lt, lc_le, li_ne, va_rf, wr_m1, we_m1, pm_kill_w, Int32.reduceOfInt, Int64.reduceOfInt, Int32.reduceOfNat, Int32.reduceLT, Int32.reduceLE, Prod.mk.injEq, Nat.reduceEqDiff, reduceCtorEq, and_true, true_and, and_false, false_and, and_self, ite_true, ite_false, ↓reduceIte, not_true_eq_false, not_false_eq_true, pe_ri, pe_rz, pe_rc, p_throw, t1300, w_junk hA, Cv_g0_1 hP hA, Cv_g0_10 hP hA, Cv_g0_13 hP hA, Cv_g0_14 hP hA, Cv_g0_3 hP hA, Cv_g0_7 hP hA, Cv_p0_10 hP hA, eq_true k1, z2, z3, z4, z5, eq_true k6, hc]
    · rw [if_neg k6] at e
      obtain ⟨S9, k7, e⟩ := Option.bind_eq_some_iff.mp e
      try dsimp only at e
      have z7 := x1302 (D := D) (h := h) hP hA (by omega) k7
      have e := Option.some.inj e; subst e
      dsimp only [Sum.elim_inl, go1300_3] at hc
      simp -implicitDefEqProofs (disch := first | assumption | exact Nat.le_of_ble_eq_true rfl | decide) only [b1300_0, g1300_1, b1300_1, g1300_4, b1300_4, g1300_5, b1300_5, g1300_6, b1300_6, pe_iload1, pe_sipush, pe_call3, pm_af_ret, pm_af_void, pm_af_thr, pe_call1, pe_aload0, pe_getfield, pe_if_eq, pe_if_ne, pe_goto, pe_goto_w, pe_istore2, pe_istore3, pe_iload3, pe_icmp_ge, pe_istore4, pe_istore5, pe_iload4, pe_iload5, pe_istore6, pe_iload6, pe_putfield, pe_iinc2, pe_iinc3, pe_iload2, pe_aloadN0, pe_aastoreN, pe_areturnN, pe_null, pm_prog_1, pm_ob_some, Nat.reduceDiv, Nat.reduceMod, Nat.reduceMul, Nat.reduceAdd, Int.reduceToNat, pm_kill_i, pm_kill_r, pm_kill_n, pm_kill_j, pm_kill_l, pm_kill_d, pm_cats_nil, pm_cats_i, pm_cats_r, pm_cats_n, pm_cats_l, pm_cats_d, sz_1, sz_2, sl_1, sl_2, lc_0, lc_lt, lc_le, li_ne, va_rf, wr_m1, we_m1, pm_kill_w, Int32.reduceOfInt, Int64.reduceOfInt, Int32.reduceOfNat, Int32.reduceLT, Int32.reduceLE, Prod.mk.injEq, Nat.reduceEqDiff, reduceCtorEq, and_true, true_and, and_false, false_and, and_self, ite_true, ite_false, ↓reduceIte, not_true_eq_false, not_false_eq_true, pe_ri, pe_rz, pe_rc, p_throw, t1300, w_junk hA, Cv_g0_1 hP hA, Cv_g0_10 hP hA, Cv_g0_13 hP hA, Cv_g0_14 hP hA, Cv_g0_3 hP hA, Cv_g0_7 hP hA, Cv_p0_10 hP hA, eq_true k1, z2, z3, z4, z5, eq_false k6, z7, hc]
  · rw [if_neg k1] at e
    have e := Option.some.inj e; subst e
    dsimp only [Sum.elim_inr, ex1300_3] at hc
    simp -implicitDefEqProofs (disch := first | assumption | exact Nat.le_of_ble_eq_true rfl | decide) only [b1300_0, g1300_1, b1300_1, g1300_4, b1300_4, g1300_5, b1300_5, g1300_6, b1300_6, pe_iload1, pe_sipush, pe_call3, pm_af_ret, pm_af_void, pm_af_thr, pe_call1, pe_aload0, pe_getfield, pe_if_eq, pe_if_ne, pe_goto, pe_goto_w, pe_istore2, pe_istore3, pe_iload3, pe_icmp_ge, pe_istore4, pe_istore5, pe_iload4, pe_iload5, pe_istore6, pe_iload6, pe_putfield, pe_iinc2, pe_iinc3, pe_iload2, pe_aloadN0, pe_aastoreN, pe_areturnN, pe_null, pm_prog_1, pm_ob_some, Nat.reduceDiv, Nat.reduceMod, Nat.reduceMul, Nat.reduceAdd, Int.reduceToNat, pm_kill_i, pm_kill_r, pm_kill_n, pm_kill_j, pm_kill_l, pm_kill_d, pm_cats_nil, pm_cats_i, pm_cats_r, pm_cats_n, pm_cats_l, pm_cats_d, sz_1, sz_2, sl_1, sl_2, lc_0, lc_lt, lc_le, li_ne, va_rf, wr_m1, we_m1, pm_kill_w, Int32.reduceOfInt, Int64.reduceOfInt, Int32.reduceOfNat, Int32.reduceLT, Int32.reduceLE, Prod.mk.injEq, Nat.reduceEqDiff, reduceCtorEq, and_true, true_and, and_false, false_and, and_self, ite_true, ite_false, ↓reduceIte, not_true_eq_false, not_false_eq_true, pe_ri, pe_rz, pe_rc, p_throw, t1300, w_junk hA, Cv_g0_1 hP hA, Cv_g0_10 hP hA, Cv_g0_13 hP hA, Cv_g0_14 hP hA, Cv_g0_3 hP hA, Cv_g0_7 hP hA, Cv_p0_10 hP hA, eq_false k1, hc]
theorem z1300_3 {mc : Int32} {jc : Int32} {tc : Int32} {ma : Int32} {ja : Int32} {ta : Int32} {oc : Int32 → Int32} {oa : Int32 → Int32} {qa : Int32 → Int32} {A : wK → Nat} {h : pm_H} {D : Nat} {R : Outcome × pm_H} (hP : Cv_P mc jc tc ma ja ta oc oa qa) (hA : wok A (Cv_d mc jc tc ma ja ta oc oa qa) h.1) (hD : 8 ≤ D) {n : Nat} {a : Int32 × Int32 × Int32 × wS} {b : (Int32 × wS)} (e : lp (f1300_b3 mc jc tc ma ja ta oc oa qa) n a = some b) (hx : ex1300_3 mc jc tc ma ja ta oc oa qa A h D R b) : go1300_3 mc jc tc ma ja ta oc oa qa A h D R a := lp_run (fun a r => y1300_b3 hP hA hD a r) n a b e hx
theorem y1300_2 {mc : Int32} {jc : Int32} {tc : Int32} {ma : Int32} {ja : Int32} {ta : Int32} {oc : Int32 → Int32} {oa : Int32 → Int32} {qa : Int32 → Int32} {A : wK → Nat} {h : pm_H} {D : Nat} {S : wS} {x1 : Int32} {y0 : Int32} {r : (Nat × wS) ⊕ (Int32 × wS)} (hP : Cv_P mc jc tc ma ja ta oc oa qa) (hA : wok A (Cv_d mc jc tc ma ja ta oc oa qa) h.1) (hD : 8 ≤ D) (e : f1300_2 mc jc tc ma ja ta oc oa qa S x1 y0 = some r) : ∀ q2 q3 q4 q5 q6 : Value, pm_go pm_prog (pm_call pm_prog D) 1300 2 [.ref (A (0, 0, 0)), .int x1, q2, q3, q4, q5, q6] [.int y0] (wput A (Cv_d mc jc tc ma ja ta oc oa qa) S h) = some (match (generalizing := false) r with | .inl (c, S1) => (Outcome.threw c, (wput A (Cv_d mc jc tc ma ja ta oc oa qa) S1 (pm_new h 6 (.inr (c, []))))) | .inr (w0, S1) => (Outcome.returned (some (.int w0)), (wput A (Cv_d mc jc tc ma ja ta oc oa qa) S1 h))) := by
  intro q2 q3 q4 q5 q6
  simp only [f1300_2] at e
  rw [g1300_2, b1300_2]
  obtain ⟨r, k1, e⟩ := Option.bind_eq_some_iff.mp e
  have z1 := fun h => x1285 (D := D) (h := h) (by omega) k1
  rcases r with c14 | _
  · dsimp only at e z1
    have e := Option.some.inj e; subst e
    simp -implicitDefEqProofs (disch := first | assumption | exact Nat.le_of_ble_eq_true rfl | decide) only [b1300_0, g1300_1, b1300_1, g1300_4, b1300_4, g1300_5, b1300_5, g1300_6, b1300_6, pe_iload1, pe_sipush, pe_call3, pm_af_ret, pm_af_void, pm_af_thr, pe_call1, pe_aload0, pe_getfield, pe_if_eq, pe_if_ne, pe_goto, pe_goto_w, pe_istore2, pe_istore3, pe_iload3, pe_icmp_ge, pe_istore4, pe_istore5, pe_iload4, pe_iload5, pe_istore6, pe_iload6, pe_putfield, pe_iinc2, pe_iinc3, pe_iload2, pe_aloadN0, pe_aastoreN, pe_areturnN, pe_null, pm_prog_1, pm_ob_some, Nat.reduceDiv, Nat.reduceMod, Nat.reduceMul, Nat.reduceAdd, Int.reduceToNat, pm_kill_i, pm_kill_r, pm_kill_n, pm_kill_j, pm_kill_l, pm_kill_d, pm_cats_nil, pm_cats_i, pm_cats_r, pm_cats_n, pm_cats_l, pm_cats_d, sz_1, sz_2, sl_1, sl_2, lc_0, lc_lt, lc_le, li_ne, va_rf, wr_m1, we_m1, pm_kill_w, Int32.reduceOfInt, Int64.reduceOfInt, Int32.reduceOfNat, Int32.reduceLT, Int32.reduceLE, Prod.mk.injEq, Nat.reduceEqDiff, reduceCtorEq, and_true, true_and, and_false, false_and, and_self, ite_true, ite_false, ↓reduceIte, not_true_eq_false, not_false_eq_true, pe_ri, pe_rz, pe_rc, p_throw, t1300, w_junk hA, Cv_g0_1 hP hA, Cv_g0_10 hP hA, Cv_g0_13 hP hA, Cv_g0_14 hP hA, Cv_g0_3 hP hA, Cv_g0_7 hP hA, Cv_p0_10 hP hA, z1]
  · dsimp only at e z1
    obtain ⟨⟨v12, S10⟩, k2, e⟩ := Option.bind_eq_some_iff.mp e
    try dsimp only at e
    try simp -implicitDefEqProofs (disch := first | assumption | exact Nat.le_of_ble_eq_true rfl | decide) only [b1300_0, g1300_1, b1300_1, g1300_4, b1300_4, g1300_5, b1300_5, g1300_6, b1300_6, pe_iload1, pe_sipush, pe_call3, pm_af_ret, pm_af_void, pm_af_thr, pe_call1, pe_aload0, pe_getfield, pe_if_eq, pe_if_ne, pe_goto, pe_goto_w, pe_istore2, pe_istore3, pe_iload3, pe_icmp_ge, pe_istore4, pe_istore5, pe_iload4, pe_iload5, pe_istore6, pe_iload6, pe_putfield, pe_iinc2, pe_iinc3, pe_iload2, pe_aloadN0, pe_aastoreN, pe_areturnN, pe_null, pm_prog_1, pm_ob_some, Nat.reduceDiv, Nat.reduceMod, Nat.reduceMul, Nat.reduceAdd, Int.reduceToNat, pm_kill_i, pm_kill_r, pm_kill_n, pm_kill_j, pm_kill_l, pm_kill_d, pm_cats_nil, pm_cats_i, pm_cats_r, pm_cats_n, pm_cats_l, pm_cats_d, sz_1, sz_2, sl_1, sl_2, lc_0, lc_lt, lc_le, li_ne, va_rf, wr_m1, we_m1, pm_kill_w, Int32.reduceOfInt, Int64.reduceOfInt, Int32.reduceOfNat, Int32.reduceLT, Int32.reduceLE, Prod.mk.injEq, Nat.reduceEqDiff, reduceCtorEq, and_true, true_and, and_false, false_and, and_self, ite_true, ite_false, ↓reduceIte, not_true_eq_false, not_false_eq_true, pe_ri, pe_rz, pe_rc, p_throw, t1300, w_junk hA, Cv_g0_1 hP hA, Cv_g0_10 hP hA, Cv_g0_13 hP hA, Cv_g0_14 hP hA, Cv_g0_3 hP hA, Cv_g0_7 hP hA, Cv_p0_10 hP hA, z1]
    refine z1300_3 hP hA hD k2 ?_ _ _ _
    dsimp only [ex1300_3]
    intro q1 q3 q4 q5 q6
    obtain ⟨S13, k3, e⟩ := Option.bind_eq_some_iff.mp e
    try dsimp only at e
    have z3 := x1299 (D := D) (h := h) hP hA (by omega) k3
    have e := Option.some.inj e; subst e
    simp -implicitDefEqProofs (disch := first | assumption | exact Nat.le_of_ble_eq_true rfl | decide) only [b1300_0, g1300_1, b1300_1, g1300_4, b1300_4, g1300_5, b1300_5, g1300_6, b1300_6, pe_iload1, pe_sipush, pe_call3, pm_af_ret, pm_af_void, pm_af_thr, pe_call1, pe_aload0, pe_getfield, pe_if_eq, pe_if_ne, pe_goto, pe_goto_w, pe_istore2, pe_istore3, pe_iload3, pe_icmp_ge, pe_istore4, pe_istore5, pe_iload4, pe_iload5, pe_istore6, pe_iload6, pe_putfield, pe_iinc2, pe_iinc3, pe_iload2, pe_aloadN0, pe_aastoreN, pe_areturnN, pe_null, pm_prog_1, pm_ob_some, Nat.reduceDiv, Nat.reduceMod, Nat.reduceMul, Nat.reduceAdd, Int.reduceToNat, pm_kill_i, pm_kill_r, pm_kill_n, pm_kill_j, pm_kill_l, pm_kill_d, pm_cats_nil, pm_cats_i, pm_cats_r, pm_cats_n, pm_cats_l, pm_cats_d, sz_1, sz_2, sl_1, sl_2, lc_0, lc_lt, lc_le, li_ne, va_rf, wr_m1, we_m1, pm_kill_w, Int32.reduceOfInt, Int64.reduceOfInt, Int32.reduceOfNat, Int32.reduceLT, Int32.reduceLE, Prod.mk.injEq, Nat.reduceEqDiff, reduceCtorEq, and_true, true_and, and_false, false_and, and_self, ite_true, ite_false, ↓reduceIte, not_true_eq_false, not_false_eq_true, pe_ri, pe_rz, pe_rc, p_throw, t1300, w_junk hA, Cv_g0_1 hP hA, Cv_g0_10 hP hA, Cv_g0_13 hP hA, Cv_g0_14 hP hA, Cv_g0_3 hP hA, Cv_g0_7 hP hA, Cv_p0_10 hP hA, z1, z3]
theorem x1300 {mc : Int32} {jc : Int32} {tc : Int32} {ma : Int32} {ja : Int32} {ta : Int32} {oc : Int32 → Int32} {oa : Int32 → Int32} {qa : Int32 → Int32} {A : wK → Nat} {h : pm_H} {D : Nat} {S : wS} {x1 : Int32} {r : (Nat × wS) ⊕ (Int32 × wS)} (hP : Cv_P mc jc tc ma ja ta oc oa qa) (hA : wok A (Cv_d mc jc tc ma ja ta oc oa qa) h.1) (hD : 9 ≤ D) (e : f1300 mc jc tc ma ja ta oc oa qa S x1 = some r) : pm_call pm_prog D 1300 [.ref (A (0, 0, 0)), .int x1] (wput A (Cv_d mc jc tc ma ja ta oc oa qa) S h) = some (match (generalizing := false) r with | .inl (c, S1) => (Outcome.threw c, (wput A (Cv_d mc jc tc ma ja ta oc oa qa) S1 (pm_new h 6 (.inr (c, []))))) | .inr (w0, S1) => (Outcome.returned (some (.int w0)), (wput A (Cv_d mc jc tc ma ja ta oc oa qa) S1 h))) := by
  obtain ⟨D, rfl⟩ : ∃ D', D = D' + 1 := ⟨D - 1, by omega⟩
  have hD : 8 ≤ D := by omega
  simp only [f1300] at e
  rw [c1300 (Cv_c0 hP hA), b1300_0]
  obtain ⟨v1, k1, e⟩ := Option.bind_eq_some_iff.mp e
  try dsimp only at e
  have z1 := fun h => x1283 (D := D) (h := h) (by omega) k1
  obtain ⟨r, k2, e⟩ := Option.bind_eq_some_iff.mp e
  have z2 := fun h => x1284 (D := D) (h := h) (by omega) k2
  rcases r with c15 | _
  · dsimp only at e z2
    have e := Option.some.inj e; subst e
    simp -implicitDefEqProofs (disch := first | assumption | exact Nat.le_of_ble_eq_true rfl | decide) only [b1300_0, g1300_1, b1300_1, g1300_4, b1300_4, g1300_5, b1300_5, g1300_6, b1300_6, pe_iload1, pe_sipush, pe_call3, pm_af_ret, pm_af_void, pm_af_thr, pe_call1, pe_aload0, pe_getfield, pe_if_eq, pe_if_ne, pe_goto, pe_goto_w, pe_istore2, pe_istore3, pe_iload3, pe_icmp_ge, pe_istore4, pe_istore5, pe_iload4, pe_iload5, pe_istore6, pe_iload6, pe_putfield, pe_iinc2, pe_iinc3, pe_iload2, pe_aloadN0, pe_aastoreN, pe_areturnN, pe_null, pm_prog_1, pm_ob_some, Nat.reduceDiv, Nat.reduceMod, Nat.reduceMul, Nat.reduceAdd, Int.reduceToNat, pm_kill_i, pm_kill_r, pm_kill_n, pm_kill_j, pm_kill_l, pm_kill_d, pm_cats_nil, pm_cats_i, pm_cats_r, pm_cats_n, pm_cats_l, pm_cats_d, sz_1, sz_2, sl_1, sl_2, lc_0, lc_lt, lc_le, li_ne, va_rf, wr_m1, we_m1, pm_kill_w, Int32.reduceOfInt, Int64.reduceOfInt, Int32.reduceOfNat, Int32.reduceLT, Int32.reduceLE, Prod.mk.injEq, Nat.reduceEqDiff, reduceCtorEq, and_true, true_and, and_false, false_and, and_self, ite_true, ite_false, ↓reduceIte, not_true_eq_false, not_false_eq_true, pe_ri, pe_rz, pe_rc, p_throw, t1300, w_junk hA, Cv_g0_1 hP hA, Cv_g0_10 hP hA, Cv_g0_13 hP hA, Cv_g0_14 hP hA, Cv_g0_3 hP hA, Cv_g0_7 hP hA, Cv_p0_10 hP hA, z1, z2]
  · dsimp only at e z2
    by_cases k3 : (S.1 (0, 0, 0) 13) = 0
    · rw [if_pos k3] at e
      have k4 := y1300_2 (h := h) hP hA hD e
      simp -implicitDefEqProofs (disch := first | assumption | exact Nat.le_of_ble_eq_true rfl | decide) only [b1300_0, g1300_1, b1300_1, g1300_4, b1300_4, g1300_5, b1300_5, g1300_6, b1300_6, pe_iload1, pe_sipush, pe_call3, pm_af_ret, pm_af_void, pm_af_thr, pe_call1, pe_aload0, pe_getfield, pe_if_eq, pe_if_ne, pe_goto, pe_goto_w, pe_istore2, pe_istore3, pe_iload3, pe_icmp_ge, pe_istore4, pe_istore5, pe_iload4, pe_iload5, pe_istore6, pe_iload6, pe_putfield, pe_iinc2, pe_iinc3, pe_iload2, pe_aloadN0, pe_aastoreN, pe_areturnN, pe_null, pm_prog_1, pm_ob_some, Nat.reduceDiv, Nat.reduceMod, Nat.reduceMul, Nat.reduceAdd, Int.reduceToNat, pm_kill_i, pm_kill_r, pm_kill_n, pm_kill_j, pm_kill_l, pm_kill_d, pm_cats_nil, pm_cats_i, pm_cats_r, pm_cats_n, pm_cats_l, pm_cats_d, sz_1, sz_2, sl_1, sl_2, lc_0, lc_lt, lc_le, li_ne, va_rf, wr_m1, we_m1, pm_kill_w, Int32.reduceOfInt, Int64.reduceOfInt, Int32.reduceOfNat, Int32.reduceLT, Int32.reduceLE, Prod.mk.injEq, Nat.reduceEqDiff, reduceCtorEq, and_true, true_and, and_false, false_and, and_self, ite_true, ite_false, ↓reduceIte, not_true_eq_false, not_false_eq_true, pe_ri, pe_rz, pe_rc, p_throw, t1300, w_junk hA, Cv_g0_1 hP hA, Cv_g0_10 hP hA, Cv_g0_13 hP hA, Cv_g0_14 hP hA, Cv_g0_3 hP hA, Cv_g0_7 hP hA, Cv_p0_10 hP hA, z1, z2, eq_true k3, k4]
    · rw [if_neg k3] at e
      by_cases k5 : (S.1 (0, 0, 0) 14) = 0
      · rw [if_pos k5] at e
        have k6 := y1300_2 (h := h) hP hA hD e
        simp -implicitDefEqProofs (disch := first | assumption | exact Nat.le_of_ble_eq_true rfl | decide) only [b1300_0, g1300_1, b1300_1, g1300_4, b1300_4, g1300_5, b1300_5, g1300_6, b1300_6, pe_iload1, pe_sipush, pe_call3, pm_af_ret, pm_af_void, pm_af_thr, pe_call1, pe_aload0, pe_getfield, pe_if_eq, pe_if_ne, pe_goto, pe_goto_w, pe_istore2, pe_istore3, pe_iload3, pe_icmp_ge, pe_istore4, pe_istore5, pe_iload4, pe_iload5, pe_istore6, pe_iload6, pe_putfield, pe_iinc2, pe_iinc3, pe_iload2, pe_aloadN0, pe_aastoreN, pe_areturnN, pe_null, pm_prog_1, pm_ob_some, Nat.reduceDiv, Nat.reduceMod, Nat.reduceMul, Nat.reduceAdd, Int.reduceToNat, pm_kill_i, pm_kill_r, pm_kill_n, pm_kill_j, pm_kill_l, pm_kill_d, pm_cats_nil, pm_cats_i, pm_cats_r, pm_cats_n, pm_cats_l, pm_cats_d, sz_1, sz_2, sl_1, sl_2, lc_0, lc_lt, lc_le, li_ne, va_rf, wr_m1, we_m1, pm_kill_w, Int32.reduceOfInt, Int64.reduceOfInt, Int32.reduceOfNat, Int32.reduceLT, Int32.reduceLE, Prod.mk.injEq, Nat.reduceEqDiff, reduceCtorEq, and_true, true_and, and_false, false_and, and_self, ite_true, ite_false, ↓reduceIte, not_true_eq_false, not_false_eq_true, pe_ri, pe_rz, pe_rc, p_throw, t1300, w_junk hA, Cv_g0_1 hP hA, Cv_g0_10 hP hA, Cv_g0_13 hP hA, Cv_g0_14 hP hA, Cv_g0_3 hP hA, Cv_g0_7 hP hA, Cv_p0_10 hP hA, z1, z2, eq_false k3, eq_true k5, k6]
      · rw [if_neg k5] at e
        have k7 := y1300_2 (h := h) hP hA hD e
        simp -implicitDefEqProofs (disch := first | assumption | exact Nat.le_of_ble_eq_true rfl | decide) only [b1300_0, g1300_1, b1300_1, g1300_4, b1300_4, g1300_5, b1300_5, g1300_6, b1300_6, pe_iload1, pe_sipush, pe_call3, pm_af_ret, pm_af_void, pm_af_thr, pe_call1, pe_aload0, pe_getfield, pe_if_eq, pe_if_ne, pe_goto, pe_goto_w, pe_istore2, pe_istore3, pe_iload3, pe_icmp_ge, pe_istore4, pe_istore5, pe_iload4, pe_iload5, pe_istore6, pe_iload6, pe_putfield, pe_iinc2, pe_iinc3, pe_iload2, pe_aloadN0, pe_aastoreN, pe_areturnN, pe_null, pm_prog_1, pm_ob_some, Nat.reduceDiv, Nat.reduceMod, Nat.reduceMul, Nat.reduceAdd, Int.reduceToNat, pm_kill_i, pm_kill_r, pm_kill_n, pm_kill_j, pm_kill_l, pm_kill_d, pm_cats_nil, pm_cats_i, pm_cats_r, pm_cats_n, pm_cats_l, pm_cats_d, sz_1, sz_2, sl_1, sl_2, lc_0, lc_lt, lc_le, li_ne, va_rf, wr_m1, we_m1, pm_kill_w, Int32.reduceOfInt, Int64.reduceOfInt, Int32.reduceOfNat, Int32.reduceLT, Int32.reduceLE, Prod.mk.injEq, Nat.reduceEqDiff, reduceCtorEq, and_true, true_and, and_false, false_and, and_self, ite_true, ite_false, ↓reduceIte, not_true_eq_false, not_false_eq_true, pe_ri, pe_rz, pe_rc, p_throw, t1300, w_junk hA, Cv_g0_1 hP hA, Cv_g0_10 hP hA, Cv_g0_13 hP hA, Cv_g0_14 hP hA, Cv_g0_3 hP hA, Cv_g0_7 hP hA, Cv_p0_10 hP hA, z1, z2, eq_false k3, eq_false k5, k7]
/-- TimberHouse$WorkPlans.at(II)I -/
theorem c1303 {d : Nat} {h : pm_H} {a : Nat} {x0 : Int32} {x1 : Int32} (hc : pm_cls h a = some 20) : pm_call pm_prog (d + 1) 1303 [.ref a, .int x0, .int x1] h = pm_ev pm_prog (pm_call pm_prog d) 1303 0 b1303_0 [.ref a, .int x0, .int x1] [] h := pm_cal (pm_rc1 hc rfl) rfl rfl rfl
theorem g1303_1 {cl : pm_C} {ls st : List Value} {h : pm_H} : pm_go pm_prog cl 1303 1 ls st h = pm_ev pm_prog cl 1303 1 b1303_1 ls st h := pm_go_eq pm_prog cl 1303 1 ls st h
theorem g1303_2 {cl : pm_C} {ls st : List Value} {h : pm_H} : pm_go pm_prog cl 1303 2 ls st h = pm_ev pm_prog cl 1303 2 b1303_2 ls st h := pm_go_eq pm_prog cl 1303 2 ls st h
theorem g1303_3 {cl : pm_C} {ls st : List Value} {h : pm_H} : pm_go pm_prog cl 1303 3 ls st h = pm_ev pm_prog cl 1303 3 b1303_3 ls st h := pm_go_eq pm_prog cl 1303 3 ls st h
theorem t1303 {cl : pm_C} {j : Nat} {ls : List Value} {c : Nat} {h : pm_H} : pm_thr pm_prog cl 1303 j ls c h = some (.threw c, h) := rfl
/-- TimberHouse$WorkPlans.at(II)I -/
noncomputable def f1303 (mc : Int32) (jc : Int32) (tc : Int32) (ma : Int32) (ja : Int32) (ta : Int32) (oc : Int32 → Int32) (oa : Int32 → Int32) (qa : Int32 → Int32) (S : wS) (x1 : Int32) (x2 : Int32) : Option (Nat ⊕ (Int32)) :=
  (f4033vv4 mc jc tc ma ja ta oc oa qa S).bind fun v1 =>
  (f1282 x1 v1).bind fun r => match r with
  | .inl c4 =>
    some (.inl c4)
  | .inr _ =>
  (f1282 x2 2).bind fun r => match r with
  | .inl c3 =>
    some (.inl c3)
  | .inr _ =>
  (f1285 (S.1 (0, 0, 0) 13)).bind fun r => match r with
  | .inl c2 =>
    some (.inl c2)
  | .inr _ =>
  if 0 ≤ x1 ∧ x1 < 24 then
    if (S.1 (20, 1, 0) x1) = (-1) then
      some (.inr (-1))
    else
      if x2 = 0 then
        some (.inr (S.1 (19, 1, 0) x1))
      else
        some (.inr (S.1 (20, 1, 0) x1))
  else none
theorem x1303 {mc : Int32} {jc : Int32} {tc : Int32} {ma : Int32} {ja : Int32} {ta : Int32} {oc : Int32 → Int32} {oa : Int32 → Int32} {qa : Int32 → Int32} {A : wK → Nat} {h : pm_H} {D : Nat} {S : wS} {x1 : Int32} {x2 : Int32} {r : Nat ⊕ (Int32)} (hP : Cv_P mc jc tc ma ja ta oc oa qa) (hA : wok A (Cv_d mc jc tc ma ja ta oc oa qa) h.1) (hD : 2 ≤ D) (e : f1303 mc jc tc ma ja ta oc oa qa S x1 x2 = some r) : pm_call pm_prog D 1303 [.ref (A (0, 0, 0)), .int x1, .int x2] (wput A (Cv_d mc jc tc ma ja ta oc oa qa) S h) = some (match (generalizing := false) r with | .inl c => (Outcome.threw c, (wput A (Cv_d mc jc tc ma ja ta oc oa qa) S (pm_new h 6 (.inr (c, []))))) | .inr w0 => (Outcome.returned (some (.int w0)), (wput A (Cv_d mc jc tc ma ja ta oc oa qa) S h))) := by
  obtain ⟨D, rfl⟩ : ∃ D', D = D' + 1 := ⟨D - 1, by omega⟩
  have hD : 1 ≤ D := by omega
  simp only [f1303] at e
  rw [c1303 (Cv_c0 hP hA), b1303_0]
  obtain ⟨v1, k1, e⟩ := Option.bind_eq_some_iff.mp e
  try dsimp only at e
  have z1 := x4033vv4 (D := D) (h := h) hP hA (by omega) k1
  obtain ⟨r, k2, e⟩ := Option.bind_eq_some_iff.mp e
  have z2 := fun h => x1282 (D := D) (h := h) (by omega) k2
  rcases r with c4 | _
  · dsimp only at e z2
    have e := Option.some.inj e; subst e
    simp -implicitDefEqProofs (disch := first | assumption | exact Nat.le_of_ble_eq_true rfl | decide) only [b1303_0, g1303_1, b1303_1, g1303_2, b1303_2, g1303_3, b1303_3, pe_iload1, pe_aload0, pe_getfield, pe_call1, pm_af_ret, pm_af_void, pm_af_thr, pe_call2, pe_iload2, pe_sipush, pe_iaload, pe_icmp_ne, pe_goto, pe_if_ne, pe_goto_w, pe_aloadN0, pe_aastoreN, pe_areturnN, pe_null, pm_prog_1, pm_ob_some, Nat.reduceDiv, Nat.reduceMod, Nat.reduceMul, Nat.reduceAdd, Int.reduceToNat, pm_kill_i, pm_kill_r, pm_kill_n, pm_kill_j, pm_kill_l, pm_kill_d, pm_cats_nil, pm_cats_i, pm_cats_r, pm_cats_n, pm_cats_l, pm_cats_d, sz_1, sz_2, sl_1, sl_2, lc_0, lc_lt, lc_le, li_ne, va_rf, wr_m1, we_m1, pm_kill_w, Int32.reduceOfInt, Int64.reduceOfInt, Int32.reduceOfNat, Int32.reduceLT, Int32.reduceLE, Prod.mk.injEq, Nat.reduceEqDiff, reduceCtorEq, and_true, true_and, and_false, false_and, and_self, ite_true, ite_false, ↓reduceIte, not_true_eq_false, not_false_eq_true, pe_ri, pe_rz, pe_rc, p_throw, t1303, w_junk hA, Cv_g0_13 hP hA, Cv_g0_2 hP hA, Cv_g0_4 hP hA, Cv_g7_2 hP hA, Cv_g7_3 hP hA, Cv_r19 hP hA, Cv_r20 hP hA, z1, z2]
  · dsimp only at e z2
    obtain ⟨r, k3, e⟩ := Option.bind_eq_some_iff.mp e
    have z3 := fun h => x1282 (D := D) (h := h) (by omega) k3
    rcases r with c3 | _
    · dsimp only at e z3
      have e := Option.some.inj e; subst e
      simp -implicitDefEqProofs (disch := first | assumption | exact Nat.le_of_ble_eq_true rfl | decide) only [b1303_0, g1303_1, b1303_1, g1303_2, b1303_2, g1303_3, b1303_3, pe_iload1, pe_aload0, pe_getfield, pe_call1, pm_af_ret, pm_af_void, pm_af_thr, pe_call2, pe_iload2, pe_sipush, pe_iaload, pe_icmp_ne, pe_goto, pe_if_ne, pe_goto_w, pe_aloadN0, pe_aastoreN, pe_areturnN, pe_null, pm_prog_1, pm_ob_some, Nat.reduceDiv, Nat.reduceMod, Nat.reduceMul, Nat.reduceAdd, Int.reduceToNat, pm_kill_i, pm_kill_r, pm_kill_n, pm_kill_j, pm_kill_l, pm_kill_d, pm_cats_nil, pm_cats_i, pm_cats_r, pm_cats_n, pm_cats_l, pm_cats_d, sz_1, sz_2, sl_1, sl_2, lc_0, lc_lt, lc_le, li_ne, va_rf, wr_m1, we_m1, pm_kill_w, Int32.reduceOfInt, Int64.reduceOfInt, Int32.reduceOfNat, Int32.reduceLT, Int32.reduceLE, Prod.mk.injEq, Nat.reduceEqDiff, reduceCtorEq, and_true, true_and, and_false, false_and, and_self, ite_true, ite_false, ↓reduceIte, not_true_eq_false, not_false_eq_true, pe_ri, pe_rz, pe_rc, p_throw, t1303, w_junk hA, Cv_g0_13 hP hA, Cv_g0_2 hP hA, Cv_g0_4 hP hA, Cv_g7_2 hP hA, Cv_g7_3 hP hA, Cv_r19 hP hA, Cv_r20 hP hA, z1, z2, z3]
    · dsimp only at e z3
      obtain ⟨r, k4, e⟩ := Option.bind_eq_some_iff.mp e
      have z4 := fun h => x1285 (D := D) (h := h) (by omega) k4
      rcases r with c2 | _
      · dsimp only at e z4
        have e := Option.some.inj e; subst e
        simp -implicitDefEqProofs (disch := first | assumption | exact Nat.le_of_ble_eq_true rfl | decide) only [b1303_0, g1303_1, b1303_1, g1303_2, b1303_2, g1303_3, b1303_3, pe_iload1, pe_aload0, pe_getfield, pe_call1, pm_af_ret, pm_af_void, pm_af_thr, pe_call2, pe_iload2, pe_sipush, pe_iaload, pe_icmp_ne, pe_goto, pe_if_ne, pe_goto_w, pe_aloadN0, pe_aastoreN, pe_areturnN, pe_null, pm_prog_1, pm_ob_some, Nat.reduceDiv, Nat.reduceMod, Nat.reduceMul, Nat.reduceAdd, Int.reduceToNat, pm_kill_i, pm_kill_r, pm_kill_n, pm_kill_j, pm_kill_l, pm_kill_d, pm_cats_nil, pm_cats_i, pm_cats_r, pm_cats_n, pm_cats_l, pm_cats_d, sz_1, sz_2, sl_1, sl_2, lc_0, lc_lt, lc_le, li_ne, va_rf, wr_m1, we_m1, pm_kill_w, Int32.reduceOfInt, Int64.reduceOfInt, Int32.reduceOfNat, Int32.reduceLT, Int32.reduceLE, Prod.mk.injEq, Nat.reduceEqDiff, reduceCtorEq, and_true, true_and, and_false, false_and, and_self, ite_true, ite_false, ↓reduceIte, not_true_eq_false, not_false_eq_true, pe_ri, pe_rz, pe_rc, p_throw, t1303, w_junk hA, Cv_g0_13 hP hA, Cv_g0_2 hP hA, Cv_g0_4 hP hA, Cv_g7_2 hP hA, Cv_g7_3 hP hA, Cv_r19 hP hA, Cv_r20 hP hA, z1, z2, z3, z4]
      · dsimp only at e z4
        by_cases k5 : 0 ≤ x1 ∧ x1 < 24
        · rw [if_pos k5] at e
          by_cases k6 : (S.1 (20, 1, 0) x1) = (-1)
          · rw [if_pos k6] at e
            have e := Option.some.inj e; subst e
            simp -implicitDefEqProofs (disch := first | assumption | exact Nat.le_of_ble_eq_true rfl | decide) only [b1303_0, g1303_1, b1303_1, g1303_2, b1303_2, g1303_3, b1303_3, pe_iload1, pe_aload0, pe_getfield, pe_call1, pm_af_ret, pm_af_void, pm_af_thr, pe_call2, pe_iload2, pe_sipush, pe_iaload, pe_icmp_ne, pe_goto, pe_if_ne, pe_goto_w, pe_aloadN0, pe_aastoreN, pe_areturnN, pe_null, pm_prog_1, pm_ob_some, Nat.reduceDiv, Nat.reduceMod, Nat.reduceMul, Nat.reduceAdd, Int.reduceToNat, pm_kill_i, pm_kill_r, pm_kill_n, pm_kill_j, pm_kill_l, pm_kill_d, pm_cats_nil, pm_cats_i, pm_cats_r, pm_cats_n, pm_cats_l, pm_cats_d, sz_1, sz_2, sl_1, sl_2, lc_0, lc_lt, lc_le, li_ne, va_rf, wr_m1, we_m1, pm_kill_w, Int32.reduceOfInt, Int64.reduceOfInt, Int32.reduceOfNat, Int32.reduceLT, Int32.reduceLE, Prod.mk.injEq, Nat.reduceEqDiff, reduceCtorEq, and_true, true_and, and_false, false_and, and_self, ite_true, ite_false, ↓reduceIte, not_true_eq_false, not_false_eq_true, pe_ri, pe_rz, pe_rc, p_throw, t1303, w_junk hA, Cv_g0_13 hP hA, Cv_g0_2 hP hA, Cv_g0_4 hP hA, Cv_g7_2 hP hA, Cv_g7_3 hP hA, Cv_r19 hP hA, Cv_r20 hP hA, z1, z2, z3, z4, eq_true k6]
          · rw [if_neg k6] at e
            by_cases k7 : x2 = 0
            · rw [if_pos k7] at e
              have e := Option.some.inj e; subst e
              simp -implicitDefEqProofs (disch := first | assumption | exact Nat.le_of_ble_eq_true rfl | decide) only [b1303_0, g1303_1, b1303_1, g1303_2, b1303_2, g1303_3, b1303_3, pe_iload1, pe_aload0, pe_getfield, pe_call1, pm_af_ret, pm_af_void, pm_af_thr, pe_call2, pe_iload2, pe_sipush, pe_iaload, pe_icmp_ne, pe_goto, pe_if_ne, pe_goto_w, pe_aloadN0, pe_aastoreN, pe_areturnN, pe_null, pm_prog_1, pm_ob_some, Nat.reduceDiv, Nat.reduceMod, Nat.reduceMul, Nat.reduceAdd, Int.reduceToNat, pm_kill_i, pm_kill_r, pm_kill_n, pm_kill_j, pm_kill_l, pm_kill_d, pm_cats_nil, pm_cats_i, pm_cats_r, pm_cats_n, pm_cats_l, pm_cats_d, sz_1, sz_2, sl_1, sl_2, lc_0, lc_lt, lc_le, li_ne, va_rf, wr_m1, we_m1, pm_kill_w, Int32.reduceOfInt, Int64.reduceOfInt, Int32.reduceOfNat, Int32.reduceLT, Int32.reduceLE, Prod.mk.injEq, Nat.reduceEqDiff, reduceCtorEq, and_true, true_and, and_false, false_and, and_self, ite_true, ite_false, ↓reduceIte, not_true_eq_false, not_false_eq_true, pe_ri, pe_rz, pe_rc, p_throw, t1303, w_junk hA, Cv_g0_13 hP hA, Cv_g0_2 hP hA, Cv_g0_4 hP hA, Cv_g7_2 hP hA, Cv_g7_3 hP hA, Cv_r19 hP hA, Cv_r20 hP hA, z1, z2, z3, z4, eq_false k6, eq_true k7]
            · rw [if_neg k7] at e
              have e := Option.some.inj e; subst e
              simp -implicitDefEqProofs (disch := first | assumption | exact Nat.le_of_ble_eq_true rfl | decide) only [b1303_0, g1303_1, b1303_1, g1303_2, b1303_2, g1303_3, b1303_3, pe_iload1, pe_aload0, pe_getfield, pe_call1, pm_af_ret, pm_af_void, pm_af_thr, pe_call2, pe_iload2, pe_sipush, pe_iaload, pe_icmp_ne, pe_goto, pe_if_ne, pe_goto_w, pe_aloadN0, pe_aastoreN, pe_areturnN, pe_null, pm_prog_1, pm_ob_some, Nat.reduceDiv, Nat.reduceMod, Nat.reduceMul, Nat.reduceAdd, Int.reduceToNat, pm_kill_i, pm_kill_r, pm_kill_n, pm_kill_j, pm_kill_l, pm_kill_d, pm_cats_nil, pm_cats_i, pm_cats_r, pm_cats_n, pm_cats_l, pm_cats_d, sz_1, sz_2, sl_1, sl_2, lc_0, lc_lt, lc_le, li_ne, va_rf, wr_m1, we_m1, pm_kill_w, Int32.reduceOfInt, Int64.reduceOfInt, Int32.reduceOfNat, Int32.reduceLT, Int32.reduceLE, Prod.mk.injEq, Nat.reduceEqDiff, reduceCtorEq, and_true, true_and, and_false, false_and, and_self, ite_true, ite_false, ↓reduceIte, not_true_eq_false, not_false_eq_true, pe_ri, pe_rz, pe_rc, p_throw, t1303, w_junk hA, Cv_g0_13 hP hA, Cv_g0_2 hP hA, Cv_g0_4 hP hA, Cv_g7_2 hP hA, Cv_g7_3 hP hA, Cv_r19 hP hA, Cv_r20 hP hA, z1, z2, z3, z4, eq_false k6, eq_false k7]
        · rw [if_neg k5] at e; cases e
/-- TimberHouse$WorkPlans.order(I)I -/
theorem c1304 {d : Nat} {h : pm_H} {a : Nat} {x0 : Int32} (hc : pm_cls h a = some 20) : pm_call pm_prog (d + 1) 1304 [.ref a, .int x0] h = pm_ev pm_prog (pm_call pm_prog d) 1304 0 b1304_0 [.ref a, .int x0] [] h := pm_cal (pm_rc1 hc rfl) rfl rfl rfl
theorem t1304 {cl : pm_C} {j : Nat} {ls : List Value} {c : Nat} {h : pm_H} : pm_thr pm_prog cl 1304 j ls c h = some (.threw c, h) := rfl
/-- TimberHouse$WorkPlans.order(I)I -/
noncomputable def f1304 (mc : Int32) (jc : Int32) (tc : Int32) (ma : Int32) (ja : Int32) (ta : Int32) (oc : Int32 → Int32) (oa : Int32 → Int32) (qa : Int32 → Int32) (S : wS) (x1 : Int32) : Option (Nat ⊕ (Int32)) :=
  (f1285 (S.1 (0, 0, 0) 13)).bind fun r => match r with
  | .inl c2 =>
    some (.inl c2)
  | .inr _ =>
  (f1282 x1 (S.1 (0, 0, 0) 9)).bind fun r => match r with
  | .inl c1 =>
    some (.inl c1)
  | .inr _ =>
  if 0 ≤ x1 ∧ x1 < 6 then
    some (.inr (S.1 (9, 0, 0) x1))
  else none
theorem x1304 {mc : Int32} {jc : Int32} {tc : Int32} {ma : Int32} {ja : Int32} {ta : Int32} {oc : Int32 → Int32} {oa : Int32 → Int32} {qa : Int32 → Int32} {A : wK → Nat} {h : pm_H} {D : Nat} {S : wS} {x1 : Int32} {r : Nat ⊕ (Int32)} (hP : Cv_P mc jc tc ma ja ta oc oa qa) (hA : wok A (Cv_d mc jc tc ma ja ta oc oa qa) h.1) (hD : 2 ≤ D) (e : f1304 mc jc tc ma ja ta oc oa qa S x1 = some r) : pm_call pm_prog D 1304 [.ref (A (0, 0, 0)), .int x1] (wput A (Cv_d mc jc tc ma ja ta oc oa qa) S h) = some (match (generalizing := false) r with | .inl c => (Outcome.threw c, (wput A (Cv_d mc jc tc ma ja ta oc oa qa) S (pm_new h 6 (.inr (c, []))))) | .inr w0 => (Outcome.returned (some (.int w0)), (wput A (Cv_d mc jc tc ma ja ta oc oa qa) S h))) := by
  obtain ⟨D, rfl⟩ : ∃ D', D = D' + 1 := ⟨D - 1, by omega⟩
  have hD : 1 ≤ D := by omega
  simp only [f1304] at e
  rw [c1304 (Cv_c0 hP hA), b1304_0]
  obtain ⟨r, k1, e⟩ := Option.bind_eq_some_iff.mp e
  have z1 := fun h => x1285 (D := D) (h := h) (by omega) k1
  rcases r with c2 | _
  · dsimp only at e z1
    have e := Option.some.inj e; subst e
    simp -implicitDefEqProofs (disch := first | assumption | exact Nat.le_of_ble_eq_true rfl | decide) only [b1304_0, pe_aload0, pe_getfield, pe_call1, pm_af_ret, pm_af_void, pm_af_thr, pe_iload1, pe_call2, pe_iaload, pe_aloadN0, pe_aastoreN, pe_areturnN, pe_null, pm_prog_1, pm_ob_some, Nat.reduceDiv, Nat.reduceMod, Nat.reduceMul, Nat.reduceAdd, Int.reduceToNat, pm_kill_i, pm_kill_r, pm_kill_n, pm_kill_j, pm_kill_l, pm_kill_d, pm_cats_nil, pm_cats_i, pm_cats_r, pm_cats_n, pm_cats_l, pm_cats_d, sz_1, sz_2, sl_1, sl_2, lc_0, lc_lt, lc_le, li_ne, va_rf, wr_m1, we_m1, pm_kill_w, Int32.reduceOfInt, Int64.reduceOfInt, Int32.reduceOfNat, Int32.reduceLT, Int32.reduceLE, Prod.mk.injEq, Nat.reduceEqDiff, reduceCtorEq, and_true, true_and, and_false, false_and, and_self, ite_true, ite_false, ↓reduceIte, not_true_eq_false, not_false_eq_true, pe_ri, pe_rz, pe_rc, p_throw, t1304, w_junk hA, Cv_g0_13 hP hA, Cv_g0_7 hP hA, Cv_g0_9 hP hA, Cv_r9 hP hA, z1]
  · dsimp only at e z1
    obtain ⟨r, k2, e⟩ := Option.bind_eq_some_iff.mp e
    have z2 := fun h => x1282 (D := D) (h := h) (by omega) k2
    rcases r with c1 | _
    · dsimp only at e z2
      have e := Option.some.inj e; subst e
      simp -implicitDefEqProofs (disch := first | assumption | exact Nat.le_of_ble_eq_true rfl | decide) only [b1304_0, pe_aload0, pe_getfield, pe_call1, pm_af_ret, pm_af_void, pm_af_thr, pe_iload1, pe_call2, pe_iaload, pe_aloadN0, pe_aastoreN, pe_areturnN, pe_null, pm_prog_1, pm_ob_some, Nat.reduceDiv, Nat.reduceMod, Nat.reduceMul, Nat.reduceAdd, Int.reduceToNat, pm_kill_i, pm_kill_r, pm_kill_n, pm_kill_j, pm_kill_l, pm_kill_d, pm_cats_nil, pm_cats_i, pm_cats_r, pm_cats_n, pm_cats_l, pm_cats_d, sz_1, sz_2, sl_1, sl_2, lc_0, lc_lt, lc_le, li_ne, va_rf, wr_m1, we_m1, pm_kill_w, Int32.reduceOfInt, Int64.reduceOfInt, Int32.reduceOfNat, Int32.reduceLT, Int32.reduceLE, Prod.mk.injEq, Nat.reduceEqDiff, reduceCtorEq, and_true, true_and, and_false, false_and, and_self, ite_true, ite_false, ↓reduceIte, not_true_eq_false, not_false_eq_true, pe_ri, pe_rz, pe_rc, p_throw, t1304, w_junk hA, Cv_g0_13 hP hA, Cv_g0_7 hP hA, Cv_g0_9 hP hA, Cv_r9 hP hA, z1, z2]
    · dsimp only at e z2
      by_cases k3 : 0 ≤ x1 ∧ x1 < 6
      · rw [if_pos k3] at e
        have e := Option.some.inj e; subst e
        simp -implicitDefEqProofs (disch := first | assumption | exact Nat.le_of_ble_eq_true rfl | decide) only [b1304_0, pe_aload0, pe_getfield, pe_call1, pm_af_ret, pm_af_void, pm_af_thr, pe_iload1, pe_call2, pe_iaload, pe_aloadN0, pe_aastoreN, pe_areturnN, pe_null, pm_prog_1, pm_ob_some, Nat.reduceDiv, Nat.reduceMod, Nat.reduceMul, Nat.reduceAdd, Int.reduceToNat, pm_kill_i, pm_kill_r, pm_kill_n, pm_kill_j, pm_kill_l, pm_kill_d, pm_cats_nil, pm_cats_i, pm_cats_r, pm_cats_n, pm_cats_l, pm_cats_d, sz_1, sz_2, sl_1, sl_2, lc_0, lc_lt, lc_le, li_ne, va_rf, wr_m1, we_m1, pm_kill_w, Int32.reduceOfInt, Int64.reduceOfInt, Int32.reduceOfNat, Int32.reduceLT, Int32.reduceLE, Prod.mk.injEq, Nat.reduceEqDiff, reduceCtorEq, and_true, true_and, and_false, false_and, and_self, ite_true, ite_false, ↓reduceIte, not_true_eq_false, not_false_eq_true, pe_ri, pe_rz, pe_rc, p_throw, t1304, w_junk hA, Cv_g0_13 hP hA, Cv_g0_7 hP hA, Cv_g0_9 hP hA, Cv_r9 hP hA, z1, z2]
      · rw [if_neg k3] at e; cases e
/-- TimberHouse$WorkPlans.alone(I)J -/
theorem c1305 {d : Nat} {h : pm_H} {a : Nat} {x0 : Int32} (hc : pm_cls h a = some 20) : pm_call pm_prog (d + 1) 1305 [.ref a, .int x0] h = pm_ev pm_prog (pm_call pm_prog d) 1305 0 b1305_0 [.ref a, .int x0] [] h := pm_cal (pm_rc1 hc rfl) rfl rfl rfl
theorem t1305 {cl : pm_C} {j : Nat} {ls : List Value} {c : Nat} {h : pm_H} : pm_thr pm_prog cl 1305 j ls c h = some (.threw c, h) := rfl
/-- TimberHouse$WorkPlans.alone(I)J -/
noncomputable def f1305 (mc : Int32) (jc : Int32) (tc : Int32) (ma : Int32) (ja : Int32) (ta : Int32) (oc : Int32 → Int32) (oa : Int32 → Int32) (qa : Int32 → Int32) (S : wS) (x1 : Int32) : Option ((Nat × wS) ⊕ (Int64 × wS)) :=
  (f4033v mc jc tc ma ja ta oc oa qa S).bind fun v1 =>
  (f1282 x1 v1).bind fun r => match r with
  | .inl c7 =>
    some (.inl (c7, S))
  | .inr _ =>
  (f4034v mc jc tc ma ja ta oc oa qa S x1).bind fun v2i =>
  if 0 ≤ v2i ∧ v2i < jc then
    (f1294 mc jc tc ma ja ta oc oa qa S v2i).bind fun v3 =>
    (f1285 v3).bind fun r => match r with
    | .inl c6 =>
      some (.inl (c6, S))
    | .inr _ =>
    (f1295 mc jc tc ma ja ta oc oa qa S v2i).bind fun (v4, S5) =>
    some (.inr ((Int32.toInt64 v4), S5))
  else none
theorem x1305 {mc : Int32} {jc : Int32} {tc : Int32} {ma : Int32} {ja : Int32} {ta : Int32} {oc : Int32 → Int32} {oa : Int32 → Int32} {qa : Int32 → Int32} {A : wK → Nat} {h : pm_H} {D : Nat} {S : wS} {x1 : Int32} {r : (Nat × wS) ⊕ (Int64 × wS)} (hP : Cv_P mc jc tc ma ja ta oc oa qa) (hA : wok A (Cv_d mc jc tc ma ja ta oc oa qa) h.1) (hD : 8 ≤ D) (e : f1305 mc jc tc ma ja ta oc oa qa S x1 = some r) : pm_call pm_prog D 1305 [.ref (A (0, 0, 0)), .int x1] (wput A (Cv_d mc jc tc ma ja ta oc oa qa) S h) = some (match (generalizing := false) r with | .inl (c, S1) => (Outcome.threw c, (wput A (Cv_d mc jc tc ma ja ta oc oa qa) S1 (pm_new h 6 (.inr (c, []))))) | .inr (w0, S1) => (Outcome.returned (some (.long w0)), (wput A (Cv_d mc jc tc ma ja ta oc oa qa) S1 h))) := by
  obtain ⟨D, rfl⟩ : ∃ D', D = D' + 1 := ⟨D - 1, by omega⟩
  have hD : 7 ≤ D := by omega
  simp only [f1305] at e
  rw [c1305 (Cv_c0 hP hA), b1305_0]
  obtain ⟨v1, k1, e⟩ := Option.bind_eq_some_iff.mp e
  try dsimp only at e
  have z1 := x4033v (D := D) (h := h) hP hA (by omega) k1
  obtain ⟨r, k2, e⟩ := Option.bind_eq_some_iff.mp e
  have z2 := fun h => x1282 (D := D) (h := h) (by omega) k2
  rcases r with c7 | _
  · dsimp only at e z2
    have e := Option.some.inj e; subst e
    simp -implicitDefEqProofs (disch := first | assumption | exact Nat.le_of_ble_eq_true rfl | decide) only [b1305_0, pe_iload1, pe_aload0, pe_getfield, pe_call1, pm_af_ret, pm_af_void, pm_af_thr, pe_call2, pe_i2l, pe_lreturn, pe_aloadN0, pe_aastoreN, pe_areturnN, pe_null, pm_prog_1, pm_ob_some, Nat.reduceDiv, Nat.reduceMod, Nat.reduceMul, Nat.reduceAdd, Int.reduceToNat, pm_kill_i, pm_kill_r, pm_kill_n, pm_kill_j, pm_kill_l, pm_kill_d, pm_cats_nil, pm_cats_i, pm_cats_r, pm_cats_n, pm_cats_l, pm_cats_d, sz_1, sz_2, sl_1, sl_2, lc_0, lc_lt, lc_le, li_ne, va_rf, wr_m1, we_m1, pm_kill_w, Int32.reduceOfInt, Int64.reduceOfInt, Int32.reduceOfNat, Int32.reduceLT, Int32.reduceLE, Prod.mk.injEq, Nat.reduceEqDiff, reduceCtorEq, and_true, true_and, and_false, false_and, and_self, ite_true, ite_false, ↓reduceIte, not_true_eq_false, not_false_eq_true, pe_ri, pe_rz, pe_rc, p_throw, t1305, w_junk hA, Cv_g0_1 hP hA, Cv_k15 hP hA, z1, z2]
  · dsimp only at e z2
    obtain ⟨v2i, k3, e⟩ := Option.bind_eq_some_iff.mp e
    try dsimp only at e
    have z3 := x4034v (D := D) (h := h) hP hA (by omega) k3
    by_cases k4 : 0 ≤ v2i ∧ v2i < jc
    · rw [if_pos k4] at e
      obtain ⟨v3, k5, e⟩ := Option.bind_eq_some_iff.mp e
      try dsimp only at e
      have z5 := x1294 (D := D) (h := h) hP hA (by omega) k5
      obtain ⟨r, k6, e⟩ := Option.bind_eq_some_iff.mp e
      have z6 := fun h => x1285 (D := D) (h := h) (by omega) k6
      rcases r with c6 | _
      · dsimp only at e z6
        have e := Option.some.inj e; subst e
        simp -implicitDefEqProofs (disch := first | assumption | exact Nat.le_of_ble_eq_true rfl | decide) only [b1305_0, pe_iload1, pe_aload0, pe_getfield, pe_call1, pm_af_ret, pm_af_void, pm_af_thr, pe_call2, pe_i2l, pe_lreturn, pe_aloadN0, pe_aastoreN, pe_areturnN, pe_null, pm_prog_1, pm_ob_some, Nat.reduceDiv, Nat.reduceMod, Nat.reduceMul, Nat.reduceAdd, Int.reduceToNat, pm_kill_i, pm_kill_r, pm_kill_n, pm_kill_j, pm_kill_l, pm_kill_d, pm_cats_nil, pm_cats_i, pm_cats_r, pm_cats_n, pm_cats_l, pm_cats_d, sz_1, sz_2, sl_1, sl_2, lc_0, lc_lt, lc_le, li_ne, va_rf, wr_m1, we_m1, pm_kill_w, Int32.reduceOfInt, Int64.reduceOfInt, Int32.reduceOfNat, Int32.reduceLT, Int32.reduceLE, Prod.mk.injEq, Nat.reduceEqDiff, reduceCtorEq, and_true, true_and, and_false, false_and, and_self, ite_true, ite_false, ↓reduceIte, not_true_eq_false, not_false_eq_true, pe_ri, pe_rz, pe_rc, p_throw, t1305, w_junk hA, Cv_g0_1 hP hA, Cv_k15 hP hA, z1, z2, z3, z5, z6]
      · dsimp only at e z6
        obtain ⟨⟨v4, S5⟩, k7, e⟩ := Option.bind_eq_some_iff.mp e
        try dsimp only at e
        have z7 := x1295 (D := D) (h := h) hP hA (by omega) k7
        dsimp only at z7
        have e := Option.some.inj e; subst e
        simp -implicitDefEqProofs (disch := first | assumption | exact Nat.le_of_ble_eq_true rfl | decide) only [b1305_0, pe_iload1, pe_aload0, pe_getfield, pe_call1, pm_af_ret, pm_af_void, pm_af_thr, pe_call2, pe_i2l, pe_lreturn, pe_aloadN0, pe_aastoreN, pe_areturnN, pe_null, pm_prog_1, pm_ob_some, Nat.reduceDiv, Nat.reduceMod, Nat.reduceMul, Nat.reduceAdd, Int.reduceToNat, pm_kill_i, pm_kill_r, pm_kill_n, pm_kill_j, pm_kill_l, pm_kill_d, pm_cats_nil, pm_cats_i, pm_cats_r, pm_cats_n, pm_cats_l, pm_cats_d, sz_1, sz_2, sl_1, sl_2, lc_0, lc_lt, lc_le, li_ne, va_rf, wr_m1, we_m1, pm_kill_w, Int32.reduceOfInt, Int64.reduceOfInt, Int32.reduceOfNat, Int32.reduceLT, Int32.reduceLE, Prod.mk.injEq, Nat.reduceEqDiff, reduceCtorEq, and_true, true_and, and_false, false_and, and_self, ite_true, ite_false, ↓reduceIte, not_true_eq_false, not_false_eq_true, pe_ri, pe_rz, pe_rc, p_throw, t1305, w_junk hA, Cv_g0_1 hP hA, Cv_k15 hP hA, z1, z2, z3, z5, z6, z7]
    · rw [if_neg k4] at e; cases e
/-- TimberHouse$WorkPlans.promise(I)I -/
theorem c1306 {d : Nat} {h : pm_H} {a : Nat} {x0 : Int32} (hc : pm_cls h a = some 20) : pm_call pm_prog (d + 1) 1306 [.ref a, .int x0] h = pm_ev pm_prog (pm_call pm_prog d) 1306 0 b1306_0 [.ref a, .int x0] [] h := pm_cal (pm_rc1 hc rfl) rfl rfl rfl
theorem g1306_1 {cl : pm_C} {ls st : List Value} {h : pm_H} : pm_go pm_prog cl 1306 1 ls st h = pm_ev pm_prog cl 1306 1 b1306_1 ls st h := pm_go_eq pm_prog cl 1306 1 ls st h
theorem g1306_2 {cl : pm_C} {ls st : List Value} {h : pm_H} : pm_go pm_prog cl 1306 2 ls st h = pm_ev pm_prog cl 1306 2 b1306_2 ls st h := pm_go_eq pm_prog cl 1306 2 ls st h
theorem t1306 {cl : pm_C} {j : Nat} {ls : List Value} {c : Nat} {h : pm_H} : pm_thr pm_prog cl 1306 j ls c h = some (.threw c, h) := rfl
noncomputable def f1306_2 (mc : Int32) (jc : Int32) (tc : Int32) (ma : Int32) (ja : Int32) (ta : Int32) (oc : Int32 → Int32) (oa : Int32 → Int32) (qa : Int32 → Int32) (S : wS) (x1 : Int32) (y0 : Int32) : Option ((Nat × wS) ⊕ (Int32 × wS)) :=
  (f1285 y0).bind fun r => match r with
  | .inl c8 =>
    some (.inl (c8, S))
  | .inr _ =>
  (f1351 mc jc tc ma ja ta oc oa qa S 0 1).bind fun S2 =>
  (f4034v mc jc tc ma ja ta oc oa qa S2 x1).bind fun v3i =>
  if 0 ≤ v3i ∧ v3i < jc then
    (f1350 mc jc tc ma ja ta oc oa qa S2 0 v3i).bind fun S4 =>
    (f4034v mc jc tc ma ja ta oc oa qa S4 x1).bind fun v5i =>
    if 0 ≤ v5i ∧ v5i < jc then
      (f1346 mc jc tc ma ja ta oc oa qa S4 0 v5i).bind fun (v6, S7) =>
      some (.inr (v6, S7))
    else none
  else none
/-- TimberHouse$WorkPlans.promise(I)I -/
noncomputable def f1306 (mc : Int32) (jc : Int32) (tc : Int32) (ma : Int32) (ja : Int32) (ta : Int32) (oc : Int32 → Int32) (oa : Int32 → Int32) (qa : Int32 → Int32) (S : wS) (x1 : Int32) : Option ((Nat × wS) ⊕ (Int32 × wS)) :=
  (f4033v mc jc tc ma ja ta oc oa qa S).bind fun v1 =>
  (f1282 x1 v1).bind fun r => match r with
  | .inl c9 =>
    some (.inl (c9, S))
  | .inr _ =>
  if (S.1 (0, 0, 0) 13) = 0 then
    f1306_2 mc jc tc ma ja ta oc oa qa S x1 0
  else
    if (S.1 (0, 0, 0) 14) = 0 then
      f1306_2 mc jc tc ma ja ta oc oa qa S x1 1
    else
      f1306_2 mc jc tc ma ja ta oc oa qa S x1 0
theorem y1306_2 {mc : Int32} {jc : Int32} {tc : Int32} {ma : Int32} {ja : Int32} {ta : Int32} {oc : Int32 → Int32} {oa : Int32 → Int32} {qa : Int32 → Int32} {A : wK → Nat} {h : pm_H} {D : Nat} {S : wS} {x1 : Int32} {y0 : Int32} {r : (Nat × wS) ⊕ (Int32 × wS)} (hP : Cv_P mc jc tc ma ja ta oc oa qa) (hA : wok A (Cv_d mc jc tc ma ja ta oc oa qa) h.1) (hD : 6 ≤ D) (e : f1306_2 mc jc tc ma ja ta oc oa qa S x1 y0 = some r) : pm_go pm_prog (pm_call pm_prog D) 1306 2 [.ref (A (0, 0, 0)), .int x1] [.int y0] (wput A (Cv_d mc jc tc ma ja ta oc oa qa) S h) = some (match (generalizing := false) r with | .inl (c, S1) => (Outcome.threw c, (wput A (Cv_d mc jc tc ma ja ta oc oa qa) S1 (pm_new h 6 (.inr (c, []))))) | .inr (w0, S1) => (Outcome.returned (some (.int w0)), (wput A (Cv_d mc jc tc ma ja ta oc oa qa) S1 h))) := by
  simp only [f1306_2] at e
  rw [g1306_2, b1306_2]
  obtain ⟨r, k1, e⟩ := Option.bind_eq_some_iff.mp e
  have z1 := fun h => x1285 (D := D) (h := h) (by omega) k1
  rcases r with c8 | _
  · dsimp only at e z1
    have e := Option.some.inj e; subst e
    simp -implicitDefEqProofs (disch := first | assumption | exact Nat.le_of_ble_eq_true rfl | decide) only [b1306_0, g1306_1, b1306_1, pe_iload1, pe_aload0, pe_getfield, pe_call1, pm_af_ret, pm_af_void, pm_af_thr, pe_call2, pe_if_eq, pe_if_ne, pe_sipush, pe_goto, pe_goto_w, pe_aloadN0, pe_aastoreN, pe_areturnN, pe_null, pm_prog_1, pm_ob_some, Nat.reduceDiv, Nat.reduceMod, Nat.reduceMul, Nat.reduceAdd, Int.reduceToNat, pm_kill_i, pm_kill_r, pm_kill_n, pm_kill_j, pm_kill_l, pm_kill_d, pm_cats_nil, pm_cats_i, pm_cats_r, pm_cats_n, pm_cats_l, pm_cats_d, sz_1, sz_2, sl_1, sl_2, lc_0, lc_lt, lc_le, li_ne, va_rf, wr_m1, we_m1, pm_kill_w, Int32.reduceOfInt, Int64.reduceOfInt, Int32.reduceOfNat, Int32.reduceLT, Int32.reduceLE, Prod.mk.injEq, Nat.reduceEqDiff, reduceCtorEq, and_true, true_and, and_false, false_and, and_self, ite_true, ite_false, ↓reduceIte, not_true_eq_false, not_false_eq_true, pe_ri, pe_rz, pe_rc, p_throw, t1306, w_junk hA, Cv_g0_1 hP hA, Cv_g0_13 hP hA, Cv_g0_14 hP hA, Cv_g0_3 hP hA, Cv_g0_4 hP hA, Cv_k15 hP hA, z1]
  · dsimp only at e z1
    obtain ⟨S2, k2, e⟩ := Option.bind_eq_some_iff.mp e
    try dsimp only at e
    have z2 := x1351 (D := D) (h := h) hP hA (by omega) k2
    obtain ⟨v3i, k3, e⟩ := Option.bind_eq_some_iff.mp e
    try dsimp only at e
    have z3 := x4034v (D := D) (h := h) hP hA (by omega) k3
    by_cases k4 : 0 ≤ v3i ∧ v3i < jc
    · rw [if_pos k4] at e
      obtain ⟨S4, k5, e⟩ := Option.bind_eq_some_iff.mp e
      try dsimp only at e
      have z5 := x1350 (D := D) (h := h) hP hA (by omega) k5
      obtain ⟨v5i, k6, e⟩ := Option.bind_eq_some_iff.mp e
      try dsimp only at e
      have z6 := x4034v (D := D) (h := h) hP hA (by omega) k6
      by_cases k7 : 0 ≤ v5i ∧ v5i < jc
      · rw [if_pos k7] at e
        obtain ⟨⟨v6, S7⟩, k8, e⟩ := Option.bind_eq_some_iff.mp e
        try dsimp only at e
        have z8 := x1346 (D := D) (h := h) hP hA (by omega) k8
        dsimp only at z8
        have e := Option.some.inj e; subst e
        simp -implicitDefEqProofs (disch := first | assumption | exact Nat.le_of_ble_eq_true rfl | decide) only [b1306_0, g1306_1, b1306_1, pe_iload1, pe_aload0, pe_getfield, pe_call1, pm_af_ret, pm_af_void, pm_af_thr, pe_call2, pe_if_eq, pe_if_ne, pe_sipush, pe_goto, pe_goto_w, pe_aloadN0, pe_aastoreN, pe_areturnN, pe_null, pm_prog_1, pm_ob_some, Nat.reduceDiv, Nat.reduceMod, Nat.reduceMul, Nat.reduceAdd, Int.reduceToNat, pm_kill_i, pm_kill_r, pm_kill_n, pm_kill_j, pm_kill_l, pm_kill_d, pm_cats_nil, pm_cats_i, pm_cats_r, pm_cats_n, pm_cats_l, pm_cats_d, sz_1, sz_2, sl_1, sl_2, lc_0, lc_lt, lc_le, li_ne, va_rf, wr_m1, we_m1, pm_kill_w, Int32.reduceOfInt, Int64.reduceOfInt, Int32.reduceOfNat, Int32.reduceLT, Int32.reduceLE, Prod.mk.injEq, Nat.reduceEqDiff, reduceCtorEq, and_true, true_and, and_false, false_and, and_self, ite_true, ite_false, ↓reduceIte, not_true_eq_false, not_false_eq_true, pe_ri, pe_rz, pe_rc, p_throw, t1306, w_junk hA, Cv_g0_1 hP hA, Cv_g0_13 hP hA, Cv_g0_14 hP hA, Cv_g0_3 hP hA, Cv_g0_4 hP hA, Cv_k15 hP hA, z1, z2, z3, z5, z6, z8]
      · rw [if_neg k7] at e; cases e
    · rw [if_neg k4] at e; cases e
theorem x1306 {mc : Int32} {jc : Int32} {tc : Int32} {ma : Int32} {ja : Int32} {ta : Int32} {oc : Int32 → Int32} {oa : Int32 → Int32} {qa : Int32 → Int32} {A : wK → Nat} {h : pm_H} {D : Nat} {S : wS} {x1 : Int32} {r : (Nat × wS) ⊕ (Int32 × wS)} (hP : Cv_P mc jc tc ma ja ta oc oa qa) (hA : wok A (Cv_d mc jc tc ma ja ta oc oa qa) h.1) (hD : 7 ≤ D) (e : f1306 mc jc tc ma ja ta oc oa qa S x1 = some r) : pm_call pm_prog D 1306 [.ref (A (0, 0, 0)), .int x1] (wput A (Cv_d mc jc tc ma ja ta oc oa qa) S h) = some (match (generalizing := false) r with | .inl (c, S1) => (Outcome.threw c, (wput A (Cv_d mc jc tc ma ja ta oc oa qa) S1 (pm_new h 6 (.inr (c, []))))) | .inr (w0, S1) => (Outcome.returned (some (.int w0)), (wput A (Cv_d mc jc tc ma ja ta oc oa qa) S1 h))) := by
  obtain ⟨D, rfl⟩ : ∃ D', D = D' + 1 := ⟨D - 1, by omega⟩
  have hD : 6 ≤ D := by omega
  simp only [f1306] at e
  rw [c1306 (Cv_c0 hP hA), b1306_0]
  obtain ⟨v1, k1, e⟩ := Option.bind_eq_some_iff.mp e
  try dsimp only at e
  have z1 := x4033v (D := D) (h := h) hP hA (by omega) k1
  obtain ⟨r, k2, e⟩ := Option.bind_eq_some_iff.mp e
  have z2 := fun h => x1282 (D := D) (h := h) (by omega) k2
  rcases r with c9 | _
  · dsimp only at e z2
    have e := Option.some.inj e; subst e
    simp -implicitDefEqProofs (disch := first | assumption | exact Nat.le_of_ble_eq_true rfl | decide) only [b1306_0, g1306_1, b1306_1, pe_iload1, pe_aload0, pe_getfield, pe_call1, pm_af_ret, pm_af_void, pm_af_thr, pe_call2, pe_if_eq, pe_if_ne, pe_sipush, pe_goto, pe_goto_w, pe_aloadN0, pe_aastoreN, pe_areturnN, pe_null, pm_prog_1, pm_ob_some, Nat.reduceDiv, Nat.reduceMod, Nat.reduceMul, Nat.reduceAdd, Int.reduceToNat, pm_kill_i, pm_kill_r, pm_kill_n, pm_kill_j, pm_kill_l, pm_kill_d, pm_cats_nil, pm_cats_i, pm_cats_r, pm_cats_n, pm_cats_l, pm_cats_d, sz_1, sz_2, sl_1, sl_2, lc_0, lc_lt, lc_le, li_ne, va_rf, wr_m1, we_m1, pm_kill_w, Int32.reduceOfInt, Int64.reduceOfInt, Int32.reduceOfNat, Int32.reduceLT, Int32.reduceLE, Prod.mk.injEq, Nat.reduceEqDiff, reduceCtorEq, and_true, true_and, and_false, false_and, and_self, ite_true, ite_false, ↓reduceIte, not_true_eq_false, not_false_eq_true, pe_ri, pe_rz, pe_rc, p_throw, t1306, w_junk hA, Cv_g0_1 hP hA, Cv_g0_13 hP hA, Cv_g0_14 hP hA, Cv_g0_3 hP hA, Cv_g0_4 hP hA, Cv_k15 hP hA, z1, z2]
  · dsimp only at e z2
    by_cases k3 : (S.1 (0, 0, 0) 13) = 0
    · rw [if_pos k3] at e
      have k4 := y1306_2 (h := h) hP hA hD e
      simp -implicitDefEqProofs (disch := first | assumption | exact Nat.le_of_ble_eq_true rfl | decide) only [b1306_0, g1306_1, b1306_1, pe_iload1, pe_aload0, pe_getfield, pe_call1, pm_af_ret, pm_af_void, pm_af_thr, pe_call2, pe_if_eq, pe_if_ne, pe_sipush, pe_goto, pe_goto_w, pe_aloadN0, pe_aastoreN, pe_areturnN, pe_null, pm_prog_1, pm_ob_some, Nat.reduceDiv, Nat.reduceMod, Nat.reduceMul, Nat.reduceAdd, Int.reduceToNat, pm_kill_i, pm_kill_r, pm_kill_n, pm_kill_j, pm_kill_l, pm_kill_d, pm_cats_nil, pm_cats_i, pm_cats_r, pm_cats_n, pm_cats_l, pm_cats_d, sz_1, sz_2, sl_1, sl_2, lc_0, lc_lt, lc_le, li_ne, va_rf, wr_m1, we_m1, pm_kill_w, Int32.reduceOfInt, Int64.reduceOfInt, Int32.reduceOfNat, Int32.reduceLT, Int32.reduceLE, Prod.mk.injEq, Nat.reduceEqDiff, reduceCtorEq, and_true, true_and, and_false, false_and, and_self, ite_true, ite_false, ↓reduceIte, not_true_eq_false, not_false_eq_true, pe_ri, pe_rz, pe_rc, p_throw, t1306, w_junk hA, Cv_g0_1 hP hA, Cv_g0_13 hP hA, Cv_g0_14 hP hA, Cv_g0_3 hP hA, Cv_g0_4 hP hA, Cv_k15 hP hA, z1, z2, eq_true k3, k4]
    · rw [if_neg k3] at e
      by_cases k5 : (S.1 (0, 0, 0) 14) = 0
      · rw [if_pos k5] at e
        have k6 := y1306_2 (h := h) hP hA hD e
        simp -implicitDefEqProofs (disch := first | assumption | exact Nat.le_of_ble_eq_true rfl | decide) only [b1306_0, g1306_1, b1306_1, pe_iload1, pe_aload0, pe_getfield, pe_call1, pm_af_ret, pm_af_void, pm_af_thr, pe_call2, pe_if_eq, pe_if_ne, pe_sipush, pe_goto, pe_goto_w, pe_aloadN0, pe_aastoreN, pe_areturnN, pe_null, pm_prog_1, pm_ob_some, Nat.reduceDiv, Nat.reduceMod, Nat.reduceMul, Nat.reduceAdd, Int.reduceToNat, pm_kill_i, pm_kill_r, pm_kill_n, pm_kill_j, pm_kill_l, pm_kill_d, pm_cats_nil, pm_cats_i, pm_cats_r, pm_cats_n, pm_cats_l, pm_cats_d, sz_1, sz_2, sl_1, sl_2, lc_0, lc_lt, lc_le, li_ne, va_rf, wr_m1, we_m1, pm_kill_w, Int32.reduceOfInt, Int64.reduceOfInt, Int32.reduceOfNat, Int32.reduceLT, Int32.reduceLE, Prod.mk.injEq, Nat.reduceEqDiff, reduceCtorEq, and_true, true_and, and_false, false_and, and_self, ite_true, ite_false, ↓reduceIte, not_true_eq_false, not_false_eq_true, pe_ri, pe_rz, pe_rc, p_throw, t1306, w_junk hA, Cv_g0_1 hP hA, Cv_g0_13 hP hA, Cv_g0_14 hP hA, Cv_g0_3 hP hA, Cv_g0_4 hP hA, Cv_k15 hP hA, z1, z2, eq_false k3, eq_true k5, k6]
      · rw [if_neg k5] at e
        have k7 := y1306_2 (h := h) hP hA hD e
        simp -implicitDefEqProofs (disch := first | assumption | exact Nat.le_of_ble_eq_true rfl | decide) only [b1306_0, g1306_1, b1306_1, pe_iload1, pe_aload0, pe_getfield, pe_call1, pm_af_ret, pm_af_void, pm_af_thr, pe_call2, pe_if_eq, pe_if_ne, pe_sipush, pe_goto, pe_goto_w, pe_aloadN0, pe_aastoreN, pe_areturnN, pe_null, pm_prog_1, pm_ob_some, Nat.reduceDiv, Nat.reduceMod, Nat.reduceMul, Nat.reduceAdd, Int.reduceToNat, pm_kill_i, pm_kill_r, pm_kill_n, pm_kill_j, pm_kill_l, pm_kill_d, pm_cats_nil, pm_cats_i, pm_cats_r, pm_cats_n, pm_cats_l, pm_cats_d, sz_1, sz_2, sl_1, sl_2, lc_0, lc_lt, lc_le, li_ne, va_rf, wr_m1, we_m1, pm_kill_w, Int32.reduceOfInt, Int64.reduceOfInt, Int32.reduceOfNat, Int32.reduceLT, Int32.reduceLE, Prod.mk.injEq, Nat.reduceEqDiff, reduceCtorEq, and_true, true_and, and_false, false_and, and_self, ite_true, ite_false, ↓reduceIte, not_true_eq_false, not_false_eq_true, pe_ri, pe_rz, pe_rc, p_throw, t1306, w_junk hA, Cv_g0_1 hP hA, Cv_g0_13 hP hA, Cv_g0_14 hP hA, Cv_g0_3 hP hA, Cv_g0_4 hP hA, Cv_k15 hP hA, z1, z2, eq_false k3, eq_false k5, k7]
/-- TimberHouse$WorkPlans.isBehind(LTimberHouse$WorkPlans$Job;LTimberHouse$WorkPlans$Job;)Z -/
theorem c1308 {d : Nat} {h : pm_H} {a : Nat} {r0 : Nat} {r1 : Nat} (hc : pm_cls h a = some 20) : pm_call pm_prog (d + 1) 1308 [.ref a, .ref r0, .ref r1] h = pm_ev pm_prog (pm_call pm_prog d) 1308 0 b1308_0 [.ref a, .ref r0, .ref r1, pm_junk] [] h := pm_cal (pm_rc1 hc rfl) rfl rfl rfl
theorem g1308_1 {cl : pm_C} {ls st : List Value} {h : pm_H} : pm_go pm_prog cl 1308 1 ls st h = pm_ev pm_prog cl 1308 1 b1308_1 ls st h := pm_go_eq pm_prog cl 1308 1 ls st h
theorem g1308_2 {cl : pm_C} {ls st : List Value} {h : pm_H} : pm_go pm_prog cl 1308 2 ls st h = pm_ev pm_prog cl 1308 2 b1308_2 ls st h := pm_go_eq pm_prog cl 1308 2 ls st h
/-- TimberHouse$WorkPlans.isBehind(LTimberHouse$WorkPlans$Job;LTimberHouse$WorkPlans$Job;)Z -/
noncomputable def f1308 (mc : Int32) (jc : Int32) (tc : Int32) (ma : Int32) (ja : Int32) (ta : Int32) (oc : Int32 → Int32) (oa : Int32 → Int32) (qa : Int32 → Int32) (S : wS) (x1i : Int32) (x2i : Int32) : Option (Int32 × wS) :=
  if 0 ≤ x1i ∧ x1i < jc then
    if 0 ≤ x2i ∧ x2i < jc then
      (f1345 mc jc tc ma ja ta oc oa qa S 0).bind fun S1 =>
      (f1346 mc jc tc ma ja ta oc oa qa S1 0 x1i).bind fun (v2, S3) =>
      (f1346 mc jc tc ma ja ta oc oa qa S3 0 x2i).bind fun (v4, S5) =>
      (f3457 mc jc tc ma ja ta oc oa qa S5 x2i v4).bind fun v6 =>
      if v6 = 0 then
        some (1, S5)
      else
        some (0, S5)
    else none
  else none
theorem x1308 {mc : Int32} {jc : Int32} {tc : Int32} {ma : Int32} {ja : Int32} {ta : Int32} {oc : Int32 → Int32} {oa : Int32 → Int32} {qa : Int32 → Int32} {A : wK → Nat} {h : pm_H} {D : Nat} {S : wS} {x1i : Int32} {x2i : Int32} {r : Int32 × wS} (hP : Cv_P mc jc tc ma ja ta oc oa qa) (hA : wok A (Cv_d mc jc tc ma ja ta oc oa qa) h.1) (hD : 7 ≤ D) (e : f1308 mc jc tc ma ja ta oc oa qa S x1i x2i = some r) : pm_call pm_prog D 1308 [.ref (A (0, 0, 0)), .ref (A (15, x1i, 0)), .ref (A (15, x2i, 0))] (wput A (Cv_d mc jc tc ma ja ta oc oa qa) S h) = some (match (generalizing := false) r with | (w0, S1) => (Outcome.returned (some (.int w0)), (wput A (Cv_d mc jc tc ma ja ta oc oa qa) S1 h))) := by
  obtain ⟨D, rfl⟩ : ∃ D', D = D' + 1 := ⟨D - 1, by omega⟩
  have hD : 6 ≤ D := by omega
  simp only [f1308] at e
  have k1 : 0 ≤ x1i ∧ x1i < jc := by
    by_cases q : 0 ≤ x1i ∧ x1i < jc
    · exact q
    · rw [if_neg q] at e; cases e
  rw [if_pos k1] at e
  have k2 : 0 ≤ x2i ∧ x2i < jc := by
    by_cases q : 0 ≤ x2i ∧ x2i < jc
    · exact q
    · rw [if_neg q] at e; cases e
  rw [if_pos k2] at e
  rw [c1308 (Cv_c0 hP hA), b1308_0]
  obtain ⟨S1, k3, e⟩ := Option.bind_eq_some_iff.mp e
  try dsimp only at e
  have z3 := x1345 (D := D) (h := h) hP hA (by omega) k3
  obtain ⟨⟨v2, S3⟩, k4, e⟩ := Option.bind_eq_some_iff.mp e
  try dsimp only at e
  have z4 := x1346 (D := D) (h := h) hP hA (by omega) k4
  dsimp only at z4
  obtain ⟨⟨v4, S5⟩, k5, e⟩ := Option.bind_eq_some_iff.mp e
  try dsimp only at e
  have z5 := x1346 (D := D) (h := h) hP hA (by omega) k5
  dsimp only at z5
  obtain ⟨v6, k6, e⟩ := Option.bind_eq_some_iff.mp e
  try dsimp only at e
  have z6 := x3457 (D := D) (h := h) hP hA (by omega) k6
  by_cases k7 : v6 = 0
  · rw [if_pos k7] at e
    have e := Option.some.inj e; subst e
    simp -implicitDefEqProofs (disch := first | assumption | exact Nat.le_of_ble_eq_true rfl | decide) only [b1308_0, g1308_1, b1308_1, g1308_2, b1308_2, pe_aload0, pe_getfield, pe_call1, pm_af_ret, pm_af_void, pm_af_thr, pe_aload1, pe_call2, pe_istore3, pe_aload2, pe_if_ne, pe_sipush, pe_goto, pe_goto_w, pe_aloadN0, pe_aloadN1, pe_aloadN2, pe_aastoreN, pe_areturnN, pe_null, pm_prog_1, pm_ob_some, Nat.reduceDiv, Nat.reduceMod, Nat.reduceMul, Nat.reduceAdd, Int.reduceToNat, pm_kill_i, pm_kill_r, pm_kill_n, pm_kill_j, pm_kill_l, pm_kill_d, pm_cats_nil, pm_cats_i, pm_cats_r, pm_cats_n, pm_cats_l, pm_cats_d, sz_1, sz_2, sl_1, sl_2, lc_0, lc_lt, lc_le, li_ne, va_rf, wr_m1, we_m1, pm_kill_w, Int32.reduceOfInt, Int64.reduceOfInt, Int32.reduceOfNat, Int32.reduceLT, Int32.reduceLE, Prod.mk.injEq, Nat.reduceEqDiff, reduceCtorEq, and_true, true_and, and_false, false_and, and_self, ite_true, ite_false, ↓reduceIte, not_true_eq_false, not_false_eq_true, pe_ri, pe_rz, pe_rc, Cv_g0_3 hP hA, z3, z4, z5, z6, eq_true k7]
  · rw [if_neg k7] at e
    have e := Option.some.inj e; subst e
    simp -implicitDefEqProofs (disch := first | assumption | exact Nat.le_of_ble_eq_true rfl | decide) only [b1308_0, g1308_1, b1308_1, g1308_2, b1308_2, pe_aload0, pe_getfield, pe_call1, pm_af_ret, pm_af_void, pm_af_thr, pe_aload1, pe_call2, pe_istore3, pe_aload2, pe_if_ne, pe_sipush, pe_goto, pe_goto_w, pe_aloadN0, pe_aloadN1, pe_aloadN2, pe_aastoreN, pe_areturnN, pe_null, pm_prog_1, pm_ob_some, Nat.reduceDiv, Nat.reduceMod, Nat.reduceMul, Nat.reduceAdd, Int.reduceToNat, pm_kill_i, pm_kill_r, pm_kill_n, pm_kill_j, pm_kill_l, pm_kill_d, pm_cats_nil, pm_cats_i, pm_cats_r, pm_cats_n, pm_cats_l, pm_cats_d, sz_1, sz_2, sl_1, sl_2, lc_0, lc_lt, lc_le, li_ne, va_rf, wr_m1, we_m1, pm_kill_w, Int32.reduceOfInt, Int64.reduceOfInt, Int32.reduceOfNat, Int32.reduceLT, Int32.reduceLE, Prod.mk.injEq, Nat.reduceEqDiff, reduceCtorEq, and_true, true_and, and_false, false_and, and_self, ite_true, ite_false, ↓reduceIte, not_true_eq_false, not_false_eq_true, pe_ri, pe_rz, pe_rc, Cv_g0_3 hP hA, z3, z4, z5, z6, eq_false k7]
/-- TimberHouse$WorkPlans.clash(I)I -/
theorem c1307 {d : Nat} {h : pm_H} {a : Nat} {x0 : Int32} (hc : pm_cls h a = some 20) : pm_call pm_prog (d + 1) 1307 [.ref a, .int x0] h = pm_ev pm_prog (pm_call pm_prog d) 1307 0 b1307_0 [.ref a, .int x0, pm_junk, pm_junk, pm_junk, pm_junk, pm_junk, pm_junk] [] h := pm_cal (pm_rc1 hc rfl) rfl rfl rfl
theorem g1307_1 {cl : pm_C} {ls st : List Value} {h : pm_H} : pm_go pm_prog cl 1307 1 ls st h = pm_ev pm_prog cl 1307 1 b1307_1 ls st h := pm_go_eq pm_prog cl 1307 1 ls st h
theorem g1307_2 {cl : pm_C} {ls st : List Value} {h : pm_H} : pm_go pm_prog cl 1307 2 ls st h = pm_ev pm_prog cl 1307 2 b1307_2 ls st h := pm_go_eq pm_prog cl 1307 2 ls st h
theorem g1307_3 {cl : pm_C} {ls st : List Value} {h : pm_H} : pm_go pm_prog cl 1307 3 ls st h = pm_ev pm_prog cl 1307 3 b1307_3 ls st h := pm_go_eq pm_prog cl 1307 3 ls st h
theorem g1307_4 {cl : pm_C} {ls st : List Value} {h : pm_H} : pm_go pm_prog cl 1307 4 ls st h = pm_ev pm_prog cl 1307 4 b1307_4 ls st h := pm_go_eq pm_prog cl 1307 4 ls st h
theorem g1307_5 {cl : pm_C} {ls st : List Value} {h : pm_H} : pm_go pm_prog cl 1307 5 ls st h = pm_ev pm_prog cl 1307 5 b1307_5 ls st h := pm_go_eq pm_prog cl 1307 5 ls st h
theorem g1307_6 {cl : pm_C} {ls st : List Value} {h : pm_H} : pm_go pm_prog cl 1307 6 ls st h = pm_ev pm_prog cl 1307 6 b1307_6 ls st h := pm_go_eq pm_prog cl 1307 6 ls st h
theorem g1307_7 {cl : pm_C} {ls st : List Value} {h : pm_H} : pm_go pm_prog cl 1307 7 ls st h = pm_ev pm_prog cl 1307 7 b1307_7 ls st h := pm_go_eq pm_prog cl 1307 7 ls st h
theorem g1307_8 {cl : pm_C} {ls st : List Value} {h : pm_H} : pm_go pm_prog cl 1307 8 ls st h = pm_ev pm_prog cl 1307 8 b1307_8 ls st h := pm_go_eq pm_prog cl 1307 8 ls st h
theorem g1307_9 {cl : pm_C} {ls st : List Value} {h : pm_H} : pm_go pm_prog cl 1307 9 ls st h = pm_ev pm_prog cl 1307 9 b1307_9 ls st h := pm_go_eq pm_prog cl 1307 9 ls st h
theorem t1307 {cl : pm_C} {j : Nat} {ls : List Value} {c : Nat} {h : pm_H} : pm_thr pm_prog cl 1307 j ls c h = some (.threw c, h) := rfl
noncomputable def f1307_6_4 (mc : Int32) (jc : Int32) (tc : Int32) (ma : Int32) (ja : Int32) (ta : Int32) (oc : Int32 → Int32) (oa : Int32 → Int32) (qa : Int32 → Int32) (S : wS) (x2 : Int32) (x3 : Int32) (x4 : Int32) (y0 : Int32) : Option ((Int32 × Int32 × Int32 × wS) ⊕ ((Int32 × wS) ⊕ (Int32 × Int32 × wS))) :=
  if y0 = 0 then
    some (.inl (x2, x3, (x4 + 1), S))
  else
    if x2 = 0 then
      some (.inr (.inl (((8 * x3) + x4), S)))
    else
      some (.inl ((x2 + (-1)), x3, (x4 + 1), S))
noncomputable def f1307_b4 (mc : Int32) (jc : Int32) (tc : Int32) (ma : Int32) (ja : Int32) (ta : Int32) (oc : Int32 → Int32) (oa : Int32 → Int32) (qa : Int32 → Int32) : Int32 × Int32 × Int32 × wS → Option ((Int32 × Int32 × Int32 × wS) ⊕ ((Int32 × wS) ⊕ (Int32 × Int32 × wS))) := fun (x2, x3, x4, S) =>
  (f4033v mc jc tc ma ja ta oc oa qa S).bind fun v3 =>
  if x4 < v3 then
    (f4034v mc jc tc ma ja ta oc oa qa S x3).bind fun v4i =>
    if 0 ≤ v4i ∧ v4i < jc then
      (f4034v mc jc tc ma ja ta oc oa qa S x4).bind fun v5i =>
      if 0 ≤ v5i ∧ v5i < jc then
        (f1295 mc jc tc ma ja ta oc oa qa S v4i).bind fun (v6, S7) =>
        if v6 = 0 then
          (f1295 mc jc tc ma ja ta oc oa qa S7 v5i).bind fun (v8, S9) =>
          if v8 = 0 then
            (f1308 mc jc tc ma ja ta oc oa qa S9 v4i v5i).bind fun (v10, S11) =>
            if v10 = 0 then
              (f1308 mc jc tc ma ja ta oc oa qa S11 v5i v4i).bind fun (v12, S13) =>
              if v12 = 0 then
                f1307_6_4 mc jc tc ma ja ta oc oa qa S13 x2 x3 x4 1
              else
                f1307_6_4 mc jc tc ma ja ta oc oa qa S13 x2 x3 x4 0
            else
              f1307_6_4 mc jc tc ma ja ta oc oa qa S11 x2 x3 x4 0
          else
            f1307_6_4 mc jc tc ma ja ta oc oa qa S9 x2 x3 x4 0
        else
          f1307_6_4 mc jc tc ma ja ta oc oa qa S7 x2 x3 x4 0
      else none
    else none
  else
    some (.inr (.inr ((x2, x3, S))))
noncomputable def f1307_b3 (mc : Int32) (jc : Int32) (tc : Int32) (ma : Int32) (ja : Int32) (ta : Int32) (oc : Int32 → Int32) (oa : Int32 → Int32) (qa : Int32 → Int32) : Int32 × Int32 × wS → Option ((Int32 × Int32 × wS) ⊕ ((Int32 × wS) ⊕ (wS))) := fun (x2, x3, S) =>
  (f4033v mc jc tc ma ja ta oc oa qa S).bind fun v2 =>
  if x3 < v2 then
    (lp (f1307_b4 mc jc tc ma ja ta oc oa qa) FU (x2, x3, (x3 + 1), S)).bind fun b => match b with
    | (.inl (v15, S14)) =>
      some (.inr (.inl (v15, S14)))
    | (.inr ((v18, v19, S16))) =>
      some (.inl (v18, (v19 + 1), S16))
  else
    some (.inr (.inr (S)))
noncomputable def f1307_2 (mc : Int32) (jc : Int32) (tc : Int32) (ma : Int32) (ja : Int32) (ta : Int32) (oc : Int32 → Int32) (oa : Int32 → Int32) (qa : Int32 → Int32) (S : wS) (x1 : Int32) (y0 : Int32) : Option ((Nat × wS) ⊕ (Int32 × wS)) :=
  (f1284 y0).bind fun r => match r with
  | .inl c24 =>
    some (.inl (c24, S))
  | .inr _ =>
  (f1293 mc jc tc ma ja ta oc oa qa S).bind fun v1 =>
  (f1285 v1).bind fun r => match r with
  | .inl c23 =>
    some (.inl (c23, S))
  | .inr _ =>
  (lp (f1307_b3 mc jc tc ma ja ta oc oa qa) FU (x1, 0, S)).bind fun b => match b with
  | (.inl (v21, S20)) =>
    some (.inr (v21, S20))
  | (.inr (S22)) =>
    some (.inr ((-1), S22))
/-- TimberHouse$WorkPlans.clash(I)I -/
noncomputable def f1307 (mc : Int32) (jc : Int32) (tc : Int32) (ma : Int32) (ja : Int32) (ta : Int32) (oc : Int32 → Int32) (oa : Int32 → Int32) (qa : Int32 → Int32) (S : wS) (x1 : Int32) : Option ((Nat × wS) ⊕ (Int32 × wS)) :=
  if x1 < 0 then
    f1307_2 mc jc tc ma ja ta oc oa qa S x1 0
  else
    f1307_2 mc jc tc ma ja ta oc oa qa S x1 1
def go1307_4 (mc : Int32) (jc : Int32) (tc : Int32) (ma : Int32) (ja : Int32) (ta : Int32) (oc : Int32 → Int32) (oa : Int32 → Int32) (qa : Int32 → Int32) (A : wK → Nat) (h : pm_H) (D : Nat) (R : Outcome × pm_H) : Int32 × Int32 × Int32 × wS → Prop := fun (x2, x3, x4, S) => ∀ q1 q5 q6 q7 : Value, pm_go pm_prog (pm_call pm_prog D) 1307 4 [.ref (A (0, 0, 0)), q1, .int x2, .int x3, .int x4, q5, q6, q7] [] (wput A (Cv_d mc jc tc ma ja ta oc oa qa) S h) = some R
def ex1307_4 (mc : Int32) (jc : Int32) (tc : Int32) (ma : Int32) (ja : Int32) (ta : Int32) (oc : Int32 → Int32) (oa : Int32 → Int32) (qa : Int32 → Int32) (A : wK → Nat) (h : pm_H) (D : Nat) (R : Outcome × pm_H) : (Int32 × wS) ⊕ (Int32 × Int32 × wS) → Prop := fun b => match b with
  | (.inl (xr0, S)) => some (Outcome.returned (some (.int xr0)), (wput A (Cv_d mc jc tc ma ja ta oc oa qa) S h)) = some R
  | (.inr ((x2, x3, S))) => ∀ q1 q4 q5 q6 q7 : Value, pm_go pm_prog (pm_call pm_prog D) 1307 8 [.ref (A (0, 0, 0)), q1, .int x2, .int x3, q4, q5, q6, q7] [] (wput A (Cv_d mc jc tc ma ja ta oc oa qa) S h) = some R
theorem y1307_6_4 {mc : Int32} {jc : Int32} {tc : Int32} {ma : Int32} {ja : Int32} {ta : Int32} {oc : Int32 → Int32} {oa : Int32 → Int32} {qa : Int32 → Int32} {A : wK → Nat} {h : pm_H} {D : Nat} {R : Outcome × pm_H} {S : wS} {x2 : Int32} {x3 : Int32} {x4 : Int32} {y0 : Int32} {r : (Int32 × Int32 × Int32 × wS) ⊕ ((Int32 × wS) ⊕ (Int32 × Int32 × wS))} (hP : Cv_P mc jc tc ma ja ta oc oa qa) (hA : wok A (Cv_d mc jc tc ma ja ta oc oa qa) h.1) (hD : 7 ≤ D) (e : f1307_6_4 mc jc tc ma ja ta oc oa qa S x2 x3 x4 y0 = some r) (hc : Sum.elim (go1307_4 mc jc tc ma ja ta oc oa qa A h D R) (ex1307_4 mc jc tc ma ja ta oc oa qa A h D R) r) : ∀ q1 q5 q6 q7 : Value, pm_go pm_prog (pm_call pm_prog D) 1307 6 [.ref (A (0, 0, 0)), q1, .int x2, .int x3, .int x4, q5, q6, q7] [.int y0] (wput A (Cv_d mc jc tc ma ja ta oc oa qa) S h) = some R := by
  intro q1 q5 q6 q7
  simp only [f1307_6_4] at e
  rw [g1307_6, b1307_6]
  by_cases k1 : y0 = 0
  · rw [if_pos k1] at e
    have e := Option.some.inj e; subst e
    dsimp only [Sum.elim_inl, go1307_4] at hc
    simp -implicitDefEqProofs (disch := first | assumption | exact Nat.le_of_ble_eq_true rfl | decide) only [b1307_0, g1307_1, b1307_1, g1307_5, b1307_5, g1307_7, b1307_7, g1307_8, b1307_8, g1307_9, b1307_9, pe_iload1, pe_if_lt, pe_sipush, pe_goto, pe_goto_w, pe_call1, pm_af_ret, pm_af_void, pm_af_thr, pe_aload0, pe_istore2, pe_istore3, pe_iload3, pe_getfield, pe_icmp_ge, pe_iadd, pe_istore4, pe_iload4, pe_call2, pe_astore5, pe_astore6, pe_aload5, pe_if_ne, pe_aload6, pe_call3, pe_istore7, pe_iload7, pe_if_eq, pe_iload2, pe_iinc2, pe_imul, pe_iinc4, pe_iinc3, pe_aloadN0, pe_astoreN5, pe_astoreN6, pe_aloadN5, pe_aloadN6, pe_aastoreN, pe_areturnN, pe_null, pm_prog_1, pm_ob_some, Nat.reduceDiv, Nat.reduceMod, Nat.reduceMul, Nat.reduceAdd, Int.reduceToNat, pm_kill_i, pm_kill_r, pm_kill_n, pm_kill_j, pm_kill_l, pm_kill_d, pm_cats_nil, pm_cats_i, pm_cats_r, pm_cats_n, pm_cats_l, pm_cats_d, sz_1, sz_2, sl_1, sl_2, lc_0, lc_lt, lc_le, li_ne, va_rf, wr_m1, we_m1, pm_kill_w, Int32.reduceOfInt, Int64.reduceOfInt, Int32.reduceOfNat, Int32.reduceLT, Int32.reduceLE, Prod.mk.injEq, Nat.reduceEqDiff, reduceCtorEq, and_true, true_and, and_false, false_and, and_self, ite_true, ite_false, ↓reduceIte, not_true_eq_false, not_false_eq_true, pe_ri, pe_rz, pe_rc, p_throw, t1307, w_junk hA, Cv_g0_1 hP hA, Cv_k15 hP hA, eq_true k1, hc]
  · rw [if_neg k1] at e
    by_cases k2 : x2 = 0
    · rw [if_pos k2] at e
      have e := Option.some.inj e; subst e
      dsimp only [Sum.elim_inr, ex1307_4] at hc
      have hc := Option.some.inj hc; subst hc
      simp -implicitDefEqProofs (disch := first | assumption | exact Nat.le_of_ble_eq_true rfl | decide) only [b1307_0, g1307_1, b1307_1, g1307_5, b1307_5, g1307_7, b1307_7, g1307_8, b1307_8, g1307_9, b1307_9, pe_iload1, pe_if_lt, pe_sipush, pe_goto, pe_goto_w, pe_call1, pm_af_ret, pm_af_void, pm_af_thr, pe_aload0, pe_istore2, pe_istore3, pe_iload3, pe_getfield, pe_icmp_ge, pe_iadd, pe_istore4, pe_iload4, pe_call2, pe_astore5, pe_astore6, pe_aload5, pe_if_ne, pe_aload6, pe_call3, pe_istore7, pe_iload7, pe_if_eq, pe_iload2, pe_iinc2, pe_imul, pe_iinc4, pe_iinc3, pe_aloadN0, pe_astoreN5, pe_astoreN6, pe_aloadN5, pe_aloadN6, pe_aastoreN, pe_areturnN, pe_null, pm_prog_1, pm_ob_some, Nat.reduceDiv, Nat.reduceMod, Nat.reduceMul, Nat.reduceAdd, Int.reduceToNat, pm_kill_i, pm_kill_r, pm_kill_n, pm_kill_j, pm_kill_l, pm_kill_d, pm_cats_nil, pm_cats_i, pm_cats_r, pm_cats_n, pm_cats_l, pm_cats_d, sz_1, sz_2, sl_1, sl_2, lc_0, lc_lt, lc_le, li_ne, va_rf, wr_m1, we_m1, pm_kill_w, Int32.reduceOfInt, Int64.reduceOfInt, Int32.reduceOfNat, Int32.reduceLT, Int32.reduceLE, Prod.mk.injEq, Nat.reduceEqDiff, reduceCtorEq, and_true, true_and, and_false, false_and, and_self, ite_true, ite_false, ↓reduceIte, not_true_eq_false, not_false_eq_true, pe_ri, pe_rz, pe_rc, p_throw, t1307, w_junk hA, Cv_g0_1 hP hA, Cv_k15 hP hA, eq_false k1, eq_true k2]
    · rw [if_neg k2] at e
      have e := Option.some.inj e; subst e
      dsimp only [Sum.elim_inl, go1307_4] at hc
      simp -implicitDefEqProofs (disch := first | assumption | exact Nat.le_of_ble_eq_true rfl | decide) only [b1307_0, g1307_1, b1307_1, g1307_5, b1307_5, g1307_7, b1307_7, g1307_8, b1307_8, g1307_9, b1307_9, pe_iload1, pe_if_lt, pe_sipush, pe_goto, pe_goto_w, pe_call1, pm_af_ret, pm_af_void, pm_af_thr, pe_aload0, pe_istore2, pe_istore3, pe_iload3, pe_getfield, pe_icmp_ge, pe_iadd, pe_istore4, pe_iload4, pe_call2, pe_astore5, pe_astore6, pe_aload5, pe_if_ne, pe_aload6, pe_call3, pe_istore7, pe_iload7, pe_if_eq, pe_iload2, pe_iinc2, pe_imul, pe_iinc4, pe_iinc3, pe_aloadN0, pe_astoreN5, pe_astoreN6, pe_aloadN5, pe_aloadN6, pe_aastoreN, pe_areturnN, pe_null, pm_prog_1, pm_ob_some, Nat.reduceDiv, Nat.reduceMod, Nat.reduceMul, Nat.reduceAdd, Int.reduceToNat, pm_kill_i, pm_kill_r, pm_kill_n, pm_kill_j, pm_kill_l, pm_kill_d, pm_cats_nil, pm_cats_i, pm_cats_r, pm_cats_n, pm_cats_l, pm_cats_d, sz_1, sz_2, sl_1, sl_2, lc_0, lc_lt, lc_le, li_ne, va_rf, wr_m1, we_m1, pm_kill_w, Int32.reduceOfInt, Int64.reduceOfInt, Int32.reduceOfNat, Int32.reduceLT, Int32.reduceLE, Prod.mk.injEq, Nat.reduceEqDiff, reduceCtorEq, and_true, true_and, and_false, false_and, and_self, ite_true, ite_false, ↓reduceIte, not_true_eq_false, not_false_eq_true, pe_ri, pe_rz, pe_rc, p_throw, t1307, w_junk hA, Cv_g0_1 hP hA, Cv_k15 hP hA, eq_false k1, eq_false k2, hc]
theorem y1307_b4 {mc : Int32} {jc : Int32} {tc : Int32} {ma : Int32} {ja : Int32} {ta : Int32} {oc : Int32 → Int32} {oa : Int32 → Int32} {qa : Int32 → Int32} {A : wK → Nat} {h : pm_H} {D : Nat} {R : Outcome × pm_H} (hP : Cv_P mc jc tc ma ja ta oc oa qa) (hA : wok A (Cv_d mc jc tc ma ja ta oc oa qa) h.1) (hD : 7 ≤ D) (a : Int32 × Int32 × Int32 × wS) (r : (Int32 × Int32 × Int32 × wS) ⊕ ((Int32 × wS) ⊕ (Int32 × Int32 × wS))) (e : f1307_b4 mc jc tc ma ja ta oc oa qa a = some r) (hc : Sum.elim (go1307_4 mc jc tc ma ja ta oc oa qa A h D R) (ex1307_4 mc jc tc ma ja ta oc oa qa A h D R) r) : go1307_4 mc jc tc ma ja ta oc oa qa A h D R a := by
  obtain ⟨x2, x3, x4, S⟩ := a
  dsimp only [go1307_4]
  intro q1 q5 q6 q7
  simp only [f1307_b4] at e
  rw [g1307_4, b1307_4]
  obtain ⟨v3, k1, e⟩ := Option.bind_eq_some_iff.mp e
  try dsimp only at e
  have z1 := x4033v (D := D) (h := h) hP hA (by omega) k1
  by_cases k2 : x4 < v3
  · rw [if_pos k2] at e
    obtain ⟨v4i, k3, e⟩ := Option.bind_eq_some_iff.mp e
    try dsimp only at e
    have z3 := x4034v (D := D) (h := h) hP hA (by omega) k3
    by_cases k4 : 0 ≤ v4i ∧ v4i < jc
    · rw [if_pos k4] at e
      obtain ⟨v5i, k5, e⟩ := Option.bind_eq_some_iff.mp e
      try dsimp only at e
      have z5 := x4034v (D := D) (h := h) hP hA (by omega) k5
      by_cases k6 : 0 ≤ v5i ∧ v5i < jc
      · rw [if_pos k6] at e
        obtain ⟨⟨v6, S7⟩, k7, e⟩ := Option.bind_eq_some_iff.mp e
        try dsimp only at e
        have z7 := x1295 (D := D) (h := h) hP hA (by omega) k7
        dsimp only at z7
        by_cases k8 : v6 = 0
        · rw [if_pos k8] at e
          obtain ⟨⟨v8, S9⟩, k9, e⟩ := Option.bind_eq_some_iff.mp e
          try dsimp only at e
          have z9 := x1295 (D := D) (h := h) hP hA (by omega) k9
          dsimp only at z9
          by_cases k10 : v8 = 0
          · rw [if_pos k10] at e
            obtain ⟨⟨v10, S11⟩, k11, e⟩ := Option.bind_eq_some_iff.mp e
            try dsimp only at e
            have z11 := x1308 (D := D) (h := h) hP hA (by omega) k11
            dsimp only at z11
            by_cases k12 : v10 = 0
            · rw [if_pos k12] at e
              obtain ⟨⟨v12, S13⟩, k13, e⟩ := Option.bind_eq_some_iff.mp e
              try dsimp only at e
              have z13 := x1308 (D := D) (h := h) hP hA (by omega) k13
              dsimp only at z13
              by_cases k14 : v12 = 0
              · rw [if_pos k14] at e
                have k15 := y1307_6_4 (h := h) hP hA hD e hc
                simp -implicitDefEqProofs (disch := first | assumption | exact Nat.le_of_ble_eq_true rfl | decide) only [b1307_0, g1307_1, b1307_1, g1307_5, b1307_5, g1307_7, b1307_7, g1307_8, b1307_8, g1307_9, b1307_9, pe_iload1, pe_if_lt, pe_sipush, pe_goto, pe_goto_w, pe_call1, pm_af_ret, pm_af_void, pm_af_thr, pe_aload0, pe_istore2, pe_istore3, pe_iload3, pe_getfield, pe_icmp_ge, pe_iadd, pe_istore4, pe_iload4, pe_call2, pe_astore5, pe_astore6, pe_aload5, pe_if_ne, pe_aload6, pe_call3, pe_istore7, pe_iload7, pe_if_eq, pe_iload2, pe_iinc2, pe_imul, pe_iinc4, pe_iinc3, pe_aloadN0, pe_astoreN5, pe_astoreN6, pe_aloadN5, pe_aloadN6, pe_aastoreN, pe_areturnN, pe_null, pm_prog_1, pm_ob_some, Nat.reduceDiv, Nat.reduceMod, Nat.reduceMul, Nat.reduceAdd, Int.reduceToNat, pm_kill_i, pm_kill_r, pm_kill_n, pm_kill_j, pm_kill_l, pm_kill_d, pm_cats_nil, pm_cats_i, pm_cats_r, pm_cats_n, pm_cats_l, pm_cats_d, sz_1, sz_2, sl_1, sl_2, lc_0, lc_lt, lc_le, li_ne, va_rf, wr_m1, we_m1, pm_kill_w, Int32.reduceOfInt, Int64.reduceOfInt, Int32.reduceOfNat, Int32.reduceLT, Int32.reduceLE, Prod.mk.injEq, Nat.reduceEqDiff, reduceCtorEq, and_true, true_and, and_false, false_and, and_self, ite_true, ite_false, ↓reduceIte, not_true_eq_false, not_false_eq_true, pe_ri, pe_rz, pe_rc, p_throw, t1307, w_junk hA, Cv_g0_1 hP hA, Cv_k15 hP hA, z1, eq_true k2, z3, z5, z7, eq_true k8, z9, eq_true k10, z11, eq_true k12, z13, eq_true k14, k15]
              · rw [if_neg k14] at e
                have k16 := y1307_6_4 (h := h) hP hA hD e hc
                simp -implicitDefEqProofs (disch := first | assumption | exact Nat.le_of_ble_eq_true rfl | decide) only [b1307_0, g1307_1, b1307_1, g1307_5, b1307_5, g1307_7, b1307_7, g1307_8, b1307_8, g1307_9, b1307_9, pe_iload1, pe_if_lt, pe_sipush, pe_goto, pe_goto_w, pe_call1, pm_af_ret, pm_af_void, pm_af_thr, pe_aload0, pe_istore2, pe_istore3, pe_iload3, pe_getfield, pe_icmp_ge, pe_iadd, pe_istore4, pe_iload4, pe_call2, pe_astore5, pe_astore6, pe_aload5, pe_if_ne, pe_aload6, pe_call3, pe_istore7, pe_iload7, pe_if_eq, pe_iload2, pe_iinc2, pe_imul, pe_iinc4, pe_iinc3, pe_aloadN0, pe_astoreN5, pe_astoreN6, pe_aloadN5, pe_aloadN6, pe_aastoreN, pe_areturnN, pe_null, pm_prog_1, pm_ob_some, Nat.reduceDiv, Nat.reduceMod, Nat.reduceMul, Nat.reduceAdd, Int.reduceToNat, pm_kill_i, pm_kill_r, pm_kill_n, pm_kill_j, pm_kill_l, pm_kill_d, pm_cats_nil, pm_cats_i, pm_cats_r, pm_cats_n, pm_cats_l, pm_cats_d, sz_1, sz_2, sl_1, sl_2, lc_0, lc_lt, lc_le, li_ne, va_rf, wr_m1, we_m1, pm_kill_w, Int32.reduceOfInt, Int64.reduceOfInt, Int32.reduceOfNat, Int32.reduceLT, Int32.reduceLE, Prod.mk.injEq, Nat.reduceEqDiff, reduceCtorEq, and_true, true_and, and_false, false_and, and_self, ite_true, ite_false, ↓reduceIte, not_true_eq_false, not_false_eq_true, pe_ri, pe_rz, pe_rc, p_throw, t1307, w_junk hA, Cv_g0_1 hP hA, Cv_k15 hP hA, z1, eq_true k2, z3, z5, z7, eq_true k8, z9, eq_true k10, z11, eq_true k12, z13, eq_false k14, k16]
            · rw [if_neg k12] at e
              have k17 := y1307_6_4 (h := h) hP hA hD e hc
              simp -implicitDefEqProofs (disch := first | assumption | exact Nat.le_of_ble_eq_true rfl | decide) only [b1307_0, g1307_1, b1307_1, g1307_5, b1307_5, g1307_7, b1307_7, g1307_8, b1307_8, g1307_9, b1307_9, pe_iload1, pe_if_lt, pe_sipush, pe_goto, pe_goto_w, pe_call1, pm_af_ret, pm_af_void, pm_af_thr, pe_aload0, pe_istore2, pe_istore3, pe_iload3, pe_getfield, pe_icmp_ge, pe_iadd, pe_istore4, pe_iload4, pe_call2, pe_astore5, pe_astore6, pe_aload5, pe_if_ne, pe_aload6, pe_call3, pe_istore7, pe_iload7, pe_if_eq, pe_iload2, pe_iinc2, pe_imul, pe_iinc4, pe_iinc3, pe_aloadN0, pe_astoreN5, pe_astoreN6, pe_aloadN5, pe_aloadN6, pe_aastoreN, pe_areturnN, pe_null, pm_prog_1, pm_ob_some, Nat.reduceDiv, Nat.reduceMod, Nat.reduceMul, Nat.reduceAdd, Int.reduceToNat, pm_kill_i, pm_kill_r, pm_kill_n, pm_kill_j, pm_kill_l, pm_kill_d, pm_cats_nil, pm_cats_i, pm_cats_r, pm_cats_n, pm_cats_l, pm_cats_d, sz_1, sz_2, sl_1, sl_2, lc_0, lc_lt, lc_le, li_ne, va_rf, wr_m1, we_m1, pm_kill_w, Int32.reduceOfInt, Int64.reduceOfInt, Int32.reduceOfNat, Int32.reduceLT, Int32.reduceLE, Prod.mk.injEq, Nat.reduceEqDiff, reduceCtorEq, and_true, true_and, and_false, false_and, and_self, ite_true, ite_false, ↓reduceIte, not_true_eq_false, not_false_eq_true, pe_ri, pe_rz, pe_rc, p_throw, t1307, w_junk hA, Cv_g0_1 hP hA, Cv_k15 hP hA, z1, eq_true k2, z3, z5, z7, eq_true k8, z9, eq_true k10, z11, eq_false k12, k17]
          · rw [if_neg k10] at e
            have k18 := y1307_6_4 (h := h) hP hA hD e hc
            simp -implicitDefEqProofs (disch := first | assumption | exact Nat.le_of_ble_eq_true rfl | decide) only [b1307_0, g1307_1, b1307_1, g1307_5, b1307_5, g1307_7, b1307_7, g1307_8, b1307_8, g1307_9, b1307_9, pe_iload1, pe_if_lt, pe_sipush, pe_goto, pe_goto_w, pe_call1, pm_af_ret, pm_af_void, pm_af_thr, pe_aload0, pe_istore2, pe_istore3, pe_iload3, pe_getfield, pe_icmp_ge, pe_iadd, pe_istore4, pe_iload4, pe_call2, pe_astore5, pe_astore6, pe_aload5, pe_if_ne, pe_aload6, pe_call3, pe_istore7, pe_iload7, pe_if_eq, pe_iload2, pe_iinc2, pe_imul, pe_iinc4, pe_iinc3, pe_aloadN0, pe_astoreN5, pe_astoreN6, pe_aloadN5, pe_aloadN6, pe_aastoreN, pe_areturnN, pe_null, pm_prog_1, pm_ob_some, Nat.reduceDiv, Nat.reduceMod, Nat.reduceMul, Nat.reduceAdd, Int.reduceToNat, pm_kill_i, pm_kill_r, pm_kill_n, pm_kill_j, pm_kill_l, pm_kill_d, pm_cats_nil, pm_cats_i, pm_cats_r, pm_cats_n, pm_cats_l, pm_cats_d, sz_1, sz_2, sl_1, sl_2, lc_0, lc_lt, lc_le, li_ne, va_rf, wr_m1, we_m1, pm_kill_w, Int32.reduceOfInt, Int64.reduceOfInt, Int32.reduceOfNat, Int32.reduceLT, Int32.reduceLE, Prod.mk.injEq, Nat.reduceEqDiff, reduceCtorEq, and_true, true_and, and_false, false_and, and_self, ite_true, ite_false, ↓reduceIte, not_true_eq_false, not_false_eq_true, pe_ri, pe_rz, pe_rc, p_throw, t1307, w_junk hA, Cv_g0_1 hP hA, Cv_k15 hP hA, z1, eq_true k2, z3, z5, z7, eq_true k8, z9, eq_false k10, k18]
        · rw [if_neg k8] at e
          have k19 := y1307_6_4 (h := h) hP hA hD e hc
          simp -implicitDefEqProofs (disch := first | assumption | exact Nat.le_of_ble_eq_true rfl | decide) only [b1307_0, g1307_1, b1307_1, g1307_5, b1307_5, g1307_7, b1307_7, g1307_8, b1307_8, g1307_9, b1307_9, pe_iload1, pe_if_lt, pe_sipush, pe_goto, pe_goto_w, pe_call1, pm_af_ret, pm_af_void, pm_af_thr, pe_aload0, pe_istore2, pe_istore3, pe_iload3, pe_getfield, pe_icmp_ge, pe_iadd, pe_istore4, pe_iload4, pe_call2, pe_astore5, pe_astore6, pe_aload5, pe_if_ne, pe_aload6, pe_call3, pe_istore7, pe_iload7, pe_if_eq, pe_iload2, pe_iinc2, pe_imul, pe_iinc4, pe_iinc3, pe_aloadN0, pe_astoreN5, pe_astoreN6, pe_aloadN5, pe_aloadN6, pe_aastoreN, pe_areturnN, pe_null, pm_prog_1, pm_ob_some, Nat.reduceDiv, Nat.reduceMod, Nat.reduceMul, Nat.reduceAdd, Int.reduceToNat, pm_kill_i, pm_kill_r, pm_kill_n, pm_kill_j, pm_kill_l, pm_kill_d, pm_cats_nil, pm_cats_i, pm_cats_r, pm_cats_n, pm_cats_l, pm_cats_d, sz_1, sz_2, sl_1, sl_2, lc_0, lc_lt, lc_le, li_ne, va_rf, wr_m1, we_m1, pm_kill_w, Int32.reduceOfInt, Int64.reduceOfInt, Int32.reduceOfNat, Int32.reduceLT, Int32.reduceLE, Prod.mk.injEq, Nat.reduceEqDiff, reduceCtorEq, and_true, true_and, and_false, false_and, and_self, ite_true, ite_false, ↓reduceIte, not_true_eq_false, not_false_eq_true, pe_ri, pe_rz, pe_rc, p_throw, t1307, w_junk hA, Cv_g0_1 hP hA, Cv_k15 hP hA, z1, eq_true k2, z3, z5, z7, eq_false k8, k19]
      · rw [if_neg k6] at e; cases e
    · rw [if_neg k4] at e; cases e
  · rw [if_neg k2] at e
    have e := Option.some.inj e; subst e
    dsimp only [Sum.elim_inr, ex1307_4] at hc
    simp -implicitDefEqProofs (disch := first | assumption | exact Nat.le_of_ble_eq_true rfl | decide) only [b1307_0, g1307_1, b1307_1, g1307_5, b1307_5, g1307_7, b1307_7, g1307_8, b1307_8, g1307_9, b1307_9, pe_iload1, pe_if_lt, pe_sipush, pe_goto, pe_goto_w, pe_call1, pm_af_ret, pm_af_void, pm_af_thr, pe_aload0, pe_istore2, pe_istore3, pe_iload3, pe_getfield, pe_icmp_ge, pe_iadd, pe_istore4, pe_iload4, pe_call2, pe_astore5, pe_astore6, pe_aload5, pe_if_ne, pe_aload6, pe_call3, pe_istore7, pe_iload7, pe_if_eq, pe_iload2, pe_iinc2, pe_imul, pe_iinc4, pe_iinc3, pe_aloadN0, pe_astoreN5, pe_astoreN6, pe_aloadN5, pe_aloadN6, pe_aastoreN, pe_areturnN, pe_null, pm_prog_1, pm_ob_some, Nat.reduceDiv, Nat.reduceMod, Nat.reduceMul, Nat.reduceAdd, Int.reduceToNat, pm_kill_i, pm_kill_r, pm_kill_n, pm_kill_j, pm_kill_l, pm_kill_d, pm_cats_nil, pm_cats_i, pm_cats_r, pm_cats_n, pm_cats_l, pm_cats_d, sz_1, sz_2, sl_1, sl_2, lc_0, lc_lt, lc_le, li_ne, va_rf, wr_m1, we_m1, pm_kill_w, Int32.reduceOfInt, Int64.reduceOfInt, Int32.reduceOfNat, Int32.reduceLT, Int32.reduceLE, Prod.mk.injEq, Nat.reduceEqDiff, reduceCtorEq, and_true, true_and, and_false, false_and, and_self, ite_true, ite_false, ↓reduceIte, not_true_eq_false, not_false_eq_true, pe_ri, pe_rz, pe_rc, p_throw, t1307, w_junk hA, Cv_g0_1 hP hA, Cv_k15 hP hA, z1, eq_false k2, hc]
theorem z1307_4 {mc : Int32} {jc : Int32} {tc : Int32} {ma : Int32} {ja : Int32} {ta : Int32} {oc : Int32 → Int32} {oa : Int32 → Int32} {qa : Int32 → Int32} {A : wK → Nat} {h : pm_H} {D : Nat} {R : Outcome × pm_H} (hP : Cv_P mc jc tc ma ja ta oc oa qa) (hA : wok A (Cv_d mc jc tc ma ja ta oc oa qa) h.1) (hD : 7 ≤ D) {n : Nat} {a : Int32 × Int32 × Int32 × wS} {b : (Int32 × wS) ⊕ (Int32 × Int32 × wS)} (e : lp (f1307_b4 mc jc tc ma ja ta oc oa qa) n a = some b) (hx : ex1307_4 mc jc tc ma ja ta oc oa qa A h D R b) : go1307_4 mc jc tc ma ja ta oc oa qa A h D R a := lp_run (fun a r => y1307_b4 hP hA hD a r) n a b e hx
def go1307_3 (mc : Int32) (jc : Int32) (tc : Int32) (ma : Int32) (ja : Int32) (ta : Int32) (oc : Int32 → Int32) (oa : Int32 → Int32) (qa : Int32 → Int32) (A : wK → Nat) (h : pm_H) (D : Nat) (R : Outcome × pm_H) : Int32 × Int32 × wS → Prop := fun (x2, x3, S) => ∀ q1 q4 q5 q6 q7 : Value, pm_go pm_prog (pm_call pm_prog D) 1307 3 [.ref (A (0, 0, 0)), q1, .int x2, .int x3, q4, q5, q6, q7] [] (wput A (Cv_d mc jc tc ma ja ta oc oa qa) S h) = some R
def ex1307_3 (mc : Int32) (jc : Int32) (tc : Int32) (ma : Int32) (ja : Int32) (ta : Int32) (oc : Int32 → Int32) (oa : Int32 → Int32) (qa : Int32 → Int32) (A : wK → Nat) (h : pm_H) (D : Nat) (R : Outcome × pm_H) : (Int32 × wS) ⊕ (wS) → Prop := fun b => match b with
  | (.inl (xr0, S)) => some (Outcome.returned (some (.int xr0)), (wput A (Cv_d mc jc tc ma ja ta oc oa qa) S h)) = some R
  | (.inr (S)) => ∀ q0 q1 q2 q3 q4 q5 q6 q7 : Value, pm_go pm_prog (pm_call pm_prog D) 1307 9 [q0, q1, q2, q3, q4, q5, q6, q7] [] (wput A (Cv_d mc jc tc ma ja ta oc oa qa) S h) = some R
theorem y1307_b3 {mc : Int32} {jc : Int32} {tc : Int32} {ma : Int32} {ja : Int32} {ta : Int32} {oc : Int32 → Int32} {oa : Int32 → Int32} {qa : Int32 → Int32} {A : wK → Nat} {h : pm_H} {D : Nat} {R : Outcome × pm_H} (hP : Cv_P mc jc tc ma ja ta oc oa qa) (hA : wok A (Cv_d mc jc tc ma ja ta oc oa qa) h.1) (hD : 7 ≤ D) (a : Int32 × Int32 × wS) (r : (Int32 × Int32 × wS) ⊕ ((Int32 × wS) ⊕ (wS))) (e : f1307_b3 mc jc tc ma ja ta oc oa qa a = some r) (hc : Sum.elim (go1307_3 mc jc tc ma ja ta oc oa qa A h D R) (ex1307_3 mc jc tc ma ja ta oc oa qa A h D R) r) : go1307_3 mc jc tc ma ja ta oc oa qa A h D R a := by
  obtain ⟨x2, x3, S⟩ := a
  dsimp only [go1307_3]
  intro q1 q4 q5 q6 q7
  simp only [f1307_b3] at e
  rw [g1307_3, b1307_3]
  obtain ⟨v2, k1, e⟩ := Option.bind_eq_some_iff.mp e
  try dsimp only at e
  have z1 := x4033v (D := D) (h := h) hP hA (by omega) k1
  by_cases k2 : x3 < v2
  · rw [if_pos k2] at e
    obtain ⟨b, k3, e⟩ := Option.bind_eq_some_iff.mp e
    rcases b with ⟨v15, S14⟩ | ⟨v18, v19, S16⟩
    ·
      try dsimp only at e
      try simp -implicitDefEqProofs (disch := first | assumption | exact Nat.le_of_ble_eq_true rfl | decide) only [b1307_0, g1307_1, b1307_1, g1307_5, b1307_5, g1307_7, b1307_7, g1307_8, b1307_8, g1307_9, b1307_9, pe_iload1, pe_if_lt, pe_sipush, pe_goto, pe_goto_w, pe_call1, pm_af_ret, pm_af_void, pm_af_thr, pe_aload0, pe_istore2, pe_istore3, pe_iload3, pe_getfield, pe_icmp_ge, pe_iadd, pe_istore4, pe_iload4, pe_call2, pe_astore5, pe_astore6, pe_aload5, pe_if_ne, pe_aload6, pe_call3, pe_istore7, pe_iload7, pe_if_eq, pe_iload2, pe_iinc2, pe_imul, pe_iinc4, pe_iinc3, pe_aloadN0, pe_astoreN5, pe_astoreN6, pe_aloadN5, pe_aloadN6, pe_aastoreN, pe_areturnN, pe_null, pm_prog_1, pm_ob_some, Nat.reduceDiv, Nat.reduceMod, Nat.reduceMul, Nat.reduceAdd, Int.reduceToNat, pm_kill_i, pm_kill_r, pm_kill_n, pm_kill_j, pm_kill_l, pm_kill_d, pm_cats_nil, pm_cats_i, pm_cats_r, pm_cats_n, pm_cats_l, pm_cats_d, sz_1, sz_2, sl_1, sl_2, lc_0, lc_lt, lc_le, li_ne, va_rf, wr_m1, we_m1, pm_kill_w, Int32.reduceOfInt, Int64.reduceOfInt, Int32.reduceOfNat, Int32.reduceLT, Int32.reduceLE, Prod.mk.injEq, Nat.reduceEqDiff, reduceCtorEq, and_true, true_and, and_false, false_and, and_self, ite_true, ite_false, ↓reduceIte, not_true_eq_false, not_false_eq_true, pe_ri, pe_rz, pe_rc, p_throw, t1307, w_junk hA, Cv_g0_1 hP hA, Cv_k15 hP hA, z1, eq_true k2]
      refine z1307_4 hP hA hD k3 ?_ _ _ _ _
      dsimp only [ex1307_4]
      have e := Option.some.inj e; subst e
      dsimp only [Sum.elim_inr, ex1307_3] at hc
      have hc := Option.some.inj hc; subst hc
      simp -implicitDefEqProofs (disch := first | assumption | exact Nat.le_of_ble_eq_true rfl | decide) only [b1307_0, g1307_1, b1307_1, g1307_5, b1307_5, g1307_7, b1307_7, g1307_8, b1307_8, g1307_9, b1307_9, pe_iload1, pe_if_lt, pe_sipush, pe_goto, pe_goto_w, pe_call1, pm_af_ret, pm_af_void, pm_af_thr, pe_aload0, pe_istore2, pe_istore3, pe_iload3, pe_getfield, pe_icmp_ge, pe_iadd, pe_istore4, pe_iload4, pe_call2, pe_astore5, pe_astore6, pe_aload5, pe_if_ne, pe_aload6, pe_call3, pe_istore7, pe_iload7, pe_if_eq, pe_iload2, pe_iinc2, pe_imul, pe_iinc4, pe_iinc3, pe_aloadN0, pe_astoreN5, pe_astoreN6, pe_aloadN5, pe_aloadN6, pe_aastoreN, pe_areturnN, pe_null, pm_prog_1, pm_ob_some, Nat.reduceDiv, Nat.reduceMod, Nat.reduceMul, Nat.reduceAdd, Int.reduceToNat, pm_kill_i, pm_kill_r, pm_kill_n, pm_kill_j, pm_kill_l, pm_kill_d, pm_cats_nil, pm_cats_i, pm_cats_r, pm_cats_n, pm_cats_l, pm_cats_d, sz_1, sz_2, sl_1, sl_2, lc_0, lc_lt, lc_le, li_ne, va_rf, wr_m1, we_m1, pm_kill_w, Int32.reduceOfInt, Int64.reduceOfInt, Int32.reduceOfNat, Int32.reduceLT, Int32.reduceLE, Prod.mk.injEq, Nat.reduceEqDiff, reduceCtorEq, and_true, true_and, and_false, false_and, and_self, ite_true, ite_false, ↓reduceIte, not_true_eq_false, not_false_eq_true, pe_ri, pe_rz, pe_rc, p_throw, t1307, w_junk hA, Cv_g0_1 hP hA, Cv_k15 hP hA, z1, eq_true k2]
    ·
      try dsimp only at e
      try simp -implicitDefEqProofs (disch := first | assumption | exact Nat.le_of_ble_eq_true rfl | decide) only [b1307_0, g1307_1, b1307_1, g1307_5, b1307_5, g1307_7, b1307_7, g1307_8, b1307_8, g1307_9, b1307_9, pe_iload1, pe_if_lt, pe_sipush, pe_goto, pe_goto_w, pe_call1, pm_af_ret, pm_af_void, pm_af_thr, pe_aload0, pe_istore2, pe_istore3, pe_iload3, pe_getfield, pe_icmp_ge, pe_iadd, pe_istore4, pe_iload4, pe_call2, pe_astore5, pe_astore6, pe_aload5, pe_if_ne, pe_aload6, pe_call3, pe_istore7, pe_iload7, pe_if_eq, pe_iload2, pe_iinc2, pe_imul, pe_iinc4, pe_iinc3, pe_aloadN0, pe_astoreN5, pe_astoreN6, pe_aloadN5, pe_aloadN6, pe_aastoreN, pe_areturnN, pe_null, pm_prog_1, pm_ob_some, Nat.reduceDiv, Nat.reduceMod, Nat.reduceMul, Nat.reduceAdd, Int.reduceToNat, pm_kill_i, pm_kill_r, pm_kill_n, pm_kill_j, pm_kill_l, pm_kill_d, pm_cats_nil, pm_cats_i, pm_cats_r, pm_cats_n, pm_cats_l, pm_cats_d, sz_1, sz_2, sl_1, sl_2, lc_0, lc_lt, lc_le, li_ne, va_rf, wr_m1, we_m1, pm_kill_w, Int32.reduceOfInt, Int64.reduceOfInt, Int32.reduceOfNat, Int32.reduceLT, Int32.reduceLE, Prod.mk.injEq, Nat.reduceEqDiff, reduceCtorEq, and_true, true_and, and_false, false_and, and_self, ite_true, ite_false, ↓reduceIte, not_true_eq_false, not_false_eq_true, pe_ri, pe_rz, pe_rc, p_throw, t1307, w_junk hA, Cv_g0_1 hP hA, Cv_k15 hP hA, z1, eq_true k2]
      refine z1307_4 hP hA hD k3 ?_ _ _ _ _
      dsimp only [ex1307_4]
      intro q1 q4 q5 q6 q7
      have e := Option.some.inj e; subst e
      dsimp only [Sum.elim_inl, go1307_3] at hc
      simp -implicitDefEqProofs (disch := first | assumption | exact Nat.le_of_ble_eq_true rfl | decide) only [b1307_0, g1307_1, b1307_1, g1307_5, b1307_5, g1307_7, b1307_7, g1307_8, b1307_8, g1307_9, b1307_9, pe_iload1, pe_if_lt, pe_sipush, pe_goto, pe_goto_w, pe_call1, pm_af_ret, pm_af_void, pm_af_thr, pe_aload0, pe_istore2, pe_istore3, pe_iload3, pe_getfield, pe_icmp_ge, pe_iadd, pe_istore4, pe_iload4, pe_call2, pe_astore5, pe_astore6, pe_aload5, pe_if_ne, pe_aload6, pe_call3, pe_istore7, pe_iload7, pe_if_eq, pe_iload2, pe_iinc2, pe_imul, pe_iinc4, pe_iinc3, pe_aloadN0, pe_astoreN5, pe_astoreN6, pe_aloadN5, pe_aloadN6, pe_aastoreN, pe_areturnN, pe_null, pm_prog_1, pm_ob_some, Nat.reduceDiv, Nat.reduceMod, Nat.reduceMul, Nat.reduceAdd, Int.reduceToNat, pm_kill_i, pm_kill_r, pm_kill_n, pm_kill_j, pm_kill_l, pm_kill_d, pm_cats_nil, pm_cats_i, pm_cats_r, pm_cats_n, pm_cats_l, pm_cats_d, sz_1, sz_2, sl_1, sl_2, lc_0, lc_lt, lc_le, li_ne, va_rf, wr_m1, we_m1, pm_kill_w, Int32.reduceOfInt, Int64.reduceOfInt, Int32.reduceOfNat, Int32.reduceLT, Int32.reduceLE, Prod.mk.injEq, Nat.reduceEqDiff, reduceCtorEq, and_true, true_and, and_false, false_and, and_self, ite_true, ite_false, ↓reduceIte, not_true_eq_false, not_false_eq_true, pe_ri, pe_rz, pe_rc, p_throw, t1307, w_junk hA, Cv_g0_1 hP hA, Cv_k15 hP hA, z1, eq_true k2, hc]
  · rw [if_neg k2] at e
    have e := Option.some.inj e; subst e
    dsimp only [Sum.elim_inr, ex1307_3] at hc
    simp -implicitDefEqProofs (disch := first | assumption | exact Nat.le_of_ble_eq_true rfl | decide) only [b1307_0, g1307_1, b1307_1, g1307_5, b1307_5, g1307_7, b1307_7, g1307_8, b1307_8, g1307_9, b1307_9, pe_iload1, pe_if_lt, pe_sipush, pe_goto, pe_goto_w, pe_call1, pm_af_ret, pm_af_void, pm_af_thr, pe_aload0, pe_istore2, pe_istore3, pe_iload3, pe_getfield, pe_icmp_ge, pe_iadd, pe_istore4, pe_iload4, pe_call2, pe_astore5, pe_astore6, pe_aload5, pe_if_ne, pe_aload6, pe_call3, pe_istore7, pe_iload7, pe_if_eq, pe_iload2, pe_iinc2, pe_imul, pe_iinc4, pe_iinc3, pe_aloadN0, pe_astoreN5, pe_astoreN6, pe_aloadN5, pe_aloadN6, pe_aastoreN, pe_areturnN, pe_null, pm_prog_1, pm_ob_some, Nat.reduceDiv, Nat.reduceMod, Nat.reduceMul, Nat.reduceAdd, Int.reduceToNat, pm_kill_i, pm_kill_r, pm_kill_n, pm_kill_j, pm_kill_l, pm_kill_d, pm_cats_nil, pm_cats_i, pm_cats_r, pm_cats_n, pm_cats_l, pm_cats_d, sz_1, sz_2, sl_1, sl_2, lc_0, lc_lt, lc_le, li_ne, va_rf, wr_m1, we_m1, pm_kill_w, Int32.reduceOfInt, Int64.reduceOfInt, Int32.reduceOfNat, Int32.reduceLT, Int32.reduceLE, Prod.mk.injEq, Nat.reduceEqDiff, reduceCtorEq, and_true, true_and, and_false, false_and, and_self, ite_true, ite_false, ↓reduceIte, not_true_eq_false, not_false_eq_true, pe_ri, pe_rz, pe_rc, p_throw, t1307, w_junk hA, Cv_g0_1 hP hA, Cv_k15 hP hA, z1, eq_false k2, hc]
theorem z1307_3 {mc : Int32} {jc : Int32} {tc : Int32} {ma : Int32} {ja : Int32} {ta : Int32} {oc : Int32 → Int32} {oa : Int32 → Int32} {qa : Int32 → Int32} {A : wK → Nat} {h : pm_H} {D : Nat} {R : Outcome × pm_H} (hP : Cv_P mc jc tc ma ja ta oc oa qa) (hA : wok A (Cv_d mc jc tc ma ja ta oc oa qa) h.1) (hD : 7 ≤ D) {n : Nat} {a : Int32 × Int32 × wS} {b : (Int32 × wS) ⊕ (wS)} (e : lp (f1307_b3 mc jc tc ma ja ta oc oa qa) n a = some b) (hx : ex1307_3 mc jc tc ma ja ta oc oa qa A h D R b) : go1307_3 mc jc tc ma ja ta oc oa qa A h D R a := lp_run (fun a r => y1307_b3 hP hA hD a r) n a b e hx
theorem y1307_2 {mc : Int32} {jc : Int32} {tc : Int32} {ma : Int32} {ja : Int32} {ta : Int32} {oc : Int32 → Int32} {oa : Int32 → Int32} {qa : Int32 → Int32} {A : wK → Nat} {h : pm_H} {D : Nat} {S : wS} {x1 : Int32} {y0 : Int32} {r : (Nat × wS) ⊕ (Int32 × wS)} (hP : Cv_P mc jc tc ma ja ta oc oa qa) (hA : wok A (Cv_d mc jc tc ma ja ta oc oa qa) h.1) (hD : 7 ≤ D) (e : f1307_2 mc jc tc ma ja ta oc oa qa S x1 y0 = some r) : ∀ q2 q3 q4 q5 q6 q7 : Value, pm_go pm_prog (pm_call pm_prog D) 1307 2 [.ref (A (0, 0, 0)), .int x1, q2, q3, q4, q5, q6, q7] [.int y0] (wput A (Cv_d mc jc tc ma ja ta oc oa qa) S h) = some (match (generalizing := false) r with | .inl (c, S1) => (Outcome.threw c, (wput A (Cv_d mc jc tc ma ja ta oc oa qa) S1 (pm_new h 6 (.inr (c, []))))) | .inr (w0, S1) => (Outcome.returned (some (.int w0)), (wput A (Cv_d mc jc tc ma ja ta oc oa qa) S1 h))) := by
  intro q2 q3 q4 q5 q6 q7
  simp only [f1307_2] at e
  rw [g1307_2, b1307_2]
  obtain ⟨r, k1, e⟩ := Option.bind_eq_some_iff.mp e
  have z1 := fun h => x1284 (D := D) (h := h) (by omega) k1
  rcases r with c24 | _
  · dsimp only at e z1
    have e := Option.some.inj e; subst e
    simp -implicitDefEqProofs (disch := first | assumption | exact Nat.le_of_ble_eq_true rfl | decide) only [b1307_0, g1307_1, b1307_1, g1307_5, b1307_5, g1307_7, b1307_7, g1307_8, b1307_8, g1307_9, b1307_9, pe_iload1, pe_if_lt, pe_sipush, pe_goto, pe_goto_w, pe_call1, pm_af_ret, pm_af_void, pm_af_thr, pe_aload0, pe_istore2, pe_istore3, pe_iload3, pe_getfield, pe_icmp_ge, pe_iadd, pe_istore4, pe_iload4, pe_call2, pe_astore5, pe_astore6, pe_aload5, pe_if_ne, pe_aload6, pe_call3, pe_istore7, pe_iload7, pe_if_eq, pe_iload2, pe_iinc2, pe_imul, pe_iinc4, pe_iinc3, pe_aloadN0, pe_astoreN5, pe_astoreN6, pe_aloadN5, pe_aloadN6, pe_aastoreN, pe_areturnN, pe_null, pm_prog_1, pm_ob_some, Nat.reduceDiv, Nat.reduceMod, Nat.reduceMul, Nat.reduceAdd, Int.reduceToNat, pm_kill_i, pm_kill_r, pm_kill_n, pm_kill_j, pm_kill_l, pm_kill_d, pm_cats_nil, pm_cats_i, pm_cats_r, pm_cats_n, pm_cats_l, pm_cats_d, sz_1, sz_2, sl_1, sl_2, lc_0, lc_lt, lc_le, li_ne, va_rf, wr_m1, we_m1, pm_kill_w, Int32.reduceOfInt, Int64.reduceOfInt, Int32.reduceOfNat, Int32.reduceLT, Int32.reduceLE, Prod.mk.injEq, Nat.reduceEqDiff, reduceCtorEq, and_true, true_and, and_false, false_and, and_self, ite_true, ite_false, ↓reduceIte, not_true_eq_false, not_false_eq_true, pe_ri, pe_rz, pe_rc, p_throw, t1307, w_junk hA, Cv_g0_1 hP hA, Cv_k15 hP hA, z1]
  · dsimp only at e z1
    obtain ⟨v1, k2, e⟩ := Option.bind_eq_some_iff.mp e
    try dsimp only at e
    have z2 := x1293 (D := D) (h := h) hP hA (by omega) k2
    obtain ⟨r, k3, e⟩ := Option.bind_eq_some_iff.mp e
    have z3 := fun h => x1285 (D := D) (h := h) (by omega) k3
    rcases r with c23 | _
    · dsimp only at e z3
      have e := Option.some.inj e; subst e
      simp -implicitDefEqProofs (disch := first | assumption | exact Nat.le_of_ble_eq_true rfl | decide) only [b1307_0, g1307_1, b1307_1, g1307_5, b1307_5, g1307_7, b1307_7, g1307_8, b1307_8, g1307_9, b1307_9, pe_iload1, pe_if_lt, pe_sipush, pe_goto, pe_goto_w, pe_call1, pm_af_ret, pm_af_void, pm_af_thr, pe_aload0, pe_istore2, pe_istore3, pe_iload3, pe_getfield, pe_icmp_ge, pe_iadd, pe_istore4, pe_iload4, pe_call2, pe_astore5, pe_astore6, pe_aload5, pe_if_ne, pe_aload6, pe_call3, pe_istore7, pe_iload7, pe_if_eq, pe_iload2, pe_iinc2, pe_imul, pe_iinc4, pe_iinc3, pe_aloadN0, pe_astoreN5, pe_astoreN6, pe_aloadN5, pe_aloadN6, pe_aastoreN, pe_areturnN, pe_null, pm_prog_1, pm_ob_some, Nat.reduceDiv, Nat.reduceMod, Nat.reduceMul, Nat.reduceAdd, Int.reduceToNat, pm_kill_i, pm_kill_r, pm_kill_n, pm_kill_j, pm_kill_l, pm_kill_d, pm_cats_nil, pm_cats_i, pm_cats_r, pm_cats_n, pm_cats_l, pm_cats_d, sz_1, sz_2, sl_1, sl_2, lc_0, lc_lt, lc_le, li_ne, va_rf, wr_m1, we_m1, pm_kill_w, Int32.reduceOfInt, Int64.reduceOfInt, Int32.reduceOfNat, Int32.reduceLT, Int32.reduceLE, Prod.mk.injEq, Nat.reduceEqDiff, reduceCtorEq, and_true, true_and, and_false, false_and, and_self, ite_true, ite_false, ↓reduceIte, not_true_eq_false, not_false_eq_true, pe_ri, pe_rz, pe_rc, p_throw, t1307, w_junk hA, Cv_g0_1 hP hA, Cv_k15 hP hA, z1, z2, z3]
    · dsimp only at e z3
      obtain ⟨b, k4, e⟩ := Option.bind_eq_some_iff.mp e
      rcases b with ⟨v21, S20⟩ | S22
      ·
        try dsimp only at e
        try simp -implicitDefEqProofs (disch := first | assumption | exact Nat.le_of_ble_eq_true rfl | decide) only [b1307_0, g1307_1, b1307_1, g1307_5, b1307_5, g1307_7, b1307_7, g1307_8, b1307_8, g1307_9, b1307_9, pe_iload1, pe_if_lt, pe_sipush, pe_goto, pe_goto_w, pe_call1, pm_af_ret, pm_af_void, pm_af_thr, pe_aload0, pe_istore2, pe_istore3, pe_iload3, pe_getfield, pe_icmp_ge, pe_iadd, pe_istore4, pe_iload4, pe_call2, pe_astore5, pe_astore6, pe_aload5, pe_if_ne, pe_aload6, pe_call3, pe_istore7, pe_iload7, pe_if_eq, pe_iload2, pe_iinc2, pe_imul, pe_iinc4, pe_iinc3, pe_aloadN0, pe_astoreN5, pe_astoreN6, pe_aloadN5, pe_aloadN6, pe_aastoreN, pe_areturnN, pe_null, pm_prog_1, pm_ob_some, Nat.reduceDiv, Nat.reduceMod, Nat.reduceMul, Nat.reduceAdd, Int.reduceToNat, pm_kill_i, pm_kill_r, pm_kill_n, pm_kill_j, pm_kill_l, pm_kill_d, pm_cats_nil, pm_cats_i, pm_cats_r, pm_cats_n, pm_cats_l, pm_cats_d, sz_1, sz_2, sl_1, sl_2, lc_0, lc_lt, lc_le, li_ne, va_rf, wr_m1, we_m1, pm_kill_w, Int32.reduceOfInt, Int64.reduceOfInt, Int32.reduceOfNat, Int32.reduceLT, Int32.reduceLE, Prod.mk.injEq, Nat.reduceEqDiff, reduceCtorEq, and_true, true_and, and_false, false_and, and_self, ite_true, ite_false, ↓reduceIte, not_true_eq_false, not_false_eq_true, pe_ri, pe_rz, pe_rc, p_throw, t1307, w_junk hA, Cv_g0_1 hP hA, Cv_k15 hP hA, z1, z2, z3]
        refine z1307_3 hP hA hD k4 ?_ _ _ _ _ _
        dsimp only [ex1307_3]
        have e := Option.some.inj e; subst e
        simp -implicitDefEqProofs (disch := first | assumption | exact Nat.le_of_ble_eq_true rfl | decide) only [b1307_0, g1307_1, b1307_1, g1307_5, b1307_5, g1307_7, b1307_7, g1307_8, b1307_8, g1307_9, b1307_9, pe_iload1, pe_if_lt, pe_sipush, pe_goto, pe_goto_w, pe_call1, pm_af_ret, pm_af_void, pm_af_thr, pe_aload0, pe_istore2, pe_istore3, pe_iload3, pe_getfield, pe_icmp_ge, pe_iadd, pe_istore4, pe_iload4, pe_call2, pe_astore5, pe_astore6, pe_aload5, pe_if_ne, pe_aload6, pe_call3, pe_istore7, pe_iload7, pe_if_eq, pe_iload2, pe_iinc2, pe_imul, pe_iinc4, pe_iinc3, pe_aloadN0, pe_astoreN5, pe_astoreN6, pe_aloadN5, pe_aloadN6, pe_aastoreN, pe_areturnN, pe_null, pm_prog_1, pm_ob_some, Nat.reduceDiv, Nat.reduceMod, Nat.reduceMul, Nat.reduceAdd, Int.reduceToNat, pm_kill_i, pm_kill_r, pm_kill_n, pm_kill_j, pm_kill_l, pm_kill_d, pm_cats_nil, pm_cats_i, pm_cats_r, pm_cats_n, pm_cats_l, pm_cats_d, sz_1, sz_2, sl_1, sl_2, lc_0, lc_lt, lc_le, li_ne, va_rf, wr_m1, we_m1, pm_kill_w, Int32.reduceOfInt, Int64.reduceOfInt, Int32.reduceOfNat, Int32.reduceLT, Int32.reduceLE, Prod.mk.injEq, Nat.reduceEqDiff, reduceCtorEq, and_true, true_and, and_false, false_and, and_self, ite_true, ite_false, ↓reduceIte, not_true_eq_false, not_false_eq_true, pe_ri, pe_rz, pe_rc, p_throw, t1307, w_junk hA, Cv_g0_1 hP hA, Cv_k15 hP hA, z1, z2, z3]
      ·
        try dsimp only at e
        try simp -implicitDefEqProofs (disch := first | assumption | exact Nat.le_of_ble_eq_true rfl | decide) only [b1307_0, g1307_1, b1307_1, g1307_5, b1307_5, g1307_7, b1307_7, g1307_8, b1307_8, g1307_9, b1307_9, pe_iload1, pe_if_lt, pe_sipush, pe_goto, pe_goto_w, pe_call1, pm_af_ret, pm_af_void, pm_af_thr, pe_aload0, pe_istore2, pe_istore3, pe_iload3, pe_getfield, pe_icmp_ge, pe_iadd, pe_istore4, pe_iload4, pe_call2, pe_astore5, pe_astore6, pe_aload5, pe_if_ne, pe_aload6, pe_call3, pe_istore7, pe_iload7, pe_if_eq, pe_iload2, pe_iinc2, pe_imul, pe_iinc4, pe_iinc3, pe_aloadN0, pe_astoreN5, pe_astoreN6, pe_aloadN5, pe_aloadN6, pe_aastoreN, pe_areturnN, pe_null, pm_prog_1, pm_ob_some, Nat.reduceDiv, Nat.reduceMod, Nat.reduceMul, Nat.reduceAdd, Int.reduceToNat, pm_kill_i, pm_kill_r, pm_kill_n, pm_kill_j, pm_kill_l, pm_kill_d, pm_cats_nil, pm_cats_i, pm_cats_r, pm_cats_n, pm_cats_l, pm_cats_d, sz_1, sz_2, sl_1, sl_2, lc_0, lc_lt, lc_le, li_ne, va_rf, wr_m1, we_m1, pm_kill_w, Int32.reduceOfInt, Int64.reduceOfInt, Int32.reduceOfNat, Int32.reduceLT, Int32.reduceLE, Prod.mk.injEq, Nat.reduceEqDiff, reduceCtorEq, and_true, true_and, and_false, false_and, and_self, ite_true, ite_false, ↓reduceIte, not_true_eq_false, not_false_eq_true, pe_ri, pe_rz, pe_rc, p_throw, t1307, w_junk hA, Cv_g0_1 hP hA, Cv_k15 hP hA, z1, z2, z3]
        refine z1307_3 hP hA hD k4 ?_ _ _ _ _ _
        dsimp only [ex1307_3]
        intro q0 q1 q2 q3 q4 q5 q6 q7
        have e := Option.some.inj e; subst e
        simp -implicitDefEqProofs (disch := first | assumption | exact Nat.le_of_ble_eq_true rfl | decide) only [b1307_0, g1307_1, b1307_1, g1307_5, b1307_5, g1307_7, b1307_7, g1307_8, b1307_8, g1307_9, b1307_9, pe_iload1, pe_if_lt, pe_sipush, pe_goto, pe_goto_w, pe_call1, pm_af_ret, pm_af_void, pm_af_thr, pe_aload0, pe_istore2, pe_istore3, pe_iload3, pe_getfield, pe_icmp_ge, pe_iadd, pe_istore4, pe_iload4, pe_call2, pe_astore5, pe_astore6, pe_aload5, pe_if_ne, pe_aload6, pe_call3, pe_istore7, pe_iload7, pe_if_eq, pe_iload2, pe_iinc2, pe_imul, pe_iinc4, pe_iinc3, pe_aloadN0, pe_astoreN5, pe_astoreN6, pe_aloadN5, pe_aloadN6, pe_aastoreN, pe_areturnN, pe_null, pm_prog_1, pm_ob_some, Nat.reduceDiv, Nat.reduceMod, Nat.reduceMul, Nat.reduceAdd, Int.reduceToNat, pm_kill_i, pm_kill_r, pm_kill_n, pm_kill_j, pm_kill_l, pm_kill_d, pm_cats_nil, pm_cats_i, pm_cats_r, pm_cats_n, pm_cats_l, pm_cats_d, sz_1, sz_2, sl_1, sl_2, lc_0, lc_lt, lc_le, li_ne, va_rf, wr_m1, we_m1, pm_kill_w, Int32.reduceOfInt, Int64.reduceOfInt, Int32.reduceOfNat, Int32.reduceLT, Int32.reduceLE, Prod.mk.injEq, Nat.reduceEqDiff, reduceCtorEq, and_true, true_and, and_false, false_and, and_self, ite_true, ite_false, ↓reduceIte, not_true_eq_false, not_false_eq_true, pe_ri, pe_rz, pe_rc, p_throw, t1307, w_junk hA, Cv_g0_1 hP hA, Cv_k15 hP hA, z1, z2, z3]
theorem x1307 {mc : Int32} {jc : Int32} {tc : Int32} {ma : Int32} {ja : Int32} {ta : Int32} {oc : Int32 → Int32} {oa : Int32 → Int32} {qa : Int32 → Int32} {A : wK → Nat} {h : pm_H} {D : Nat} {S : wS} {x1 : Int32} {r : (Nat × wS) ⊕ (Int32 × wS)} (hP : Cv_P mc jc tc ma ja ta oc oa qa) (hA : wok A (Cv_d mc jc tc ma ja ta oc oa qa) h.1) (hD : 8 ≤ D) (e : f1307 mc jc tc ma ja ta oc oa qa S x1 = some r) : pm_call pm_prog D 1307 [.ref (A (0, 0, 0)), .int x1] (wput A (Cv_d mc jc tc ma ja ta oc oa qa) S h) = some (match (generalizing := false) r with | .inl (c, S1) => (Outcome.threw c, (wput A (Cv_d mc jc tc ma ja ta oc oa qa) S1 (pm_new h 6 (.inr (c, []))))) | .inr (w0, S1) => (Outcome.returned (some (.int w0)), (wput A (Cv_d mc jc tc ma ja ta oc oa qa) S1 h))) := by
  obtain ⟨D, rfl⟩ : ∃ D', D = D' + 1 := ⟨D - 1, by omega⟩
  have hD : 7 ≤ D := by omega
  simp only [f1307] at e
  rw [c1307 (Cv_c0 hP hA), b1307_0]
  by_cases k1 : x1 < 0
  · rw [if_pos k1] at e
    have k2 := y1307_2 (h := h) hP hA hD e
    simp -implicitDefEqProofs (disch := first | assumption | exact Nat.le_of_ble_eq_true rfl | decide) only [b1307_0, g1307_1, b1307_1, g1307_5, b1307_5, g1307_7, b1307_7, g1307_8, b1307_8, g1307_9, b1307_9, pe_iload1, pe_if_lt, pe_sipush, pe_goto, pe_goto_w, pe_call1, pm_af_ret, pm_af_void, pm_af_thr, pe_aload0, pe_istore2, pe_istore3, pe_iload3, pe_getfield, pe_icmp_ge, pe_iadd, pe_istore4, pe_iload4, pe_call2, pe_astore5, pe_astore6, pe_aload5, pe_if_ne, pe_aload6, pe_call3, pe_istore7, pe_iload7, pe_if_eq, pe_iload2, pe_iinc2, pe_imul, pe_iinc4, pe_iinc3, pe_aloadN0, pe_astoreN5, pe_astoreN6, pe_aloadN5, pe_aloadN6, pe_aastoreN, pe_areturnN, pe_null, pm_prog_1, pm_ob_some, Nat.reduceDiv, Nat.reduceMod, Nat.reduceMul, Nat.reduceAdd, Int.reduceToNat, pm_kill_i, pm_kill_r, pm_kill_n, pm_kill_j, pm_kill_l, pm_kill_d, pm_cats_nil, pm_cats_i, pm_cats_r, pm_cats_n, pm_cats_l, pm_cats_d, sz_1, sz_2, sl_1, sl_2, lc_0, lc_lt, lc_le, li_ne, va_rf, wr_m1, we_m1, pm_kill_w, Int32.reduceOfInt, Int64.reduceOfInt, Int32.reduceOfNat, Int32.reduceLT, Int32.reduceLE, Prod.mk.injEq, Nat.reduceEqDiff, reduceCtorEq, and_true, true_and, and_false, false_and, and_self, ite_true, ite_false, ↓reduceIte, not_true_eq_false, not_false_eq_true, pe_ri, pe_rz, pe_rc, p_throw, t1307, w_junk hA, Cv_g0_1 hP hA, Cv_k15 hP hA, eq_true k1, k2]
  · rw [if_neg k1] at e
    have k3 := y1307_2 (h := h) hP hA hD e
    simp -implicitDefEqProofs (disch := first | assumption | exact Nat.le_of_ble_eq_true rfl | decide) only [b1307_0, g1307_1, b1307_1, g1307_5, b1307_5, g1307_7, b1307_7, g1307_8, b1307_8, g1307_9, b1307_9, pe_iload1, pe_if_lt, pe_sipush, pe_goto, pe_goto_w, pe_call1, pm_af_ret, pm_af_void, pm_af_thr, pe_aload0, pe_istore2, pe_istore3, pe_iload3, pe_getfield, pe_icmp_ge, pe_iadd, pe_istore4, pe_iload4, pe_call2, pe_astore5, pe_astore6, pe_aload5, pe_if_ne, pe_aload6, pe_call3, pe_istore7, pe_iload7, pe_if_eq, pe_iload2, pe_iinc2, pe_imul, pe_iinc4, pe_iinc3, pe_aloadN0, pe_astoreN5, pe_astoreN6, pe_aloadN5, pe_aloadN6, pe_aastoreN, pe_areturnN, pe_null, pm_prog_1, pm_ob_some, Nat.reduceDiv, Nat.reduceMod, Nat.reduceMul, Nat.reduceAdd, Int.reduceToNat, pm_kill_i, pm_kill_r, pm_kill_n, pm_kill_j, pm_kill_l, pm_kill_d, pm_cats_nil, pm_cats_i, pm_cats_r, pm_cats_n, pm_cats_l, pm_cats_d, sz_1, sz_2, sl_1, sl_2, lc_0, lc_lt, lc_le, li_ne, va_rf, wr_m1, we_m1, pm_kill_w, Int32.reduceOfInt, Int64.reduceOfInt, Int32.reduceOfNat, Int32.reduceLT, Int32.reduceLE, Prod.mk.injEq, Nat.reduceEqDiff, reduceCtorEq, and_true, true_and, and_false, false_and, and_self, ite_true, ite_false, ↓reduceIte, not_true_eq_false, not_false_eq_true, pe_ri, pe_rz, pe_rc, p_throw, t1307, w_junk hA, Cv_g0_1 hP hA, Cv_k15 hP hA, eq_false k1, k3]
/-- TimberHouse$WorkPlans.breaks(ILTimberHouse$WorkPlans$Job;I)Z -/
theorem c1310 {d : Nat} {h : pm_H} {a : Nat} {x0 : Int32} {r1 : Nat} {x2 : Int32} (hc : pm_cls h a = some 20) : pm_call pm_prog (d + 1) 1310 [.ref a, .int x0, .ref r1, .int x2] h = pm_ev pm_prog (pm_call pm_prog d) 1310 0 b1310_0 [.ref a, .int x0, .ref r1, .int x2, pm_junk, pm_junk, pm_junk, pm_junk] [] h := pm_cal (pm_rc1 hc rfl) rfl rfl rfl
theorem g1310_1 {cl : pm_C} {ls st : List Value} {h : pm_H} : pm_go pm_prog cl 1310 1 ls st h = pm_ev pm_prog cl 1310 1 b1310_1 ls st h := pm_go_eq pm_prog cl 1310 1 ls st h
theorem g1310_2 {cl : pm_C} {ls st : List Value} {h : pm_H} : pm_go pm_prog cl 1310 2 ls st h = pm_ev pm_prog cl 1310 2 b1310_2 ls st h := pm_go_eq pm_prog cl 1310 2 ls st h
theorem g1310_3 {cl : pm_C} {ls st : List Value} {h : pm_H} : pm_go pm_prog cl 1310 3 ls st h = pm_ev pm_prog cl 1310 3 b1310_3 ls st h := pm_go_eq pm_prog cl 1310 3 ls st h
theorem g1310_4 {cl : pm_C} {ls st : List Value} {h : pm_H} : pm_go pm_prog cl 1310 4 ls st h = pm_ev pm_prog cl 1310 4 b1310_4 ls st h := pm_go_eq pm_prog cl 1310 4 ls st h
theorem g1310_5 {cl : pm_C} {ls st : List Value} {h : pm_H} : pm_go pm_prog cl 1310 5 ls st h = pm_ev pm_prog cl 1310 5 b1310_5 ls st h := pm_go_eq pm_prog cl 1310 5 ls st h
theorem g1310_6 {cl : pm_C} {ls st : List Value} {h : pm_H} : pm_go pm_prog cl 1310 6 ls st h = pm_ev pm_prog cl 1310 6 b1310_6 ls st h := pm_go_eq pm_prog cl 1310 6 ls st h
theorem g1310_7 {cl : pm_C} {ls st : List Value} {h : pm_H} : pm_go pm_prog cl 1310 7 ls st h = pm_ev pm_prog cl 1310 7 b1310_7 ls st h := pm_go_eq pm_prog cl 1310 7 ls st h
theorem g1310_8 {cl : pm_C} {ls st : List Value} {h : pm_H} : pm_go pm_prog cl 1310 8 ls st h = pm_ev pm_prog cl 1310 8 b1310_8 ls st h := pm_go_eq pm_prog cl 1310 8 ls st h
theorem g1310_9 {cl : pm_C} {ls st : List Value} {h : pm_H} : pm_go pm_prog cl 1310 9 ls st h = pm_ev pm_prog cl 1310 9 b1310_9 ls st h := pm_go_eq pm_prog cl 1310 9 ls st h
theorem g1310_10 {cl : pm_C} {ls st : List Value} {h : pm_H} : pm_go pm_prog cl 1310 10 ls st h = pm_ev pm_prog cl 1310 10 b1310_10 ls st h := pm_go_eq pm_prog cl 1310 10 ls st h
theorem g1310_11 {cl : pm_C} {ls st : List Value} {h : pm_H} : pm_go pm_prog cl 1310 11 ls st h = pm_ev pm_prog cl 1310 11 b1310_11 ls st h := pm_go_eq pm_prog cl 1310 11 ls st h
theorem g1310_12 {cl : pm_C} {ls st : List Value} {h : pm_H} : pm_go pm_prog cl 1310 12 ls st h = pm_ev pm_prog cl 1310 12 b1310_12 ls st h := pm_go_eq pm_prog cl 1310 12 ls st h
theorem g1310_13 {cl : pm_C} {ls st : List Value} {h : pm_H} : pm_go pm_prog cl 1310 13 ls st h = pm_ev pm_prog cl 1310 13 b1310_13 ls st h := pm_go_eq pm_prog cl 1310 13 ls st h
theorem g1310_14 {cl : pm_C} {ls st : List Value} {h : pm_H} : pm_go pm_prog cl 1310 14 ls st h = pm_ev pm_prog cl 1310 14 b1310_14 ls st h := pm_go_eq pm_prog cl 1310 14 ls st h
theorem g1310_15 {cl : pm_C} {ls st : List Value} {h : pm_H} : pm_go pm_prog cl 1310 15 ls st h = pm_ev pm_prog cl 1310 15 b1310_15 ls st h := pm_go_eq pm_prog cl 1310 15 ls st h
noncomputable def f1310_1 (mc : Int32) (jc : Int32) (tc : Int32) (ma : Int32) (ja : Int32) (ta : Int32) (oc : Int32 → Int32) (oa : Int32 → Int32) (qa : Int32 → Int32) (S : wS) (x6 : Int32) : Option (Int32) :=
  if x6 = (-1) then
    some 1
  else
    some 0
noncomputable def f1310_6 (mc : Int32) (jc : Int32) (tc : Int32) (ma : Int32) (ja : Int32) (ta : Int32) (oc : Int32 → Int32) (oa : Int32 → Int32) (qa : Int32 → Int32) (S : wS) (x5 : Int32) (y0i : Int32) : Option (Int32) :=
  if y0i < 0 then
    some 0
  else
    if 0 ≤ y0i ∧ y0i < tc then
      if 0 ≤ (S.1 (16, y0i, 0) 0) ∧ (S.1 (16, y0i, 0) 0) < 24 then
        if x5 < (((S.1 (19, 1, 0) (S.1 (16, y0i, 0) 0)) + (S.1 (16, y0i, 0) 2)) + (S.1 (16, y0i, 0) 3)) then
          some 1
        else
          some 0
      else none
    else none
noncomputable def f1310_b13 (mc : Int32) (jc : Int32) (tc : Int32) (ma : Int32) (ja : Int32) (ta : Int32) (oc : Int32 → Int32) (oa : Int32 → Int32) (qa : Int32 → Int32) (S : wS) : Int32 × Int32 × Int32 × Int32 → Option ((Int32 × Int32 × Int32 × Int32) ⊕ ((Int32) ⊕ (Unit))) := fun (x4i, x5, x6, x7) =>
  if 0 ≤ x4i ∧ x4i < tc then
    if x7 < (S.1 (16, x4i, 0) 0) then
      if 0 ≤ x7 ∧ x7 < 24 then
        if (S.1 (20, 1, 0) x7) = x6 then
          (f4034vv3 mc jc tc ma ja ta oc oa qa S x7).bind fun v5i =>
          if 0 ≤ v5i ∧ v5i < tc then
            if x5 < ((S.1 (19, 1, 0) x7) + (S.1 (16, v5i, 0) 2)) then
              if (S.1 (19, 1, 0) x7) < (x5 + (S.1 (16, x4i, 0) 2)) then
                some (.inr (.inl 1))
              else
                some (.inl (x4i, x5, x6, (x7 + 1)))
            else
              some (.inl (x4i, x5, x6, (x7 + 1)))
          else none
        else
          some (.inl (x4i, x5, x6, (x7 + 1)))
      else none
    else
      some (.inr (.inr (())))
  else none
/-- TimberHouse$WorkPlans.breaks(ILTimberHouse$WorkPlans$Job;I)Z -/
noncomputable def f1310 (mc : Int32) (jc : Int32) (tc : Int32) (ma : Int32) (ja : Int32) (ta : Int32) (oc : Int32 → Int32) (oa : Int32 → Int32) (qa : Int32 → Int32) (S : wS) (x1 : Int32) (x2i : Int32) (x3 : Int32) : Option (Int32) :=
  if 0 ≤ x2i ∧ x2i < jc then
    (f4034vv2 mc jc tc ma ja ta oc oa qa S x2i x3).bind fun v1i =>
    if 0 ≤ v1i ∧ v1i < tc then
      if 0 ≤ (S.1 (16, v1i, 0) 0) ∧ (S.1 (16, v1i, 0) 0) < 24 then
        if x1 = 1 then
          f1310_1 mc jc tc ma ja ta oc oa qa S (S.1 (20, 1, 0) (S.1 (16, v1i, 0) 0))
        else
          if (S.1 (20, 1, 0) (S.1 (16, v1i, 0) 0)) = (-1) then
            f1310_1 mc jc tc ma ja ta oc oa qa S (S.1 (20, 1, 0) (S.1 (16, v1i, 0) 0))
          else
            if x1 = 2 then
              if x3 = 0 then
                f1310_6 mc jc tc ma ja ta oc oa qa S (S.1 (19, 1, 0) (S.1 (16, v1i, 0) 0)) (-1)
              else
                (f4034vv2 mc jc tc ma ja ta oc oa qa S x2i (x3 - 1)).bind fun v2i =>
                if 0 ≤ v2i ∧ v2i < tc then
                  f1310_6 mc jc tc ma ja ta oc oa qa S (S.1 (19, 1, 0) (S.1 (16, v1i, 0) 0)) v2i
                else none
            else
              if x1 = 4 then
                (f4034vv1 mc jc tc ma ja ta oc oa qa S (S.1 (20, 1, 0) (S.1 (16, v1i, 0) 0))).bind fun v3i =>
                if 0 ≤ v3i ∧ v3i < mc then
                  (f3329 mc jc tc ma ja ta oc oa qa S v3i (S.1 (19, 1, 0) (S.1 (16, v1i, 0) 0)) (S.1 (16, v1i, 0) 2)).bind fun v4 =>
                  if v4 = (-1) then
                    some 0
                  else
                    some 1
                else none
              else
                (lp (f1310_b13 mc jc tc ma ja ta oc oa qa S) FU (v1i, (S.1 (19, 1, 0) (S.1 (16, v1i, 0) 0)), (S.1 (20, 1, 0) (S.1 (16, v1i, 0) 0)), 0)).bind fun b => match b with
                | (.inl v6) =>
                  some v6
                | (.inr (())) =>
                  some 0
      else none
    else none
  else none
theorem y1310_1 {mc : Int32} {jc : Int32} {tc : Int32} {ma : Int32} {ja : Int32} {ta : Int32} {oc : Int32 → Int32} {oa : Int32 → Int32} {qa : Int32 → Int32} {A : wK → Nat} {h : pm_H} {D : Nat} {S : wS} {x6 : Int32} {r : Int32} (hP : Cv_P mc jc tc ma ja ta oc oa qa) (hA : wok A (Cv_d mc jc tc ma ja ta oc oa qa) h.1) (hD : 4 ≤ D) (e : f1310_1 mc jc tc ma ja ta oc oa qa S x6 = some r) : ∀ q0 q1 q2 q3 q4 q5 q7 : Value, pm_go pm_prog (pm_call pm_prog D) 1310 1 [q0, q1, q2, q3, q4, q5, .int x6, q7] [] (wput A (Cv_d mc jc tc ma ja ta oc oa qa) S h) = some (Outcome.returned (some (.int r)), (wput A (Cv_d mc jc tc ma ja ta oc oa qa) S h)) := by
  intro q0 q1 q2 q3 q4 q5 q7
  simp only [f1310_1] at e
  rw [g1310_1, b1310_1]
  by_cases k1 : x6 = (-1)
  · rw [if_pos k1] at e
    have e := Option.some.inj e; subst e
    simp -implicitDefEqProofs (disch := first | assumption | exact Nat.le_of_ble_eq_true rfl | decide) only [b1310_0, g1310_2, b1310_2, g1310_3, b1310_3, g1310_4, b1310_4, g1310_5, b1310_5, g1310_7, b1310_7, g1310_8, b1310_8, g1310_9, b1310_9, g1310_10, b1310_10, g1310_11, b1310_11, g1310_12, b1310_12, g1310_14, b1310_14, g1310_15, b1310_15, pe_aload2, pe_getfield, pe_iload3, pe_call2, pm_af_ret, pm_af_void, pm_af_thr, pe_astore4, pe_aload0, pe_aload4, pe_iaload, pe_istore5, pe_istore6, pe_iload1, pe_sipush, pe_icmp_eq, pe_iload6, pe_icmp_ne, pe_goto_w, pe_goto, pe_if_ne, pe_null, pe_isub, pe_astore7, pe_aload7, pe_ifnull_n, pe_ifnull_r, pe_iload5, pe_iadd, pe_icmp_ge, pe_call3, pe_istore7, pe_iload7, pe_iinc7, pe_aloadN2, pe_astoreN4, pe_aloadN0, pe_aloadN4, pe_astoreN7, pe_aloadN7, pe_aastoreN, pe_areturnN, pm_prog_1, pm_ob_some, Nat.reduceDiv, Nat.reduceMod, Nat.reduceMul, Nat.reduceAdd, Int.reduceToNat, pm_kill_i, pm_kill_r, pm_kill_n, pm_kill_j, pm_kill_l, pm_kill_d, pm_cats_nil, pm_cats_i, pm_cats_r, pm_cats_n, pm_cats_l, pm_cats_d, sz_1, sz_2, sl_1, sl_2, lc_0, lc_lt, lc_le, li_ne, va_rf, wr_m1, we_m1, pm_kill_w, Int32.reduceOfInt, Int64.reduceOfInt, Int32.reduceOfNat, Int32.reduceLT, Int32.reduceLE, Prod.mk.injEq, Nat.reduceEqDiff, reduceCtorEq, and_true, true_and, and_false, false_and, and_self, ite_true, ite_false, ↓reduceIte, not_true_eq_false, not_false_eq_true, pe_ri, pe_rz, pe_rc, Cv_g0_0 hP hA, Cv_g0_2 hP hA, Cv_g0_4 hP hA, Cv_g15_2 hP hA, Cv_g16_0 hP hA, Cv_g16_2 hP hA, Cv_g16_3 hP hA, Cv_g7_2 hP hA, Cv_g7_3 hP hA, Cv_k11 hP hA, Cv_k16 hP hA, Cv_r19 hP hA, Cv_r20 hP hA, eq_true k1]
  · rw [if_neg k1] at e
    have e := Option.some.inj e; subst e
    simp -implicitDefEqProofs (disch := first | assumption | exact Nat.le_of_ble_eq_true rfl | decide) only [b1310_0, g1310_2, b1310_2, g1310_3, b1310_3, g1310_4, b1310_4, g1310_5, b1310_5, g1310_7, b1310_7, g1310_8, b1310_8, g1310_9, b1310_9, g1310_10, b1310_10, g1310_11, b1310_11, g1310_12, b1310_12, g1310_14, b1310_14, g1310_15, b1310_15, pe_aload2, pe_getfield, pe_iload3, pe_call2, pm_af_ret, pm_af_void, pm_af_thr, pe_astore4, pe_aload0, pe_aload4, pe_iaload, pe_istore5, pe_istore6, pe_iload1, pe_sipush, pe_icmp_eq, pe_iload6, pe_icmp_ne, pe_goto_w, pe_goto, pe_if_ne, pe_null, pe_isub, pe_astore7, pe_aload7, pe_ifnull_n, pe_ifnull_r, pe_iload5, pe_iadd, pe_icmp_ge, pe_call3, pe_istore7, pe_iload7, pe_iinc7, pe_aloadN2, pe_astoreN4, pe_aloadN0, pe_aloadN4, pe_astoreN7, pe_aloadN7, pe_aastoreN, pe_areturnN, pm_prog_1, pm_ob_some, Nat.reduceDiv, Nat.reduceMod, Nat.reduceMul, Nat.reduceAdd, Int.reduceToNat, pm_kill_i, pm_kill_r, pm_kill_n, pm_kill_j, pm_kill_l, pm_kill_d, pm_cats_nil, pm_cats_i, pm_cats_r, pm_cats_n, pm_cats_l, pm_cats_d, sz_1, sz_2, sl_1, sl_2, lc_0, lc_lt, lc_le, li_ne, va_rf, wr_m1, we_m1, pm_kill_w, Int32.reduceOfInt, Int64.reduceOfInt, Int32.reduceOfNat, Int32.reduceLT, Int32.reduceLE, Prod.mk.injEq, Nat.reduceEqDiff, reduceCtorEq, and_true, true_and, and_false, false_and, and_self, ite_true, ite_false, ↓reduceIte, not_true_eq_false, not_false_eq_true, pe_ri, pe_rz, pe_rc, Cv_g0_0 hP hA, Cv_g0_2 hP hA, Cv_g0_4 hP hA, Cv_g15_2 hP hA, Cv_g16_0 hP hA, Cv_g16_2 hP hA, Cv_g16_3 hP hA, Cv_g7_2 hP hA, Cv_g7_3 hP hA, Cv_k11 hP hA, Cv_k16 hP hA, Cv_r19 hP hA, Cv_r20 hP hA, eq_false k1]
theorem y1310_6 {mc : Int32} {jc : Int32} {tc : Int32} {ma : Int32} {ja : Int32} {ta : Int32} {oc : Int32 → Int32} {oa : Int32 → Int32} {qa : Int32 → Int32} {A : wK → Nat} {h : pm_H} {D : Nat} {S : wS} {x5 : Int32} {y0i : Int32} {r : Int32} (hP : Cv_P mc jc tc ma ja ta oc oa qa) (hA : wok A (Cv_d mc jc tc ma ja ta oc oa qa) h.1) (hD : 4 ≤ D) (e : f1310_6 mc jc tc ma ja ta oc oa qa S x5 y0i = some r) : ∀ q1 q2 q3 q4 q6 q7 : Value, pm_go pm_prog (pm_call pm_prog D) 1310 6 [.ref (A (0, 0, 0)), q1, q2, q3, q4, .int x5, q6, q7] [wr A 16 y0i] (wput A (Cv_d mc jc tc ma ja ta oc oa qa) S h) = some (Outcome.returned (some (.int r)), (wput A (Cv_d mc jc tc ma ja ta oc oa qa) S h)) := by
  intro q1 q2 q3 q4 q6 q7
  simp only [f1310_6] at e
  rw [g1310_6, b1310_6]
  by_cases k1 : y0i < 0
  · rw [if_pos k1] at e
    have e := Option.some.inj e; subst e
    simp -implicitDefEqProofs (disch := first | assumption | exact Nat.le_of_ble_eq_true rfl | decide) only [b1310_0, g1310_2, b1310_2, g1310_3, b1310_3, g1310_4, b1310_4, g1310_5, b1310_5, g1310_7, b1310_7, g1310_8, b1310_8, g1310_9, b1310_9, g1310_10, b1310_10, g1310_11, b1310_11, g1310_12, b1310_12, g1310_14, b1310_14, g1310_15, b1310_15, pe_aload2, pe_getfield, pe_iload3, pe_call2, pm_af_ret, pm_af_void, pm_af_thr, pe_astore4, pe_aload0, pe_aload4, pe_iaload, pe_istore5, pe_istore6, pe_iload1, pe_sipush, pe_icmp_eq, pe_iload6, pe_icmp_ne, pe_goto_w, pe_goto, pe_if_ne, pe_null, pe_isub, pe_astore7, pe_aload7, pe_ifnull_n, pe_ifnull_r, pe_iload5, pe_iadd, pe_icmp_ge, pe_call3, pe_istore7, pe_iload7, pe_iinc7, pe_aloadN2, pe_astoreN4, pe_aloadN0, pe_aloadN4, pe_astoreN7, pe_aloadN7, pe_aastoreN, pe_areturnN, pm_prog_1, pm_ob_some, Nat.reduceDiv, Nat.reduceMod, Nat.reduceMul, Nat.reduceAdd, Int.reduceToNat, pm_kill_i, pm_kill_r, pm_kill_n, pm_kill_j, pm_kill_l, pm_kill_d, pm_cats_nil, pm_cats_i, pm_cats_r, pm_cats_n, pm_cats_l, pm_cats_d, sz_1, sz_2, sl_1, sl_2, lc_0, lc_lt, lc_le, li_ne, va_rf, wr_m1, we_m1, pm_kill_w, Int32.reduceOfInt, Int64.reduceOfInt, Int32.reduceOfNat, Int32.reduceLT, Int32.reduceLE, Prod.mk.injEq, Nat.reduceEqDiff, reduceCtorEq, and_true, true_and, and_false, false_and, and_self, ite_true, ite_false, ↓reduceIte, not_true_eq_false, not_false_eq_true, pe_ri, pe_rz, pe_rc, Cv_g0_0 hP hA, Cv_g0_2 hP hA, Cv_g0_4 hP hA, Cv_g15_2 hP hA, Cv_g16_0 hP hA, Cv_g16_2 hP hA, Cv_g16_3 hP hA, Cv_g7_2 hP hA, Cv_g7_3 hP hA, Cv_k11 hP hA, Cv_k16 hP hA, Cv_r19 hP hA, Cv_r20 hP hA, wr_n (A := A) (f := 16) k1, we_n (A := A) (f := 16) k1]
  · rw [if_neg k1] at e
    by_cases k2 : 0 ≤ y0i ∧ y0i < tc
    · rw [if_pos k2] at e
      by_cases k3 : 0 ≤ (S.1 (16, y0i, 0) 0) ∧ (S.1 (16, y0i, 0) 0) < 24
      · rw [if_pos k3] at e
        by_cases k4 : x5 < (((S.1 (19, 1, 0) (S.1 (16, y0i, 0) 0)) + (S.1 (16, y0i, 0) 2)) + (S.1 (16, y0i, 0) 3))
        · rw [if_pos k4] at e
          have e := Option.some.inj e; subst e
          simp -implicitDefEqProofs (disch := first | assumption | exact Nat.le_of_ble_eq_true rfl | decide) only [b1310_0, g1310_2, b1310_2, g1310_3, b1310_3, g1310_4, b1310_4, g1310_5, b1310_5, g1310_7, b1310_7, g1310_8, b1310_8, g1310_9, b1310_9, g1310_10, b1310_10, g1310_11, b1310_11, g1310_12, b1310_12, g1310_14, b1310_14, g1310_15, b1310_15, pe_aload2, pe_getfield, pe_iload3, pe_call2, pm_af_ret, pm_af_void, pm_af_thr, pe_astore4, pe_aload0, pe_aload4, pe_iaload, pe_istore5, pe_istore6, pe_iload1, pe_sipush, pe_icmp_eq, pe_iload6, pe_icmp_ne, pe_goto_w, pe_goto, pe_if_ne, pe_null, pe_isub, pe_astore7, pe_aload7, pe_ifnull_n, pe_ifnull_r, pe_iload5, pe_iadd, pe_icmp_ge, pe_call3, pe_istore7, pe_iload7, pe_iinc7, pe_aloadN2, pe_astoreN4, pe_aloadN0, pe_aloadN4, pe_astoreN7, pe_aloadN7, pe_aastoreN, pe_areturnN, pm_prog_1, pm_ob_some, Nat.reduceDiv, Nat.reduceMod, Nat.reduceMul, Nat.reduceAdd, Int.reduceToNat, pm_kill_i, pm_kill_r, pm_kill_n, pm_kill_j, pm_kill_l, pm_kill_d, pm_cats_nil, pm_cats_i, pm_cats_r, pm_cats_n, pm_cats_l, pm_cats_d, sz_1, sz_2, sl_1, sl_2, lc_0, lc_lt, lc_le, li_ne, va_rf, wr_m1, we_m1, pm_kill_w, Int32.reduceOfInt, Int64.reduceOfInt, Int32.reduceOfNat, Int32.reduceLT, Int32.reduceLE, Prod.mk.injEq, Nat.reduceEqDiff, reduceCtorEq, and_true, true_and, and_false, false_and, and_self, ite_true, ite_false, ↓reduceIte, not_true_eq_false, not_false_eq_true, pe_ri, pe_rz, pe_rc, Cv_g0_0 hP hA, Cv_g0_2 hP hA, Cv_g0_4 hP hA, Cv_g15_2 hP hA, Cv_g16_0 hP hA, Cv_g16_2 hP hA, Cv_g16_3 hP hA, Cv_g7_2 hP hA, Cv_g7_3 hP hA, Cv_k11 hP hA, Cv_k16 hP hA, Cv_r19 hP hA, Cv_r20 hP hA, wr_p (A := A) (f := 16) k1, we_p (A := A) (f := 16) k1, wr_p (A := A) (f := 16) (wz_lt k2), we_p (A := A) (f := 16) (wz_lt k2), eq_true k4]
        · rw [if_neg k4] at e
          have e := Option.some.inj e; subst e
          simp -implicitDefEqProofs (disch := first | assumption | exact Nat.le_of_ble_eq_true rfl | decide) only [b1310_0, g1310_2, b1310_2, g1310_3, b1310_3, g1310_4, b1310_4, g1310_5, b1310_5, g1310_7, b1310_7, g1310_8, b1310_8, g1310_9, b1310_9, g1310_10, b1310_10, g1310_11, b1310_11, g1310_12, b1310_12, g1310_14, b1310_14, g1310_15, b1310_15, pe_aload2, pe_getfield, pe_iload3, pe_call2, pm_af_ret, pm_af_void, pm_af_thr, pe_astore4, pe_aload0, pe_aload4, pe_iaload, pe_istore5, pe_istore6, pe_iload1, pe_sipush, pe_icmp_eq, pe_iload6, pe_icmp_ne, pe_goto_w, pe_goto, pe_if_ne, pe_null, pe_isub, pe_astore7, pe_aload7, pe_ifnull_n, pe_ifnull_r, pe_iload5, pe_iadd, pe_icmp_ge, pe_call3, pe_istore7, pe_iload7, pe_iinc7, pe_aloadN2, pe_astoreN4, pe_aloadN0, pe_aloadN4, pe_astoreN7, pe_aloadN7, pe_aastoreN, pe_areturnN, pm_prog_1, pm_ob_some, Nat.reduceDiv, Nat.reduceMod, Nat.reduceMul, Nat.reduceAdd, Int.reduceToNat, pm_kill_i, pm_kill_r, pm_kill_n, pm_kill_j, pm_kill_l, pm_kill_d, pm_cats_nil, pm_cats_i, pm_cats_r, pm_cats_n, pm_cats_l, pm_cats_d, sz_1, sz_2, sl_1, sl_2, lc_0, lc_lt, lc_le, li_ne, va_rf, wr_m1, we_m1, pm_kill_w, Int32.reduceOfInt, Int64.reduceOfInt, Int32.reduceOfNat, Int32.reduceLT, Int32.reduceLE, Prod.mk.injEq, Nat.reduceEqDiff, reduceCtorEq, and_true, true_and, and_false, false_and, and_self, ite_true, ite_false, ↓reduceIte, not_true_eq_false, not_false_eq_true, pe_ri, pe_rz, pe_rc, Cv_g0_0 hP hA, Cv_g0_2 hP hA, Cv_g0_4 hP hA, Cv_g15_2 hP hA, Cv_g16_0 hP hA, Cv_g16_2 hP hA, Cv_g16_3 hP hA, Cv_g7_2 hP hA, Cv_g7_3 hP hA, Cv_k11 hP hA, Cv_k16 hP hA, Cv_r19 hP hA, Cv_r20 hP hA, wr_p (A := A) (f := 16) k1, we_p (A := A) (f := 16) k1, wr_p (A := A) (f := 16) (wz_lt k2), we_p (A := A) (f := 16) (wz_lt k2), eq_false k4]
      · rw [if_neg k3] at e; cases e
    · rw [if_neg k2] at e; cases e
def go1310_13 (mc : Int32) (jc : Int32) (tc : Int32) (ma : Int32) (ja : Int32) (ta : Int32) (oc : Int32 → Int32) (oa : Int32 → Int32) (qa : Int32 → Int32) (A : wK → Nat) (h : pm_H) (D : Nat) (R : Outcome × pm_H) (S : wS) : Int32 × Int32 × Int32 × Int32 → Prop := fun (x4i, x5, x6, x7) => ∀ q1 q2 q3 : Value, pm_go pm_prog (pm_call pm_prog D) 1310 13 [.ref (A (0, 0, 0)), q1, q2, q3, .ref (A (16, x4i, 0)), .int x5, .int x6, .int x7] [] (wput A (Cv_d mc jc tc ma ja ta oc oa qa) S h) = some R
def ex1310_13 (mc : Int32) (jc : Int32) (tc : Int32) (ma : Int32) (ja : Int32) (ta : Int32) (oc : Int32 → Int32) (oa : Int32 → Int32) (qa : Int32 → Int32) (A : wK → Nat) (h : pm_H) (D : Nat) (R : Outcome × pm_H) (S : wS) : (Int32) ⊕ (Unit) → Prop := fun b => match b with
  | (.inl xr0) => some (Outcome.returned (some (.int xr0)), (wput A (Cv_d mc jc tc ma ja ta oc oa qa) S h)) = some R
  | (.inr (_)) => ∀ q0 q1 q2 q3 q4 q5 q6 q7 : Value, pm_go pm_prog (pm_call pm_prog D) 1310 15 [q0, q1, q2, q3, q4, q5, q6, q7] [] (wput A (Cv_d mc jc tc ma ja ta oc oa qa) S h) = some R
theorem y1310_b13 {mc : Int32} {jc : Int32} {tc : Int32} {ma : Int32} {ja : Int32} {ta : Int32} {oc : Int32 → Int32} {oa : Int32 → Int32} {qa : Int32 → Int32} {A : wK → Nat} {h : pm_H} {D : Nat} {R : Outcome × pm_H} {S : wS} (hP : Cv_P mc jc tc ma ja ta oc oa qa) (hA : wok A (Cv_d mc jc tc ma ja ta oc oa qa) h.1) (hD : 4 ≤ D) (a : Int32 × Int32 × Int32 × Int32) (r : (Int32 × Int32 × Int32 × Int32) ⊕ ((Int32) ⊕ (Unit))) (e : f1310_b13 mc jc tc ma ja ta oc oa qa S a = some r) (hc : Sum.elim (go1310_13 mc jc tc ma ja ta oc oa qa A h D R S) (ex1310_13 mc jc tc ma ja ta oc oa qa A h D R S) r) : go1310_13 mc jc tc ma ja ta oc oa qa A h D R S a := by
  obtain ⟨x4i, x5, x6, x7⟩ := a
  dsimp only [go1310_13]
  intro q1 q2 q3
  simp only [f1310_b13] at e
  rw [g1310_13, b1310_13]
  by_cases k1 : 0 ≤ x4i ∧ x4i < tc
  · rw [if_pos k1] at e
    by_cases k2 : x7 < (S.1 (16, x4i, 0) 0)
    · rw [if_pos k2] at e
      by_cases k3 : 0 ≤ x7 ∧ x7 < 24
      · rw [if_pos k3] at e
        by_cases k4 : (S.1 (20, 1, 0) x7) = x6
        · rw [if_pos k4] at e
          obtain ⟨v5i, k5, e⟩ := Option.bind_eq_some_iff.mp e
          try dsimp only at e
          have z5 := x4034vv3 (D := D) (h := h) hP hA (by omega) k5
          by_cases k6 : 0 ≤ v5i ∧ v5i < tc
          · rw [if_pos k6] at e
            by_cases k7 : x5 < ((S.1 (19, 1, 0) x7) + (S.1 (16, v5i, 0) 2))
            · rw [if_pos k7] at e
              by_cases k8 : (S.1 (19, 1, 0) x7) < (x5 + (S.1 (16, x4i, 0) 2))
              · rw [if_pos k8] at e
                have e := Option.some.inj e; subst e
                dsimp only [Sum.elim_inr, ex1310_13] at hc
                have hc := Option.some.inj hc; subst hc
                simp -implicitDefEqProofs (disch := first | assumption | exact Nat.le_of_ble_eq_true rfl | decide) only [b1310_0, g1310_2, b1310_2, g1310_3, b1310_3, g1310_4, b1310_4, g1310_5, b1310_5, g1310_7, b1310_7, g1310_8, b1310_8, g1310_9, b1310_9, g1310_10, b1310_10, g1310_11, b1310_11, g1310_12, b1310_12, g1310_14, b1310_14, g1310_15, b1310_15, pe_aload2, pe_getfield, pe_iload3, pe_call2, pm_af_ret, pm_af_void, pm_af_thr, pe_astore4, pe_aload0, pe_aload4, pe_iaload, pe_istore5, pe_istore6, pe_iload1, pe_sipush, pe_icmp_eq, pe_iload6, pe_icmp_ne, pe_goto_w, pe_goto, pe_if_ne, pe_null, pe_isub, pe_astore7, pe_aload7, pe_ifnull_n, pe_ifnull_r, pe_iload5, pe_iadd, pe_icmp_ge, pe_call3, pe_istore7, pe_iload7, pe_iinc7, pe_aloadN2, pe_astoreN4, pe_aloadN0, pe_aloadN4, pe_astoreN7, pe_aloadN7, pe_aastoreN, pe_areturnN, pm_prog_1, pm_ob_some, Nat.reduceDiv, Nat.reduceMod, Nat.reduceMul, Nat.reduceAdd, Int.reduceToNat, pm_kill_i, pm_kill_r, pm_kill_n, pm_kill_j, pm_kill_l, pm_kill_d, pm_cats_nil, pm_cats_i, pm_cats_r, pm_cats_n, pm_cats_l, pm_cats_d, sz_1, sz_2, sl_1, sl_2, lc_0, lc_lt, lc_le, li_ne, va_rf, wr_m1, we_m1, pm_kill_w, Int32.reduceOfInt, Int64.reduceOfInt, Int32.reduceOfNat, Int32.reduceLT, Int32.reduceLE, Prod.mk.injEq, Nat.reduceEqDiff, reduceCtorEq, and_true, true_and, and_false, false_and, and_self, ite_true, ite_false, ↓reduceIte, not_true_eq_false, not_false_eq_true, pe_ri, pe_rz, pe_rc, Cv_g0_0 hP hA, Cv_g0_2 hP hA, Cv_g0_4 hP hA, Cv_g15_2 hP hA, Cv_g16_0 hP hA, Cv_g16_2 hP hA, Cv_g16_3 hP hA, Cv_g7_2 hP hA, Cv_g7_3 hP hA, Cv_k11 hP hA, Cv_k16 hP hA, Cv_r19 hP hA, Cv_r20 hP hA, eq_true k2, eq_true k4, z5, eq_true k7, eq_true k8]
              · rw [if_neg k8] at e
                have e := Option.some.inj e; subst e
                dsimp only [Sum.elim_inl, go1310_13] at hc
                simp -implicitDefEqProofs (disch := first | assumption | exact Nat.le_of_ble_eq_true rfl | decide) only [b1310_0, g1310_2, b1310_2, g1310_3, b1310_3, g1310_4, b1310_4, g1310_5, b1310_5, g1310_7, b1310_7, g1310_8, b1310_8, g1310_9, b1310_9, g1310_10, b1310_10, g1310_11, b1310_11, g1310_12, b1310_12, g1310_14, b1310_14, g1310_15, b1310_15, pe_aload2, pe_getfield, pe_iload3, pe_call2, pm_af_ret, pm_af_void, pm_af_thr, pe_astore4, pe_aload0, pe_aload4, pe_iaload, pe_istore5, pe_istore6, pe_iload1, pe_sipush, pe_icmp_eq, pe_iload6, pe_icmp_ne, pe_goto_w, pe_goto, pe_if_ne, pe_null, pe_isub, pe_astore7, pe_aload7, pe_ifnull_n, pe_ifnull_r, pe_iload5, pe_iadd, pe_icmp_ge, pe_call3, pe_istore7, pe_iload7, pe_iinc7, pe_aloadN2, pe_astoreN4, pe_aloadN0, pe_aloadN4, pe_astoreN7, pe_aloadN7, pe_aastoreN, pe_areturnN, pm_prog_1, pm_ob_some, Nat.reduceDiv, Nat.reduceMod, Nat.reduceMul, Nat.reduceAdd, Int.reduceToNat, pm_kill_i, pm_kill_r, pm_kill_n, pm_kill_j, pm_kill_l, pm_kill_d, pm_cats_nil, pm_cats_i, pm_cats_r, pm_cats_n, pm_cats_l, pm_cats_d, sz_1, sz_2, sl_1, sl_2, lc_0, lc_lt, lc_le, li_ne, va_rf, wr_m1, we_m1, pm_kill_w, Int32.reduceOfInt, Int64.reduceOfInt, Int32.reduceOfNat, Int32.reduceLT, Int32.reduceLE, Prod.mk.injEq, Nat.reduceEqDiff, reduceCtorEq, and_true, true_and, and_false, false_and, and_self, ite_true, ite_false, ↓reduceIte, not_true_eq_false, not_false_eq_true, pe_ri, pe_rz, pe_rc, Cv_g0_0 hP hA, Cv_g0_2 hP hA, Cv_g0_4 hP hA, Cv_g15_2 hP hA, Cv_g16_0 hP hA, Cv_g16_2 hP hA, Cv_g16_3 hP hA, Cv_g7_2 hP hA, Cv_g7_3 hP hA, Cv_k11 hP hA, Cv_k16 hP hA, Cv_r19 hP hA, Cv_r20 hP hA, eq_true k2, eq_true k4, z5, eq_true k7, eq_false k8, hc]
            · rw [if_neg k7] at e
              have e := Option.some.inj e; subst e
              dsimp only [Sum.elim_inl, go1310_13] at hc
              simp -implicitDefEqProofs (disch := first | assumption | exact Nat.le_of_ble_eq_true rfl | decide) only [b1310_0, g1310_2, b1310_2, g1310_3, b1310_3, g1310_4, b1310_4, g1310_5, b1310_5, g1310_7, b1310_7, g1310_8, b1310_8, g1310_9, b1310_9, g1310_10, b1310_10, g1310_11, b1310_11, g1310_12, b1310_12, g1310_14, b1310_14, g1310_15, b1310_15, pe_aload2, pe_getfield, pe_iload3, pe_call2, pm_af_ret, pm_af_void, pm_af_thr, pe_astore4, pe_aload0, pe_aload4, pe_iaload, pe_istore5, pe_istore6, pe_iload1, pe_sipush, pe_icmp_eq, pe_iload6, pe_icmp_ne, pe_goto_w, pe_goto, pe_if_ne, pe_null, pe_isub, pe_astore7, pe_aload7, pe_ifnull_n, pe_ifnull_r, pe_iload5, pe_iadd, pe_icmp_ge, pe_call3, pe_istore7, pe_iload7, pe_iinc7, pe_aloadN2, pe_astoreN4, pe_aloadN0, pe_aloadN4, pe_astoreN7, pe_aloadN7, pe_aastoreN, pe_areturnN, pm_prog_1, pm_ob_some, Nat.reduceDiv, Nat.reduceMod, Nat.reduceMul, Nat.reduceAdd, Int.reduceToNat, pm_kill_i, pm_kill_r, pm_kill_n, pm_kill_j, pm_kill_l, pm_kill_d, pm_cats_nil, pm_cats_i, pm_cats_r, pm_cats_n, pm_cats_l, pm_cats_d, sz_1, sz_2, sl_1, sl_2, lc_0, lc_lt, lc_le, li_ne, va_rf, wr_m1, we_m1, pm_kill_w, Int32.reduceOfInt, Int64.reduceOfInt, Int32.reduceOfNat, Int32.reduceLT, Int32.reduceLE, Prod.mk.injEq, Nat.reduceEqDiff, reduceCtorEq, and_true, true_and, and_false, false_and, and_self, ite_true, ite_false, ↓reduceIte, not_true_eq_false, not_false_eq_true, pe_ri, pe_rz, pe_rc, Cv_g0_0 hP hA, Cv_g0_2 hP hA, Cv_g0_4 hP hA, Cv_g15_2 hP hA, Cv_g16_0 hP hA, Cv_g16_2 hP hA, Cv_g16_3 hP hA, Cv_g7_2 hP hA, Cv_g7_3 hP hA, Cv_k11 hP hA, Cv_k16 hP hA, Cv_r19 hP hA, Cv_r20 hP hA, eq_true k2, eq_true k4, z5, eq_false k7, hc]
          · rw [if_neg k6] at e; cases e
        · rw [if_neg k4] at e
          have e := Option.some.inj e; subst e
          dsimp only [Sum.elim_inl, go1310_13] at hc
          simp -implicitDefEqProofs (disch := first | assumption | exact Nat.le_of_ble_eq_true rfl | decide) only [b1310_0, g1310_2, b1310_2, g1310_3, b1310_3, g1310_4, b1310_4, g1310_5, b1310_5, g1310_7, b1310_7, g1310_8, b1310_8, g1310_9, b1310_9, g1310_10, b1310_10, g1310_11, b1310_11, g1310_12, b1310_12, g1310_14, b1310_14, g1310_15, b1310_15, pe_aload2, pe_getfield, pe_iload3, pe_call2, pm_af_ret, pm_af_void, pm_af_thr, pe_astore4, pe_aload0, pe_aload4, pe_iaload, pe_istore5, pe_istore6, pe_iload1, pe_sipush, pe_icmp_eq, pe_iload6, pe_icmp_ne, pe_goto_w, pe_goto, pe_if_ne, pe_null, pe_isub, pe_astore7, pe_aload7, pe_ifnull_n, pe_ifnull_r, pe_iload5, pe_iadd, pe_icmp_ge, pe_call3, pe_istore7, pe_iload7, pe_iinc7, pe_aloadN2, pe_astoreN4, pe_aloadN0, pe_aloadN4, pe_astoreN7, pe_aloadN7, pe_aastoreN, pe_areturnN, pm_prog_1, pm_ob_some, Nat.reduceDiv, Nat.reduceMod, Nat.reduceMul, Nat.reduceAdd, Int.reduceToNat, pm_kill_i, pm_kill_r, pm_kill_n, pm_kill_j, pm_kill_l, pm_kill_d, pm_cats_nil, pm_cats_i, pm_cats_r, pm_cats_n, pm_cats_l, pm_cats_d, sz_1, sz_2, sl_1, sl_2, lc_0, lc_lt, lc_le, li_ne, va_rf, wr_m1, we_m1, pm_kill_w, Int32.reduceOfInt, Int64.reduceOfInt, Int32.reduceOfNat, Int32.reduceLT, Int32.reduceLE, Prod.mk.injEq, Nat.reduceEqDiff, reduceCtorEq, and_true, true_and, and_false, false_and, and_self, ite_true, ite_false, ↓reduceIte, not_true_eq_false, not_false_eq_true, pe_ri, pe_rz, pe_rc, Cv_g0_0 hP hA, Cv_g0_2 hP hA, Cv_g0_4 hP hA, Cv_g15_2 hP hA, Cv_g16_0 hP hA, Cv_g16_2 hP hA, Cv_g16_3 hP hA, Cv_g7_2 hP hA, Cv_g7_3 hP hA, Cv_k11 hP hA, Cv_k16 hP hA, Cv_r19 hP hA, Cv_r20 hP hA, eq_true k2, eq_false k4, hc]
      · rw [if_neg k3] at e; cases e
    · rw [if_neg k2] at e
      have e := Option.some.inj e; subst e
      dsimp only [Sum.elim_inr, ex1310_13] at hc
      simp -implicitDefEqProofs (disch := first | assumption | exact Nat.le_of_ble_eq_true rfl | decide) only [b1310_0, g1310_2, b1310_2, g1310_3, b1310_3, g1310_4, b1310_4, g1310_5, b1310_5, g1310_7, b1310_7, g1310_8, b1310_8, g1310_9, b1310_9, g1310_10, b1310_10, g1310_11, b1310_11, g1310_12, b1310_12, g1310_14, b1310_14, g1310_15, b1310_15, pe_aload2, pe_getfield, pe_iload3, pe_call2, pm_af_ret, pm_af_void, pm_af_thr, pe_astore4, pe_aload0, pe_aload4, pe_iaload, pe_istore5, pe_istore6, pe_iload1, pe_sipush, pe_icmp_eq, pe_iload6, pe_icmp_ne, pe_goto_w, pe_goto, pe_if_ne, pe_null, pe_isub, pe_astore7, pe_aload7, pe_ifnull_n, pe_ifnull_r, pe_iload5, pe_iadd, pe_icmp_ge, pe_call3, pe_istore7, pe_iload7, pe_iinc7, pe_aloadN2, pe_astoreN4, pe_aloadN0, pe_aloadN4, pe_astoreN7, pe_aloadN7, pe_aastoreN, pe_areturnN, pm_prog_1, pm_ob_some, Nat.reduceDiv, Nat.reduceMod, Nat.reduceMul, Nat.reduceAdd, Int.reduceToNat, pm_kill_i, pm_kill_r, pm_kill_n, pm_kill_j, pm_kill_l, pm_kill_d, pm_cats_nil, pm_cats_i, pm_cats_r, pm_cats_n, pm_cats_l, pm_cats_d, sz_1, sz_2, sl_1, sl_2, lc_0, lc_lt, lc_le, li_ne, va_rf, wr_m1, we_m1, pm_kill_w, Int32.reduceOfInt, Int64.reduceOfInt, Int32.reduceOfNat, Int32.reduceLT, Int32.reduceLE, Prod.mk.injEq, Nat.reduceEqDiff, reduceCtorEq, and_true, true_and, and_false, false_and, and_self, ite_true, ite_false, ↓reduceIte, not_true_eq_false, not_false_eq_true, pe_ri, pe_rz, pe_rc, Cv_g0_0 hP hA, Cv_g0_2 hP hA, Cv_g0_4 hP hA, Cv_g15_2 hP hA, Cv_g16_0 hP hA, Cv_g16_2 hP hA, Cv_g16_3 hP hA, Cv_g7_2 hP hA, Cv_g7_3 hP hA, Cv_k11 hP hA, Cv_k16 hP hA, Cv_r19 hP hA, Cv_r20 hP hA, eq_false k2, hc]
  · rw [if_neg k1] at e; cases e
theorem z1310_13 {mc : Int32} {jc : Int32} {tc : Int32} {ma : Int32} {ja : Int32} {ta : Int32} {oc : Int32 → Int32} {oa : Int32 → Int32} {qa : Int32 → Int32} {A : wK → Nat} {h : pm_H} {D : Nat} {R : Outcome × pm_H} {S : wS} (hP : Cv_P mc jc tc ma ja ta oc oa qa) (hA : wok A (Cv_d mc jc tc ma ja ta oc oa qa) h.1) (hD : 4 ≤ D) {n : Nat} {a : Int32 × Int32 × Int32 × Int32} {b : (Int32) ⊕ (Unit)} (e : lp (f1310_b13 mc jc tc ma ja ta oc oa qa S) n a = some b) (hx : ex1310_13 mc jc tc ma ja ta oc oa qa A h D R S b) : go1310_13 mc jc tc ma ja ta oc oa qa A h D R S a := lp_run (fun a r => y1310_b13 hP hA hD a r) n a b e hx
theorem x1310 {mc : Int32} {jc : Int32} {tc : Int32} {ma : Int32} {ja : Int32} {ta : Int32} {oc : Int32 → Int32} {oa : Int32 → Int32} {qa : Int32 → Int32} {A : wK → Nat} {h : pm_H} {D : Nat} {S : wS} {x1 : Int32} {x2i : Int32} {x3 : Int32} {r : Int32} (hP : Cv_P mc jc tc ma ja ta oc oa qa) (hA : wok A (Cv_d mc jc tc ma ja ta oc oa qa) h.1) (hD : 5 ≤ D) (e : f1310 mc jc tc ma ja ta oc oa qa S x1 x2i x3 = some r) : pm_call pm_prog D 1310 [.ref (A (0, 0, 0)), .int x1, .ref (A (15, x2i, 0)), .int x3] (wput A (Cv_d mc jc tc ma ja ta oc oa qa) S h) = some (Outcome.returned (some (.int r)), (wput A (Cv_d mc jc tc ma ja ta oc oa qa) S h)) := by
  obtain ⟨D, rfl⟩ : ∃ D', D = D' + 1 := ⟨D - 1, by omega⟩
  have hD : 4 ≤ D := by omega
  simp only [f1310] at e
  have k1 : 0 ≤ x2i ∧ x2i < jc := by
    by_cases q : 0 ≤ x2i ∧ x2i < jc
    · exact q
    · rw [if_neg q] at e; cases e
  rw [if_pos k1] at e
  rw [c1310 (Cv_c0 hP hA), b1310_0]
  obtain ⟨v1i, k2, e⟩ := Option.bind_eq_some_iff.mp e
  try dsimp only at e
  have z2 := x4034vv2 (D := D) (h := h) hP hA (by omega) k2
  by_cases k3 : 0 ≤ v1i ∧ v1i < tc
  · rw [if_pos k3] at e
    by_cases k4 : 0 ≤ (S.1 (16, v1i, 0) 0) ∧ (S.1 (16, v1i, 0) 0) < 24
    · rw [if_pos k4] at e
      by_cases k5 : x1 = 1
      · rw [if_pos k5] at e
        have k6 := y1310_1 (h := h) hP hA hD e
        simp -implicitDefEqProofs (disch := first | assumption | exact Nat.le_of_ble_eq_true rfl | decide) only [b1310_0, g1310_2, b1310_2, g1310_3, b1310_3, g1310_4, b1310_4, g1310_5, b1310_5, g1310_7, b1310_7, g1310_8, b1310_8, g1310_9, b1310_9, g1310_10, b1310_10, g1310_11, b1310_11, g1310_12, b1310_12, g1310_14, b1310_14, g1310_15, b1310_15, pe_aload2, pe_getfield, pe_iload3, pe_call2, pm_af_ret, pm_af_void, pm_af_thr, pe_astore4, pe_aload0, pe_aload4, pe_iaload, pe_istore5, pe_istore6, pe_iload1, pe_sipush, pe_icmp_eq, pe_iload6, pe_icmp_ne, pe_goto_w, pe_goto, pe_if_ne, pe_null, pe_isub, pe_astore7, pe_aload7, pe_ifnull_n, pe_ifnull_r, pe_iload5, pe_iadd, pe_icmp_ge, pe_call3, pe_istore7, pe_iload7, pe_iinc7, pe_aloadN2, pe_astoreN4, pe_aloadN0, pe_aloadN4, pe_astoreN7, pe_aloadN7, pe_aastoreN, pe_areturnN, pm_prog_1, pm_ob_some, Nat.reduceDiv, Nat.reduceMod, Nat.reduceMul, Nat.reduceAdd, Int.reduceToNat, pm_kill_i, pm_kill_r, pm_kill_n, pm_kill_j, pm_kill_l, pm_kill_d, pm_cats_nil, pm_cats_i, pm_cats_r, pm_cats_n, pm_cats_l, pm_cats_d, sz_1, sz_2, sl_1, sl_2, lc_0, lc_lt, lc_le, li_ne, va_rf, wr_m1, we_m1, pm_kill_w, Int32.reduceOfInt, Int64.reduceOfInt, Int32.reduceOfNat, Int32.reduceLT, Int32.reduceLE, Prod.mk.injEq, Nat.reduceEqDiff, reduceCtorEq, and_true, true_and, and_false, false_and, and_self, ite_true, ite_false, ↓reduceIte, not_true_eq_false, not_false_eq_true, pe_ri, pe_rz, pe_rc, Cv_g0_0 hP hA, Cv_g0_2 hP hA, Cv_g0_4 hP hA, Cv_g15_2 hP hA, Cv_g16_0 hP hA, Cv_g16_2 hP hA, Cv_g16_3 hP hA, Cv_g7_2 hP hA, Cv_g7_3 hP hA, Cv_k11 hP hA, Cv_k16 hP hA, Cv_r19 hP hA, Cv_r20 hP hA, z2, eq_true k5, k6]
      · rw [if_neg k5] at e
        by_cases k7 : (S.1 (20, 1, 0) (S.1 (16, v1i, 0) 0)) = (-1)
        · rw [if_pos k7] at e
          have k8 := y1310_1 (h := h) hP hA hD e
          simp -implicitDefEqProofs (disch := first | assumption | exact Nat.le_of_ble_eq_true rfl | decide) only [b1310_0, g1310_2, b1310_2, g1310_3, b1310_3, g1310_4, b1310_4, g1310_5, b1310_5, g1310_7, b1310_7, g1310_8, b1310_8, g1310_9, b1310_9, g1310_10, b1310_10, g1310_11, b1310_11, g1310_12, b1310_12, g1310_14, b1310_14, g1310_15, b1310_15, pe_aload2, pe_getfield, pe_iload3, pe_call2, pm_af_ret, pm_af_void, pm_af_thr, pe_astore4, pe_aload0, pe_aload4, pe_iaload, pe_istore5, pe_istore6, pe_iload1, pe_sipush, pe_icmp_eq, pe_iload6, pe_icmp_ne, pe_goto_w, pe_goto, pe_if_ne, pe_null, pe_isub, pe_astore7, pe_aload7, pe_ifnull_n, pe_ifnull_r, pe_iload5, pe_iadd, pe_icmp_ge, pe_call3, pe_istore7, pe_iload7, pe_iinc7, pe_aloadN2, pe_astoreN4, pe_aloadN0, pe_aloadN4, pe_astoreN7, pe_aloadN7, pe_aastoreN, pe_areturnN, pm_prog_1, pm_ob_some, Nat.reduceDiv, Nat.reduceMod, Nat.reduceMul, Nat.reduceAdd, Int.reduceToNat, pm_kill_i, pm_kill_r, pm_kill_n, pm_kill_j, pm_kill_l, pm_kill_d, pm_cats_nil, pm_cats_i, pm_cats_r, pm_cats_n, pm_cats_l, pm_cats_d, sz_1, sz_2, sl_1, sl_2, lc_0, lc_lt, lc_le, li_ne, va_rf, wr_m1, we_m1, pm_kill_w, Int32.reduceOfInt, Int64.reduceOfInt, Int32.reduceOfNat, Int32.reduceLT, Int32.reduceLE, Prod.mk.injEq, Nat.reduceEqDiff, reduceCtorEq, and_true, true_and, and_false, false_and, and_self, ite_true, ite_false, ↓reduceIte, not_true_eq_false, not_false_eq_true, pe_ri, pe_rz, pe_rc, Cv_g0_0 hP hA, Cv_g0_2 hP hA, Cv_g0_4 hP hA, Cv_g15_2 hP hA, Cv_g16_0 hP hA, Cv_g16_2 hP hA, Cv_g16_3 hP hA, Cv_g7_2 hP hA, Cv_g7_3 hP hA, Cv_k11 hP hA, Cv_k16 hP hA, Cv_r19 hP hA, Cv_r20 hP hA, z2, eq_false k5, eq_true k7, k8]
        · rw [if_neg k7] at e
          by_cases k9 : x1 = 2
          · rw [if_pos k9] at e
            by_cases k10 : x3 = 0
            · rw [if_pos k10] at e
              have k11 := y1310_6 (h := h) hP hA hD e
              try simp only [wr_m1] at k11
              simp -implicitDefEqProofs (disch := first | assumption | exact Nat.le_of_ble_eq_true rfl | decide) only [b1310_0, g1310_2, b1310_2, g1310_3, b1310_3, g1310_4, b1310_4, g1310_5, b1310_5, g1310_7, b1310_7, g1310_8, b1310_8, g1310_9, b1310_9, g1310_10, b1310_10, g1310_11, b1310_11, g1310_12, b1310_12, g1310_14, b1310_14, g1310_15, b1310_15, pe_aload2, pe_getfield, pe_iload3, pe_call2, pm_af_ret, pm_af_void, pm_af_thr, pe_astore4, pe_aload0, pe_aload4, pe_iaload, pe_istore5, pe_istore6, pe_iload1, pe_sipush, pe_icmp_eq, pe_iload6, pe_icmp_ne, pe_goto_w, pe_goto, pe_if_ne, pe_null, pe_isub, pe_astore7, pe_aload7, pe_ifnull_n, pe_ifnull_r, pe_iload5, pe_iadd, pe_icmp_ge, pe_call3, pe_istore7, pe_iload7, pe_iinc7, pe_aloadN2, pe_astoreN4, pe_aloadN0, pe_aloadN4, pe_astoreN7, pe_aloadN7, pe_aastoreN, pe_areturnN, pm_prog_1, pm_ob_some, Nat.reduceDiv, Nat.reduceMod, Nat.reduceMul, Nat.reduceAdd, Int.reduceToNat, pm_kill_i, pm_kill_r, pm_kill_n, pm_kill_j, pm_kill_l, pm_kill_d, pm_cats_nil, pm_cats_i, pm_cats_r, pm_cats_n, pm_cats_l, pm_cats_d, sz_1, sz_2, sl_1, sl_2, lc_0, lc_lt, lc_le, li_ne, va_rf, wr_m1, we_m1, pm_kill_w, Int32.reduceOfInt, Int64.reduceOfInt, Int32.reduceOfNat, Int32.reduceLT, Int32.reduceLE, Prod.mk.injEq, Nat.reduceEqDiff, reduceCtorEq, and_true, true_and, and_false, false_and, and_self, ite_true, ite_false, ↓reduceIte, not_true_eq_false, not_false_eq_true, pe_ri, pe_rz, pe_rc, Cv_g0_0 hP hA, Cv_g0_2 hP hA, Cv_g0_4 hP hA, Cv_g15_2 hP hA, Cv_g16_0 hP hA, Cv_g16_2 hP hA, Cv_g16_3 hP hA, Cv_g7_2 hP hA, Cv_g7_3 hP hA, Cv_k11 hP hA, Cv_k16 hP hA, Cv_r19 hP hA, Cv_r20 hP hA, z2, eq_false k5, eq_false k7, eq_true k9, eq_true k10, k11]
            · rw [if_neg k10] at e
              obtain ⟨v2i, k12, e⟩ := Option.bind_eq_some_iff.mp e
              try dsimp only at e
              have z12 := x4034vv2 (D := D) (h := h) hP hA (by omega) k12
              by_cases k13 : 0 ≤ v2i ∧ v2i < tc
              · rw [if_pos k13] at e
                have k14 := y1310_6 (h := h) hP hA hD e
                try simp only [wr_m1, wr_p (A := A) (f := 16) (wz_lt k13)] at k14
                simp -implicitDefEqProofs (disch := first | assumption | exact Nat.le_of_ble_eq_true rfl | decide) only [b1310_0, g1310_2, b1310_2, g1310_3, b1310_3, g1310_4, b1310_4, g1310_5, b1310_5, g1310_7, b1310_7, g1310_8, b1310_8, g1310_9, b1310_9, g1310_10, b1310_10, g1310_11, b1310_11, g1310_12, b1310_12, g1310_14, b1310_14, g1310_15, b1310_15, pe_aload2, pe_getfield, pe_iload3, pe_call2, pm_af_ret, pm_af_void, pm_af_thr, pe_astore4, pe_aload0, pe_aload4, pe_iaload, pe_istore5, pe_istore6, pe_iload1, pe_sipush, pe_icmp_eq, pe_iload6, pe_icmp_ne, pe_goto_w, pe_goto, pe_if_ne, pe_null, pe_isub, pe_astore7, pe_aload7, pe_ifnull_n, pe_ifnull_r, pe_iload5, pe_iadd, pe_icmp_ge, pe_call3, pe_istore7, pe_iload7, pe_iinc7, pe_aloadN2, pe_astoreN4, pe_aloadN0, pe_aloadN4, pe_astoreN7, pe_aloadN7, pe_aastoreN, pe_areturnN, pm_prog_1, pm_ob_some, Nat.reduceDiv, Nat.reduceMod, Nat.reduceMul, Nat.reduceAdd, Int.reduceToNat, pm_kill_i, pm_kill_r, pm_kill_n, pm_kill_j, pm_kill_l, pm_kill_d, pm_cats_nil, pm_cats_i, pm_cats_r, pm_cats_n, pm_cats_l, pm_cats_d, sz_1, sz_2, sl_1, sl_2, lc_0, lc_lt, lc_le, li_ne, va_rf, wr_m1, we_m1, pm_kill_w, Int32.reduceOfInt, Int64.reduceOfInt, Int32.reduceOfNat, Int32.reduceLT, Int32.reduceLE, Prod.mk.injEq, Nat.reduceEqDiff, reduceCtorEq, and_true, true_and, and_false, false_and, and_self, ite_true, ite_false, ↓reduceIte, not_true_eq_false, not_false_eq_true, pe_ri, pe_rz, pe_rc, Cv_g0_0 hP hA, Cv_g0_2 hP hA, Cv_g0_4 hP hA, Cv_g15_2 hP hA, Cv_g16_0 hP hA, Cv_g16_2 hP hA, Cv_g16_3 hP hA, Cv_g7_2 hP hA, Cv_g7_3 hP hA, Cv_k11 hP hA, Cv_k16 hP hA, Cv_r19 hP hA, Cv_r20 hP hA, z2, eq_false k5, eq_false k7, eq_true k9, eq_false k10, z12, k14]
              · rw [if_neg k13] at e; cases e
          · rw [if_neg k9] at e
            by_cases k15 : x1 = 4
            · rw [if_pos k15] at e
              obtain ⟨v3i, k16, e⟩ := Option.bind_eq_some_iff.mp e
              try dsimp only at e
              have z16 := x4034vv1 (D := D) (h := h) hP hA (by omega) k16
              by_cases k17 : 0 ≤ v3i ∧ v3i < mc
              · rw [if_pos k17] at e
                obtain ⟨v4, k18, e⟩ := Option.bind_eq_some_iff.mp e
                try dsimp only at e
                have z18 := x3329 (D := D) (h := h) hP hA (by omega) k18
                by_cases k19 : v4 = (-1)
                · rw [if_pos k19] at e
                  have e := Option.some.inj e; subst e
                  simp -implicitDefEqProofs (disch := first | assumption | exact Nat.le_of_ble_eq_true rfl | decide) only [b1310_0, g1310_2, b1310_2, g1310_3, b1310_3, g1310_4, b1310_4, g1310_5, b1310_5, g1310_7, b1310_7, g1310_8, b1310_8, g1310_9, b1310_9, g1310_10, b1310_10, g1310_11, b1310_11, g1310_12, b1310_12, g1310_14, b1310_14, g1310_15, b1310_15, pe_aload2, pe_getfield, pe_iload3, pe_call2, pm_af_ret, pm_af_void, pm_af_thr, pe_astore4, pe_aload0, pe_aload4, pe_iaload, pe_istore5, pe_istore6, pe_iload1, pe_sipush, pe_icmp_eq, pe_iload6, pe_icmp_ne, pe_goto_w, pe_goto, pe_if_ne, pe_null, pe_isub, pe_astore7, pe_aload7, pe_ifnull_n, pe_ifnull_r, pe_iload5, pe_iadd, pe_icmp_ge, pe_call3, pe_istore7, pe_iload7, pe_iinc7, pe_aloadN2, pe_astoreN4, pe_aloadN0, pe_aloadN4, pe_astoreN7, pe_aloadN7, pe_aastoreN, pe_areturnN, pm_prog_1, pm_ob_some, Nat.reduceDiv, Nat.reduceMod, Nat.reduceMul, Nat.reduceAdd, Int.reduceToNat, pm_kill_i, pm_kill_r, pm_kill_n, pm_kill_j, pm_kill_l, pm_kill_d, pm_cats_nil, pm_cats_i, pm_cats_r, pm_cats_n, pm_cats_l, pm_cats_d, sz_1, sz_2, sl_1, sl_2, lc_0, lc_lt, lc_le, li_ne, va_rf, wr_m1, we_m1, pm_kill_w, Int32.reduceOfInt, Int64.reduceOfInt, Int32.reduceOfNat, Int32.reduceLT, Int32.reduceLE, Prod.mk.injEq, Nat.reduceEqDiff, reduceCtorEq, and_true, true_and, and_false, false_and, and_self, ite_true, ite_false, ↓reduceIte, not_true_eq_false, not_false_eq_true, pe_ri, pe_rz, pe_rc, Cv_g0_0 hP hA, Cv_g0_2 hP hA, Cv_g0_4 hP hA, Cv_g15_2 hP hA, Cv_g16_0 hP hA, Cv_g16_2 hP hA, Cv_g16_3 hP hA, Cv_g7_2 hP hA, Cv_g7_3 hP hA, Cv_k11 hP hA, Cv_k16 hP hA, Cv_r19 hP hA, Cv_r20 hP hA, z2, eq_false k5, eq_false k7, eq_false k9, eq_true k15, z16, z18, eq_true k19]
                · rw [if_neg k19] at e
                  have e := Option.some.inj e; subst e
                  simp -implicitDefEqProofs (disch := first | assumption | exact Nat.le_of_ble_eq_true rfl | decide) only [b1310_0, g1310_2, b1310_2, g1310_3, b1310_3, g1310_4, b1310_4, g1310_5, b1310_5, g1310_7, b1310_7, g1310_8, b1310_8, g1310_9, b1310_9, g1310_10, b1310_10, g1310_11, b1310_11, g1310_12, b1310_12, g1310_14, b1310_14, g1310_15, b1310_15, pe_aload2, pe_getfield, pe_iload3, pe_call2, pm_af_ret, pm_af_void, pm_af_thr, pe_astore4, pe_aload0, pe_aload4, pe_iaload, pe_istore5, pe_istore6, pe_iload1, pe_sipush, pe_icmp_eq, pe_iload6, pe_icmp_ne, pe_goto_w, pe_goto, pe_if_ne, pe_null, pe_isub, pe_astore7, pe_aload7, pe_ifnull_n, pe_ifnull_r, pe_iload5, pe_iadd, pe_icmp_ge, pe_call3, pe_istore7, pe_iload7, pe_iinc7, pe_aloadN2, pe_astoreN4, pe_aloadN0, pe_aloadN4, pe_astoreN7, pe_aloadN7, pe_aastoreN, pe_areturnN, pm_prog_1, pm_ob_some, Nat.reduceDiv, Nat.reduceMod, Nat.reduceMul, Nat.reduceAdd, Int.reduceToNat, pm_kill_i, pm_kill_r, pm_kill_n, pm_kill_j, pm_kill_l, pm_kill_d, pm_cats_nil, pm_cats_i, pm_cats_r, pm_cats_n, pm_cats_l, pm_cats_d, sz_1, sz_2, sl_1, sl_2, lc_0, lc_lt, lc_le, li_ne, va_rf, wr_m1, we_m1, pm_kill_w, Int32.reduceOfInt, Int64.reduceOfInt, Int32.reduceOfNat, Int32.reduceLT, Int32.reduceLE, Prod.mk.injEq, Nat.reduceEqDiff, reduceCtorEq, and_true, true_and, and_false, false_and, and_self, ite_true, ite_false, ↓reduceIte, not_true_eq_false, not_false_eq_true, pe_ri, pe_rz, pe_rc, Cv_g0_0 hP hA, Cv_g0_2 hP hA, Cv_g0_4 hP hA, Cv_g15_2 hP hA, Cv_g16_0 hP hA, Cv_g16_2 hP hA, Cv_g16_3 hP hA, Cv_g7_2 hP hA, Cv_g7_3 hP hA, Cv_k11 hP hA, Cv_k16 hP hA, Cv_r19 hP hA, Cv_r20 hP hA, z2, eq_false k5, eq_false k7, eq_false k9, eq_true k15, z16, z18, eq_false k19]
              · rw [if_neg k17] at e; cases e
            · rw [if_neg k15] at e
              obtain ⟨b, k20, e⟩ := Option.bind_eq_some_iff.mp e
              rcases b with v6 | _
              ·
                try dsimp only at e
                try simp -implicitDefEqProofs (disch := first | assumption | exact Nat.le_of_ble_eq_true rfl | decide) only [b1310_0, g1310_2, b1310_2, g1310_3, b1310_3, g1310_4, b1310_4, g1310_5, b1310_5, g1310_7, b1310_7, g1310_8, b1310_8, g1310_9, b1310_9, g1310_10, b1310_10, g1310_11, b1310_11, g1310_12, b1310_12, g1310_14, b1310_14, g1310_15, b1310_15, pe_aload2, pe_getfield, pe_iload3, pe_call2, pm_af_ret, pm_af_void, pm_af_thr, pe_astore4, pe_aload0, pe_aload4, pe_iaload, pe_istore5, pe_istore6, pe_iload1, pe_sipush, pe_icmp_eq, pe_iload6, pe_icmp_ne, pe_goto_w, pe_goto, pe_if_ne, pe_null, pe_isub, pe_astore7, pe_aload7, pe_ifnull_n, pe_ifnull_r, pe_iload5, pe_iadd, pe_icmp_ge, pe_call3, pe_istore7, pe_iload7, pe_iinc7, pe_aloadN2, pe_astoreN4, pe_aloadN0, pe_aloadN4, pe_astoreN7, pe_aloadN7, pe_aastoreN, pe_areturnN, pm_prog_1, pm_ob_some, Nat.reduceDiv, Nat.reduceMod, Nat.reduceMul, Nat.reduceAdd, Int.reduceToNat, pm_kill_i, pm_kill_r, pm_kill_n, pm_kill_j, pm_kill_l, pm_kill_d, pm_cats_nil, pm_cats_i, pm_cats_r, pm_cats_n, pm_cats_l, pm_cats_d, sz_1, sz_2, sl_1, sl_2, lc_0, lc_lt, lc_le, li_ne, va_rf, wr_m1, we_m1, pm_kill_w, Int32.reduceOfInt, Int64.reduceOfInt, Int32.reduceOfNat, Int32.reduceLT, Int32.reduceLE, Prod.mk.injEq, Nat.reduceEqDiff, reduceCtorEq, and_true, true_and, and_false, false_and, and_self, ite_true, ite_false, ↓reduceIte, not_true_eq_false, not_false_eq_true, pe_ri, pe_rz, pe_rc, Cv_g0_0 hP hA, Cv_g0_2 hP hA, Cv_g0_4 hP hA, Cv_g15_2 hP hA, Cv_g16_0 hP hA, Cv_g16_2 hP hA, Cv_g16_3 hP hA, Cv_g7_2 hP hA, Cv_g7_3 hP hA, Cv_k11 hP hA, Cv_k16 hP hA, Cv_r19 hP hA, Cv_r20 hP hA, z2, eq_false k5, eq_false k7, eq_false k9, eq_false k15]
                refine z1310_13 hP hA hD k20 ?_ _ _ _
                dsimp only [ex1310_13]
                have e := Option.some.inj e; subst e
                simp -implicitDefEqProofs (disch := first | assumption | exact Nat.le_of_ble_eq_true rfl | decide) only [b1310_0, g1310_2, b1310_2, g1310_3, b1310_3, g1310_4, b1310_4, g1310_5, b1310_5, g1310_7, b1310_7, g1310_8, b1310_8, g1310_9, b1310_9, g1310_10, b1310_10, g1310_11, b1310_11, g1310_12, b1310_12, g1310_14, b1310_14, g1310_15, b1310_15, pe_aload2, pe_getfield, pe_iload3, pe_call2, pm_af_ret, pm_af_void, pm_af_thr, pe_astore4, pe_aload0, pe_aload4, pe_iaload, pe_istore5, pe_istore6, pe_iload1, pe_sipush, pe_icmp_eq, pe_iload6, pe_icmp_ne, pe_goto_w, pe_goto, pe_if_ne, pe_null, pe_isub, pe_astore7, pe_aload7, pe_ifnull_n, pe_ifnull_r, pe_iload5, pe_iadd, pe_icmp_ge, pe_call3, pe_istore7, pe_iload7, pe_iinc7, pe_aloadN2, pe_astoreN4, pe_aloadN0, pe_aloadN4, pe_astoreN7, pe_aloadN7, pe_aastoreN, pe_areturnN, pm_prog_1, pm_ob_some, Nat.reduceDiv, Nat.reduceMod, Nat.reduceMul, Nat.reduceAdd, Int.reduceToNat, pm_kill_i, pm_kill_r, pm_kill_n, pm_kill_j, pm_kill_l, pm_kill_d, pm_cats_nil, pm_cats_i, pm_cats_r, pm_cats_n, pm_cats_l, pm_cats_d, sz_1, sz_2, sl_1, sl_2, lc_0, lc_lt, lc_le, li_ne, va_rf, wr_m1, we_m1, pm_kill_w, Int32.reduceOfInt, Int64.reduceOfInt, Int32.reduceOfNat, Int32.reduceLT, Int32.reduceLE, Prod.mk.injEq, Nat.reduceEqDiff, reduceCtorEq, and_true, true_and, and_false, false_and, and_self, ite_true, ite_false, ↓reduceIte, not_true_eq_false, not_false_eq_true, pe_ri, pe_rz, pe_rc, Cv_g0_0 hP hA, Cv_g0_2 hP hA, Cv_g0_4 hP hA, Cv_g15_2 hP hA, Cv_g16_0 hP hA, Cv_g16_2 hP hA, Cv_g16_3 hP hA, Cv_g7_2 hP hA, Cv_g7_3 hP hA, Cv_k11 hP hA, Cv_k16 hP hA, Cv_r19 hP hA, Cv_r20 hP hA, z2, eq_false k5, eq_false k7, eq_false k9, eq_false k15]
              ·
                try dsimp only at e
                try simp -implicitDefEqProofs (disch := first | assumption | exact Nat.le_of_ble_eq_true rfl | decide) only [b1310_0, g1310_2, b1310_2, g1310_3, b1310_3, g1310_4, b1310_4, g1310_5, b1310_5, g1310_7, b1310_7, g1310_8, b1310_8, g1310_9, b1310_9, g1310_10, b1310_10, g1310_11, b1310_11, g1310_12, b1310_12, g1310_14, b1310_14, g1310_15, b1310_15, pe_aload2, pe_getfield, pe_iload3, pe_call2, pm_af_ret, pm_af_void, pm_af_thr, pe_astore4, pe_aload0, pe_aload4, pe_iaload, pe_istore5, pe_istore6, pe_iload1, pe_sipush, pe_icmp_eq, pe_iload6, pe_icmp_ne, pe_goto_w, pe_goto, pe_if_ne, pe_null, pe_isub, pe_astore7, pe_aload7, pe_ifnull_n, pe_ifnull_r, pe_iload5, pe_iadd, pe_icmp_ge, pe_call3, pe_istore7, pe_iload7, pe_iinc7, pe_aloadN2, pe_astoreN4, pe_aloadN0, pe_aloadN4, pe_astoreN7, pe_aloadN7, pe_aastoreN, pe_areturnN, pm_prog_1, pm_ob_some, Nat.reduceDiv, Nat.reduceMod, Nat.reduceMul, Nat.reduceAdd, Int.reduceToNat, pm_kill_i, pm_kill_r, pm_kill_n, pm_kill_j, pm_kill_l, pm_kill_d, pm_cats_nil, pm_cats_i, pm_cats_r, pm_cats_n, pm_cats_l, pm_cats_d, sz_1, sz_2, sl_1, sl_2, lc_0, lc_lt, lc_le, li_ne, va_rf, wr_m1, we_m1, pm_kill_w, Int32.reduceOfInt, Int64.reduceOfInt, Int32.reduceOfNat, Int32.reduceLT, Int32.reduceLE, Prod.mk.injEq, Nat.reduceEqDiff, reduceCtorEq, and_true, true_and, and_false, false_and, and_self, ite_true, ite_false, ↓reduceIte, not_true_eq_false, not_false_eq_true, pe_ri, pe_rz, pe_rc, Cv_g0_0 hP hA, Cv_g0_2 hP hA, Cv_g0_4 hP hA, Cv_g15_2 hP hA, Cv_g16_0 hP hA, Cv_g16_2 hP hA, Cv_g16_3 hP hA, Cv_g7_2 hP hA, Cv_g7_3 hP hA, Cv_k11 hP hA, Cv_k16 hP hA, Cv_r19 hP hA, Cv_r20 hP hA, z2, eq_false k5, eq_false k7, eq_false k9, eq_false k15]
                refine z1310_13 hP hA hD k20 ?_ _ _ _
                dsimp only [ex1310_13]
                intro q0 q1 q2 q3 q4 q5 q6 q7
                have e := Option.some.inj e; subst e
                simp -implicitDefEqProofs (disch := first | assumption | exact Nat.le_of_ble_eq_true rfl | decide) only [b1310_0, g1310_2, b1310_2, g1310_3, b1310_3, g1310_4, b1310_4, g1310_5, b1310_5, g1310_7, b1310_7, g1310_8, b1310_8, g1310_9, b1310_9, g1310_10, b1310_10, g1310_11, b1310_11, g1310_12, b1310_12, g1310_14, b1310_14, g1310_15, b1310_15, pe_aload2, pe_getfield, pe_iload3, pe_call2, pm_af_ret, pm_af_void, pm_af_thr, pe_astore4, pe_aload0, pe_aload4, pe_iaload, pe_istore5, pe_istore6, pe_iload1, pe_sipush, pe_icmp_eq, pe_iload6, pe_icmp_ne, pe_goto_w, pe_goto, pe_if_ne, pe_null, pe_isub, pe_astore7, pe_aload7, pe_ifnull_n, pe_ifnull_r, pe_iload5, pe_iadd, pe_icmp_ge, pe_call3, pe_istore7, pe_iload7, pe_iinc7, pe_aloadN2, pe_astoreN4, pe_aloadN0, pe_aloadN4, pe_astoreN7, pe_aloadN7, pe_aastoreN, pe_areturnN, pm_prog_1, pm_ob_some, Nat.reduceDiv, Nat.reduceMod, Nat.reduceMul, Nat.reduceAdd, Int.reduceToNat, pm_kill_i, pm_kill_r, pm_kill_n, pm_kill_j, pm_kill_l, pm_kill_d, pm_cats_nil, pm_cats_i, pm_cats_r, pm_cats_n, pm_cats_l, pm_cats_d, sz_1, sz_2, sl_1, sl_2, lc_0, lc_lt, lc_le, li_ne, va_rf, wr_m1, we_m1, pm_kill_w, Int32.reduceOfInt, Int64.reduceOfInt, Int32.reduceOfNat, Int32.reduceLT, Int32.reduceLE, Prod.mk.injEq, Nat.reduceEqDiff, reduceCtorEq, and_true, true_and, and_false, false_and, and_self, ite_true, ite_false, ↓reduceIte, not_true_eq_false, not_false_eq_true, pe_ri, pe_rz, pe_rc, Cv_g0_0 hP hA, Cv_g0_2 hP hA, Cv_g0_4 hP hA, Cv_g15_2 hP hA, Cv_g16_0 hP hA, Cv_g16_2 hP hA, Cv_g16_3 hP hA, Cv_g7_2 hP hA, Cv_g7_3 hP hA, Cv_k11 hP hA, Cv_k16 hP hA, Cv_r19 hP hA, Cv_r20 hP hA, z2, eq_false k5, eq_false k7, eq_false k9, eq_false k15]
    · rw [if_neg k4] at e; cases e
  · rw [if_neg k3] at e; cases e
/-- java/util/ArrayList.isEmpty()Z -/
noncomputable def f4040vv1 (mc : Int32) (jc : Int32) (tc : Int32) (ma : Int32) (ja : Int32) (ta : Int32) (oc : Int32 → Int32) (oa : Int32 → Int32) (qa : Int32 → Int32) (S : wS) (x0i : Int32) : Option (Int32) :=
  if 0 ≤ x0i ∧ x0i < jc then
    if (S.1 (17, x0i, 0) 2) = 0 then
      some 1
    else
      some 0
  else none
theorem x4040vv1 {mc : Int32} {jc : Int32} {tc : Int32} {ma : Int32} {ja : Int32} {ta : Int32} {oc : Int32 → Int32} {oa : Int32 → Int32} {qa : Int32 → Int32} {A : wK → Nat} {h : pm_H} {D : Nat} {S : wS} {x0i : Int32} {r : Int32} (hP : Cv_P mc jc tc ma ja ta oc oa qa) (hA : wok A (Cv_d mc jc tc ma ja ta oc oa qa) h.1) (hD : 1 ≤ D) (e : f4040vv1 mc jc tc ma ja ta oc oa qa S x0i = some r) : pm_call pm_prog D 4040 [.ref (A (17, x0i, 0))] (wput A (Cv_d mc jc tc ma ja ta oc oa qa) S h) = some (Outcome.returned (some (.int r)), (wput A (Cv_d mc jc tc ma ja ta oc oa qa) S h)) := by
  obtain ⟨D, rfl⟩ : ∃ D', D = D' + 1 := ⟨D - 1, by omega⟩
  have hD : 0 ≤ D := by omega
  simp only [f4040vv1] at e
  have k1 : 0 ≤ x0i ∧ x0i < jc := by
    by_cases q : 0 ≤ x0i ∧ x0i < jc
    · exact q
    · rw [if_neg q] at e; cases e
  rw [if_pos k1] at e
  rw [c4040 (Cv_c17 hP hA k1), b4040_0]
  by_cases k2 : (S.1 (17, x0i, 0) 2) = 0
  · rw [if_pos k2] at e
    have e := Option.some.inj e; subst e
    simp -implicitDefEqProofs (disch := first | assumption | exact Nat.le_of_ble_eq_true rfl | decide) only [b4040_0, g4040_1, b4040_1, g4040_2, b4040_2, pe_aload0, pe_getfield, pe_if_ne, pe_sipush, pe_goto, pe_goto_w, pe_aloadN0, pe_aastoreN, pe_areturnN, pe_null, pm_prog_1, pm_ob_some, Nat.reduceDiv, Nat.reduceMod, Nat.reduceMul, Nat.reduceAdd, Int.reduceToNat, pm_kill_i, pm_kill_r, pm_kill_n, pm_kill_j, pm_kill_l, pm_kill_d, pm_cats_nil, pm_cats_i, pm_cats_r, pm_cats_n, pm_cats_l, pm_cats_d, sz_1, sz_2, sl_1, sl_2, lc_0, lc_lt, lc_le, li_ne, va_rf, wr_m1, we_m1, pm_kill_w, Int32.reduceOfInt, Int64.reduceOfInt, Int32.reduceOfNat, Int32.reduceLT, Int32.reduceLE, Prod.mk.injEq, Nat.reduceEqDiff, reduceCtorEq, and_true, true_and, and_false, false_and, and_self, ite_true, ite_false, ↓reduceIte, not_true_eq_false, not_false_eq_true, pe_ri, pe_rz, pe_rc, Cv_g17_2 hP hA, eq_true k2]
  · rw [if_neg k2] at e
    have e := Option.some.inj e; subst e
    simp -implicitDefEqProofs (disch := first | assumption | exact Nat.le_of_ble_eq_true rfl | decide) only [b4040_0, g4040_1, b4040_1, g4040_2, b4040_2, pe_aload0, pe_getfield, pe_if_ne, pe_sipush, pe_goto, pe_goto_w, pe_aloadN0, pe_aastoreN, pe_areturnN, pe_null, pm_prog_1, pm_ob_some, Nat.reduceDiv, Nat.reduceMod, Nat.reduceMul, Nat.reduceAdd, Int.reduceToNat, pm_kill_i, pm_kill_r, pm_kill_n, pm_kill_j, pm_kill_l, pm_kill_d, pm_cats_nil, pm_cats_i, pm_cats_r, pm_cats_n, pm_cats_l, pm_cats_d, sz_1, sz_2, sl_1, sl_2, lc_0, lc_lt, lc_le, li_ne, va_rf, wr_m1, we_m1, pm_kill_w, Int32.reduceOfInt, Int64.reduceOfInt, Int32.reduceOfNat, Int32.reduceLT, Int32.reduceLE, Prod.mk.injEq, Nat.reduceEqDiff, reduceCtorEq, and_true, true_and, and_false, false_and, and_self, ite_true, ite_false, ↓reduceIte, not_true_eq_false, not_false_eq_true, pe_ri, pe_rz, pe_rc, Cv_g17_2 hP hA, eq_false k2]
/-- TimberHouse$WorkPlans$Board.end(LTimberHouse$WorkPlans$Job;)I -/
theorem c1352 {d : Nat} {h : pm_H} {a : Nat} {r0 : Nat} (hc : pm_cls h a = some 21) : pm_call pm_prog (d + 1) 1352 [.ref a, .ref r0] h = pm_ev pm_prog (pm_call pm_prog d) 1352 0 b1352_0 [.ref a, .ref r0, pm_junk] [] h := pm_cal (pm_rc1 hc rfl) rfl rfl rfl
theorem g1352_1 {cl : pm_C} {ls st : List Value} {h : pm_H} : pm_go pm_prog cl 1352 1 ls st h = pm_ev pm_prog cl 1352 1 b1352_1 ls st h := pm_go_eq pm_prog cl 1352 1 ls st h
theorem g1352_2 {cl : pm_C} {ls st : List Value} {h : pm_H} : pm_go pm_prog cl 1352 2 ls st h = pm_ev pm_prog cl 1352 2 b1352_2 ls st h := pm_go_eq pm_prog cl 1352 2 ls st h
theorem g1352_3 {cl : pm_C} {ls st : List Value} {h : pm_H} : pm_go pm_prog cl 1352 3 ls st h = pm_ev pm_prog cl 1352 3 b1352_3 ls st h := pm_go_eq pm_prog cl 1352 3 ls st h
/-- TimberHouse$WorkPlans$Board.end(LTimberHouse$WorkPlans$Job;)I -/
noncomputable def f1352 (mc : Int32) (jc : Int32) (tc : Int32) (ma : Int32) (ja : Int32) (ta : Int32) (oc : Int32 → Int32) (oa : Int32 → Int32) (qa : Int32 → Int32) (S : wS) (x0i : Int32) (x1i : Int32) : Option (Int32) :=
  if 0 ≤ x0i ∧ x0i < 3 then
    if 0 ≤ x1i ∧ x1i < jc then
      (f4040vv1 mc jc tc ma ja ta oc oa qa S x1i).bind fun v1 =>
      if v1 = 0 then
        (f4033vv1 mc jc tc ma ja ta oc oa qa S x1i).bind fun v2 =>
        (f4034vv2 mc jc tc ma ja ta oc oa qa S x1i (v2 - 1)).bind fun v3i =>
        if 0 ≤ v3i ∧ v3i < tc then
          if 0 ≤ (S.1 (16, v3i, 0) 0) ∧ (S.1 (16, v3i, 0) 0) < 24 then
            if (S.1 (20, x0i, 0) (S.1 (16, v3i, 0) 0)) = (-1) then
              some 0
            else
              some ((S.1 (19, x0i, 0) (S.1 (16, v3i, 0) 0)) + (S.1 (16, v3i, 0) 2))
          else none
        else none
      else
        some 0
    else none
  else none
theorem x1352 {mc : Int32} {jc : Int32} {tc : Int32} {ma : Int32} {ja : Int32} {ta : Int32} {oc : Int32 → Int32} {oa : Int32 → Int32} {qa : Int32 → Int32} {A : wK → Nat} {h : pm_H} {D : Nat} {S : wS} {x0i : Int32} {x1i : Int32} {r : Int32} (hP : Cv_P mc jc tc ma ja ta oc oa qa) (hA : wok A (Cv_d mc jc tc ma ja ta oc oa qa) h.1) (hD : 4 ≤ D) (e : f1352 mc jc tc ma ja ta oc oa qa S x0i x1i = some r) : pm_call pm_prog D 1352 [.ref (A (7, x0i, 0)), .ref (A (15, x1i, 0))] (wput A (Cv_d mc jc tc ma ja ta oc oa qa) S h) = some (Outcome.returned (some (.int r)), (wput A (Cv_d mc jc tc ma ja ta oc oa qa) S h)) := by
  obtain ⟨D, rfl⟩ : ∃ D', D = D' + 1 := ⟨D - 1, by omega⟩
  have hD : 3 ≤ D := by omega
  simp only [f1352] at e
  have k1 : 0 ≤ x0i ∧ x0i < 3 := by
    by_cases q : 0 ≤ x0i ∧ x0i < 3
    · exact q
    · rw [if_neg q] at e; cases e
  rw [if_pos k1] at e
  have k2 : 0 ≤ x1i ∧ x1i < jc := by
    by_cases q : 0 ≤ x1i ∧ x1i < jc
    · exact q
    · rw [if_neg q] at e; cases e
  rw [if_pos k2] at e
  rw [c1352 (Cv_c7 hP hA k1), b1352_0]
  obtain ⟨v1, k3, e⟩ := Option.bind_eq_some_iff.mp e
  try dsimp only at e
  have z3 := x4040vv1 (D := D) (h := h) hP hA (by omega) k3
  by_cases k4 : v1 = 0
  · rw [if_pos k4] at e
    obtain ⟨v2, k5, e⟩ := Option.bind_eq_some_iff.mp e
    try dsimp only at e
    have z5 := x4033vv1 (D := D) (h := h) hP hA (by omega) k5
    obtain ⟨v3i, k6, e⟩ := Option.bind_eq_some_iff.mp e
    try dsimp only at e
    have z6 := x4034vv2 (D := D) (h := h) hP hA (by omega) k6
    by_cases k7 : 0 ≤ v3i ∧ v3i < tc
    · rw [if_pos k7] at e
      by_cases k8 : 0 ≤ (S.1 (16, v3i, 0) 0) ∧ (S.1 (16, v3i, 0) 0) < 24
      · rw [if_pos k8] at e
        by_cases k9 : (S.1 (20, x0i, 0) (S.1 (16, v3i, 0) 0)) = (-1)
        · rw [if_pos k9] at e
          have e := Option.some.inj e; subst e
          simp -implicitDefEqProofs (disch := first | assumption | exact Nat.le_of_ble_eq_true rfl | decide) only [b1352_0, g1352_1, b1352_1, g1352_2, b1352_2, g1352_3, b1352_3, pe_aload1, pe_getfield, pe_call1, pm_af_ret, pm_af_void, pm_af_thr, pe_if_eq, pe_sipush, pe_isub, pe_call2, pe_astore2, pe_aload0, pe_aload2, pe_iaload, pe_icmp_ne, pe_goto, pe_iadd, pe_goto_w, pe_aloadN1, pe_astoreN2, pe_aloadN0, pe_aloadN2, pe_aastoreN, pe_areturnN, pe_null, pm_prog_1, pm_ob_some, Nat.reduceDiv, Nat.reduceMod, Nat.reduceMul, Nat.reduceAdd, Int.reduceToNat, pm_kill_i, pm_kill_r, pm_kill_n, pm_kill_j, pm_kill_l, pm_kill_d, pm_cats_nil, pm_cats_i, pm_cats_r, pm_cats_n, pm_cats_l, pm_cats_d, sz_1, sz_2, sl_1, sl_2, lc_0, lc_lt, lc_le, li_ne, va_rf, wr_m1, we_m1, pm_kill_w, Int32.reduceOfInt, Int64.reduceOfInt, Int32.reduceOfNat, Int32.reduceLT, Int32.reduceLE, Prod.mk.injEq, Nat.reduceEqDiff, reduceCtorEq, and_true, true_and, and_false, false_and, and_self, ite_true, ite_false, ↓reduceIte, not_true_eq_false, not_false_eq_true, pe_ri, pe_rz, pe_rc, Cv_g15_2 hP hA, Cv_g16_0 hP hA, Cv_g16_2 hP hA, Cv_g7_2 hP hA, Cv_g7_3 hP hA, Cv_k16 hP hA, Cv_r19 hP hA, Cv_r20 hP hA, z3, eq_true k4, z5, z6, eq_true k9]
        · rw [if_neg k9] at e
          have e := Option.some.inj e; subst e
          simp -implicitDefEqProofs (disch := first | assumption | exact Nat.le_of_ble_eq_true rfl | decide) only [b1352_0, g1352_1, b1352_1, g1352_2, b1352_2, g1352_3, b1352_3, pe_aload1, pe_getfield, pe_call1, pm_af_ret, pm_af_void, pm_af_thr, pe_if_eq, pe_sipush, pe_isub, pe_call2, pe_astore2, pe_aload0, pe_aload2, pe_iaload, pe_icmp_ne, pe_goto, pe_iadd, pe_goto_w, pe_aloadN1, pe_astoreN2, pe_aloadN0, pe_aloadN2, pe_aastoreN, pe_areturnN, pe_null, pm_prog_1, pm_ob_some, Nat.reduceDiv, Nat.reduceMod, Nat.reduceMul, Nat.reduceAdd, Int.reduceToNat, pm_kill_i, pm_kill_r, pm_kill_n, pm_kill_j, pm_kill_l, pm_kill_d, pm_cats_nil, pm_cats_i, pm_cats_r, pm_cats_n, pm_cats_l, pm_cats_d, sz_1, sz_2, sl_1, sl_2, lc_0, lc_lt, lc_le, li_ne, va_rf, wr_m1, we_m1, pm_kill_w, Int32.reduceOfInt, Int64.reduceOfInt, Int32.reduceOfNat, Int32.reduceLT, Int32.reduceLE, Prod.mk.injEq, Nat.reduceEqDiff, reduceCtorEq, and_true, true_and, and_false, false_and, and_self, ite_true, ite_false, ↓reduceIte, not_true_eq_false, not_false_eq_true, pe_ri, pe_rz, pe_rc, Cv_g15_2 hP hA, Cv_g16_0 hP hA, Cv_g16_2 hP hA, Cv_g7_2 hP hA, Cv_g7_3 hP hA, Cv_k16 hP hA, Cv_r19 hP hA, Cv_r20 hP hA, z3, eq_true k4, z5, z6, eq_false k9]
      · rw [if_neg k8] at e; cases e
    · rw [if_neg k7] at e; cases e
  · rw [if_neg k4] at e
    have e := Option.some.inj e; subst e
    simp -implicitDefEqProofs (disch := first | assumption | exact Nat.le_of_ble_eq_true rfl | decide) only [b1352_0, g1352_1, b1352_1, g1352_2, b1352_2, g1352_3, b1352_3, pe_aload1, pe_getfield, pe_call1, pm_af_ret, pm_af_void, pm_af_thr, pe_if_eq, pe_sipush, pe_isub, pe_call2, pe_astore2, pe_aload0, pe_aload2, pe_iaload, pe_icmp_ne, pe_goto, pe_iadd, pe_goto_w, pe_aloadN1, pe_astoreN2, pe_aloadN0, pe_aloadN2, pe_aastoreN, pe_areturnN, pe_null, pm_prog_1, pm_ob_some, Nat.reduceDiv, Nat.reduceMod, Nat.reduceMul, Nat.reduceAdd, Int.reduceToNat, pm_kill_i, pm_kill_r, pm_kill_n, pm_kill_j, pm_kill_l, pm_kill_d, pm_cats_nil, pm_cats_i, pm_cats_r, pm_cats_n, pm_cats_l, pm_cats_d, sz_1, sz_2, sl_1, sl_2, lc_0, lc_lt, lc_le, li_ne, va_rf, wr_m1, we_m1, pm_kill_w, Int32.reduceOfInt, Int64.reduceOfInt, Int32.reduceOfNat, Int32.reduceLT, Int32.reduceLE, Prod.mk.injEq, Nat.reduceEqDiff, reduceCtorEq, and_true, true_and, and_false, false_and, and_self, ite_true, ite_false, ↓reduceIte, not_true_eq_false, not_false_eq_true, pe_ri, pe_rz, pe_rc, Cv_g15_2 hP hA, Cv_g16_0 hP hA, Cv_g16_2 hP hA, Cv_g7_2 hP hA, Cv_g7_3 hP hA, Cv_k16 hP hA, Cv_r19 hP hA, Cv_r20 hP hA, z3, eq_false k4]
/-- TimberHouse$WorkPlans.check()I -/
theorem c1309 {d : Nat} {h : pm_H} {a : Nat} (hc : pm_cls h a = some 20) : pm_call pm_prog (d + 1) 1309 [.ref a] h = pm_ev pm_prog (pm_call pm_prog d) 1309 0 b1309_0 [.ref a, pm_junk, pm_junk, pm_junk, pm_junk, pm_junk, pm_junk] [] h := pm_cal (pm_rc1 hc rfl) rfl rfl rfl
theorem g1309_1 {cl : pm_C} {ls st : List Value} {h : pm_H} : pm_go pm_prog cl 1309 1 ls st h = pm_ev pm_prog cl 1309 1 b1309_1 ls st h := pm_go_eq pm_prog cl 1309 1 ls st h
theorem g1309_2 {cl : pm_C} {ls st : List Value} {h : pm_H} : pm_go pm_prog cl 1309 2 ls st h = pm_ev pm_prog cl 1309 2 b1309_2 ls st h := pm_go_eq pm_prog cl 1309 2 ls st h
theorem g1309_3 {cl : pm_C} {ls st : List Value} {h : pm_H} : pm_go pm_prog cl 1309 3 ls st h = pm_ev pm_prog cl 1309 3 b1309_3 ls st h := pm_go_eq pm_prog cl 1309 3 ls st h
theorem g1309_4 {cl : pm_C} {ls st : List Value} {h : pm_H} : pm_go pm_prog cl 1309 4 ls st h = pm_ev pm_prog cl 1309 4 b1309_4 ls st h := pm_go_eq pm_prog cl 1309 4 ls st h
theorem g1309_5 {cl : pm_C} {ls st : List Value} {h : pm_H} : pm_go pm_prog cl 1309 5 ls st h = pm_ev pm_prog cl 1309 5 b1309_5 ls st h := pm_go_eq pm_prog cl 1309 5 ls st h
theorem g1309_6 {cl : pm_C} {ls st : List Value} {h : pm_H} : pm_go pm_prog cl 1309 6 ls st h = pm_ev pm_prog cl 1309 6 b1309_6 ls st h := pm_go_eq pm_prog cl 1309 6 ls st h
theorem g1309_7 {cl : pm_C} {ls st : List Value} {h : pm_H} : pm_go pm_prog cl 1309 7 ls st h = pm_ev pm_prog cl 1309 7 b1309_7 ls st h := pm_go_eq pm_prog cl 1309 7 ls st h
theorem g1309_8 {cl : pm_C} {ls st : List Value} {h : pm_H} : pm_go pm_prog cl 1309 8 ls st h = pm_ev pm_prog cl 1309 8 b1309_8 ls st h := pm_go_eq pm_prog cl 1309 8 ls st h
theorem g1309_9 {cl : pm_C} {ls st : List Value} {h : pm_H} : pm_go pm_prog cl 1309 9 ls st h = pm_ev pm_prog cl 1309 9 b1309_9 ls st h := pm_go_eq pm_prog cl 1309 9 ls st h
theorem g1309_10 {cl : pm_C} {ls st : List Value} {h : pm_H} : pm_go pm_prog cl 1309 10 ls st h = pm_ev pm_prog cl 1309 10 b1309_10 ls st h := pm_go_eq pm_prog cl 1309 10 ls st h
theorem g1309_11 {cl : pm_C} {ls st : List Value} {h : pm_H} : pm_go pm_prog cl 1309 11 ls st h = pm_ev pm_prog cl 1309 11 b1309_11 ls st h := pm_go_eq pm_prog cl 1309 11 ls st h
theorem t1309 {cl : pm_C} {j : Nat} {ls : List Value} {c : Nat} {h : pm_H} : pm_thr pm_prog cl 1309 j ls c h = some (.threw c, h) := rfl
noncomputable def f1309_b3 (mc : Int32) (jc : Int32) (tc : Int32) (ma : Int32) (ja : Int32) (ta : Int32) (oc : Int32 → Int32) (oa : Int32 → Int32) (qa : Int32 → Int32) (S : wS) : Int32 × Int32 × Int32 × Int32 × Int32 → Option ((Int32 × Int32 × Int32 × Int32 × Int32) ⊕ ((Int32 × Int32 × Int32))) := fun (x1, x2, x3, x4i, x5) =>
  if 0 ≤ x4i ∧ x4i < jc then
    (f4033vv1 mc jc tc ma ja ta oc oa qa S x4i).bind fun v3 =>
    if x5 < v3 then
      (f4034vv2 mc jc tc ma ja ta oc oa qa S x4i x5).bind fun v4i =>
      if 0 ≤ v4i ∧ v4i < tc then
        if (S.1 (16, v4i, 0) 0) < x2 then
          (f1310 mc jc tc ma ja ta oc oa qa S x1 x4i x5).bind fun v5 =>
          if v5 = 0 then
            some (.inl (x1, x2, x3, x4i, (x5 + 1)))
          else
            some (.inl (x1, (S.1 (16, v4i, 0) 0), x3, x4i, (x5 + 1)))
        else
          some (.inl (x1, x2, x3, x4i, (x5 + 1)))
      else none
    else
      some (.inr (x1, x2, x3))
  else none
noncomputable def f1309_b2 (mc : Int32) (jc : Int32) (tc : Int32) (ma : Int32) (ja : Int32) (ta : Int32) (oc : Int32 → Int32) (oa : Int32 → Int32) (qa : Int32 → Int32) (S : wS) : Int32 × Int32 × Int32 → Option ((Int32 × Int32 × Int32) ⊕ ((Int32 × Int32))) := fun (x1, x2, x3) =>
  (f4033v mc jc tc ma ja ta oc oa qa S).bind fun v1 =>
  if x3 < v1 then
    (f4034v mc jc tc ma ja ta oc oa qa S x3).bind fun v2i =>
    if 0 ≤ v2i ∧ v2i < jc then
      (lp (f1309_b3 mc jc tc ma ja ta oc oa qa S) FU (x1, x2, x3, v2i, 0)).bind fun (v7, v8, v9) =>
      some (.inl (v7, v8, (v9 + 1)))
    else none
  else
    some (.inr (x1, x2))
noncomputable def f1309_b1 (mc : Int32) (jc : Int32) (tc : Int32) (ma : Int32) (ja : Int32) (ta : Int32) (oc : Int32 → Int32) (oa : Int32 → Int32) (qa : Int32 → Int32) (S : wS) : Int32 → Option ((Int32) ⊕ ((Int32) ⊕ (Unit))) := fun x1 =>
  if x1 < 5 then
    (lp (f1309_b2 mc jc tc ma ja ta oc oa qa S) FU (x1, 24, 0)).bind fun (v11, v12) =>
    if v12 < 24 then
      some (.inr (.inl ((100 * v11) + v12)))
    else
      some (.inl (v11 + 1))
  else
    some (.inr (.inr (())))
noncomputable def f1309_b9 (mc : Int32) (jc : Int32) (tc : Int32) (ma : Int32) (ja : Int32) (ta : Int32) (oc : Int32 → Int32) (oa : Int32 → Int32) (qa : Int32 → Int32) (S : wS) : Int32 → Option ((Int32) ⊕ ((Int32) ⊕ (Unit))) := fun x1 =>
  (f4033v mc jc tc ma ja ta oc oa qa S).bind fun v15 =>
  if x1 < v15 then
    (f4034v mc jc tc ma ja ta oc oa qa S x1).bind fun v16i =>
    if 0 ≤ v16i ∧ v16i < jc then
      (f1352 mc jc tc ma ja ta oc oa qa S 1 v16i).bind fun v17 =>
      if v17 ≤ (S.1 (15, v16i, 0) 0) then
        some (.inl (x1 + 1))
      else
        some (.inr (.inl (500 + x1)))
    else none
  else
    some (.inr (.inr (())))
/-- TimberHouse$WorkPlans.check()I -/
noncomputable def f1309 (mc : Int32) (jc : Int32) (tc : Int32) (ma : Int32) (ja : Int32) (ta : Int32) (oc : Int32 → Int32) (oa : Int32 → Int32) (qa : Int32 → Int32) (S : wS) : Option (Nat ⊕ (Int32)) :=
  (f1285 (S.1 (0, 0, 0) 13)).bind fun r => match r with
  | .inl c19 =>
    some (.inl c19)
  | .inr _ =>
  (lp (f1309_b1 mc jc tc ma ja ta oc oa qa S) FU 1).bind fun b => match b with
  | (.inl v13) =>
    some (.inr v13)
  | (.inr (())) =>
    (lp (f1309_b9 mc jc tc ma ja ta oc oa qa S) FU 0).bind fun b => match b with
    | (.inl v18) =>
      some (.inr v18)
    | (.inr (())) =>
      some (.inr 0)
def go1309_3 (mc : Int32) (jc : Int32) (tc : Int32) (ma : Int32) (ja : Int32) (ta : Int32) (oc : Int32 → Int32) (oa : Int32 → Int32) (qa : Int32 → Int32) (A : wK → Nat) (h : pm_H) (D : Nat) (R : Outcome × pm_H) (S : wS) : Int32 × Int32 × Int32 × Int32 × Int32 → Prop := fun (x1, x2, x3, x4i, x5) => ∀ q6 : Value, pm_go pm_prog (pm_call pm_prog D) 1309 3 [.ref (A (0, 0, 0)), .int x1, .int x2, .int x3, .ref (A (15, x4i, 0)), .int x5, q6] [] (wput A (Cv_d mc jc tc ma ja ta oc oa qa) S h) = some R
def ex1309_3 (mc : Int32) (jc : Int32) (tc : Int32) (ma : Int32) (ja : Int32) (ta : Int32) (oc : Int32 → Int32) (oa : Int32 → Int32) (qa : Int32 → Int32) (A : wK → Nat) (h : pm_H) (D : Nat) (R : Outcome × pm_H) (S : wS) : (Int32 × Int32 × Int32) → Prop := fun (x1, x2, x3) => ∀ q4 q5 q6 : Value, pm_go pm_prog (pm_call pm_prog D) 1309 5 [.ref (A (0, 0, 0)), .int x1, .int x2, .int x3, q4, q5, q6] [] (wput A (Cv_d mc jc tc ma ja ta oc oa qa) S h) = some R
theorem y1309_b3 {mc : Int32} {jc : Int32} {tc : Int32} {ma : Int32} {ja : Int32} {ta : Int32} {oc : Int32 → Int32} {oa : Int32 → Int32} {qa : Int32 → Int32} {A : wK → Nat} {h : pm_H} {D : Nat} {R : Outcome × pm_H} {S : wS} (hP : Cv_P mc jc tc ma ja ta oc oa qa) (hA : wok A (Cv_d mc jc tc ma ja ta oc oa qa) h.1) (hD : 5 ≤ D) (a : Int32 × Int32 × Int32 × Int32 × Int32) (r : (Int32 × Int32 × Int32 × Int32 × Int32) ⊕ ((Int32 × Int32 × Int32))) (e : f1309_b3 mc jc tc ma ja ta oc oa qa S a = some r) (hc : Sum.elim (go1309_3 mc jc tc ma ja ta oc oa qa A h D R S) (ex1309_3 mc jc tc ma ja ta oc oa qa A h D R S) r) : go1309_3 mc jc tc ma ja ta oc oa qa A h D R S a := by
  obtain ⟨x1, x2, x3, x4i, x5⟩ := a
  dsimp only [go1309_3]
  intro q6
  simp only [f1309_b3] at e
  rw [g1309_3, b1309_3]
  by_cases k1 : 0 ≤ x4i ∧ x4i < jc
  · rw [if_pos k1] at e
    obtain ⟨v3, k2, e⟩ := Option.bind_eq_some_iff.mp e
    try dsimp only at e
    have z2 := x4033vv1 (D := D) (h := h) hP hA (by omega) k2
    by_cases k3 : x5 < v3
    · rw [if_pos k3] at e
      obtain ⟨v4i, k4, e⟩ := Option.bind_eq_some_iff.mp e
      try dsimp only at e
      have z4 := x4034vv2 (D := D) (h := h) hP hA (by omega) k4
      by_cases k5 : 0 ≤ v4i ∧ v4i < tc
      · rw [if_pos k5] at e
        by_cases k6 : (S.1 (16, v4i, 0) 0) < x2
        · rw [if_pos k6] at e
          obtain ⟨v5, k7, e⟩ := Option.bind_eq_some_iff.mp e
          try dsimp only at e
          have z7 := x1310 (D := D) (h := h) hP hA (by omega) k7
          by_cases k8 : v5 = 0
          · rw [if_pos k8] at e
            have e := Option.some.inj e; subst e
            dsimp only [Sum.elim_inl, go1309_3] at hc
            simp -implicitDefEqProofs (disch := first | assumption | exact Nat.le_of_ble_eq_true rfl | decide) only [b1309_0, g1309_4, b1309_4, g1309_5, b1309_5, g1309_6, b1309_6, g1309_7, b1309_7, g1309_8, b1309_8, g1309_10, b1309_10, g1309_11, b1309_11, pe_aload0, pe_getfield, pe_call1, pm_af_ret, pm_af_void, pm_af_thr, pe_sipush, pe_istore1, pe_goto_w, pe_iload1, pe_icmp_ge, pe_istore2, pe_istore3, pe_iload3, pe_call2, pe_astore4, pe_istore5, pe_iload5, pe_aload4, pe_istore6, pe_iload6, pe_iload2, pe_call4, pe_if_eq, pe_iinc5, pe_goto, pe_iinc3, pe_imul, pe_iadd, pe_iinc1, pe_icmp_le, pe_aloadN0, pe_astoreN4, pe_aloadN4, pe_aastoreN, pe_areturnN, pe_null, pm_prog_1, pm_ob_some, Nat.reduceDiv, Nat.reduceMod, Nat.reduceMul, Nat.reduceAdd, Int.reduceToNat, pm_kill_i, pm_kill_r, pm_kill_n, pm_kill_j, pm_kill_l, pm_kill_d, pm_cats_nil, pm_cats_i, pm_cats_r, pm_cats_n, pm_cats_l, pm_cats_d, sz_1, sz_2, sl_1, sl_2, lc_0, lc_lt, lc_le, li_ne, va_rf, wr_m1, we_m1, pm_kill_w, Int32.reduceOfInt, Int64.reduceOfInt, Int32.reduceOfNat, Int32.reduceLT, Int32.reduceLE, Prod.mk.injEq, Nat.reduceEqDiff, reduceCtorEq, and_true, true_and, and_false, false_and, and_self, ite_true, ite_false, ↓reduceIte, not_true_eq_false, not_false_eq_true, pe_ri, pe_rz, pe_rc, p_throw, t1309, w_junk hA, Cv_g0_1 hP hA, Cv_g0_13 hP hA, Cv_g0_4 hP hA, Cv_g15_0 hP hA, Cv_g15_2 hP hA, Cv_g16_0 hP hA, Cv_k15 hP hA, Cv_k16 hP hA, z2, eq_true k3, z4, eq_true k6, z7, eq_true k8, hc]
          · rw [if_neg k8] at e
            have e := Option.some.inj e; subst e
            dsimp only [Sum.elim_inl, go1309_3] at hc
            simp -implicitDefEqProofs (disch := first | assumption | exact Nat.le_of_ble_eq_true rfl | decide) only [b1309_0, g1309_4, b1309_4, g1309_5, b1309_5, g1309_6, b1309_6, g1309_7, b1309_7, g1309_8, b1309_8, g1309_10, b1309_10, g1309_11, b1309_11, pe_aload0, pe_getfield, pe_call1, pm_af_ret, pm_af_void, pm_af_thr, pe_sipush, pe_istore1, pe_goto_w, pe_iload1, pe_icmp_ge, pe_istore2, pe_istore3, pe_iload3, pe_call2, pe_astore4, pe_istore5, pe_iload5, pe_aload4, pe_istore6, pe_iload6, pe_iload2, pe_call4, pe_if_eq, pe_iinc5, pe_goto, pe_iinc3, pe_imul, pe_iadd, pe_iinc1, pe_icmp_le, pe_aloadN0, pe_astoreN4, pe_aloadN4, pe_aastoreN, pe_areturnN, pe_null, pm_prog_1, pm_ob_some, Nat.reduceDiv, Nat.reduceMod, Nat.reduceMul, Nat.reduceAdd, Int.reduceToNat, pm_kill_i, pm_kill_r, pm_kill_n, pm_kill_j, pm_kill_l, pm_kill_d, pm_cats_nil, pm_cats_i, pm_cats_r, pm_cats_n, pm_cats_l, pm_cats_d, sz_1, sz_2, sl_1, sl_2, lc_0, lc_lt, lc_le, li_ne, va_rf, wr_m1, we_m1, pm_kill_w, Int32.reduceOfInt, Int64.reduceOfInt, Int32.reduceOfNat, Int32.reduceLT, Int32.reduceLE, Prod.mk.injEq, Nat.reduceEqDiff, reduceCtorEq, and_true, true_and, and_false, false_and, and_self, ite_true, ite_false, ↓reduceIte, not_true_eq_false, not_false_eq_true, pe_ri, pe_rz, pe_rc, p_throw, t1309, w_junk hA, Cv_g0_1 hP hA, Cv_g0_13 hP hA, Cv_g0_4 hP hA, Cv_g15_0 hP hA, Cv_g15_2 hP hA, Cv_g16_0 hP hA, Cv_k15 hP hA, Cv_k16 hP hA, z2, eq_true k3, z4, eq_true k6, z7, eq_false k8, hc]
        · rw [if_neg k6] at e
          have e := Option.some.inj e; subst e
          dsimp only [Sum.elim_inl, go1309_3] at hc
          simp -implicitDefEqProofs (disch := first | assumption | exact Nat.le_of_ble_eq_true rfl | decide) only [b1309_0, g1309_4, b1309_4, g1309_5, b1309_5, g1309_6, b1309_6, g1309_7, b1309_7, g1309_8, b1309_8, g1309_10, b1309_10, g1309_11, b1309_11, pe_aload0, pe_getfield, pe_call1, pm_af_ret, pm_af_void, pm_af_thr, pe_sipush, pe_istore1, pe_goto_w, pe_iload1, pe_icmp_ge, pe_istore2, pe_istore3, pe_iload3, pe_call2, pe_astore4, pe_istore5, pe_iload5, pe_aload4, pe_istore6, pe_iload6, pe_iload2, pe_call4, pe_if_eq, pe_iinc5, pe_goto, pe_iinc3, pe_imul, pe_iadd, pe_iinc1, pe_icmp_le, pe_aloadN0, pe_astoreN4, pe_aloadN4, pe_aastoreN, pe_areturnN, pe_null, pm_prog_1, pm_ob_some, Nat.reduceDiv, Nat.reduceMod, Nat.reduceMul, Nat.reduceAdd, Int.reduceToNat, pm_kill_i, pm_kill_r, pm_kill_n, pm_kill_j, pm_kill_l, pm_kill_d, pm_cats_nil, pm_cats_i, pm_cats_r, pm_cats_n, pm_cats_l, pm_cats_d, sz_1, sz_2, sl_1, sl_2, lc_0, lc_lt, lc_le, li_ne, va_rf, wr_m1, we_m1, pm_kill_w, Int32.reduceOfInt, Int64.reduceOfInt, Int32.reduceOfNat, Int32.reduceLT, Int32.reduceLE, Prod.mk.injEq, Nat.reduceEqDiff, reduceCtorEq, and_true, true_and, and_false, false_and, and_self, ite_true, ite_false, ↓reduceIte, not_true_eq_false, not_false_eq_true, pe_ri, pe_rz, pe_rc, p_throw, t1309, w_junk hA, Cv_g0_1 hP hA, Cv_g0_13 hP hA, Cv_g0_4 hP hA, Cv_g15_0 hP hA, Cv_g15_2 hP hA, Cv_g16_0 hP hA, Cv_k15 hP hA, Cv_k16 hP hA, z2, eq_true k3, z4, eq_false k6, hc]
      · rw [if_neg k5] at e; cases e
    · rw [if_neg k3] at e
      have e := Option.some.inj e; subst e
      dsimp only [Sum.elim_inr, ex1309_3] at hc
      simp -implicitDefEqProofs (disch := first | assumption | exact Nat.le_of_ble_eq_true rfl | decide) only [b1309_0, g1309_4, b1309_4, g1309_5, b1309_5, g1309_6, b1309_6, g1309_7, b1309_7, g1309_8, b1309_8, g1309_10, b1309_10, g1309_11, b1309_11, pe_aload0, pe_getfield, pe_call1, pm_af_ret, pm_af_void, pm_af_thr, pe_sipush, pe_istore1, pe_goto_w, pe_iload1, pe_icmp_ge, pe_istore2, pe_istore3, pe_iload3, pe_call2, pe_astore4, pe_istore5, pe_iload5, pe_aload4, pe_istore6, pe_iload6, pe_iload2, pe_call4, pe_if_eq, pe_iinc5, pe_goto, pe_iinc3, pe_imul, pe_iadd, pe_iinc1, pe_icmp_le, pe_aloadN0, pe_astoreN4, pe_aloadN4, pe_aastoreN, pe_areturnN, pe_null, pm_prog_1, pm_ob_some, Nat.reduceDiv, Nat.reduceMod, Nat.reduceMul, Nat.reduceAdd, Int.reduceToNat, pm_kill_i, pm_kill_r, pm_kill_n, pm_kill_j, pm_kill_l, pm_kill_d, pm_cats_nil, pm_cats_i, pm_cats_r, pm_cats_n, pm_cats_l, pm_cats_d, sz_1, sz_2, sl_1, sl_2, lc_0, lc_lt, lc_le, li_ne, va_rf, wr_m1, we_m1, pm_kill_w, Int32.reduceOfInt, Int64.reduceOfInt, Int32.reduceOfNat, Int32.reduceLT, Int32.reduceLE, Prod.mk.injEq, Nat.reduceEqDiff, reduceCtorEq, and_true, true_and, and_false, false_and, and_self, ite_true, ite_false, ↓reduceIte, not_true_eq_false, not_false_eq_true, pe_ri, pe_rz, pe_rc, p_throw, t1309, w_junk hA, Cv_g0_1 hP hA, Cv_g0_13 hP hA, Cv_g0_4 hP hA, Cv_g15_0 hP hA, Cv_g15_2 hP hA, Cv_g16_0 hP hA, Cv_k15 hP hA, Cv_k16 hP hA, z2, eq_false k3, hc]
  · rw [if_neg k1] at e; cases e
theorem z1309_3 {mc : Int32} {jc : Int32} {tc : Int32} {ma : Int32} {ja : Int32} {ta : Int32} {oc : Int32 → Int32} {oa : Int32 → Int32} {qa : Int32 → Int32} {A : wK → Nat} {h : pm_H} {D : Nat} {R : Outcome × pm_H} {S : wS} (hP : Cv_P mc jc tc ma ja ta oc oa qa) (hA : wok A (Cv_d mc jc tc ma ja ta oc oa qa) h.1) (hD : 5 ≤ D) {n : Nat} {a : Int32 × Int32 × Int32 × Int32 × Int32} {b : (Int32 × Int32 × Int32)} (e : lp (f1309_b3 mc jc tc ma ja ta oc oa qa S) n a = some b) (hx : ex1309_3 mc jc tc ma ja ta oc oa qa A h D R S b) : go1309_3 mc jc tc ma ja ta oc oa qa A h D R S a := lp_run (fun a r => y1309_b3 hP hA hD a r) n a b e hx
def go1309_2 (mc : Int32) (jc : Int32) (tc : Int32) (ma : Int32) (ja : Int32) (ta : Int32) (oc : Int32 → Int32) (oa : Int32 → Int32) (qa : Int32 → Int32) (A : wK → Nat) (h : pm_H) (D : Nat) (R : Outcome × pm_H) (S : wS) : Int32 × Int32 × Int32 → Prop := fun (x1, x2, x3) => ∀ q4 q5 q6 : Value, pm_go pm_prog (pm_call pm_prog D) 1309 2 [.ref (A (0, 0, 0)), .int x1, .int x2, .int x3, q4, q5, q6] [] (wput A (Cv_d mc jc tc ma ja ta oc oa qa) S h) = some R
def ex1309_2 (mc : Int32) (jc : Int32) (tc : Int32) (ma : Int32) (ja : Int32) (ta : Int32) (oc : Int32 → Int32) (oa : Int32 → Int32) (qa : Int32 → Int32) (A : wK → Nat) (h : pm_H) (D : Nat) (R : Outcome × pm_H) (S : wS) : (Int32 × Int32) → Prop := fun (x1, x2) => ∀ q3 q4 q5 q6 : Value, pm_go pm_prog (pm_call pm_prog D) 1309 6 [.ref (A (0, 0, 0)), .int x1, .int x2, q3, q4, q5, q6] [] (wput A (Cv_d mc jc tc ma ja ta oc oa qa) S h) = some R
theorem y1309_b2 {mc : Int32} {jc : Int32} {tc : Int32} {ma : Int32} {ja : Int32} {ta : Int32} {oc : Int32 → Int32} {oa : Int32 → Int32} {qa : Int32 → Int32} {A : wK → Nat} {h : pm_H} {D : Nat} {R : Outcome × pm_H} {S : wS} (hP : Cv_P mc jc tc ma ja ta oc oa qa) (hA : wok A (Cv_d mc jc tc ma ja ta oc oa qa) h.1) (hD : 5 ≤ D) (a : Int32 × Int32 × Int32) (r : (Int32 × Int32 × Int32) ⊕ ((Int32 × Int32))) (e : f1309_b2 mc jc tc ma ja ta oc oa qa S a = some r) (hc : Sum.elim (go1309_2 mc jc tc ma ja ta oc oa qa A h D R S) (ex1309_2 mc jc tc ma ja ta oc oa qa A h D R S) r) : go1309_2 mc jc tc ma ja ta oc oa qa A h D R S a := by
  obtain ⟨x1, x2, x3⟩ := a
  dsimp only [go1309_2]
  intro q4 q5 q6
  simp only [f1309_b2] at e
  rw [g1309_2, b1309_2]
  obtain ⟨v1, k1, e⟩ := Option.bind_eq_some_iff.mp e
  try dsimp only at e
  have z1 := x4033v (D := D) (h := h) hP hA (by omega) k1
  by_cases k2 : x3 < v1
  · rw [if_pos k2] at e
    obtain ⟨v2i, k3, e⟩ := Option.bind_eq_some_iff.mp e
    try dsimp only at e
    have z3 := x4034v (D := D) (h := h) hP hA (by omega) k3
    by_cases k4 : 0 ≤ v2i ∧ v2i < jc
    · rw [if_pos k4] at e
      obtain ⟨⟨v7, v8, v9⟩, k5, e⟩ := Option.bind_eq_some_iff.mp e
      try dsimp only at e
      try simp -implicitDefEqProofs (disch := first | assumption | exact Nat.le_of_ble_eq_true rfl | decide) only [b1309_0, g1309_4, b1309_4, g1309_5, b1309_5, g1309_6, b1309_6, g1309_7, b1309_7, g1309_8, b1309_8, g1309_10, b1309_10, g1309_11, b1309_11, pe_aload0, pe_getfield, pe_call1, pm_af_ret, pm_af_void, pm_af_thr, pe_sipush, pe_istore1, pe_goto_w, pe_iload1, pe_icmp_ge, pe_istore2, pe_istore3, pe_iload3, pe_call2, pe_astore4, pe_istore5, pe_iload5, pe_aload4, pe_istore6, pe_iload6, pe_iload2, pe_call4, pe_if_eq, pe_iinc5, pe_goto, pe_iinc3, pe_imul, pe_iadd, pe_iinc1, pe_icmp_le, pe_aloadN0, pe_astoreN4, pe_aloadN4, pe_aastoreN, pe_areturnN, pe_null, pm_prog_1, pm_ob_some, Nat.reduceDiv, Nat.reduceMod, Nat.reduceMul, Nat.reduceAdd, Int.reduceToNat, pm_kill_i, pm_kill_r, pm_kill_n, pm_kill_j, pm_kill_l, pm_kill_d, pm_cats_nil, pm_cats_i, pm_cats_r, pm_cats_n, pm_cats_l, pm_cats_d, sz_1, sz_2, sl_1, sl_2, lc_0, lc_lt, lc_le, li_ne, va_rf, wr_m1, we_m1, pm_kill_w, Int32.reduceOfInt, Int64.reduceOfInt, Int32.reduceOfNat, Int32.reduceLT, Int32.reduceLE, Prod.mk.injEq, Nat.reduceEqDiff, reduceCtorEq, and_true, true_and, and_false, false_and, and_self, ite_true, ite_false, ↓reduceIte, not_true_eq_false, not_false_eq_true, pe_ri, pe_rz, pe_rc, p_throw, t1309, w_junk hA, Cv_g0_1 hP hA, Cv_g0_13 hP hA, Cv_g0_4 hP hA, Cv_g15_0 hP hA, Cv_g15_2 hP hA, Cv_g16_0 hP hA, Cv_k15 hP hA, Cv_k16 hP hA, z1, eq_true k2, z3]
      refine z1309_3 hP hA hD k5 ?_ _
      dsimp only [ex1309_3]
      intro q4 q5 q6
      have e := Option.some.inj e; subst e
      dsimp only [Sum.elim_inl, go1309_2] at hc
      simp -implicitDefEqProofs (disch := first | assumption | exact Nat.le_of_ble_eq_true rfl | decide) only [b1309_0, g1309_4, b1309_4, g1309_5, b1309_5, g1309_6, b1309_6, g1309_7, b1309_7, g1309_8, b1309_8, g1309_10, b1309_10, g1309_11, b1309_11, pe_aload0, pe_getfield, pe_call1, pm_af_ret, pm_af_void, pm_af_thr, pe_sipush, pe_istore1, pe_goto_w, pe_iload1, pe_icmp_ge, pe_istore2, pe_istore3, pe_iload3, pe_call2, pe_astore4, pe_istore5, pe_iload5, pe_aload4, pe_istore6, pe_iload6, pe_iload2, pe_call4, pe_if_eq, pe_iinc5, pe_goto, pe_iinc3, pe_imul, pe_iadd, pe_iinc1, pe_icmp_le, pe_aloadN0, pe_astoreN4, pe_aloadN4, pe_aastoreN, pe_areturnN, pe_null, pm_prog_1, pm_ob_some, Nat.reduceDiv, Nat.reduceMod, Nat.reduceMul, Nat.reduceAdd, Int.reduceToNat, pm_kill_i, pm_kill_r, pm_kill_n, pm_kill_j, pm_kill_l, pm_kill_d, pm_cats_nil, pm_cats_i, pm_cats_r, pm_cats_n, pm_cats_l, pm_cats_d, sz_1, sz_2, sl_1, sl_2, lc_0, lc_lt, lc_le, li_ne, va_rf, wr_m1, we_m1, pm_kill_w, Int32.reduceOfInt, Int64.reduceOfInt, Int32.reduceOfNat, Int32.reduceLT, Int32.reduceLE, Prod.mk.injEq, Nat.reduceEqDiff, reduceCtorEq, and_true, true_and, and_false, false_and, and_self, ite_true, ite_false, ↓reduceIte, not_true_eq_false, not_false_eq_true, pe_ri, pe_rz, pe_rc, p_throw, t1309, w_junk hA, Cv_g0_1 hP hA, Cv_g0_13 hP hA, Cv_g0_4 hP hA, Cv_g15_0 hP hA, Cv_g15_2 hP hA, Cv_g16_0 hP hA, Cv_k15 hP hA, Cv_k16 hP hA, z1, eq_true k2, z3, hc]
    · rw [if_neg k4] at e; cases e
  · rw [if_neg k2] at e
    have e := Option.some.inj e; subst e
    dsimp only [Sum.elim_inr, ex1309_2] at hc
    simp -implicitDefEqProofs (disch := first | assumption | exact Nat.le_of_ble_eq_true rfl | decide) only [b1309_0, g1309_4, b1309_4, g1309_5, b1309_5, g1309_6, b1309_6, g1309_7, b1309_7, g1309_8, b1309_8, g1309_10, b1309_10, g1309_11, b1309_11, pe_aload0, pe_getfield, pe_call1, pm_af_ret, pm_af_void, pm_af_thr, pe_sipush, pe_istore1, pe_goto_w, pe_iload1, pe_icmp_ge, pe_istore2, pe_istore3, pe_iload3, pe_call2, pe_astore4, pe_istore5, pe_iload5, pe_aload4, pe_istore6, pe_iload6, pe_iload2, pe_call4, pe_if_eq, pe_iinc5, pe_goto, pe_iinc3, pe_imul, pe_iadd, pe_iinc1, pe_icmp_le, pe_aloadN0, pe_astoreN4, pe_aloadN4, pe_aastoreN, pe_areturnN, pe_null, pm_prog_1, pm_ob_some, Nat.reduceDiv, Nat.reduceMod, Nat.reduceMul, Nat.reduceAdd, Int.reduceToNat, pm_kill_i, pm_kill_r, pm_kill_n, pm_kill_j, pm_kill_l, pm_kill_d, pm_cats_nil, pm_cats_i, pm_cats_r, pm_cats_n, pm_cats_l, pm_cats_d, sz_1, sz_2, sl_1, sl_2, lc_0, lc_lt, lc_le, li_ne, va_rf, wr_m1, we_m1, pm_kill_w, Int32.reduceOfInt, Int64.reduceOfInt, Int32.reduceOfNat, Int32.reduceLT, Int32.reduceLE, Prod.mk.injEq, Nat.reduceEqDiff, reduceCtorEq, and_true, true_and, and_false, false_and, and_self, ite_true, ite_false, ↓reduceIte, not_true_eq_false, not_false_eq_true, pe_ri, pe_rz, pe_rc, p_throw, t1309, w_junk hA, Cv_g0_1 hP hA, Cv_g0_13 hP hA, Cv_g0_4 hP hA, Cv_g15_0 hP hA, Cv_g15_2 hP hA, Cv_g16_0 hP hA, Cv_k15 hP hA, Cv_k16 hP hA, z1, eq_false k2, hc]
theorem z1309_2 {mc : Int32} {jc : Int32} {tc : Int32} {ma : Int32} {ja : Int32} {ta : Int32} {oc : Int32 → Int32} {oa : Int32 → Int32} {qa : Int32 → Int32} {A : wK → Nat} {h : pm_H} {D : Nat} {R : Outcome × pm_H} {S : wS} (hP : Cv_P mc jc tc ma ja ta oc oa qa) (hA : wok A (Cv_d mc jc tc ma ja ta oc oa qa) h.1) (hD : 5 ≤ D) {n : Nat} {a : Int32 × Int32 × Int32} {b : (Int32 × Int32)} (e : lp (f1309_b2 mc jc tc ma ja ta oc oa qa S) n a = some b) (hx : ex1309_2 mc jc tc ma ja ta oc oa qa A h D R S b) : go1309_2 mc jc tc ma ja ta oc oa qa A h D R S a := lp_run (fun a r => y1309_b2 hP hA hD a r) n a b e hx
def go1309_1 (mc : Int32) (jc : Int32) (tc : Int32) (ma : Int32) (ja : Int32) (ta : Int32) (oc : Int32 → Int32) (oa : Int32 → Int32) (qa : Int32 → Int32) (A : wK → Nat) (h : pm_H) (D : Nat) (R : Outcome × pm_H) (S : wS) : Int32 → Prop := fun x1 => ∀ q2 q3 q4 q5 q6 : Value, pm_go pm_prog (pm_call pm_prog D) 1309 1 [.ref (A (0, 0, 0)), .int x1, q2, q3, q4, q5, q6] [] (wput A (Cv_d mc jc tc ma ja ta oc oa qa) S h) = some R
def ex1309_1 (mc : Int32) (jc : Int32) (tc : Int32) (ma : Int32) (ja : Int32) (ta : Int32) (oc : Int32 → Int32) (oa : Int32 → Int32) (qa : Int32 → Int32) (A : wK → Nat) (h : pm_H) (D : Nat) (R : Outcome × pm_H) (S : wS) : (Int32) ⊕ (Unit) → Prop := fun b => match b with
  | (.inl xr0) => some (Outcome.returned (some (.int xr0)), (wput A (Cv_d mc jc tc ma ja ta oc oa qa) S h)) = some R
  | (.inr (_)) => ∀ q1 q2 q3 q4 q5 q6 : Value, pm_go pm_prog (pm_call pm_prog D) 1309 8 [.ref (A (0, 0, 0)), q1, q2, q3, q4, q5, q6] [] (wput A (Cv_d mc jc tc ma ja ta oc oa qa) S h) = some R
theorem y1309_b1 {mc : Int32} {jc : Int32} {tc : Int32} {ma : Int32} {ja : Int32} {ta : Int32} {oc : Int32 → Int32} {oa : Int32 → Int32} {qa : Int32 → Int32} {A : wK → Nat} {h : pm_H} {D : Nat} {R : Outcome × pm_H} {S : wS} (hP : Cv_P mc jc tc ma ja ta oc oa qa) (hA : wok A (Cv_d mc jc tc ma ja ta oc oa qa) h.1) (hD : 5 ≤ D) (x1 : Int32) (r : (Int32) ⊕ ((Int32) ⊕ (Unit))) (e : f1309_b1 mc jc tc ma ja ta oc oa qa S x1 = some r) (hc : Sum.elim (go1309_1 mc jc tc ma ja ta oc oa qa A h D R S) (ex1309_1 mc jc tc ma ja ta oc oa qa A h D R S) r) : go1309_1 mc jc tc ma ja ta oc oa qa A h D R S x1 := by
  dsimp only [go1309_1]
  intro q2 q3 q4 q5 q6
  simp only [f1309_b1] at e
  rw [g1309_1, b1309_1]
  by_cases k1 : x1 < 5
  · rw [if_pos k1] at e
    obtain ⟨⟨v11, v12⟩, k2, e⟩ := Option.bind_eq_some_iff.mp e
    try dsimp only at e
    try simp -implicitDefEqProofs (disch := first | assumption | exact Nat.le_of_ble_eq_true rfl | decide) only [b1309_0, g1309_4, b1309_4, g1309_5, b1309_5, g1309_6, b1309_6, g1309_7, b1309_7, g1309_8, b1309_8, g1309_10, b1309_10, g1309_11, b1309_11, pe_aload0, pe_getfield, pe_call1, pm_af_ret, pm_af_void, pm_af_thr, pe_sipush, pe_istore1, pe_goto_w, pe_iload1, pe_icmp_ge, pe_istore2, pe_istore3, pe_iload3, pe_call2, pe_astore4, pe_istore5, pe_iload5, pe_aload4, pe_istore6, pe_iload6, pe_iload2, pe_call4, pe_if_eq, pe_iinc5, pe_goto, pe_iinc3, pe_imul, pe_iadd, pe_iinc1, pe_icmp_le, pe_aloadN0, pe_astoreN4, pe_aloadN4, pe_aastoreN, pe_areturnN, pe_null, pm_prog_1, pm_ob_some, Nat.reduceDiv, Nat.reduceMod, Nat.reduceMul, Nat.reduceAdd, Int.reduceToNat, pm_kill_i, pm_kill_r, pm_kill_n, pm_kill_j, pm_kill_l, pm_kill_d, pm_cats_nil, pm_cats_i, pm_cats_r, pm_cats_n, pm_cats_l, pm_cats_d, sz_1, sz_2, sl_1, sl_2, lc_0, lc_lt, lc_le, li_ne, va_rf, wr_m1, we_m1, pm_kill_w, Int32.reduceOfInt, Int64.reduceOfInt, Int32.reduceOfNat, Int32.reduceLT, Int32.reduceLE, Prod.mk.injEq, Nat.reduceEqDiff, reduceCtorEq, and_true, true_and, and_false, false_and, and_self, ite_true, ite_false, ↓reduceIte, not_true_eq_false, not_false_eq_true, pe_ri, pe_rz, pe_rc, p_throw, t1309, w_junk hA, Cv_g0_1 hP hA, Cv_g0_13 hP hA, Cv_g0_4 hP hA, Cv_g15_0 hP hA, Cv_g15_2 hP hA, Cv_g16_0 hP hA, Cv_k15 hP hA, Cv_k16 hP hA, eq_true k1]
    refine z1309_2 hP hA hD k2 ?_ _ _ _
    dsimp only [ex1309_2]
    intro q3 q4 q5 q6
    by_cases k3 : v12 < 24
    · rw [if_pos k3] at e
      have e := Option.some.inj e; subst e
      dsimp only [Sum.elim_inr, ex1309_1] at hc
      have hc := Option.some.inj hc; subst hc
      simp -implicitDefEqProofs (disch := first | assumption | exact Nat.le_of_ble_eq_true rfl | decide) only [b1309_0, g1309_4, b1309_4, g1309_5, b1309_5, g1309_6, b1309_6, g1309_7, b1309_7, g1309_8, b1309_8, g1309_10, b1309_10, g1309_11, b1309_11, pe_aload0, pe_getfield, pe_call1, pm_af_ret, pm_af_void, pm_af_thr, pe_sipush, pe_istore1, pe_goto_w, pe_iload1, pe_icmp_ge, pe_istore2, pe_istore3, pe_iload3, pe_call2, pe_astore4, pe_istore5, pe_iload5, pe_aload4, pe_istore6, pe_iload6, pe_iload2, pe_call4, pe_if_eq, pe_iinc5, pe_goto, pe_iinc3, pe_imul, pe_iadd, pe_iinc1, pe_icmp_le, pe_aloadN0, pe_astoreN4, pe_aloadN4, pe_aastoreN, pe_areturnN, pe_null, pm_prog_1, pm_ob_some, Nat.reduceDiv, Nat.reduceMod, Nat.reduceMul, Nat.reduceAdd, Int.reduceToNat, pm_kill_i, pm_kill_r, pm_kill_n, pm_kill_j, pm_kill_l, pm_kill_d, pm_cats_nil, pm_cats_i, pm_cats_r, pm_cats_n, pm_cats_l, pm_cats_d, sz_1, sz_2, sl_1, sl_2, lc_0, lc_lt, lc_le, li_ne, va_rf, wr_m1, we_m1, pm_kill_w, Int32.reduceOfInt, Int64.reduceOfInt, Int32.reduceOfNat, Int32.reduceLT, Int32.reduceLE, Prod.mk.injEq, Nat.reduceEqDiff, reduceCtorEq, and_true, true_and, and_false, false_and, and_self, ite_true, ite_false, ↓reduceIte, not_true_eq_false, not_false_eq_true, pe_ri, pe_rz, pe_rc, p_throw, t1309, w_junk hA, Cv_g0_1 hP hA, Cv_g0_13 hP hA, Cv_g0_4 hP hA, Cv_g15_0 hP hA, Cv_g15_2 hP hA, Cv_g16_0 hP hA, Cv_k15 hP hA, Cv_k16 hP hA, eq_true k1, eq_true k3]
    · rw [if_neg k3] at e
      have e := Option.some.inj e; subst e
      dsimp only [Sum.elim_inl, go1309_1] at hc
      simp -implicitDefEqProofs (disch := first | assumption | exact Nat.le_of_ble_eq_true rfl | decide) only [b1309_0, g1309_4, b1309_4, g1309_5, b1309_5, g1309_6, b1309_6, g1309_7, b1309_7, g1309_8, b1309_8, g1309_10, b1309_10, g1309_11, b1309_11, pe_aload0, pe_getfield, pe_call1, pm_af_ret, pm_af_void, pm_af_thr, pe_sipush, pe_istore1, pe_goto_w, pe_iload1, pe_icmp_ge, pe_istore2, pe_istore3, pe_iload3, pe_call2, pe_astore4, pe_istore5, pe_iload5, pe_aload4, pe_istore6, pe_iload6, pe_iload2, pe_call4, pe_if_eq, pe_iinc5, pe_goto, pe_iinc3, pe_imul, pe_iadd, pe_iinc1, pe_icmp_le, pe_aloadN0, pe_astoreN4, pe_aloadN4, pe_aastoreN, pe_areturnN, pe_null, pm_prog_1, pm_ob_some, Nat.reduceDiv, Nat.reduceMod, Nat.reduceMul, Nat.reduceAdd, Int.reduceToNat, pm_kill_i, pm_kill_r, pm_kill_n, pm_kill_j, pm_kill_l, pm_kill_d, pm_cats_nil, pm_cats_i, pm_cats_r, pm_cats_n, pm_cats_l, pm_cats_d, sz_1, sz_2, sl_1, sl_2, lc_0, lc_lt, lc_le, li_ne, va_rf, wr_m1, we_m1, pm_kill_w, Int32.reduceOfInt, Int64.reduceOfInt, Int32.reduceOfNat, Int32.reduceLT, Int32.reduceLE, Prod.mk.injEq, Nat.reduceEqDiff, reduceCtorEq, and_true, true_and, and_false, false_and, and_self, ite_true, ite_false, ↓reduceIte, not_true_eq_false, not_false_eq_true, pe_ri, pe_rz, pe_rc, p_throw, t1309, w_junk hA, Cv_g0_1 hP hA, Cv_g0_13 hP hA, Cv_g0_4 hP hA, Cv_g15_0 hP hA, Cv_g15_2 hP hA, Cv_g16_0 hP hA, Cv_k15 hP hA, Cv_k16 hP hA, eq_true k1, eq_false k3, hc]
  · rw [if_neg k1] at e
    have e := Option.some.inj e; subst e
    dsimp only [Sum.elim_inr, ex1309_1] at hc
    simp -implicitDefEqProofs (disch := first | assumption | exact Nat.le_of_ble_eq_true rfl | decide) only [b1309_0, g1309_4, b1309_4, g1309_5, b1309_5, g1309_6, b1309_6, g1309_7, b1309_7, g1309_8, b1309_8, g1309_10, b1309_10, g1309_11, b1309_11, pe_aload0, pe_getfield, pe_call1, pm_af_ret, pm_af_void, pm_af_thr, pe_sipush, pe_istore1, pe_goto_w, pe_iload1, pe_icmp_ge, pe_istore2, pe_istore3, pe_iload3, pe_call2, pe_astore4, pe_istore5, pe_iload5, pe_aload4, pe_istore6, pe_iload6, pe_iload2, pe_call4, pe_if_eq, pe_iinc5, pe_goto, pe_iinc3, pe_imul, pe_iadd, pe_iinc1, pe_icmp_le, pe_aloadN0, pe_astoreN4, pe_aloadN4, pe_aastoreN, pe_areturnN, pe_null, pm_prog_1, pm_ob_some, Nat.reduceDiv, Nat.reduceMod, Nat.reduceMul, Nat.reduceAdd, Int.reduceToNat, pm_kill_i, pm_kill_r, pm_kill_n, pm_kill_j, pm_kill_l, pm_kill_d, pm_cats_nil, pm_cats_i, pm_cats_r, pm_cats_n, pm_cats_l, pm_cats_d, sz_1, sz_2, sl_1, sl_2, lc_0, lc_lt, lc_le, li_ne, va_rf, wr_m1, we_m1, pm_kill_w, Int32.reduceOfInt, Int64.reduceOfInt, Int32.reduceOfNat, Int32.reduceLT, Int32.reduceLE, Prod.mk.injEq, Nat.reduceEqDiff, reduceCtorEq, and_true, true_and, and_false, false_and, and_self, ite_true, ite_false, ↓reduceIte, not_true_eq_false, not_false_eq_true, pe_ri, pe_rz, pe_rc, p_throw, t1309, w_junk hA, Cv_g0_1 hP hA, Cv_g0_13 hP hA, Cv_g0_4 hP hA, Cv_g15_0 hP hA, Cv_g15_2 hP hA, Cv_g16_0 hP hA, Cv_k15 hP hA, Cv_k16 hP hA, eq_false k1, hc]
theorem z1309_1 {mc : Int32} {jc : Int32} {tc : Int32} {ma : Int32} {ja : Int32} {ta : Int32} {oc : Int32 → Int32} {oa : Int32 → Int32} {qa : Int32 → Int32} {A : wK → Nat} {h : pm_H} {D : Nat} {R : Outcome × pm_H} {S : wS} (hP : Cv_P mc jc tc ma ja ta oc oa qa) (hA : wok A (Cv_d mc jc tc ma ja ta oc oa qa) h.1) (hD : 5 ≤ D) {n : Nat} {a : Int32} {b : (Int32) ⊕ (Unit)} (e : lp (f1309_b1 mc jc tc ma ja ta oc oa qa S) n a = some b) (hx : ex1309_1 mc jc tc ma ja ta oc oa qa A h D R S b) : go1309_1 mc jc tc ma ja ta oc oa qa A h D R S a := lp_run (fun a r => y1309_b1 hP hA hD a r) n a b e hx
def go1309_9 (mc : Int32) (jc : Int32) (tc : Int32) (ma : Int32) (ja : Int32) (ta : Int32) (oc : Int32 → Int32) (oa : Int32 → Int32) (qa : Int32 → Int32) (A : wK → Nat) (h : pm_H) (D : Nat) (R : Outcome × pm_H) (S : wS) : Int32 → Prop := fun x1 => ∀ q2 q3 q4 q5 q6 : Value, pm_go pm_prog (pm_call pm_prog D) 1309 9 [.ref (A (0, 0, 0)), .int x1, q2, q3, q4, q5, q6] [] (wput A (Cv_d mc jc tc ma ja ta oc oa qa) S h) = some R
def ex1309_9 (mc : Int32) (jc : Int32) (tc : Int32) (ma : Int32) (ja : Int32) (ta : Int32) (oc : Int32 → Int32) (oa : Int32 → Int32) (qa : Int32 → Int32) (A : wK → Nat) (h : pm_H) (D : Nat) (R : Outcome × pm_H) (S : wS) : (Int32) ⊕ (Unit) → Prop := fun b => match b with
  | (.inl xr0) => some (Outcome.returned (some (.int xr0)), (wput A (Cv_d mc jc tc ma ja ta oc oa qa) S h)) = some R
  | (.inr (_)) => ∀ q0 q1 q2 q3 q4 q5 q6 : Value, pm_go pm_prog (pm_call pm_prog D) 1309 11 [q0, q1, q2, q3, q4, q5, q6] [] (wput A (Cv_d mc jc tc ma ja ta oc oa qa) S h) = some R
theorem y1309_b9 {mc : Int32} {jc : Int32} {tc : Int32} {ma : Int32} {ja : Int32} {ta : Int32} {oc : Int32 → Int32} {oa : Int32 → Int32} {qa : Int32 → Int32} {A : wK → Nat} {h : pm_H} {D : Nat} {R : Outcome × pm_H} {S : wS} (hP : Cv_P mc jc tc ma ja ta oc oa qa) (hA : wok A (Cv_d mc jc tc ma ja ta oc oa qa) h.1) (hD : 5 ≤ D) (x1 : Int32) (r : (Int32) ⊕ ((Int32) ⊕ (Unit))) (e : f1309_b9 mc jc tc ma ja ta oc oa qa S x1 = some r) (hc : Sum.elim (go1309_9 mc jc tc ma ja ta oc oa qa A h D R S) (ex1309_9 mc jc tc ma ja ta oc oa qa A h D R S) r) : go1309_9 mc jc tc ma ja ta oc oa qa A h D R S x1 := by
  dsimp only [go1309_9]
  intro q2 q3 q4 q5 q6
  simp only [f1309_b9] at e
  rw [g1309_9, b1309_9]
  obtain ⟨v15, k1, e⟩ := Option.bind_eq_some_iff.mp e
  try dsimp only at e
  have z1 := x4033v (D := D) (h := h) hP hA (by omega) k1
  by_cases k2 : x1 < v15
  · rw [if_pos k2] at e
    obtain ⟨v16i, k3, e⟩ := Option.bind_eq_some_iff.mp e
    try dsimp only at e
    have z3 := x4034v (D := D) (h := h) hP hA (by omega) k3
    by_cases k4 : 0 ≤ v16i ∧ v16i < jc
    · rw [if_pos k4] at e
      obtain ⟨v17, k5, e⟩ := Option.bind_eq_some_iff.mp e
      try dsimp only at e
      have z5 := x1352 (D := D) (h := h) hP hA (by omega) k5
      by_cases k6 : v17 ≤ (S.1 (15, v16i, 0) 0)
      · rw [if_pos k6] at e
        have e := Option.some.inj e; subst e
        dsimp only [Sum.elim_inl, go1309_9] at hc
        simp -implicitDefEqProofs (disch := first | assumption | exact Nat.le_of_ble_eq_true rfl | decide) only [b1309_0, g1309_4, b1309_4, g1309_5, b1309_5, g1309_6, b1309_6, g1309_7, b1309_7, g1309_8, b1309_8, g1309_10, b1309_10, g1309_11, b1309_11, pe_aload0, pe_getfield, pe_call1, pm_af_ret, pm_af_void, pm_af_thr, pe_sipush, pe_istore1, pe_goto_w, pe_iload1, pe_icmp_ge, pe_istore2, pe_istore3, pe_iload3, pe_call2, pe_astore4, pe_istore5, pe_iload5, pe_aload4, pe_istore6, pe_iload6, pe_iload2, pe_call4, pe_if_eq, pe_iinc5, pe_goto, pe_iinc3, pe_imul, pe_iadd, pe_iinc1, pe_icmp_le, pe_aloadN0, pe_astoreN4, pe_aloadN4, pe_aastoreN, pe_areturnN, pe_null, pm_prog_1, pm_ob_some, Nat.reduceDiv, Nat.reduceMod, Nat.reduceMul, Nat.reduceAdd, Int.reduceToNat, pm_kill_i, pm_kill_r, pm_kill_n, pm_kill_j, pm_kill_l, pm_kill_d, pm_cats_nil, pm_cats_i, pm_cats_r, pm_cats_n, pm_cats_l, pm_cats_d, sz_1, sz_2, sl_1, sl_2, lc_0, lc_lt, lc_le, li_ne, va_rf, wr_m1, we_m1, pm_kill_w, Int32.reduceOfInt, Int64.reduceOfInt, Int32.reduceOfNat, Int32.reduceLT, Int32.reduceLE, Prod.mk.injEq, Nat.reduceEqDiff, reduceCtorEq, and_true, true_and, and_false, false_and, and_self, ite_true, ite_false, ↓reduceIte, not_true_eq_false, not_false_eq_true, pe_ri, pe_rz, pe_rc, p_throw, t1309, w_junk hA, Cv_g0_1 hP hA, Cv_g0_13 hP hA, Cv_g0_4 hP hA, Cv_g15_0 hP hA, Cv_g15_2 hP hA, Cv_g16_0 hP hA, Cv_k15 hP hA, Cv_k16 hP hA, z1, eq_true k2, z3, z5, eq_true k6, hc]
      · rw [if_neg k6] at e
        have e := Option.some.inj e; subst e
        dsimp only [Sum.elim_inr, ex1309_9] at hc
        have hc := Option.some.inj hc; subst hc
        simp -implicitDefEqProofs (disch := first | assumption | exact Nat.le_of_ble_eq_true rfl | decide) only [b1309_0, g1309_4, b1309_4, g1309_5, b1309_5, g1309_6, b1309_6, g1309_7, b1309_7, g1309_8, b1309_8, g1309_10, b1309_10, g1309_11, b1309_11, pe_aload0, pe_getfield, pe_call1, pm_af_ret, pm_af_void, pm_af_thr, pe_sipush, pe_istore1, pe_goto_w, pe_iload1, pe_icmp_ge, pe_istore2, pe_istore3, pe_iload3, pe_call2, pe_astore4, pe_istore5, pe_iload5, pe_aload4, pe_istore6, pe_iload6, pe_iload2, pe_call4, pe_if_eq, pe_iinc5, pe_goto, pe_iinc3, pe_imul, pe_iadd, pe_iinc1, pe_icmp_le, pe_aloadN0, pe_astoreN4, pe_aloadN4, pe_aastoreN, pe_areturnN, pe_null, pm_prog_1, pm_ob_some, Nat.reduceDiv, Nat.reduceMod, Nat.reduceMul, Nat.reduceAdd, Int.reduceToNat, pm_kill_i, pm_kill_r, pm_kill_n, pm_kill_j, pm_kill_l, pm_kill_d, pm_cats_nil, pm_cats_i, pm_cats_r, pm_cats_n, pm_cats_l, pm_cats_d, sz_1, sz_2, sl_1, sl_2, lc_0, lc_lt, lc_le, li_ne, va_rf, wr_m1, we_m1, pm_kill_w, Int32.reduceOfInt, Int64.reduceOfInt, Int32.reduceOfNat, Int32.reduceLT, Int32.reduceLE, Prod.mk.injEq, Nat.reduceEqDiff, reduceCtorEq, and_true, true_and, and_false, false_and, and_self, ite_true, ite_false, ↓reduceIte, not_true_eq_false, not_false_eq_true, pe_ri, pe_rz, pe_rc, p_throw, t1309, w_junk hA, Cv_g0_1 hP hA, Cv_g0_13 hP hA, Cv_g0_4 hP hA, Cv_g15_0 hP hA, Cv_g15_2 hP hA, Cv_g16_0 hP hA, Cv_k15 hP hA, Cv_k16 hP hA, z1, eq_true k2, z3, z5, eq_false k6]
    · rw [if_neg k4] at e; cases e
  · rw [if_neg k2] at e
    have e := Option.some.inj e; subst e
    dsimp only [Sum.elim_inr, ex1309_9] at hc
    simp -implicitDefEqProofs (disch := first | assumption | exact Nat.le_of_ble_eq_true rfl | decide) only [b1309_0, g1309_4, b1309_4, g1309_5, b1309_5, g1309_6, b1309_6, g1309_7, b1309_7, g1309_8, b1309_8, g1309_10, b1309_10, g1309_11, b1309_11, pe_aload0, pe_getfield, pe_call1, pm_af_ret, pm_af_void, pm_af_thr, pe_sipush, pe_istore1, pe_goto_w, pe_iload1, pe_icmp_ge, pe_istore2, pe_istore3, pe_iload3, pe_call2, pe_astore4, pe_istore5, pe_iload5, pe_aload4, pe_istore6, pe_iload6, pe_iload2, pe_call4, pe_if_eq, pe_iinc5, pe_goto, pe_iinc3, pe_imul, pe_iadd, pe_iinc1, pe_icmp_le, pe_aloadN0, pe_astoreN4, pe_aloadN4, pe_aastoreN, pe_areturnN, pe_null, pm_prog_1, pm_ob_some, Nat.reduceDiv, Nat.reduceMod, Nat.reduceMul, Nat.reduceAdd, Int.reduceToNat, pm_kill_i, pm_kill_r, pm_kill_n, pm_kill_j, pm_kill_l, pm_kill_d, pm_cats_nil, pm_cats_i, pm_cats_r, pm_cats_n, pm_cats_l, pm_cats_d, sz_1, sz_2, sl_1, sl_2, lc_0, lc_lt, lc_le, li_ne, va_rf, wr_m1, we_m1, pm_kill_w, Int32.reduceOfInt, Int64.reduceOfInt, Int32.reduceOfNat, Int32.reduceLT, Int32.reduceLE, Prod.mk.injEq, Nat.reduceEqDiff, reduceCtorEq, and_true, true_and, and_false, false_and, and_self, ite_true, ite_false, ↓reduceIte, not_true_eq_false, not_false_eq_true, pe_ri, pe_rz, pe_rc, p_throw, t1309, w_junk hA, Cv_g0_1 hP hA, Cv_g0_13 hP hA, Cv_g0_4 hP hA, Cv_g15_0 hP hA, Cv_g15_2 hP hA, Cv_g16_0 hP hA, Cv_k15 hP hA, Cv_k16 hP hA, z1, eq_false k2, hc]
theorem z1309_9 {mc : Int32} {jc : Int32} {tc : Int32} {ma : Int32} {ja : Int32} {ta : Int32} {oc : Int32 → Int32} {oa : Int32 → Int32} {qa : Int32 → Int32} {A : wK → Nat} {h : pm_H} {D : Nat} {R : Outcome × pm_H} {S : wS} (hP : Cv_P mc jc tc ma ja ta oc oa qa) (hA : wok A (Cv_d mc jc tc ma ja ta oc oa qa) h.1) (hD : 5 ≤ D) {n : Nat} {a : Int32} {b : (Int32) ⊕ (Unit)} (e : lp (f1309_b9 mc jc tc ma ja ta oc oa qa S) n a = some b) (hx : ex1309_9 mc jc tc ma ja ta oc oa qa A h D R S b) : go1309_9 mc jc tc ma ja ta oc oa qa A h D R S a := lp_run (fun a r => y1309_b9 hP hA hD a r) n a b e hx
theorem x1309 {mc : Int32} {jc : Int32} {tc : Int32} {ma : Int32} {ja : Int32} {ta : Int32} {oc : Int32 → Int32} {oa : Int32 → Int32} {qa : Int32 → Int32} {A : wK → Nat} {h : pm_H} {D : Nat} {S : wS} {r : Nat ⊕ (Int32)} (hP : Cv_P mc jc tc ma ja ta oc oa qa) (hA : wok A (Cv_d mc jc tc ma ja ta oc oa qa) h.1) (hD : 6 ≤ D) (e : f1309 mc jc tc ma ja ta oc oa qa S = some r) : pm_call pm_prog D 1309 [.ref (A (0, 0, 0))] (wput A (Cv_d mc jc tc ma ja ta oc oa qa) S h) = some (match (generalizing := false) r with | .inl c => (Outcome.threw c, (wput A (Cv_d mc jc tc ma ja ta oc oa qa) S (pm_new h 6 (.inr (c, []))))) | .inr w0 => (Outcome.returned (some (.int w0)), (wput A (Cv_d mc jc tc ma ja ta oc oa qa) S h))) := by
  obtain ⟨D, rfl⟩ : ∃ D', D = D' + 1 := ⟨D - 1, by omega⟩
  have hD : 5 ≤ D := by omega
  simp only [f1309] at e
  rw [c1309 (Cv_c0 hP hA), b1309_0]
  obtain ⟨r, k1, e⟩ := Option.bind_eq_some_iff.mp e
  have z1 := fun h => x1285 (D := D) (h := h) (by omega) k1
  rcases r with c19 | _
  · dsimp only at e z1
    have e := Option.some.inj e; subst e
    simp -implicitDefEqProofs (disch := first | assumption | exact Nat.le_of_ble_eq_true rfl | decide) only [b1309_0, g1309_4, b1309_4, g1309_5, b1309_5, g1309_6, b1309_6, g1309_7, b1309_7, g1309_8, b1309_8, g1309_10, b1309_10, g1309_11, b1309_11, pe_aload0, pe_getfield, pe_call1, pm_af_ret, pm_af_void, pm_af_thr, pe_sipush, pe_istore1, pe_goto_w, pe_iload1, pe_icmp_ge, pe_istore2, pe_istore3, pe_iload3, pe_call2, pe_astore4, pe_istore5, pe_iload5, pe_aload4, pe_istore6, pe_iload6, pe_iload2, pe_call4, pe_if_eq, pe_iinc5, pe_goto, pe_iinc3, pe_imul, pe_iadd, pe_iinc1, pe_icmp_le, pe_aloadN0, pe_astoreN4, pe_aloadN4, pe_aastoreN, pe_areturnN, pe_null, pm_prog_1, pm_ob_some, Nat.reduceDiv, Nat.reduceMod, Nat.reduceMul, Nat.reduceAdd, Int.reduceToNat, pm_kill_i, pm_kill_r, pm_kill_n, pm_kill_j, pm_kill_l, pm_kill_d, pm_cats_nil, pm_cats_i, pm_cats_r, pm_cats_n, pm_cats_l, pm_cats_d, sz_1, sz_2, sl_1, sl_2, lc_0, lc_lt, lc_le, li_ne, va_rf, wr_m1, we_m1, pm_kill_w, Int32.reduceOfInt, Int64.reduceOfInt, Int32.reduceOfNat, Int32.reduceLT, Int32.reduceLE, Prod.mk.injEq, Nat.reduceEqDiff, reduceCtorEq, and_true, true_and, and_false, false_and, and_self, ite_true, ite_false, ↓reduceIte, not_true_eq_false, not_false_eq_true, pe_ri, pe_rz, pe_rc, p_throw, t1309, w_junk hA, Cv_g0_1 hP hA, Cv_g0_13 hP hA, Cv_g0_4 hP hA, Cv_g15_0 hP hA, Cv_g15_2 hP hA, Cv_g16_0 hP hA, Cv_k15 hP hA, Cv_k16 hP hA, z1]
  · dsimp only at e z1
    obtain ⟨b, k2, e⟩ := Option.bind_eq_some_iff.mp e
    rcases b with v13 | _
    ·
      try dsimp only at e
      try simp -implicitDefEqProofs (disch := first | assumption | exact Nat.le_of_ble_eq_true rfl | decide) only [b1309_0, g1309_4, b1309_4, g1309_5, b1309_5, g1309_6, b1309_6, g1309_7, b1309_7, g1309_8, b1309_8, g1309_10, b1309_10, g1309_11, b1309_11, pe_aload0, pe_getfield, pe_call1, pm_af_ret, pm_af_void, pm_af_thr, pe_sipush, pe_istore1, pe_goto_w, pe_iload1, pe_icmp_ge, pe_istore2, pe_istore3, pe_iload3, pe_call2, pe_astore4, pe_istore5, pe_iload5, pe_aload4, pe_istore6, pe_iload6, pe_iload2, pe_call4, pe_if_eq, pe_iinc5, pe_goto, pe_iinc3, pe_imul, pe_iadd, pe_iinc1, pe_icmp_le, pe_aloadN0, pe_astoreN4, pe_aloadN4, pe_aastoreN, pe_areturnN, pe_null, pm_prog_1, pm_ob_some, Nat.reduceDiv, Nat.reduceMod, Nat.reduceMul, Nat.reduceAdd, Int.reduceToNat, pm_kill_i, pm_kill_r, pm_kill_n, pm_kill_j, pm_kill_l, pm_kill_d, pm_cats_nil, pm_cats_i, pm_cats_r, pm_cats_n, pm_cats_l, pm_cats_d, sz_1, sz_2, sl_1, sl_2, lc_0, lc_lt, lc_le, li_ne, va_rf, wr_m1, we_m1, pm_kill_w, Int32.reduceOfInt, Int64.reduceOfInt, Int32.reduceOfNat, Int32.reduceLT, Int32.reduceLE, Prod.mk.injEq, Nat.reduceEqDiff, reduceCtorEq, and_true, true_and, and_false, false_and, and_self, ite_true, ite_false, ↓reduceIte, not_true_eq_false, not_false_eq_true, pe_ri, pe_rz, pe_rc, p_throw, t1309, w_junk hA, Cv_g0_1 hP hA, Cv_g0_13 hP hA, Cv_g0_4 hP hA, Cv_g15_0 hP hA, Cv_g15_2 hP hA, Cv_g16_0 hP hA, Cv_k15 hP hA, Cv_k16 hP hA, z1]
      refine z1309_1 hP hA hD k2 ?_ _ _ _ _ _
      dsimp only [ex1309_1]
      have e := Option.some.inj e; subst e
      simp -implicitDefEqProofs (disch := first | assumption | exact Nat.le_of_ble_eq_true rfl | decide) only [b1309_0, g1309_4, b1309_4, g1309_5, b1309_5, g1309_6, b1309_6, g1309_7, b1309_7, g1309_8, b1309_8, g1309_10, b1309_10, g1309_11, b1309_11, pe_aload0, pe_getfield, pe_call1, pm_af_ret, pm_af_void, pm_af_thr, pe_sipush, pe_istore1, pe_goto_w, pe_iload1, pe_icmp_ge, pe_istore2, pe_istore3, pe_iload3, pe_call2, pe_astore4, pe_istore5, pe_iload5, pe_aload4, pe_istore6, pe_iload6, pe_iload2, pe_call4, pe_if_eq, pe_iinc5, pe_goto, pe_iinc3, pe_imul, pe_iadd, pe_iinc1, pe_icmp_le, pe_aloadN0, pe_astoreN4, pe_aloadN4, pe_aastoreN, pe_areturnN, pe_null, pm_prog_1, pm_ob_some, Nat.reduceDiv, Nat.reduceMod, Nat.reduceMul, Nat.reduceAdd, Int.reduceToNat, pm_kill_i, pm_kill_r, pm_kill_n, pm_kill_j, pm_kill_l, pm_kill_d, pm_cats_nil, pm_cats_i, pm_cats_r, pm_cats_n, pm_cats_l, pm_cats_d, sz_1, sz_2, sl_1, sl_2, lc_0, lc_lt, lc_le, li_ne, va_rf, wr_m1, we_m1, pm_kill_w, Int32.reduceOfInt, Int64.reduceOfInt, Int32.reduceOfNat, Int32.reduceLT, Int32.reduceLE, Prod.mk.injEq, Nat.reduceEqDiff, reduceCtorEq, and_true, true_and, and_false, false_and, and_self, ite_true, ite_false, ↓reduceIte, not_true_eq_false, not_false_eq_true, pe_ri, pe_rz, pe_rc, p_throw, t1309, w_junk hA, Cv_g0_1 hP hA, Cv_g0_13 hP hA, Cv_g0_4 hP hA, Cv_g15_0 hP hA, Cv_g15_2 hP hA, Cv_g16_0 hP hA, Cv_k15 hP hA, Cv_k16 hP hA, z1]
    ·
      try dsimp only at e
      try simp -implicitDefEqProofs (disch := first | assumption | exact Nat.le_of_ble_eq_true rfl | decide) only [b1309_0, g1309_4, b1309_4, g1309_5, b1309_5, g1309_6, b1309_6, g1309_7, b1309_7, g1309_8, b1309_8, g1309_10, b1309_10, g1309_11, b1309_11, pe_aload0, pe_getfield, pe_call1, pm_af_ret, pm_af_void, pm_af_thr, pe_sipush, pe_istore1, pe_goto_w, pe_iload1, pe_icmp_ge, pe_istore2, pe_istore3, pe_iload3, pe_call2, pe_astore4, pe_istore5, pe_iload5, pe_aload4, pe_istore6, pe_iload6, pe_iload2, pe_call4, pe_if_eq, pe_iinc5, pe_goto, pe_iinc3, pe_imul, pe_iadd, pe_iinc1, pe_icmp_le, pe_aloadN0, pe_astoreN4, pe_aloadN4, pe_aastoreN, pe_areturnN, pe_null, pm_prog_1, pm_ob_some, Nat.reduceDiv, Nat.reduceMod, Nat.reduceMul, Nat.reduceAdd, Int.reduceToNat, pm_kill_i, pm_kill_r, pm_kill_n, pm_kill_j, pm_kill_l, pm_kill_d, pm_cats_nil, pm_cats_i, pm_cats_r, pm_cats_n, pm_cats_l, pm_cats_d, sz_1, sz_2, sl_1, sl_2, lc_0, lc_lt, lc_le, li_ne, va_rf, wr_m1, we_m1, pm_kill_w, Int32.reduceOfInt, Int64.reduceOfInt, Int32.reduceOfNat, Int32.reduceLT, Int32.reduceLE, Prod.mk.injEq, Nat.reduceEqDiff, reduceCtorEq, and_true, true_and, and_false, false_and, and_self, ite_true, ite_false, ↓reduceIte, not_true_eq_false, not_false_eq_true, pe_ri, pe_rz, pe_rc, p_throw, t1309, w_junk hA, Cv_g0_1 hP hA, Cv_g0_13 hP hA, Cv_g0_4 hP hA, Cv_g15_0 hP hA, Cv_g15_2 hP hA, Cv_g16_0 hP hA, Cv_k15 hP hA, Cv_k16 hP hA, z1]
      refine z1309_1 hP hA hD k2 ?_ _ _ _ _ _
      dsimp only [ex1309_1]
      intro q1 q2 q3 q4 q5 q6
      obtain ⟨b, k3, e⟩ := Option.bind_eq_some_iff.mp e
      rcases b with v18 | _
      ·
        try dsimp only at e
        try simp -implicitDefEqProofs (disch := first | assumption | exact Nat.le_of_ble_eq_true rfl | decide) only [b1309_0, g1309_4, b1309_4, g1309_5, b1309_5, g1309_6, b1309_6, g1309_7, b1309_7, g1309_8, b1309_8, g1309_10, b1309_10, g1309_11, b1309_11, pe_aload0, pe_getfield, pe_call1, pm_af_ret, pm_af_void, pm_af_thr, pe_sipush, pe_istore1, pe_goto_w, pe_iload1, pe_icmp_ge, pe_istore2, pe_istore3, pe_iload3, pe_call2, pe_astore4, pe_istore5, pe_iload5, pe_aload4, pe_istore6, pe_iload6, pe_iload2, pe_call4, pe_if_eq, pe_iinc5, pe_goto, pe_iinc3, pe_imul, pe_iadd, pe_iinc1, pe_icmp_le, pe_aloadN0, pe_astoreN4, pe_aloadN4, pe_aastoreN, pe_areturnN, pe_null, pm_prog_1, pm_ob_some, Nat.reduceDiv, Nat.reduceMod, Nat.reduceMul, Nat.reduceAdd, Int.reduceToNat, pm_kill_i, pm_kill_r, pm_kill_n, pm_kill_j, pm_kill_l, pm_kill_d, pm_cats_nil, pm_cats_i, pm_cats_r, pm_cats_n, pm_cats_l, pm_cats_d, sz_1, sz_2, sl_1, sl_2, lc_0, lc_lt, lc_le, li_ne, va_rf, wr_m1, we_m1, pm_kill_w, Int32.reduceOfInt, Int64.reduceOfInt, Int32.reduceOfNat, Int32.reduceLT, Int32.reduceLE, Prod.mk.injEq, Nat.reduceEqDiff, reduceCtorEq, and_true, true_and, and_false, false_and, and_self, ite_true, ite_false, ↓reduceIte, not_true_eq_false, not_false_eq_true, pe_ri, pe_rz, pe_rc, p_throw, t1309, w_junk hA, Cv_g0_1 hP hA, Cv_g0_13 hP hA, Cv_g0_4 hP hA, Cv_g15_0 hP hA, Cv_g15_2 hP hA, Cv_g16_0 hP hA, Cv_k15 hP hA, Cv_k16 hP hA, z1]
        refine z1309_9 hP hA hD k3 ?_ _ _ _ _ _
        dsimp only [ex1309_9]
        have e := Option.some.inj e; subst e
        simp -implicitDefEqProofs (disch := first | assumption | exact Nat.le_of_ble_eq_true rfl | decide) only [b1309_0, g1309_4, b1309_4, g1309_5, b1309_5, g1309_6, b1309_6, g1309_7, b1309_7, g1309_8, b1309_8, g1309_10, b1309_10, g1309_11, b1309_11, pe_aload0, pe_getfield, pe_call1, pm_af_ret, pm_af_void, pm_af_thr, pe_sipush, pe_istore1, pe_goto_w, pe_iload1, pe_icmp_ge, pe_istore2, pe_istore3, pe_iload3, pe_call2, pe_astore4, pe_istore5, pe_iload5, pe_aload4, pe_istore6, pe_iload6, pe_iload2, pe_call4, pe_if_eq, pe_iinc5, pe_goto, pe_iinc3, pe_imul, pe_iadd, pe_iinc1, pe_icmp_le, pe_aloadN0, pe_astoreN4, pe_aloadN4, pe_aastoreN, pe_areturnN, pe_null, pm_prog_1, pm_ob_some, Nat.reduceDiv, Nat.reduceMod, Nat.reduceMul, Nat.reduceAdd, Int.reduceToNat, pm_kill_i, pm_kill_r, pm_kill_n, pm_kill_j, pm_kill_l, pm_kill_d, pm_cats_nil, pm_cats_i, pm_cats_r, pm_cats_n, pm_cats_l, pm_cats_d, sz_1, sz_2, sl_1, sl_2, lc_0, lc_lt, lc_le, li_ne, va_rf, wr_m1, we_m1, pm_kill_w, Int32.reduceOfInt, Int64.reduceOfInt, Int32.reduceOfNat, Int32.reduceLT, Int32.reduceLE, Prod.mk.injEq, Nat.reduceEqDiff, reduceCtorEq, and_true, true_and, and_false, false_and, and_self, ite_true, ite_false, ↓reduceIte, not_true_eq_false, not_false_eq_true, pe_ri, pe_rz, pe_rc, p_throw, t1309, w_junk hA, Cv_g0_1 hP hA, Cv_g0_13 hP hA, Cv_g0_4 hP hA, Cv_g15_0 hP hA, Cv_g15_2 hP hA, Cv_g16_0 hP hA, Cv_k15 hP hA, Cv_k16 hP hA, z1]
      ·
        try dsimp only at e
        try simp -implicitDefEqProofs (disch := first | assumption | exact Nat.le_of_ble_eq_true rfl | decide) only [b1309_0, g1309_4, b1309_4, g1309_5, b1309_5, g1309_6, b1309_6, g1309_7, b1309_7, g1309_8, b1309_8, g1309_10, b1309_10, g1309_11, b1309_11, pe_aload0, pe_getfield, pe_call1, pm_af_ret, pm_af_void, pm_af_thr, pe_sipush, pe_istore1, pe_goto_w, pe_iload1, pe_icmp_ge, pe_istore2, pe_istore3, pe_iload3, pe_call2, pe_astore4, pe_istore5, pe_iload5, pe_aload4, pe_istore6, pe_iload6, pe_iload2, pe_call4, pe_if_eq, pe_iinc5, pe_goto, pe_iinc3, pe_imul, pe_iadd, pe_iinc1, pe_icmp_le, pe_aloadN0, pe_astoreN4, pe_aloadN4, pe_aastoreN, pe_areturnN, pe_null, pm_prog_1, pm_ob_some, Nat.reduceDiv, Nat.reduceMod, Nat.reduceMul, Nat.reduceAdd, Int.reduceToNat, pm_kill_i, pm_kill_r, pm_kill_n, pm_kill_j, pm_kill_l, pm_kill_d, pm_cats_nil, pm_cats_i, pm_cats_r, pm_cats_n, pm_cats_l, pm_cats_d, sz_1, sz_2, sl_1, sl_2, lc_0, lc_lt, lc_le, li_ne, va_rf, wr_m1, we_m1, pm_kill_w, Int32.reduceOfInt, Int64.reduceOfInt, Int32.reduceOfNat, Int32.reduceLT, Int32.reduceLE, Prod.mk.injEq, Nat.reduceEqDiff, reduceCtorEq, and_true, true_and, and_false, false_and, and_self, ite_true, ite_false, ↓reduceIte, not_true_eq_false, not_false_eq_true, pe_ri, pe_rz, pe_rc, p_throw, t1309, w_junk hA, Cv_g0_1 hP hA, Cv_g0_13 hP hA, Cv_g0_4 hP hA, Cv_g15_0 hP hA, Cv_g15_2 hP hA, Cv_g16_0 hP hA, Cv_k15 hP hA, Cv_k16 hP hA, z1]
        refine z1309_9 hP hA hD k3 ?_ _ _ _ _ _
        dsimp only [ex1309_9]
        intro q0 q1 q2 q3 q4 q5 q6
        have e := Option.some.inj e; subst e
        simp -implicitDefEqProofs (disch := first | assumption | exact Nat.le_of_ble_eq_true rfl | decide) only [b1309_0, g1309_4, b1309_4, g1309_5, b1309_5, g1309_6, b1309_6, g1309_7, b1309_7, g1309_8, b1309_8, g1309_10, b1309_10, g1309_11, b1309_11, pe_aload0, pe_getfield, pe_call1, pm_af_ret, pm_af_void, pm_af_thr, pe_sipush, pe_istore1, pe_goto_w, pe_iload1, pe_icmp_ge, pe_istore2, pe_istore3, pe_iload3, pe_call2, pe_astore4, pe_istore5, pe_iload5, pe_aload4, pe_istore6, pe_iload6, pe_iload2, pe_call4, pe_if_eq, pe_iinc5, pe_goto, pe_iinc3, pe_imul, pe_iadd, pe_iinc1, pe_icmp_le, pe_aloadN0, pe_astoreN4, pe_aloadN4, pe_aastoreN, pe_areturnN, pe_null, pm_prog_1, pm_ob_some, Nat.reduceDiv, Nat.reduceMod, Nat.reduceMul, Nat.reduceAdd, Int.reduceToNat, pm_kill_i, pm_kill_r, pm_kill_n, pm_kill_j, pm_kill_l, pm_kill_d, pm_cats_nil, pm_cats_i, pm_cats_r, pm_cats_n, pm_cats_l, pm_cats_d, sz_1, sz_2, sl_1, sl_2, lc_0, lc_lt, lc_le, li_ne, va_rf, wr_m1, we_m1, pm_kill_w, Int32.reduceOfInt, Int64.reduceOfInt, Int32.reduceOfNat, Int32.reduceLT, Int32.reduceLE, Prod.mk.injEq, Nat.reduceEqDiff, reduceCtorEq, and_true, true_and, and_false, false_and, and_self, ite_true, ite_false, ↓reduceIte, not_true_eq_false, not_false_eq_true, pe_ri, pe_rz, pe_rc, p_throw, t1309, w_junk hA, Cv_g0_1 hP hA, Cv_g0_13 hP hA, Cv_g0_4 hP hA, Cv_g15_0 hP hA, Cv_g15_2 hP hA, Cv_g16_0 hP hA, Cv_k15 hP hA, Cv_k16 hP hA, z1]
