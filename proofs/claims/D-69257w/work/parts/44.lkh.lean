/-! ===== SOUNDNESS, 22: how the tables' facts are put together ===== -/
theorem sub40 {c : Nat} (h : pm_sub c 40 = true) : c = 41 ∨ c = 42 := by
  unfold pm_sub at h
  simp only [Bool.or_eq_true, Bool.and_eq_true, beq_iff_eq, Bool.not_eq_true', Bool.or_eq_false_iff, beq_eq_false_iff_ne] at h
  omega
theorem sub62 {c : Nat} (h : pm_sub c 62 = true) : c = 62 ∨ c = 63 := by
  unfold pm_sub at h
  simp only [Bool.or_eq_true, Bool.and_eq_true, beq_iff_eq, Bool.not_eq_true', Bool.or_eq_false_iff, beq_eq_false_iff_ne] at h
  omega
section
variable {own : String} {x v ci k : Nat}
theorem lk0 (h1 : v / 1024 = ci) (h2 : v / 8 % 128 = k) (h3 : (ci == 40 || ci == 49 || ci == 61 || ci == 62) = false) (h : sn_lkG own x ci k) : lk_ok own x 0 v := by
  intro c k' hs hk _ _
  rw [h1] at hs
  rw [sub1 h3 c hs, hk, h2]; exact h
theorem lk1 (h1 : v / 1024 = ci) (h2 : v / 8 % 128 = k) (h3 : (ci == 40 || ci == 49 || ci == 61 || ci == 62) = false) (h : sn_dg (sn_ty ci k) = v % 8 ∧ (sn_T ci k).2.2.2 = false ∧ sn_lkG own x ci k) : lk_ok own x 1 v := by
  intro c k' hs hk _ _
  rw [h1] at hs
  rw [sub1 h3 c hs, hk, h2]; exact h
theorem lk2 (h1 : v / 1024 = ci) (h2 : v / 8 % 128 = k) (h3 : (ci == 40 || ci == 49 || ci == 61 || ci == 62) = false) (h : sn_dg (sn_ty ci k) = v % 8 ∧ (sn_T ci k).2.2.2 = true ∧ (sn_T ci k).1 = own ∧ ∃ ref : String, Cond.fieldLink own x ref (sn_T ci k).2.1 (sn_T ci k).2.2.1 ∈ lw_all ∧ ref = (sn_T ci k).1) : lk_ok own x 2 v := by
  intro c k' hs hk _ _
  rw [h1] at hs
  rw [sub1 h3 c hs, hk, h2]; exact h
theorem lk0w (h1 : v / 1024 = 40) (h2 : v / 8 % 128 = k) (a : sn_lkG own x 41 k) (b : sn_lkG own x 42 k) : lk_ok own x 0 v := by
  intro c k' hs hk _ _
  rw [h1] at hs
  rw [hk, h2]
  rcases sub40 hs with rfl | rfl
  · exact a
  · exact b
theorem lk2w (h1 : v / 1024 = 40) (h2 : v / 8 % 128 = k) (a : sn_dg (sn_ty 41 k) = v % 8 ∧ (sn_T 41 k).2.2.2 = true ∧ (sn_T 41 k).1 = own ∧ ∃ ref : String, Cond.fieldLink own x ref (sn_T 41 k).2.1 (sn_T 41 k).2.2.1 ∈ lw_all ∧ ref = (sn_T 41 k).1) (b : sn_dg (sn_ty 42 k) = v % 8 ∧ (sn_T 42 k).2.2.2 = true ∧ (sn_T 42 k).1 = own ∧ ∃ ref : String, Cond.fieldLink own x ref (sn_T 42 k).2.1 (sn_T 42 k).2.2.1 ∈ lw_all ∧ ref = (sn_T 42 k).1) : lk_ok own x 2 v := by
  intro c k' hs hk _ _
  rw [h1] at hs
  rw [hk, h2]
  rcases sub40 hs with rfl | rfl
  · exact a
  · exact b
theorem lk0a (h1 : v / 1024 = 62) (h2 : v / 8 % 128 = k) (b : sn_lkG own x 63 k) : lk_ok own x 0 v := by
  intro c k' hs hk _ hn
  rw [h1] at hs
  rcases sub62 hs with rfl | rfl
  · exact absurd hn (Nat.not_lt_zero _)
  · rw [hk, h2]; exact b
theorem lk1a (h1 : v / 1024 = 62) (h2 : v / 8 % 128 = k) (b : sn_dg (sn_ty 63 k) = v % 8 ∧ (sn_T 63 k).2.2.2 = false ∧ sn_lkG own x 63 k) : lk_ok own x 1 v := by
  intro c k' hs hk _ hn
  rw [h1] at hs
  rcases sub62 hs with rfl | rfl
  · exact absurd hn (Nat.not_lt_zero _)
  · rw [hk, h2]; exact b
theorem lk22 (h3 : (v == 40 || v == 49 || v == 61 || v == 62) = false) (l : Cond.classLink own x (sn_nm v) ∈ lw_all) : lk_ok own x 22 v :=
  ⟨_, l, fun c _ hs => Or.inl (by rw [sub1 h3 c hs])⟩
theorem lk22w (l : Cond.classLink own x "TimberHouse$LathePieces$Way" ∈ lw_all) (a : Cond.castable (sn_nm 41) "TimberHouse$LathePieces$Way" ∈ lw_tbl) (b : Cond.castable (sn_nm 42) "TimberHouse$LathePieces$Way" ∈ lw_tbl) : lk_ok own x 22 40 :=
  ⟨_, l, fun c _ hs => by
    rcases sub40 hs with rfl | rfl
    · exact Or.inr a
    · exact Or.inr b⟩
def sn_wok (w : Cond) : Bool := !(vx_no w) || (lw_tbl.elem w && (goodWord w || sn_kind w) && vx_ot w)
theorem sn_wok_use {w : Cond} (h : sn_wok w = true) (hn : vx_no w = true) : w ∈ lw_tbl ∧ (goodWord w || sn_kind w) = true ∧ vx_ot w = true := by
  unfold sn_wok at h
  rw [hn] at h
  simp only [Bool.not_true, Bool.false_or, Bool.and_eq_true] at h
  exact ⟨List.mem_of_elem_eq_true h.1.1, h.1.2, h.2⟩
/-- the words of an exception's making that name no caller -/
def sn_exl (X : String) : List Cond := Bundle.ownAtoms0 "" 0 X sn_xnames
theorem lk19 (hv : v ∈ sn_exs) (hl : Cond.methodLink own x (Bundle.init0 (sn_nm v)) ∈ lw_all) (h : (sn_exl (sn_nm v)).all (fun w => w == Cond.methodLink "" 0 (Bundle.init0 (sn_nm v)) || sn_wok w) = true) : lk_ok own x 19 v := by
  refine ⟨hv, fun w hw => ?_⟩
  unfold vx_at0 at hw
  obtain ⟨h1, h2⟩ := List.mem_filter.mp hw
  have key : w = Cond.methodLink own x (Bundle.init0 (sn_nm v)) ∨ (w ∈ sn_exl (sn_nm v) ∧ w ≠ Cond.methodLink "" 0 (Bundle.init0 (sn_nm v))) ∨ w = Cond.methodLink "" 0 (Bundle.init0 (sn_nm v)) := by
    by_cases e : w = Cond.methodLink "" 0 (Bundle.init0 (sn_nm v))
    · exact Or.inr (Or.inr e)
    unfold Bundle.ownAtoms0 at h1
    rcases List.mem_append.mp h1 with q | q
    · refine Or.inr (Or.inl ⟨?_, e⟩)
      unfold sn_exl Bundle.ownAtoms0
      exact List.mem_append_left _ q
    · rcases List.mem_cons.mp q with q | q
      · exact Or.inl q
      · refine Or.inr (Or.inl ⟨?_, e⟩)
        unfold sn_exl Bundle.ownAtoms0
        exact List.mem_append_right _ (List.mem_cons_of_mem _ q)
  have hgl : w = Cond.methodLink own x (Bundle.init0 (sn_nm v)) → w ∈ lw_tbl ∧ (goodWord w || sn_kind w) = true ∧ vx_ot w = true := fun e => by
    subst e
    exact ⟨lw_all_tbl hl, rfl, rfl⟩
  rcases key with q | ⟨q1, q2⟩ | q
  · exact hgl q
  · have := List.all_eq_true.mp h w q1
    simp only [Bool.or_eq_true, beq_iff_eq] at this
    rcases this with e | e
    · exact absurd e q2
    · exact sn_wok_use e h2
  · unfold Bundle.ownAtoms0 at h1
    rcases List.mem_append.mp h1 with r | r
    · have hin : w ∈ sn_exl (sn_nm v) := by
        unfold sn_exl Bundle.ownAtoms0
        exact List.mem_append_left _ r
      exact absurd r (by
        subst q
        rcases List.mem_cons.mp hv with e | e
        · subst e; decide +kernel
        · rcases List.mem_cons.mp e with e | e
          · subst e; decide +kernel
          · rcases List.mem_cons.mp e with e | e
            · subst e; decide +kernel
            · cases e)
    · rcases List.mem_cons.mp r with r | r
      · exact hgl r
      · exact absurd r (by subst q; simp)
end
theorem lk19_67 {own : String} {x : Nat} (h : Cond.methodLink own x (Bundle.init0 (sn_nm 67)) ∈ lw_all) : lk_ok own x 19 67 := lk19 (by decide) h (by decide +kernel)
theorem lk19_70 {own : String} {x : Nat} (h : Cond.methodLink own x (Bundle.init0 (sn_nm 70)) ∈ lw_all) : lk_ok own x 19 70 := lk19 (by decide) h (by decide +kernel)
theorem lk19_71 {own : String} {x : Nat} (h : Cond.methodLink own x (Bundle.init0 (sn_nm 71)) ∈ lw_all) : lk_ok own x 19 71 := lk19 (by decide) h (by decide +kernel)
def sn_cb (k : Nat) (B : List Nat) (rt : Nat) (ini : Bool) : Bool := decide (B.length < 99999) && decide (B.getD 0 99998 = 0) && (!ini || (sn_y k).name == "<init>") && (match (sn_b k).2.2.1 with | some ty => sn_dg ty == rt | none => rt == 9)
theorem sn_mk {k : Nat} {lk : lk_T} {B : List Nat} {rt : Nat} {ini : Bool} {ov : List (Nat × Instr × Nat)} (bl : List (List Instr)) (T : lk_sem (sn_y k).cls lk) (htrm : trm lk B rt ini ov (sn_b k).2.2.2 ((sn_b k).1.data.toList.map UInt8.toNat) (pm_prog.2 k) B.length = true) (h1 : (pm_prog.2 k).1 = fun j => bl.getD j []) (h2 : bl.length = B.length) (hb : sn_cb k B rt ini = true) (hov : ∀ q ∈ ov, decode (sn_b k).1 q.1 = .ok q.2) (hh : (sn_b k).2.2.2 = [] → ∀ j, (pm_prog.2 k).2.1 j = []) (hq : ∀ j, ∀ q ∈ (pm_prog.2 k).2.1 j, q.2.2 < (pm_prog.2 k).2.2.2) : sn_chk k := by
  unfold sn_cb at hb
  simp only [Bool.and_eq_true, decide_eq_true_eq, Bool.or_eq_true, Bool.not_eq_true', beq_iff_eq] at hb
  obtain ⟨⟨⟨b1, b2⟩, b3⟩, b4⟩ := hb
  refine ⟨lk, B, rt, ini, ov, T, htrm, b1, b2, fun t ht => ?_, fun e => ?_, fun ty e => ?_, fun e => ?_, hov, hh, hq⟩
  · rw [h1]
    show bl.getD t [] = []
    rw [List.getD_eq_getElem?_getD, List.getElem?_eq_none (by omega)]; rfl
  · rcases b3 with q | q
    · rw [e] at q; cases q
    · exact q
  · rw [e] at b4
    simpa using b4
  · rw [e] at b4
    simpa using b4
theorem sn_hq0 {M : pm_M} (h : M.2.1 = fun _ => []) : ∀ j, ∀ q ∈ M.2.1 j, q.2.2 < M.2.2.2 := by
  intro j q hq
  rw [h] at hq
  cases hq
theorem sn_hq1 {M : pm_M} (hl : List (List (List Nat × Nat × Nat))) (h : M.2.1 = fun j => hl.getD j []) (hc : hl.all (fun l => l.all (fun q => decide (q.2.2 < M.2.2.2))) = true) : ∀ j, ∀ q ∈ M.2.1 j, q.2.2 < M.2.2.2 := by
  intro j q hq
  rw [h] at hq
  have hq : q ∈ hl.getD j [] := hq
  rw [List.getD_eq_getElem?_getD] at hq
  cases hj : hl[j]? with
  | none => rw [hj] at hq; cases hq
  | some l =>
    rw [hj] at hq
    have hl2 := List.mem_of_getElem? hj
    have h3 := List.all_eq_true.mp hc l hl2
    have h4 := List.all_eq_true.mp h3 q hq
    simpa using h4
