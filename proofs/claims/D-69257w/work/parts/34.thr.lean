/-! ===== SOUNDNESS, 18: throws in a method ===== -/
def sn_pass (own : String) (pc c0 : Nat) (z : ExceptionTableEntry) : Prop := covers z pc = false ∨ (z.catchType ≠ 0 ∧ ∃ b ∈ sn_exs, c0 ≠ b ∧ Cond.classLink own z.catchType (sn_nm b) ∈ lw_all)
theorem sn_cov0 {f to tg ct pc : Nat} (h : (Nat.ble f pc && Nat.ble (pc + 1) to) = false) : covers ⟨f, to, tg, ct⟩ pc = false := by
  unfold covers
  simp only [Bool.and_eq_false_iff] at h
  rcases h with h | h
  · have : ¬ f ≤ pc := fun q => by rw [Nat.ble_eq_true_of_le q] at h; cases h
    simp; omega
  · have : ¬ pc + 1 ≤ to := fun q => by rw [Nat.ble_eq_true_of_le q] at h; cases h
    simp; omega
theorem sn_cov1 {f to tg ct pc : Nat} (h : (Nat.ble f pc && Nat.ble (pc + 1) to) = true) : covers ⟨f, to, tg, ct⟩ pc = true := by
  unfold covers
  simp only [Bool.and_eq_true] at h
  have h1 := Nat.le_of_ble_eq_true h.1
  have h2 := Nat.le_of_ble_eq_true h.2
  simp; omega
theorem sn_hx {own : String} {lk : lk_T} {B bs : List Nat} {pc c0 : Nat} (T : lk_sem own lk) : ∀ (hh : List (Nat × Nat × Nat × Nat)) (hs : List (List Nat × Nat × Nat)), hx lk B bs pc hh = some hs →
    (pm_hd c0 hs = none → ∀ z ∈ tableOf hh, sn_pass own pc c0 z) ∧
    (∀ t i, pm_hd c0 hs = some (t, i) → ∃ (pre : List ExceptionTableEntry) (x : ExceptionTableEntry) (suf : List ExceptionTableEntry) (ig : Instr) (len : Nat), tableOf hh = pre ++ x :: suf ∧ (∀ z ∈ pre, sn_pass own pc c0 z) ∧ covers x pc = true ∧ x.catchType ≠ 0 ∧ c0 ∈ sn_exs ∧ Cond.classLink own x.catchType (sn_nm c0) ∈ lw_all ∧ ((ig = .astore i ∧ len = 2) ∨ ∃ j : Fin 4, (j : Nat) = i ∧ ig = .astore_n j ∧ len = 1) ∧ sd (bs.drop x.handlerPc) = some (ig, len) ∧ t = bk ((x.handlerPc + len : Nat) : Int) B 0)
  | [], hs, h => by
    cases h
    exact ⟨fun _ z hz => absurd hz List.not_mem_nil, fun t i e => by cases e⟩
  | (f, to, tg, ct) :: l, hs, h => by
    unfold hx at h
    split at h
    · rename_i hcov
      have hcv : covers ⟨f, to, tg, ct⟩ pc = false := sn_cov0 hcov
      obtain ⟨r1, r2⟩ := sn_hx T l hs h
      refine ⟨fun e z hz => ?_, fun t i e => ?_⟩
      · rcases List.mem_cons.mp hz with rfl | q
        · exact Or.inl hcv
        · exact r1 e z q
      · obtain ⟨pre, x, suf, ig, len, e1, e2, e3⟩ := r2 t i e
        refine ⟨⟨f, to, tg, ct⟩ :: pre, x, suf, ig, len, ?_, fun z hz => ?_, e3⟩
        · show _ :: tableOf l = _
          rw [e1]; rfl
        · rcases List.mem_cons.mp hz with rfl | q
          · exact Or.inl hcv
          · exact e2 z q
    · rename_i hcov
      have hcv : covers ⟨f, to, tg, ct⟩ pc = true := sn_cov1 hcov
      have key : ∀ (c t0 i0 : Nat) (r : List (List Nat × Nat × Nat)) (ig : Instr) (len : Nat), lk_get (32 * ct + 26) lk.1 = some c → hx lk B bs pc l = some r → sd (bs.drop tg) = some (ig, len) → ((ig = .astore i0 ∧ len = 2) ∨ ∃ j : Fin 4, (j : Nat) = i0 ∧ ig = .astore_n j ∧ len = 1) → t0 = bk ((tg + len : Nat) : Int) B 0 → hs = ([c], t0, i0) :: r →
        (pm_hd c0 hs = none → ∀ z ∈ tableOf ((f, to, tg, ct) :: l), sn_pass own pc c0 z) ∧ (∀ t i, pm_hd c0 hs = some (t, i) → ∃ (pre : List ExceptionTableEntry) (x : ExceptionTableEntry) (suf : List ExceptionTableEntry) (ig : Instr) (len : Nat), tableOf ((f, to, tg, ct) :: l) = pre ++ x :: suf ∧ (∀ z ∈ pre, sn_pass own pc c0 z) ∧ covers x pc = true ∧ x.catchType ≠ 0 ∧ c0 ∈ sn_exs ∧ Cond.classLink own x.catchType (sn_nm c0) ∈ lw_all ∧ ((ig = .astore i ∧ len = 2) ∨ ∃ j : Fin 4, (j : Nat) = i ∧ ig = .astore_n j ∧ len = 1) ∧ sd (bs.drop x.handlerPc) = some (ig, len) ∧ t = bk ((x.handlerPc + len : Nat) : Int) B 0) := by
        intro c t0 i0 r ig len h26 hr hsd hig ht0 hhs
        subst hhs
        obtain ⟨q1, q2, q3⟩ := lk_at T (kind := 26) (by decide) h26
        obtain ⟨r1, r2⟩ := sn_hx T l r hr
        by_cases hc : c0 ∈ [c]
        · have ec : c0 = c := by simpa using hc
          subst ec
          refine ⟨fun e => ?_, fun t i e => ?_⟩
          · unfold pm_hd at e; rw [if_pos hc] at e; cases e
          · unfold pm_hd at e; rw [if_pos hc] at e; cases e
            exact ⟨[], ⟨f, to, tg, ct⟩, tableOf l, ig, len, rfl, fun z hz => absurd hz List.not_mem_nil, hcv, q3, q2, q1, hig, hsd, ht0⟩
        · have ec : c0 ≠ c := by simpa using hc
          have hp : sn_pass own pc c0 ⟨f, to, tg, ct⟩ := Or.inr ⟨q3, c, q2, ec, q1⟩
          refine ⟨fun e z hz => ?_, fun t i e => ?_⟩
          · unfold pm_hd at e; rw [if_neg hc] at e
            rcases List.mem_cons.mp hz with rfl | q
            · exact hp
            · exact r1 e z q
          · unfold pm_hd at e; rw [if_neg hc] at e
            obtain ⟨pre, x, suf, ig, len, e1, e2, e3⟩ := r2 t i e
            refine ⟨⟨f, to, tg, ct⟩ :: pre, x, suf, ig, len, ?_, fun z hz => ?_, e3⟩
            · show _ :: tableOf l = _
              rw [e1]; rfl
            · rcases List.mem_cons.mp hz with rfl | q
              · exact hp
              · exact e2 z q
      split at h
      · rename_i c i r h26 hsd hr
        cases h
        exact key c _ i r _ 2 h26 hr hsd (Or.inl ⟨rfl, rfl⟩) rfl rfl
      · rename_i c i r h26 hsd hr
        cases h
        exact key c _ i.val r _ 1 h26 hr hsd (Or.inr ⟨i, rfl, rfl, rfl⟩) rfl rfl
      · cases h
