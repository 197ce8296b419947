/-! the tables: default fields -/
theorem sn_dfl_len : ∀ c, c < 90 → 0 < sn_N c → (pm_dfl c).length = sn_N c := by
  have h : ((List.range 90).all fun c => decide (0 < sn_N c → (pm_dfl c).length = sn_N c)) = true := by decide +kernel
  intro c hc
  exact of_decide_eq_true (List.all_eq_true.mp h c (List.mem_range.mpr hc))
theorem sn_dfl_ok : ∀ c, c < 90 → ∀ k, k < sn_N c → defaultValue (sn_ty c k) = vp_V (pm_dfl c) k := by
  have h : ((List.range 90).all fun c => (List.range (sn_N c)).all fun k => decide (defaultValue (sn_ty c k) = vp_V (pm_dfl c) k)) = true := by decide +kernel
  intro c hc k hk
  exact of_decide_eq_true (List.all_eq_true.mp (List.all_eq_true.mp h c (List.mem_range.mpr hc)) k (List.mem_range.mpr hk))
theorem sn_dfl_nr : ∀ c, ∀ v ∈ pm_dfl c, ∀ k, v ≠ .ref k := by
  have h : (pm_dfs.all fun l => l.all fun v => match v with | .ref _ => false | _ => true) = true := by decide +kernel
  intro c v hv k e
  unfold pm_dfl at hv
  rw [List.getD_eq_getElem?_getD] at hv
  cases hq : pm_dfs[c]? with
  | none => rw [hq] at hv; cases hv
  | some l =>
    rw [hq] at hv
    have h1 := List.all_eq_true.mp (List.all_eq_true.mp h l (List.mem_of_getElem? hq)) v hv
    rw [e] at h1
    cases h1
theorem sn_dfl_map {ad : Nat → Nat} (c : Nat) : (pm_dfl c).map (sn_V ad) = pm_dfl c := by
  have h : ∀ v ∈ pm_dfl c, sn_V ad v = v := fun v hv => by
    have := sn_dfl_nr c v hv
    cases v <;> first | rfl | exact absurd rfl (this _)
  have h2 := List.map_congr_left (g := fun v => v) h
  rw [h2, List.map_id']
