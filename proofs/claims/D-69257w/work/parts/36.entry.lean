/-! ===== SOUNDNESS, 20: a method's entry ===== -/
theorem sn_ent_len {ad : Nat → Nat} : ∀ as : List Value, (lg_sl (as.map (sn_V ad))).length = (pm_ent as).length
  | [] => rfl
  | v :: as => by
    have ih := sn_ent_len (ad := ad) as
    have e : lg_sl ((v :: as).map (sn_V ad)) = (if (sn_V ad v).category = 2 then [Slot.val (sn_V ad v), .second] else [.val (sn_V ad v)]) ++ lg_sl (as.map (sn_V ad)) := by simp [lg_sl]
    have e2 : pm_ent (v :: as) = if v.category = 2 then v :: pm_junk :: pm_ent as else v :: pm_ent as := rfl
    rw [e, List.length_append, ih, sn_V_cat, e2]
    by_cases h : v.category = 2
    · rw [if_pos h, if_pos h]; simp; omega
    · rw [if_neg h, if_neg h]; simp; omega
theorem sn_ent_at {ad : Nat → Nat} : ∀ (as : List Value) (j : Nat) (v : Value), (pm_ent as)[j]? = some v → v ≠ pm_junk → (lg_sl (as.map (sn_V ad)))[j]? = some (.val (sn_V ad v))
  | [], j, v, h, _ => by simp [pm_ent] at h
  | u :: as, j, v, h, hv => by
    have ih := sn_ent_at (ad := ad) as
    have e : lg_sl ((u :: as).map (sn_V ad)) = (if (sn_V ad u).category = 2 then [Slot.val (sn_V ad u), .second] else [.val (sn_V ad u)]) ++ lg_sl (as.map (sn_V ad)) := by simp [lg_sl]
    rw [e, sn_V_cat]
    unfold pm_ent at h
    by_cases hc : u.category = 2
    · rw [if_pos hc] at h ⊢
      match j, h with
      | 0, h => cases h; rfl
      | 1, h => cases h; exact absurd rfl hv
      | j + 2, h => exact ih j v h hv
    · rw [if_neg hc] at h ⊢
      match j, h with
      | 0, h => cases h; rfl
      | j + 1, h => exact ih j v h hv
theorem sn_ent_in {as : List Value} {v : Value} (h : v ∈ pm_ent as) : v ∈ as ∨ v = pm_junk := by
  induction as with
  | nil => cases h
  | cons u as ih =>
    unfold pm_ent at h
    split at h
    · rcases List.mem_cons.mp h with rfl | h
      · exact Or.inl List.mem_cons_self
      · rcases List.mem_cons.mp h with rfl | h
        · exact Or.inr rfl
        · rcases ih h with q | q
          · exact Or.inl (List.mem_cons_of_mem _ q)
          · exact Or.inr q
    · rcases List.mem_cons.mp h with rfl | h
      · exact Or.inl List.mem_cons_self
      · rcases ih h with q | q
        · exact Or.inl (List.mem_cons_of_mem _ q)
        · exact Or.inr q
theorem sn_entry {nL n : Nat} {ad : Nat → Nat} {as : List Value} (hl : (pm_ent as).length ≤ nL) (has : sn_S n as) : sn_F nL n ad (pm_entry nL as) ((lg_sl (as.map (sn_V ad)) ++ List.replicate (nL - (lg_sl (as.map (sn_V ad))).length) Slot.unset).toArray) := by
  have hlen := sn_ent_len (ad := ad) as
  have hv := lv_entry (as.map (sn_V ad)) (n := nL) (by rw [hlen]; exact hl)
  refine ⟨?_, hv.1, hv.2.1, fun j v hj hne => ?_, fun v hv => ?_⟩
  · unfold pm_entry
    rw [List.length_append, List.length_replicate]; omega
  · unfold pm_entry at hj
    rcases Nat.lt_or_ge j (pm_ent as).length with q | q
    · rw [List.getElem?_append_left q] at hj
      rw [List.getElem?_toArray, List.getElem?_append_left (by rw [hlen]; exact q)]
      exact sn_ent_at as j v hj hne
    · rw [List.getElem?_append_right q, List.getElem?_replicate] at hj
      split at hj
      · cases hj; exact absurd rfl hne
      · cases hj
  · unfold pm_entry at hv
    rcases List.mem_append.mp hv with q | q
    · rcases sn_ent_in q with w | rfl
      · exact has v w
      · exact sn_v_j
    · rw [(List.mem_replicate.mp q).2]; exact sn_v_j
