/-! ===== SOUNDNESS, 24: the words of the machine at large; the law's own method ===== -/
theorem sn_wat : ∀ x : ArrayType, x ≠ .float → x ≠ .double → newarray.typeOf x ∈ sn_ats ∧ Cond.arrayClass (newarray.typeOf x) ∈ lw_all := by
  intro x h1 h2
  cases x with
  | boolean => exact ⟨by decide, (lw_g (lw_at lw_m1 149 rfl) rfl)⟩
  | char => exact ⟨by decide, (lw_g (lw_at lw_m3 98 rfl) rfl)⟩
  | byte => exact ⟨by decide, (lw_g (lw_at lw_m1 151 rfl) rfl)⟩
  | short => exact ⟨by decide, (lw_g (lw_at lw_m16 106 rfl) rfl)⟩
  | int => exact ⟨by decide, (lw_g (lw_at lw_m1 150 rfl) rfl)⟩
  | long => exact ⟨by decide, (lw_g (lw_at lw_m1 234 rfl) rfl)⟩
  | float => exact absurd rfl h1
  | double => exact absurd rfl h2
theorem sn_wex : ∀ v ∈ sn_exs, Bundle.fit (sn_nm v) = true ∧ sn_N v = 0 ∧ v < 90 ∧ Cond.initialized (sn_nm v) ∈ lw_all := List.forall_mem_cons.mpr ⟨⟨by decide +kernel, rfl, by decide, (lw_g (lw_at lw_m1 43 rfl) rfl)⟩, List.forall_mem_cons.mpr ⟨⟨by decide +kernel, rfl, by decide, (lw_g (lw_at lw_m1 46 rfl) rfl)⟩, List.forall_mem_cons.mpr ⟨⟨by decide +kernel, rfl, by decide, (lw_g (lw_at lw_m1 47 rfl) rfl)⟩, List.forall_mem_nil _⟩⟩⟩
theorem sn_wcx : ∀ v ∈ sn_exs, Cond.castable (sn_nm v) (sn_nm v) ∈ lw_tbl := List.forall_mem_cons.mpr ⟨(lw_at lw_m6 94 rfl), List.forall_mem_cons.mpr ⟨(lw_at lw_m6 163 rfl), List.forall_mem_cons.mpr ⟨(lw_at lw_m6 67 rfl), List.forall_mem_nil _⟩⟩⟩
theorem sn_words : sn_Wds := ⟨sn_wat, ⟨(lw_g (lw_at lw_m1 85 rfl) rfl), (lw_g (lw_at lw_m1 86 rfl) rfl)⟩, ⟨(lw_g (lw_at lw_m7 175 rfl) rfl), (lw_g (lw_at lw_m7 174 rfl) rfl), (lw_g (lw_at lw_m1 51 rfl) rfl)⟩, sn_wex, sn_wcx⟩
theorem sn_vm0a : pm_vm 0 41 = 2625 := rfl
theorem sn_vm0b {c : Nat} (h : c ≠ 41) : pm_vm 0 c = 2689 := by
  unfold pm_vm
  simp [h]
theorem sn_vm0 : sn_vmok 0 := by
  refine ⟨(lw_g (lw_at lw_m11 196 rfl) rfl), (lw_at lw_m11 195 rfl), ⟨by decide +kernel, by decide +kernel, by decide +kernel⟩, fun c => ?_, fun c hc => ?_⟩
  · by_cases e : c = 41
    · subst e; rw [sn_vm0a]; exact (by decide : (41 : Nat) ≠ 0)
    · rw [sn_vm0b e]; exact (by decide : (42 : Nat) ≠ 0)
  · by_cases e : c = 41
    · subst e
      rw [sn_vm0a]
      exact ⟨by decide, gd2625, rfl, rfl, (lw_g (lw_at lw_m11 206 rfl) rfl)⟩
    · rw [sn_vm0b e] at hc ⊢
      obtain rfl : c = 42 := sub1 (c := 42) rfl c hc
      exact ⟨by decide, gd2689, rfl, rfl, (lw_g (lw_at lw_m11 197 rfl) rfl)⟩
theorem sn_vm1a : pm_vm 1 50 = 3201 := rfl
theorem sn_vm1b {c : Nat} (h : c ≠ 50) : pm_vm 1 c = 3265 := by
  unfold pm_vm
  simp [h]
theorem sn_vm1 : sn_vmok 1 := by
  refine ⟨(lw_g (lw_at lw_m14 107 rfl) rfl), (lw_at lw_m14 106 rfl), ⟨by decide +kernel, by decide +kernel, by decide +kernel⟩, fun c => ?_, fun c hc => ?_⟩
  · by_cases e : c = 50
    · subst e; rw [sn_vm1a]; exact (by decide : (50 : Nat) ≠ 0)
    · rw [sn_vm1b e]; exact (by decide : (51 : Nat) ≠ 0)
  · by_cases e : c = 50
    · subst e
      rw [sn_vm1a]
      exact ⟨by decide, gd3201, rfl, rfl, (lw_g (lw_at lw_m14 108 rfl) rfl)⟩
    · rw [sn_vm1b e] at hc ⊢
      obtain rfl : c = 51 := sub1 (c := 51) rfl c hc
      exact ⟨by decide, gd3265, rfl, rfl, (lw_g (lw_at lw_m14 115 rfl) rfl)⟩
theorem st_inst : ∀ c, c < 90 → ∃ n, Cond.instantiable (sn_nm c) n ∈ lw_tbl := by
  intro c hc
  match c, hc with
  | 0, _ => exact ⟨15, (lw_at lw_m1 80 rfl)⟩
  | 1, _ => exact ⟨15, (lw_at lw_m1 80 rfl)⟩
  | 2, _ => exact ⟨15, (lw_at lw_m1 88 rfl)⟩
  | 3, _ => exact ⟨10, (lw_at lw_m1 108 rfl)⟩
  | 4, _ => exact ⟨20, (lw_at lw_m1 199 rfl)⟩
  | 5, _ => exact ⟨6, (lw_at lw_m1 212 rfl)⟩
  | 6, _ => exact ⟨2, (lw_at lw_m1 220 rfl)⟩
  | 7, _ => exact ⟨7, (lw_at lw_m2 16 rfl)⟩
  | 8, _ => exact ⟨35, (lw_at lw_m2 118 rfl)⟩
  | 9, _ => exact ⟨3, (lw_at lw_m2 128 rfl)⟩
  | 10, _ => exact ⟨8, (lw_at lw_m3 19 rfl)⟩
  | 11, _ => exact ⟨15, (lw_at lw_m3 76 rfl)⟩
  | 12, _ => exact ⟨1, (lw_at lw_m3 88 rfl)⟩
  | 13, _ => exact ⟨10, (lw_at lw_m3 146 rfl)⟩
  | 14, _ => exact ⟨11, (lw_at lw_m3 155 rfl)⟩
  | 15, _ => exact ⟨4, (lw_at lw_m3 206 rfl)⟩
  | 16, _ => exact ⟨11, (lw_at lw_m4 29 rfl)⟩
  | 17, _ => exact ⟨2, (lw_at lw_m4 36 rfl)⟩
  | 18, _ => exact ⟨7, (lw_at lw_m4 56 rfl)⟩
  | 19, _ => exact ⟨9, (lw_at lw_m4 102 rfl)⟩
  | 20, _ => exact ⟨17, (lw_at lw_m4 176 rfl)⟩
  | 21, _ => exact ⟨4, (lw_at lw_m4 184 rfl)⟩
  | 22, _ => exact ⟨28, (lw_at lw_m5 21 rfl)⟩
  | 23, _ => exact ⟨2, (lw_at lw_m5 30 rfl)⟩
  | 24, _ => exact ⟨9, (lw_at lw_m5 131 rfl)⟩
  | 25, _ => exact ⟨16, (lw_at lw_m16 206 rfl)⟩
  | 26, _ => exact ⟨22, (lw_at lw_m16 212 rfl)⟩
  | 27, _ => exact ⟨47, (lw_at lw_m17 45 rfl)⟩
  | 28, _ => exact ⟨36, (lw_at lw_m17 200 rfl)⟩
  | 29, _ => exact ⟨26, (lw_at lw_m18 79 rfl)⟩
  | 30, _ => exact ⟨20, (lw_at lw_m18 164 rfl)⟩
  | 31, _ => exact ⟨34, (lw_at lw_m18 233 rfl)⟩
  | 32, _ => exact ⟨23, (lw_at lw_m19 102 rfl)⟩
  | 33, _ => exact ⟨34, (lw_at lw_m19 178 rfl)⟩
  | 34, _ => exact ⟨35, (lw_at lw_m20 47 rfl)⟩
  | 35, _ => exact ⟨22, (lw_at lw_m20 158 rfl)⟩
  | 36, _ => exact ⟨4, (lw_at lw_m9 73 rfl)⟩
  | 37, _ => exact ⟨6, (lw_at lw_m9 170 rfl)⟩
  | 38, _ => exact ⟨7, (lw_at lw_m9 203 rfl)⟩
  | 39, _ => exact ⟨3, (lw_at lw_m11 82 rfl)⟩
  | 40, _ => exact ⟨15, (lw_at lw_m1 80 rfl)⟩
  | 41, _ => exact ⟨4, (lw_at lw_m11 118 rfl)⟩
  | 42, _ => exact ⟨6, (lw_at lw_m11 158 rfl)⟩
  | 43, _ => exact ⟨2, (lw_at lw_m11 186 rfl)⟩
  | 44, _ => exact ⟨2, (lw_at lw_m7 231 rfl)⟩
  | 45, _ => exact ⟨2, (lw_at lw_m12 63 rfl)⟩
  | 46, _ => exact ⟨5, (lw_at lw_m13 39 rfl)⟩
  | 47, _ => exact ⟨5, (lw_at lw_m13 107 rfl)⟩
  | 48, _ => exact ⟨5, (lw_at lw_m13 138 rfl)⟩
  | 49, _ => exact ⟨15, (lw_at lw_m1 80 rfl)⟩
  | 50, _ => exact ⟨1, (lw_at lw_m14 60 rfl)⟩
  | 51, _ => exact ⟨2, (lw_at lw_m14 77 rfl)⟩
  | 52, _ => exact ⟨2, (lw_at lw_m14 202 rfl)⟩
  | 53, _ => exact ⟨2, (lw_at lw_m14 224 rfl)⟩
  | 54, _ => exact ⟨3, (lw_at lw_m15 1 rfl)⟩
  | 55, _ => exact ⟨4, (lw_at lw_m7 47 rfl)⟩
  | 56, _ => exact ⟨2, (lw_at lw_m15 186 rfl)⟩
  | 57, _ => exact ⟨6, (lw_at lw_m8 233 rfl)⟩
  | 58, _ => exact ⟨5, (lw_at lw_m16 81 rfl)⟩
  | 59, _ => exact ⟨6, (lw_at lw_m8 160 rfl)⟩
  | 60, _ => exact ⟨15, (lw_at lw_m1 80 rfl)⟩
  | 61, _ => exact ⟨15, (lw_at lw_m1 80 rfl)⟩
  | 62, _ => exact ⟨15, (lw_at lw_m1 80 rfl)⟩
  | 63, _ => exact ⟨3, (lw_at lw_m3 25 rfl)⟩
  | 64, _ => exact ⟨15, (lw_at lw_m1 80 rfl)⟩
  | 65, _ => exact ⟨15, (lw_at lw_m1 80 rfl)⟩
  | 66, _ => exact ⟨15, (lw_at lw_m1 80 rfl)⟩
  | 67, _ => exact ⟨6, (lw_at lw_m6 93 rfl)⟩
  | 68, _ => exact ⟨15, (lw_at lw_m1 80 rfl)⟩
  | 69, _ => exact ⟨15, (lw_at lw_m1 80 rfl)⟩
  | 70, _ => exact ⟨6, (lw_at lw_m6 162 rfl)⟩
  | 71, _ => exact ⟨6, (lw_at lw_m6 66 rfl)⟩
  | 72, _ => exact ⟨15, (lw_at lw_m1 80 rfl)⟩
  | 73, _ => exact ⟨15, (lw_at lw_m1 80 rfl)⟩
  | 74, _ => exact ⟨15, (lw_at lw_m1 80 rfl)⟩
  | 75, _ => exact ⟨15, (lw_at lw_m1 80 rfl)⟩
  | 76, _ => exact ⟨15, (lw_at lw_m1 80 rfl)⟩
  | 77, _ => exact ⟨15, (lw_at lw_m1 80 rfl)⟩
  | 78, _ => exact ⟨15, (lw_at lw_m1 80 rfl)⟩
  | 79, _ => exact ⟨15, (lw_at lw_m1 80 rfl)⟩
  | 80, _ => exact ⟨15, (lw_at lw_m1 80 rfl)⟩
  | 81, _ => exact ⟨15, (lw_at lw_m1 80 rfl)⟩
  | 82, _ => exact ⟨15, (lw_at lw_m1 80 rfl)⟩
  | 83, _ => exact ⟨15, (lw_at lw_m1 80 rfl)⟩
  | 84, _ => exact ⟨15, (lw_at lw_m1 80 rfl)⟩
  | 85, _ => exact ⟨15, (lw_at lw_m1 80 rfl)⟩
  | 86, _ => exact ⟨15, (lw_at lw_m1 80 rfl)⟩
  | 87, _ => exact ⟨15, (lw_at lw_m1 80 rfl)⟩
  | 88, _ => exact ⟨15, (lw_at lw_m1 80 rfl)⟩
  | 89, _ => exact ⟨15, (lw_at lw_m1 80 rfl)⟩
  | n + 90, h => exact absurd h (by omega)
theorem st_obj : ∀ c, c < 90 → Cond.castable (sn_nm c) "java/lang/Object" ∈ lw_tbl := by
  intro c hc
  match c, hc with
  | 0, _ => exact (lw_at lw_m28 61 rfl)
  | 1, _ => exact (lw_at lw_m28 61 rfl)
  | 2, _ => exact (lw_at lw_m28 62 rfl)
  | 3, _ => exact (lw_at lw_m28 63 rfl)
  | 4, _ => exact (lw_at lw_m28 64 rfl)
  | 5, _ => exact (lw_at lw_m28 65 rfl)
  | 6, _ => exact (lw_at lw_m28 49 rfl)
  | 7, _ => exact (lw_at lw_m28 66 rfl)
  | 8, _ => exact (lw_at lw_m28 67 rfl)
  | 9, _ => exact (lw_at lw_m28 50 rfl)
  | 10, _ => exact (lw_at lw_m28 68 rfl)
  | 11, _ => exact (lw_at lw_m28 70 rfl)
  | 12, _ => exact (lw_at lw_m28 51 rfl)
  | 13, _ => exact (lw_at lw_m28 71 rfl)
  | 14, _ => exact (lw_at lw_m28 53 rfl)
  | 15, _ => exact (lw_at lw_m28 72 rfl)
  | 16, _ => exact (lw_at lw_m28 73 rfl)
  | 17, _ => exact (lw_at lw_m28 54 rfl)
  | 18, _ => exact (lw_at lw_m28 74 rfl)
  | 19, _ => exact (lw_at lw_m28 75 rfl)
  | 20, _ => exact (lw_at lw_m28 76 rfl)
  | 21, _ => exact (lw_at lw_m28 77 rfl)
  | 22, _ => exact (lw_at lw_m28 78 rfl)
  | 23, _ => exact (lw_at lw_m28 57 rfl)
  | 24, _ => exact (lw_at lw_m28 79 rfl)
  | 25, _ => exact (lw_at lw_m28 80 rfl)
  | 26, _ => exact (lw_at lw_m28 81 rfl)
  | 27, _ => exact (lw_at lw_m28 82 rfl)
  | 28, _ => exact (lw_at lw_m28 83 rfl)
  | 29, _ => exact (lw_at lw_m28 84 rfl)
  | 30, _ => exact (lw_at lw_m28 85 rfl)
  | 31, _ => exact (lw_at lw_m28 86 rfl)
  | 32, _ => exact (lw_at lw_m28 87 rfl)
  | 33, _ => exact (lw_at lw_m28 88 rfl)
  | 34, _ => exact (lw_at lw_m28 89 rfl)
  | 35, _ => exact (lw_at lw_m28 90 rfl)
  | 36, _ => exact (lw_at lw_m28 46 rfl)
  | 37, _ => exact (lw_at lw_m28 47 rfl)
  | 38, _ => exact (lw_at lw_m28 48 rfl)
  | 39, _ => exact (lw_at lw_m28 95 rfl)
  | 40, _ => exact (lw_at lw_m28 61 rfl)
  | 41, _ => exact (lw_at lw_m28 96 rfl)
  | 42, _ => exact (lw_at lw_m28 97 rfl)
  | 43, _ => exact (lw_at lw_m28 98 rfl)
  | 44, _ => exact (lw_at lw_m28 99 rfl)
  | 45, _ => exact (lw_at lw_m28 100 rfl)
  | 46, _ => exact (lw_at lw_m28 52 rfl)
  | 47, _ => exact (lw_at lw_m28 101 rfl)
  | 48, _ => exact (lw_at lw_m28 102 rfl)
  | 49, _ => exact (lw_at lw_m28 61 rfl)
  | 50, _ => exact (lw_at lw_m28 103 rfl)
  | 51, _ => exact (lw_at lw_m28 104 rfl)
  | 52, _ => exact (lw_at lw_m28 105 rfl)
  | 53, _ => exact (lw_at lw_m28 106 rfl)
  | 54, _ => exact (lw_at lw_m28 107 rfl)
  | 55, _ => exact (lw_at lw_m28 108 rfl)
  | 56, _ => exact (lw_at lw_m28 56 rfl)
  | 57, _ => exact (lw_at lw_m28 58 rfl)
  | 58, _ => exact (lw_at lw_m28 59 rfl)
  | 59, _ => exact (lw_at lw_m28 60 rfl)
  | 60, _ => exact (lw_at lw_m28 61 rfl)
  | 61, _ => exact (lw_at lw_m28 61 rfl)
  | 62, _ => exact (lw_at lw_m28 61 rfl)
  | 63, _ => exact (lw_at lw_m28 69 rfl)
  | 64, _ => exact (lw_at lw_m28 61 rfl)
  | 65, _ => exact (lw_at lw_m28 61 rfl)
  | 66, _ => exact (lw_at lw_m28 61 rfl)
  | 67, _ => exact (lw_at lw_m28 92 rfl)
  | 68, _ => exact (lw_at lw_m28 61 rfl)
  | 69, _ => exact (lw_at lw_m28 61 rfl)
  | 70, _ => exact (lw_at lw_m28 93 rfl)
  | 71, _ => exact (lw_at lw_m28 94 rfl)
  | 72, _ => exact (lw_at lw_m28 61 rfl)
  | 73, _ => exact (lw_at lw_m28 61 rfl)
  | 74, _ => exact (lw_at lw_m28 61 rfl)
  | 75, _ => exact (lw_at lw_m28 61 rfl)
  | 76, _ => exact (lw_at lw_m28 61 rfl)
  | 77, _ => exact (lw_at lw_m28 61 rfl)
  | 78, _ => exact (lw_at lw_m28 61 rfl)
  | 79, _ => exact (lw_at lw_m28 61 rfl)
  | 80, _ => exact (lw_at lw_m28 61 rfl)
  | 81, _ => exact (lw_at lw_m28 61 rfl)
  | 82, _ => exact (lw_at lw_m28 61 rfl)
  | 83, _ => exact (lw_at lw_m28 61 rfl)
  | 84, _ => exact (lw_at lw_m28 61 rfl)
  | 85, _ => exact (lw_at lw_m28 61 rfl)
  | 86, _ => exact (lw_at lw_m28 61 rfl)
  | 87, _ => exact (lw_at lw_m28 61 rfl)
  | 88, _ => exact (lw_at lw_m28 61 rfl)
  | 89, _ => exact (lw_at lw_m28 61 rfl)
  | n + 90, h => exact absurd h (by omega)
/-- the word of an array's class -/
def st_aw (t : FieldType) : Prop := match t with | .object C => Cond.arrayOver (.object C) ∈ lw_tbl | .array u => Cond.arrayOver (.array u) ∈ lw_tbl | u => Cond.arrayClass u ∈ lw_tbl
theorem st_aws : ∀ t ∈ sn_ats, st_aw t := List.forall_mem_cons.mpr ⟨(lw_at lw_m1 150 rfl), List.forall_mem_cons.mpr ⟨(lw_at lw_m1 234 rfl), List.forall_mem_cons.mpr ⟨(lw_at lw_m1 151 rfl), List.forall_mem_cons.mpr ⟨(lw_at lw_m1 149 rfl), List.forall_mem_cons.mpr ⟨(lw_at lw_m3 98 rfl), List.forall_mem_cons.mpr ⟨(lw_at lw_m16 106 rfl), List.forall_mem_cons.mpr ⟨(lw_at lw_m7 170 rfl), List.forall_mem_cons.mpr ⟨(lw_at lw_m5 137 rfl), List.forall_mem_cons.mpr ⟨(lw_at lw_m5 139 rfl), List.forall_mem_cons.mpr ⟨(lw_at lw_m5 142 rfl), List.forall_mem_cons.mpr ⟨(lw_at lw_m5 27 rfl), List.forall_mem_cons.mpr ⟨(lw_at lw_m5 29 rfl), List.forall_mem_cons.mpr ⟨(lw_at lw_m4 35 rfl), List.forall_mem_cons.mpr ⟨(lw_at lw_m4 54 rfl), List.forall_mem_cons.mpr ⟨(lw_at lw_m3 154 rfl), List.forall_mem_cons.mpr ⟨(lw_at lw_m3 84 rfl), List.forall_mem_cons.mpr ⟨(lw_at lw_m3 87 rfl), List.forall_mem_cons.mpr ⟨(lw_at lw_m2 125 rfl), List.forall_mem_cons.mpr ⟨(lw_at lw_m1 205 rfl), List.forall_mem_cons.mpr ⟨(lw_at lw_m1 207 rfl), List.forall_mem_cons.mpr ⟨(lw_at lw_m1 219 rfl), List.forall_mem_cons.mpr ⟨(lw_at lw_m1 94 rfl), List.forall_mem_cons.mpr ⟨(lw_at lw_m3 82 rfl), List.forall_mem_cons.mpr ⟨(lw_at lw_m1 103 rfl), List.forall_mem_cons.mpr ⟨(lw_at lw_m1 106 rfl), List.forall_mem_cons.mpr ⟨(lw_at lw_m3 220 rfl), List.forall_mem_cons.mpr ⟨(lw_at lw_m1 102 rfl), List.forall_mem_cons.mpr ⟨(lw_at lw_m3 217 rfl), List.forall_mem_cons.mpr ⟨(lw_at lw_m3 219 rfl), List.forall_mem_cons.mpr ⟨(lw_at lw_m2 124 rfl), List.forall_mem_nil _⟩⟩⟩⟩⟩⟩⟩⟩⟩⟩⟩⟩⟩⟩⟩⟩⟩⟩⟩⟩⟩⟩⟩⟩⟩⟩⟩⟩⟩⟩
theorem st_pn : ∀ c, c < 90 → c ≠ 49 → pm_nm c ≠ "java/lang/Object" → FieldType.object (pm_nm c) ∈ sn_ats → sn_nm c = pm_nm c := by decide +kernel
theorem st_stm : ∀ c, (c = 50 ∨ c = 51) → Cond.castable (sn_nm c) "TimberHouse$RouterPaths$Statement" ∈ lw_tbl := by
  intro c h
  rcases h with rfl | rfl
  · exact (lw_at lw_m28 111 rfl)
  · exact (lw_at lw_m28 112 rfl)
theorem sn_law {p : Program} {l : Launch} {e : Env} {R : Room} {s : State} {m : MethodId} {args : Array Value} {below : List Frame} {meth : Method} {c : Code} {D : va_G} {κ : FieldType → ClassId} {A : Nat → Prop} {k8 : Nat → pm_E} {a8 : Nat → Nat} {L : Nat} {xs : Nat → Int32} {TX : State → Heap → Prop} {cl : pm_C} {d0 : Nat} {ad : Nat → Nat} {h h' : pm_H} {v : Option Value} {as : List Value} (hW : sn_Wds) (hgap : sn_Gap l TX D κ A k8 a8 L xs cl d0) (hTX : sn_TXok TX A) (h8k : sn_K8 k8 L xs) (hIH : sn_IH l TX D κ A k8 a8 L xs cl d0) (hl : l.stackTraces = false) (S : CallFix p m c (sn_b 0).1 (pm_prog.2 0).2.2.2 s args lw_all (sn_y 0).cls) (hlocks : meth.locks = false) (hr : meth.sig.returnType = (sn_b 0).2.2.1) (hEnv : sn_Env TX D κ A a8 L xs s) (hRm : 21 + d0 ≤ R.frames ∧ 448 + 48 * d0 ≤ R.locals) (hroom : h'.1 ≤ h.1 + R.cells ∧ h'.2.1 ≤ h.2.1 + R.slots) (hR : sn_R D κ A k8 ad h s.heap) (h8 : ∀ k, k < 8 → ad k = a8 k) (has : sn_S h.1 as) (hlen : (pm_ent as).length ≤ (pm_prog.2 0).2.2.2) (hrun : pm_go pm_prog cl 0 0 (pm_entry (pm_prog.2 0).2.2.2 as) [] h = some (.returned v, h')) :
    W p l e R s m args below meth c s.heap [] 0 0 (vx_MQ below (sn_Qc D κ A k8 ad h h' (.returned v)) (sn_XC D κ A k8 ad h h' (.returned v)) args s (h'.1 - h.1) (h'.2.1 - h.2.1) A) (entryFrame m (as.map (sn_V ad)).toArray (pm_prog.2 0).2.2.2) := by
  obtain ⟨lk, B, rt, ini, ov, T, htrm, hB, hB0, hM, hini, hrt, hrn, hov, hnh, hloc⟩ := ch0
  obtain ⟨hat, hob, hcp, hexw, hcx⟩ := hW
  obtain ⟨n, hX⟩ := pm_go_some.mp hrun
  have hchk := trm_at htrm
  have key := sn_fuel (Q := vx_MQ below (sn_Qc D κ A k8 ad h h' (.returned v)) (sn_XC D κ A k8 ad h h' (.returned v)) args s (h'.1 - h.1) (h'.2.1 - h.2.1) A) (p := p) (e := e) (below := below) (ad0 := ad) (k := 0) (hcj := sn_hc lk B (sn_b 0).2.2.2 ((sn_b 0).1.data.toList.map UInt8.toNat) (pm_prog.2 0)) S T hTX hEnv h8k hIH hRm hat hob hcp hl hexw (fun q => absurd (hini q) (by decide +kernel)) (fun j pc hc jp hj hjp ls c0 g hle hrun => ?_) (hgap p e R s m args below meth c _ _ ad h _ _ lk B rt ini _ h' S T hEnv hRm hroom) (fun jp hs pc K ls st h1 i hle hi d hrun => sn_ret S hlocks hr hrt hrn hle hi d hrun) hroom hov hB hM (fun j hj => by rw [List.map_drop]; exact hchk j hj) n 0 _ [] h (pm_le_rf _) hX
  · obtain ⟨-, -, kk⟩ := key
    rw [hB0] at kk
    have := kk ad s.heap [] _ 0 0 hR h8 (fun _ _ => rfl) va_S.rf (sn_entry hlen has) sn_S_nil (Nat.zero_add _) (Nat.zero_add _)
    rw [lg_entry_eq]
    exact this
  · exfalso
    rw [hnh rfl j] at hrun
    cases (show some (Outcome.threw c0, g) = some (.returned v, h') from hrun)
/-! ===== SOUNDNESS, 25: the start ===== -/
/-- the eight cells that were there before -/
def st_k8 (L : Nat) (xs : Nat → Int32) : Nat → pm_E
  | 0 => .inl (.object "I", L, .inl xs)
  | 1 => .inl (.object "C", 4, .inl sn_let)
  | 2 => .inl (.object "Z", 0, .inr (.inr (.inr (.inr (fun _ => none)))))
  | j + 3 => .inl (.object "S", tx_len.getD j 0, .inl (fun i => (tx_byt.getD j []).getD i 0))
theorem st_k8_ok {L : Nat} {xs : Nat → Int32} : sn_K8 (st_k8 L xs) L xs := ⟨rfl, rfl, rfl, fun j h1 _ => by
  match j, h1 with
  | j + 3, _ => exact ⟨_, _, rfl⟩⟩
theorem st_k8_t {L : Nat} {xs : Nat → Int32} : sn_K8t (st_k8 L xs) := fun i hi => by
  rw [Nat.add_comm 3 i]; rfl
/-- the pure heap at the start -/
def st_h0 (L : Nat) (xs : Nat → Int32) : pm_H := (8, 0, fun a => if a < 8 then st_k8 L xs a else pm_none)
theorem st_h0_ok {L : Nat} {xs : Nat → Int32} : sn_h (st_h0 L xs) := by
  refine ⟨Nat.le_refl _, fun a => ?_, fun a ha => ?_, fun a h1 h2 => absurd h2 (by show ¬ a < 8; omega)⟩
  · show sn_e 8 (if a < 8 then st_k8 L xs a else pm_none)
    split
    · match a with
      | 0 => exact True.intro
      | 1 => exact True.intro
      | 2 => intro i k h; cases h
      | j + 3 => exact True.intro
    · intro v hv; cases hv
  · show (if a < 8 then st_k8 L xs a else pm_none) = pm_none
    rw [if_neg (by have : 8 ≤ a := ha; omega)]
def st_A (s : State) (q : Nat) : Prop := s.heap.size ≤ q
theorem st_R0 {D : va_G} {κ : FieldType → ClassId} {A : Nat → Prop} {ad : Nat → Nat} {L : Nat} {xs : Nat → Int32} {H : Heap} : sn_R D κ A (st_k8 L xs) ad (st_h0 L xs) H := by
  have e : sn_ws κ ad (st_h0 L xs) = [] := rfl
  refine ⟨st_h0_ok, ?_, ?_, fun a ha => ?_⟩
  · rw [e]; exact fun k q h => by simp at h
  · rw [e]; exact ⟨fun i j p q h => by simp at h, fun k q h => by simp at h⟩
  · show (if a < 8 then st_k8 L xs a else pm_none) = st_k8 L xs a
    rw [if_pos ha]
theorem st_arr {s : State} {args : Array Value} (hts : ∀ w ∈ lw_tbl, w.before args s = true) {t : FieldType} (h : st_aw t) : ∃ (q comp : ClassId) (kA : Class), s.vm.findClass ("[" ++ t.toString) = some q ∧ s.vm.classes[q]? = some kA ∧ kA.kind = .array comp t ∧ (∀ C, t = .object C → s.vm.findClass C = some comp) ∧ (∀ u, t = .array u → s.vm.findClass (FieldType.array u).toString = some comp) := by
  cases t with
  | object C =>
    obtain ⟨comp, c, k, h1, -, h2, h3, h4⟩ := Cond.arrayOver_spec (hts _ h)
    exact ⟨c, comp, k, h4, h2, h3, fun C' e => by cases e; exact h1, fun u e => by cases e⟩
  | array u =>
    obtain ⟨comp, c, k, h1, h2, h3, h4⟩ := Cond.arrayOver_specA (hts _ h)
    exact ⟨c, comp, k, h4, h2, h3, fun C' e => (by cases e), fun u' e => by cases e; exact h1⟩
  | _ =>
    obtain ⟨c, k, comp, h1, h2, h3⟩ := Cond.arrayClass_spec (hts _ h)
    exact ⟨c, comp, k, h1, h2, h3, fun C' e => (by cases e), fun u e => by cases e⟩
theorem st_RA {s : State} {t : FieldType} {q comp : ClassId} {kA : Class} (h1 : s.vm.findClass ("[" ++ t.toString) = some q) (h2 : s.vm.classes[q]? = some kA) (h3 : kA.kind = .array comp t) (h4 : ∀ C, t = .object C → s.vm.findClass C = some comp) : va_RA s q t := by
  cases t with
  | object C => exact ⟨kA, comp, h2, h3, h4 C rfl, h1⟩
  | _ => exact h1
theorem st_kind {w : Cond} {args : Array Value} {s : State} (hk : sn_kind w = true) (h : w.before args s = true) : va_Nw w s := by
  unfold sn_kind at hk
  split at hk <;> first | exact h | cases hk
def st_a8 (b t1 t2 : Nat) (adK : Nat → Nat) (j : Nat) : Nat := if j = 0 then b else if j = 1 then t1 else if j = 2 then t2 else adK (j - 3)
theorem st_a8t {b t1 t2 : Nat} {adK : Nat → Nat} (i : Nat) : st_a8 b t1 t2 adK (3 + i) = adK i := by
  unfold st_a8
  rw [if_neg (by omega), if_neg (by omega), if_neg (by omega), Nat.add_sub_cancel_left]
def st_ix (i : Nat) : Nat := [619, 628, 630, 632, 634].getD i 0
def st_tm (i : Nat) : Term := .string "TimberHouseModel" (st_ix i)
/-- a part of a condition: 0 the right one, k + 1 that many to the left -/
def cpath : Cond → List Nat → Cond
  | .and _ b, 0 :: p => cpath b p
  | .and a _, (n + 1) :: p => cpath a (if n = 0 then p else n :: p)
  | c, _ => c
theorem cpath_b {args : Array Value} {s : State} : ∀ (T : Cond) (p : List Nat), T.before args s = true → (cpath T p).before args s = true := by
  intro T
  induction T with
  | and a b iha ihb =>
    intro p h
    have h2 : a.before args s = true ∧ b.before args s = true := by
      have h3 : Cond.value args s none s [] (Cond.and a b) = some true := by simpa [Cond.before, Cond.holds] using h
      simp only [Cond.value] at h3
      split at h3
      · rename_i hv
        exact ⟨by simp [Cond.before, Cond.holds, hv], by simp [Cond.before, Cond.holds, h3]⟩
      · rename_i hv
        exact absurd h3 hv
    match p with
    | [] => exact h
    | 0 :: p => exact ihb p h2.2
    | (n + 1) :: p => exact iha _ h2.1
  | _ => intro p h; exact h
theorem cp {args : Array Value} {s : State} {T w : Cond} (h : T.before args s = true) (p : List Nat) (e : cpath T p = w) : w.before args s = true := by
  rw [← e]; exact cpath_b T p h
theorem st_m7 {args : Array Value} {s : State} (hgv : (Jvm.Cond.and given_1 narrow_1).before args s = true) : ∀ a ∈ sn_exs, ∀ b ∈ sn_exs, a ≠ b → va_Nc (sn_nm a) (sn_nm b) s := List.forall_mem_cons.mpr ⟨List.forall_mem_cons.mpr ⟨fun h => absurd rfl h, List.forall_mem_cons.mpr ⟨fun _ => va_Nc.of (cp hgv [0, 3, 0, 0, 0, 2, 0, 1] rfl), List.forall_mem_cons.mpr ⟨fun _ => va_Nc.of (cp hgv [0, 4, 0, 2, 0, 1, 0, 1] rfl), List.forall_mem_nil _⟩⟩⟩, List.forall_mem_cons.mpr ⟨List.forall_mem_cons.mpr ⟨fun _ => va_Nc.of (cp hgv [0, 3, 0, 2, 0, 1, 0, 0, 0] rfl), List.forall_mem_cons.mpr ⟨fun h => absurd rfl h, List.forall_mem_cons.mpr ⟨fun _ => va_Nc.of (cp hgv [0, 4, 0, 2, 0, 1, 0, 0] rfl), List.forall_mem_nil _⟩⟩⟩, List.forall_mem_cons.mpr ⟨List.forall_mem_cons.mpr ⟨fun _ => va_Nc.of (cp hgv [0, 3, 0, 2, 0, 0, 2] rfl), List.forall_mem_cons.mpr ⟨fun _ => va_Nc.of (cp hgv [0, 3, 0, 0, 0, 2, 0, 0, 1] rfl), List.forall_mem_cons.mpr ⟨fun h => absurd rfl h, List.forall_mem_nil _⟩⟩⟩, List.forall_mem_nil _⟩⟩⟩
set_option maxHeartbeats 2000000 in
theorem st_env {p : Program} {s : State} {m : MethodId} {meth : Method} {c : Code} {b L : Nat} {xs : Nat → Int32} (C0 : lw_At p s m meth c b L xs) : ∃ (D : va_G) (κ : FieldType → ClassId) (a8 : Nat → Nat), a8 0 = b ∧ sn_Env (sn_TX a8 (st_A s)) D κ (st_A s) a8 L xs s := by
  obtain ⟨hx, hb, hr, hml, hown, hts, hX, hbl, hlocks, hgv⟩ := C0
  have hA : ∀ a : Nat, a < s.heap.size → ¬ st_A s a := fun a h => Nat.not_le.mpr h
  have h0 : ∀ c : Nat, ∃ q : ClassId × (Nat → Nat), c < 90 → u_Kn s (sn_nm c) (sn_T c) (sn_N c) q.1 q.2 := fun c => by
    by_cases hc : c < 90
    · obtain ⟨n, hn⟩ := st_inst c hc
      obtain ⟨cC, iS, h⟩ := u_known (C := sn_nm c) (T := sn_T c) (N := sn_N c) (n := n) (ws := lw_all) (fun w hw => hts w (lw_all_tbl hw)) (sn_in c hc) (hts _ hn)
      exact ⟨(cC, iS), fun _ => h⟩
    · exact ⟨(0, fun _ => 0), fun h => absurd h hc⟩
  obtain ⟨dq, hdq⟩ := Classical.axiomOfChoice h0
  have h1 : ∀ t : FieldType, ∃ q : ClassId, t ∈ sn_ats → ∃ (comp : ClassId) (kA : Class), s.vm.findClass ("[" ++ t.toString) = some q ∧ s.vm.classes[q]? = some kA ∧ kA.kind = .array comp t ∧ (∀ C, t = .object C → s.vm.findClass C = some comp) ∧ (∀ u, t = .array u → s.vm.findClass (FieldType.array u).toString = some comp) := fun t => by
    by_cases ht : t ∈ sn_ats
    · obtain ⟨q, comp, kA, h⟩ := st_arr hts (st_aws t ht)
      exact ⟨q, fun _ => ⟨comp, kA, h⟩⟩
    · exact ⟨0, fun h => absurd h ht⟩
  obtain ⟨κ, hκ⟩ := Classical.axiomOfChoice h1
  obtain ⟨t1, e1, T1⟩ := va_Tof (tm := .static "TimberHouse$NailRules" "LETTERS" "[C") (ty := .char) (N := 4) (f := fun j => .int (sn_let j)) (A := st_A s) (by decide) (cp hgv [0, 7, 0, 0, 1] rfl) (va_eqt (cp hgv [0, 7, 0, 0, 0, 1] rfl)) (fun j hj => by
    match j, hj with
    | 0, _ => exact va_eqt (cp hgv [0, 7, 0, 0, 0, 0] rfl)
    | 1, _ => exact va_eqt (cp hgv [0, 6, 0, 3] rfl)
    | 2, _ => exact va_eqt (cp hgv [0, 6, 0, 2, 0, 1] rfl)
    | 3, _ => exact va_eqt (cp hgv [0, 6, 0, 2, 0, 0] rfl)
    | j + 4, h => exact absurd h (by omega)) hA
  obtain ⟨t2, e2, T2⟩ := va_Tof (tm := .static "java/util/ArrayList" "DEFAULTCAPACITY_EMPTY_ELEMENTDATA" "[Ljava/lang/Object;") (ty := .object "java/lang/Object") (N := 0) (f := fun _ => .null) (A := st_A s) (by decide) (cp hgv [0, 8, 0, 1] rfl) (va_eqt (cp hgv [0, 8, 0, 0, 0] rfl)) (fun j hj => absurd hj (Nat.not_lt_zero _)) hA
  obtain ⟨adK, adV, hK, hE⟩ := vk_Sof (N := 5) (tm := st_tm) (len := tx_len) (byt := tx_byt) (A := st_A s) (by decide) (fun i hi => by
    match i, hi with
    | 0, _ => exact (cp hgv [0, 0, 0, 0, 1, 0, 0, 1, 0, 1] rfl)
    | 1, _ => exact (cp hgv [0, 0, 0, 0, 1, 0, 0, 0, 0, 0, 1] rfl)
    | 2, _ => exact (cp hgv [0, 0, 0, 0, 0, 3, 0, 0, 0] rfl)
    | 3, _ => exact (cp hgv [0, 0, 0, 0, 0, 1, 0, 1, 0, 0, 0] rfl)
    | 4, _ => exact (cp hgv [0, 0, 0, 0, 0, 0, 2, 0, 0, 0] rfl)
    | n + 5, h => exact absurd h (by omega)) (fun i hi => by
    match i, hi with
    | 0, _ => exact (cp hgv [0, 0, 0, 0, 1, 0, 0, 1, 0, 0, 1] rfl)
    | 1, _ => exact (cp hgv [0, 0, 0, 0, 1, 0, 0, 0, 0, 0, 0] rfl)
    | 2, _ => exact (cp hgv [0, 0, 0, 0, 0, 2, 0, 2] rfl)
    | 3, _ => exact (cp hgv [0, 0, 0, 0, 0, 1, 0, 0, 2] rfl)
    | 4, _ => exact (cp hgv [0, 0, 0, 0, 0, 0, 1, 0, 2] rfl)
    | n + 5, h => exact absurd h (by omega)) (fun i hi => by
    match i, hi with
    | 0, _ => exact (cp hgv [0, 0, 0, 0, 1, 0, 0, 1, 0, 0, 0] rfl)
    | 1, _ => exact (cp hgv [0, 0, 0, 0, 0, 5] rfl)
    | 2, _ => exact (cp hgv [0, 0, 0, 0, 0, 2, 0, 1, 0] rfl)
    | 3, _ => exact (cp hgv [0, 0, 0, 0, 0, 1, 0, 0, 1, 0, 1] rfl)
    | 4, _ => exact (cp hgv [0, 0, 0, 0, 0, 0, 1, 0, 1, 0] rfl)
    | n + 5, h => exact absurd h (by omega)) (fun i hi => by
    match i, hi with
    | 0, _ => exact (cp hgv [0, 0, 0, 0, 1, 0, 0, 0, 2] rfl)
    | 1, _ => exact (cp hgv [0, 0, 0, 0, 0, 4, 0] rfl)
    | 2, _ => exact (cp hgv [0, 0, 0, 0, 0, 2, 0, 0, 1] rfl)
    | 3, _ => exact (cp hgv [0, 0, 0, 0, 0, 1, 0, 0, 1, 0, 0] rfl)
    | 4, _ => exact (cp hgv [0, 0, 0, 0, 0, 0, 1, 0, 0, 1] rfl)
    | n + 5, h => exact absurd h (by omega)) (fun i hi => by
    match i, hi with
    | 0, _ =>
      intro j hj
      match j, hj with
      | 0, _ => exact (cp hgv [0, 0, 0, 0, 1, 0, 0, 0, 1, 0, 1] rfl)
      | 1, _ => exact (cp hgv [0, 0, 0, 0, 1, 0, 0, 0, 1, 0, 0] rfl)
      | 2, _ => exact (cp hgv [0, 0, 0, 0, 1, 0, 0, 0, 0, 1] rfl)
      | n + 3, h => exact absurd (show n + 3 < 3 from h) (by omega)
    | 1, _ =>
      intro j hj
      match j, hj with
      | 0, _ => exact (cp hgv [0, 0, 0, 0, 0, 3, 0, 1] rfl)
      | n + 1, h => exact absurd (show n + 1 < 1 from h) (by omega)
    | 2, _ =>
      intro j hj
      match j, hj with
      | 0, _ => exact (cp hgv [0, 0, 0, 0, 0, 2, 0, 0, 0, 1] rfl)
      | 1, _ => exact (cp hgv [0, 0, 0, 0, 0, 2, 0, 0, 0, 0] rfl)
      | 2, _ => exact (cp hgv [0, 0, 0, 0, 0, 1, 0, 3] rfl)
      | 3, _ => exact (cp hgv [0, 0, 0, 0, 0, 1, 0, 2, 0] rfl)
      | n + 4, h => exact absurd (show n + 4 < 4 from h) (by omega)
    | 3, _ =>
      intro j hj
      match j, hj with
      | 0, _ => exact (cp hgv [0, 0, 0, 0, 0, 1, 0, 0, 0, 1] rfl)
      | 1, _ => exact (cp hgv [0, 0, 0, 0, 0, 1, 0, 0, 0, 0, 1] rfl)
      | 2, _ => exact (cp hgv [0, 0, 0, 0, 0, 1, 0, 0, 0, 0, 0] rfl)
      | 3, _ => exact (cp hgv [0, 0, 0, 0, 0, 0, 4] rfl)
      | n + 4, h => exact absurd (show n + 4 < 4 from h) (by omega)
    | 4, _ =>
      intro j hj
      match j, hj with
      | 0, _ => exact (cp hgv [0, 0, 0, 0, 0, 0, 1, 0, 0, 0, 1] rfl)
      | 1, _ => exact (cp hgv [0, 0, 0, 0, 0, 0, 1, 0, 0, 0, 0] rfl)
      | 2, _ => exact (cp hgv [0, 0, 0, 0, 0, 0, 0, 3] rfl)
      | 3, _ => exact (cp hgv [0, 0, 0, 0, 0, 0, 0, 2, 0] rfl)
      | 4, _ => exact (cp hgv [0, 0, 0, 0, 0, 0, 0, 1, 0, 1] rfl)
      | 5, _ => exact (cp hgv [0, 0, 0, 0, 0, 0, 0, 1, 0, 0, 1] rfl)
      | 6, _ => exact (cp hgv [0, 0, 0, 0, 0, 0, 0, 1, 0, 0, 0] rfl)
      | 7, _ => exact (cp hgv [0, 0, 0, 0, 0, 0, 0, 0, 2] rfl)
      | n + 8, h => exact absurd (show n + 8 < 8 from h) (by omega)
    | n + 5, h => exact absurd h (by omega)) (fun i j hi hj hn => by
    match i, hi, j, hj with
    | 0, _, 0, _ => exact absurd rfl hn
    | 0, _, 1, _ => exact Or.inl (cp hgv [0, 0, 0, 0, 0, 3, 0, 0, 1] rfl)
    | 0, _, 2, _ => exact Or.inl (cp hgv [0, 0, 0, 0, 0, 1, 0, 1, 0, 1] rfl)
    | 0, _, 3, _ => exact Or.inl (cp hgv [0, 0, 0, 0, 0, 0, 3, 0] rfl)
    | 0, _, 4, _ => exact Or.inl (cp hgv [0, 0, 0, 0, 0, 0, 0, 0, 1, 0, 1] rfl)
    | 1, _, 0, _ => exact Or.inr (cp hgv [0, 0, 0, 0, 0, 3, 0, 0, 1] rfl)
    | 1, _, 1, _ => exact absurd rfl hn
    | 1, _, 2, _ => exact Or.inl (cp hgv [0, 0, 0, 0, 0, 1, 0, 1, 0, 0, 1] rfl)
    | 1, _, 3, _ => exact Or.inl (cp hgv [0, 0, 0, 0, 0, 0, 2, 0, 1] rfl)
    | 1, _, 4, _ => exact Or.inl (cp hgv [0, 0, 0, 0, 0, 0, 0, 0, 1, 0, 0] rfl)
    | 2, _, 0, _ => exact Or.inr (cp hgv [0, 0, 0, 0, 0, 1, 0, 1, 0, 1] rfl)
    | 2, _, 1, _ => exact Or.inr (cp hgv [0, 0, 0, 0, 0, 1, 0, 1, 0, 0, 1] rfl)
    | 2, _, 2, _ => exact absurd rfl hn
    | 2, _, 3, _ => exact Or.inl (cp hgv [0, 0, 0, 0, 0, 0, 2, 0, 0, 1] rfl)
    | 2, _, 4, _ => exact Or.inl (cp hgv [0, 0, 0, 0, 0, 0, 0, 0, 0, 1] rfl)
    | 3, _, 0, _ => exact Or.inr (cp hgv [0, 0, 0, 0, 0, 0, 3, 0] rfl)
    | 3, _, 1, _ => exact Or.inr (cp hgv [0, 0, 0, 0, 0, 0, 2, 0, 1] rfl)
    | 3, _, 2, _ => exact Or.inr (cp hgv [0, 0, 0, 0, 0, 0, 2, 0, 0, 1] rfl)
    | 3, _, 3, _ => exact absurd rfl hn
    | 3, _, 4, _ => exact Or.inl (cp hgv [0, 0, 0, 0, 0, 0, 0, 0, 0, 0, 1] rfl)
    | 4, _, 0, _ => exact Or.inr (cp hgv [0, 0, 0, 0, 0, 0, 0, 0, 1, 0, 1] rfl)
    | 4, _, 1, _ => exact Or.inr (cp hgv [0, 0, 0, 0, 0, 0, 0, 0, 1, 0, 0] rfl)
    | 4, _, 2, _ => exact Or.inr (cp hgv [0, 0, 0, 0, 0, 0, 0, 0, 0, 1] rfl)
    | 4, _, 3, _ => exact Or.inr (cp hgv [0, 0, 0, 0, 0, 0, 0, 0, 0, 0, 1] rfl)
    | 4, _, 4, _ => exact absurd rfl hn
    | n + 5, h, _, _ => exact absurd h (by omega)
    | _, _, n + 5, h => exact absurd h (by omega)) hA
  refine ⟨(fun c => (dq c).1, fun c => (dq c).2), κ, st_a8 b t1 t2 adK, rfl, ?_⟩
  refine ⟨⟨fun c q hq => ?_, fun k q hk => ?_⟩, ⟨⟨hX, hbl, hA b hbl⟩, T1, T2⟩, ?_, fun w hw hk => st_kind hk (hts w hw), vx_Zqof (hts _ (lw_at lw_m6 0 rfl)) (hts _ (lw_at lw_m1 40 rfl)) (cp hgv [0, 7, 0, 2] rfl) hA, vx_Zqof (hts _ (lw_at lw_m6 2 rfl)) (hts _ (lw_at lw_m1 40 rfl)) (cp hgv [0, 7, 0, 1, 0, 1] rfl) hA, va_Zof (hts _ (lw_at lw_m12 161 rfl)) (hts _ (lw_at lw_m1 15 rfl)) e1 hA, va_Zof (hts _ (lw_at lw_m3 37 rfl)) (hts _ (lw_at lw_m1 14 rfl)) e2 hA, fun q h => h, fun a ha b hb hn => st_m7 hgv a ha b hb hn, ⟨adV, ?_, va_Zof (hts _ (lw_at lw_m27 208 rfl)) (hts _ (lw_at lw_m1 45 rfl)) (va_eqt (cp hgv [0, 6, 0, 1, 0, 1] rfl)) hA, va_Zqof (hts _ (lw_at lw_m27 224 rfl)) (hts _ (lw_at lw_m1 60 rfl)) (cp hgv [0, 6, 0, 1, 0, 0, 1] rfl) hA⟩, ?_, va_Mi.of (cp hgv [0, 0, 0, 0, 1, 0, 0, 2, 0] rfl)⟩
  · rcases Nat.lt_or_ge c 90 with h | h
    · rw [sn_cl_at h] at hq
      cases hq
      exact hdq c h
    · have : sn_cl.length = 90 := by unfold sn_cl; rw [List.length_map, List.length_range]
      rw [List.getElem?_eq_none (by omega)] at hq
      cases hq
  · obtain ⟨t, ht, rfl⟩ := List.mem_map.mp (List.mem_of_getElem? hk)
    obtain ⟨comp, kA, f1, f2, f3, f4, -⟩ := hκ t ht
    exact ⟨fun N z => ⟨(fun k h => by cases h), kA, f2, comp, f3⟩, st_RA f1 f2 f3 f4⟩
  · intro t ht e hasg hst
    obtain ⟨comp, kA, f1, f2, f3, f4, f5⟩ := hκ t ht
    unfold pm_asg at hasg
    split at hasg
    · rename_i o c0 fs
      obtain ⟨hc, -⟩ := (show c0 < 90 ∧ fs.length = sn_N c0 from hst)
      obtain ⟨-, g1, kC, g2, -⟩ := hdq c0 hc
      have hcomp := f4 o rfl
      obtain ⟨kc, g3, -⟩ := Vm.findClass_spec hcomp
      refine ⟨kA, comp, kc, kC, f2, f3, g3, g2, ?_⟩
      have cast : Cond.castable (sn_nm c0) o ∈ lw_tbl → s.vm.assignable (dq c0).1 comp = true := fun hw => by
        obtain ⟨c', t', q1, q2, q3⟩ := Cond.castable_spec (hts _ hw)
        cases Option.some.inj (q1.symm.trans g1)
        cases Option.some.inj (q2.symm.trans hcomp)
        exact q3
      simp only [Bool.or_eq_true, Bool.and_eq_true, beq_iff_eq, bne_iff_ne] at hasg
      rcases hasg with (q | q) | q
      · subst q; exact cast (st_obj c0 hc)
      · by_cases eo : o = "java/lang/Object"
        · subst eo; exact cast (st_obj c0 hc)
        · have en : sn_nm c0 = o := (st_pn c0 hc q.2 (by rw [q.1]; exact eo) (by rw [q.1]; exact ht)).trans q.1
          rw [en] at g1
          have : (dq c0).1 = comp := Option.some.inj (g1.symm.trans hcomp)
          show s.vm.assignable (dq c0).1 comp = true
          rw [this]; exact va_asg _ _
      · obtain ⟨q1, q2⟩ := q
        subst q1; exact cast (st_stm c0 q2)
    · rename_i t' u x
      have et : t' = u := by simpa using hasg
      subst et
      obtain ⟨n, y⟩ := x
      have hu : t' ∈ sn_ats := hst
      obtain ⟨comp2, kA2, r1, r2, r3, -, -⟩ := hκ t' hu
      have e' : s.vm.findClass ("[" ++ t'.toString) = some comp := f5 t' rfl
      have ek : κ t' = comp := Option.some.inj (r1.symm.trans e')
      refine ⟨kA, comp, kA2, kA2, f2, f3, by rw [← ek]; exact r2, r2, ?_⟩
      show s.vm.assignable (κ t') comp = true
      rw [ek]; exact va_asg _ _
    · cases hasg
  · have : (fun i => st_a8 b t1 t2 adK (3 + i)) = adK := funext fun i => st_a8t i
    show vk_S 5 tx_len tx_byt (fun i => st_a8 b t1 t2 adK (3 + i)) adV (st_A s) s s.heap
    rw [this]; exact hK
  · exact List.forall_mem_cons.mpr ⟨vk_R.of (hts _ (lw_at lw_m27 194 rfl)) (hE 0 (by decide)), List.forall_mem_cons.mpr ⟨vk_R.of (hts _ (lw_at lw_m28 13 rfl)) (hE 1 (by decide)), List.forall_mem_cons.mpr ⟨vk_R.of (hts _ (lw_at lw_m28 14 rfl)) (hE 2 (by decide)), List.forall_mem_cons.mpr ⟨vk_R.of (hts _ (lw_at lw_m28 15 rfl)) (hE 3 (by decide)), List.forall_mem_cons.mpr ⟨vk_R.of (hts _ (lw_at lw_m28 16 rfl)) (hE 4 (by decide)), List.forall_mem_nil _⟩⟩⟩⟩⟩
/-- THE CLAIM OUT OF ONE PURE RUN -/
theorem st_fin {p : Program} {e : Env} {s : State} {m : MethodId} {below : List Frame} {meth : Method} {c : Code} (l : Launch) (hflags : l.flags = flags0) {b L : Nat} {xs : Nat → Int32} (C0 : lw_At p s m meth c b L xs) (hpure : ∃ (d : Nat) (h' : pm_H), d ≤ 2000 ∧ pm_go pm_prog (pm_call pm_prog d) 0 0 (pm_entry 8 [.ref 0]) [] (st_h0 L xs) = some (.returned (some (.int 1)), h') ∧ h'.1 ≤ 684582 ∧ h'.2.1 ≤ 7028559) : W p l e room_1 s m #[Value.ref b] below meth c s.heap [] 0 0 (lw_Z below #[Value.ref b] s) (entryFrame m ([Value.ref b] : List Value).toArray 8) := by
  obtain ⟨hx, hb, hr, hml, hown, hts, hX, hbl, hlocks, hgv⟩ := id C0
  obtain ⟨D, κ, a8, e0, hEnv⟩ := st_env C0
  obtain ⟨d, h', hd, hrun, hc1, hc2⟩ := hpure
  have hTX : sn_TXok (sn_TX a8 (st_A s)) (st_A s) := sn_TX_ok
  have hl : l.stackTraces = false := by
    show (!l.flags.contains noTraceFlag) = false
    rw [hflags]; decide +kernel
  have hIH := sn_sound (l := l) (D := D) (κ := κ) (A := st_A s) (k8 := st_k8 L xs) (a8 := a8) (L := L) (xs := xs) (TX := sn_TX a8 (st_A s)) sn_words sn_all (fun d ih => sn_gap st_k8_ok st_k8_t sn_vm0 sn_vm1 ih) hTX st_k8_ok hl d
  have key := sn_law (as := [.ref 0]) (ad := a8) (h := st_h0 L xs) (e := e) (below := below) (R := room_1) (args := #[Value.ref b]) sn_words (sn_gap st_k8_ok st_k8_t sn_vm0 sn_vm1 hIH) hTX st_k8_ok hIH hl ⟨hx, hb, hml, hown, fun w hw => hts w (lw_all_tbl hw)⟩ hlocks hr hEnv ⟨by show 21 + d ≤ 8192; omega, by show 448 + 48 * d ≤ 104096; omega⟩ ⟨by have e1 : room_1.cells = 684574 := rfl; have e2 : (st_h0 L xs).1 = 8 := rfl; omega, by have e1 : room_1.slots = 7028559 := rfl; have e2 : (st_h0 L xs).2.1 = 0 := rfl; omega⟩ st_R0 (fun _ _ => rfl) (sn_S_cons (sn_v_r (by show 0 < 8; omega)) sn_S_nil) (by decide) hrun
  have e1 : (([Value.ref 0] : List Value).map (sn_V a8)).toArray = ([Value.ref b] : List Value).toArray := by
    show [Value.ref (a8 0)].toArray = _
    rw [e0]
  rw [e1] at key
  intro T hT X
  obtain ⟨t, a1, o, b1, b2, b3⟩ := key T hT X
  refine ⟨t, a1, o, b1, b2, ?_⟩
  rcases b3 with ⟨⟨ad', v, q1, q2, -⟩, Lc, ⟨q3, q4, q5⟩, q6⟩ | ⟨q, -, E, ce, Lc, ⟨ad', c0, z, -⟩, -⟩
  · cases q1
    refine ⟨q2, q3, q4, ?_⟩
    have q7 : s.sameButNew ({ t with vm := s.vm } : State) ([] ++ Lc) (h'.1 - (st_h0 L xs).1) (h'.2.1 - (st_h0 L xs).2.1) := q5
    exact (State.sameButNew.drop_fresh q7 q6).mono (by show h'.1 - 8 ≤ 684574; omega) (by show h'.2.1 - 0 ≤ 7028559; omega)
  · cases z

