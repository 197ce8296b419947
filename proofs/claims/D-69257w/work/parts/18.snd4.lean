/-! ===== SOUNDNESS, 5: fields ===== -/
def sn_ty (c k : Nat) : FieldType := (parseFieldDescriptor (sn_T c k).2.2.1).getD .int
def sn_dg : FieldType → Nat
  | .int => 0 | .long => 1 | .boolean => 2 | .object _ => 3 | .array _ => 3 | .char => 4 | .byte => 5 | .double => 6 | .short => 7 | .float => 8
theorem sn_tyok : ∀ c, c < 90 → ∀ k, k < sn_N c → parseFieldDescriptor (sn_T c k).2.2.1 = some (sn_ty c k) := by
  have h : ((List.range 90).all fun c => (List.range (sn_N c)).all fun k => (parseFieldDescriptor (sn_T c k).2.2.1).isSome) = true := by decide +kernel
  intro c hc k hk
  have h1 := List.all_eq_true.mp (List.all_eq_true.mp h c (List.mem_range.mpr hc)) k (List.mem_range.mpr hk)
  obtain ⟨t, ht⟩ := Option.isSome_iff_exists.mp h1
  unfold sn_ty
  rw [ht]; rfl
theorem sn_nmok : ∀ c, c < 90 → ∀ a, a < sn_N c → ∀ b, b < sn_N c → a ≠ b → (sn_T c a).2.1 ≠ (sn_T c b).2.1 := by
  have h : ((List.range 90).all fun c => (List.range (sn_N c)).all fun a => (List.range a).all fun b => (sn_T c a).2.1 != (sn_T c b).2.1) = true := by decide +kernel
  have g : ∀ c, c < 90 → ∀ a, a < sn_N c → ∀ b, b < a → (sn_T c a).2.1 ≠ (sn_T c b).2.1 := by
    intro c hc a ha b hb
    have h1 := List.all_eq_true.mp (List.all_eq_true.mp (List.all_eq_true.mp h c (List.mem_range.mpr hc)) a (List.mem_range.mpr ha)) b (List.mem_range.mpr hb)
    simpa using h1
  intro c hc a ha b hb hne
  rcases Nat.lt_or_gt_of_ne hne with q | q
  · exact (g c hc b hb a q).symm
  · exact g c hc a ha b q
theorem sn_okfit {ad : Nat → Nat} {ty : FieldType} {v : Value} (h : pm_ok (sn_dg ty) v = true) : narrow ty (sn_V ad v) = sn_V ad v ∧ fits ty (sn_V ad v) = true := by
  cases v with
  | int x =>
    cases ty <;> simp only [pm_ok, sn_dg, Nat.reduceBEq, Bool.true_or, Bool.false_or, Bool.or_false, Bool.true_and, Bool.false_and, Bool.false_eq_true, Bool.and_eq_true, Bool.or_eq_true, decide_eq_true_eq, beq_iff_eq] at h
    · have e : (Int32.ofInt x.toInt) = x := by simp
      have h1 : -128 ≤ x.toInt := by have := Int32.le_iff_toInt_le.mp h.1; simpa using this
      have h2 : x.toInt ≤ 127 := by have := Int32.le_iff_toInt_le.mp h.2; simpa using this
      have := nu_narb (v := x.toInt) ⟨h1, h2⟩
      rw [e] at this
      exact ⟨congrArg Value.int this, by simp [sn_V, fits, h]⟩
    · refine ⟨?_, by simp [sn_V, fits, h]⟩
      have h1 : 0 ≤ x.toInt := by have := Int32.le_iff_toInt_le.mp h.1; simpa using this
      have h2 : x.toInt ≤ 65535 := by have := Int32.le_iff_toInt_le.mp h.2; simpa using this
      obtain ⟨j, hj, rfl⟩ := nI_of2 (x := x) (M := 65535) (n := 65535) (by decide) (by rw [Int32.lt_iff_toInt_lt]; simp; exact h1) h.2
      exact (pk_charN (by omega)).1
    · exact ⟨rfl, rfl⟩
    · refine ⟨?_, by simp [sn_V, fits, h]⟩
      have h1 : -32768 ≤ x.toInt := by have := Int32.le_iff_toInt_le.mp h.1; simpa using this
      have h2 : x.toInt ≤ 32767 := by have := Int32.le_iff_toInt_le.mp h.2; simpa using this
      have e : (Int32.ofInt x.toInt) = x := by simp
      show Value.int x.toInt16.toInt32 = Value.int x
      refine congrArg Value.int ?_
      have := sn_b16 h1 h2
      rw [e] at this
      rw [← e, Int32.toInt16_ofInt, e]
      exact this
    · rcases h with rfl | rfl
      · exact ⟨show Value.int (0 &&& 1) = Value.int 0 by decide +kernel, rfl⟩
      · exact ⟨show Value.int (1 &&& 1) = Value.int 1 by decide +kernel, rfl⟩
  | long x => cases ty <;> first | exact ⟨rfl, rfl⟩ | simp [pm_ok, sn_dg] at h
  | double x => cases ty <;> first | exact ⟨rfl, rfl⟩ | simp [pm_ok, sn_dg] at h
  | ref x => cases ty <;> first | exact ⟨rfl, rfl⟩ | simp [pm_ok, sn_dg] at h
  | null => cases ty <;> first | exact ⟨rfl, rfl⟩ | simp [pm_ok, sn_dg] at h
  | float x => simp [pm_ok] at h
  | retAddr x => simp [pm_ok] at h
theorem sn_in1 : ∀ w ∈ u_ws (sn_nm 1) (sn_T 1) (sn_N 1), w ∈ lw_all := (List.forall_mem_cons.mpr ⟨(lw_g (lw_at lw_m5 186 rfl) rfl), (List.forall_mem_cons.mpr ⟨(lw_g (lw_at lw_m5 188 rfl) rfl), (List.forall_mem_cons.mpr ⟨(lw_g (lw_at lw_m5 190 rfl) rfl), (List.forall_mem_cons.mpr ⟨(lw_g (lw_at lw_m5 192 rfl) rfl), (List.forall_mem_cons.mpr ⟨(lw_g (lw_at lw_m5 194 rfl) rfl), (List.forall_mem_cons.mpr ⟨(lw_g (lw_at lw_m5 196 rfl) rfl), (List.forall_mem_cons.mpr ⟨(lw_g (lw_at lw_m5 198 rfl) rfl), (List.forall_mem_cons.mpr ⟨(lw_g (lw_at lw_m5 200 rfl) rfl), (List.forall_mem_cons.mpr ⟨(lw_g (lw_at lw_m5 202 rfl) rfl), (List.forall_mem_cons.mpr ⟨(lw_g (lw_at lw_m5 204 rfl) rfl), (List.forall_mem_cons.mpr ⟨(lw_g (lw_at lw_m5 206 rfl) rfl), (List.forall_mem_cons.mpr ⟨(lw_g (lw_at lw_m5 208 rfl) rfl), (List.forall_mem_cons.mpr ⟨(lw_g (lw_at lw_m5 210 rfl) rfl), (List.forall_mem_cons.mpr ⟨(lw_g (lw_at lw_m5 212 rfl) rfl), (List.forall_mem_cons.mpr ⟨(lw_g (lw_at lw_m5 214 rfl) rfl), (fun _ h => absurd h List.not_mem_nil)⟩)⟩)⟩)⟩)⟩)⟩)⟩)⟩)⟩)⟩)⟩)⟩)⟩)⟩)⟩)
theorem sn_in2 : ∀ w ∈ u_ws (sn_nm 2) (sn_T 2) (sn_N 2), w ∈ lw_all := (List.forall_mem_cons.mpr ⟨(lw_g (lw_at lw_m1 167 rfl) rfl), (List.forall_mem_cons.mpr ⟨(lw_g (lw_at lw_m1 169 rfl) rfl), (List.forall_mem_cons.mpr ⟨(lw_g (lw_at lw_m1 171 rfl) rfl), (List.forall_mem_cons.mpr ⟨(lw_g (lw_at lw_m1 173 rfl) rfl), (List.forall_mem_cons.mpr ⟨(lw_g (lw_at lw_m1 175 rfl) rfl), (List.forall_mem_cons.mpr ⟨(lw_g (lw_at lw_m1 177 rfl) rfl), (List.forall_mem_cons.mpr ⟨(lw_g (lw_at lw_m1 179 rfl) rfl), (List.forall_mem_cons.mpr ⟨(lw_g (lw_at lw_m1 181 rfl) rfl), (List.forall_mem_cons.mpr ⟨(lw_g (lw_at lw_m1 183 rfl) rfl), (List.forall_mem_cons.mpr ⟨(lw_g (lw_at lw_m1 185 rfl) rfl), (List.forall_mem_cons.mpr ⟨(lw_g (lw_at lw_m1 187 rfl) rfl), (List.forall_mem_cons.mpr ⟨(lw_g (lw_at lw_m1 189 rfl) rfl), (List.forall_mem_cons.mpr ⟨(lw_g (lw_at lw_m1 191 rfl) rfl), (List.forall_mem_cons.mpr ⟨(lw_g (lw_at lw_m1 193 rfl) rfl), (List.forall_mem_cons.mpr ⟨(lw_g (lw_at lw_m1 195 rfl) rfl), (fun _ h => absurd h List.not_mem_nil)⟩)⟩)⟩)⟩)⟩)⟩)⟩)⟩)⟩)⟩)⟩)⟩)⟩)⟩)⟩)
theorem sn_in3 : ∀ w ∈ u_ws (sn_nm 3) (sn_T 3) (sn_N 3), w ∈ lw_all := (List.forall_mem_cons.mpr ⟨(lw_g (lw_at lw_m1 128 rfl) rfl), (List.forall_mem_cons.mpr ⟨(lw_g (lw_at lw_m1 130 rfl) rfl), (List.forall_mem_cons.mpr ⟨(lw_g (lw_at lw_m1 132 rfl) rfl), (List.forall_mem_cons.mpr ⟨(lw_g (lw_at lw_m1 134 rfl) rfl), (List.forall_mem_cons.mpr ⟨(lw_g (lw_at lw_m1 136 rfl) rfl), (List.forall_mem_cons.mpr ⟨(lw_g (lw_at lw_m1 138 rfl) rfl), (List.forall_mem_cons.mpr ⟨(lw_g (lw_at lw_m1 140 rfl) rfl), (List.forall_mem_cons.mpr ⟨(lw_g (lw_at lw_m1 142 rfl) rfl), (List.forall_mem_cons.mpr ⟨(lw_g (lw_at lw_m1 144 rfl) rfl), (List.forall_mem_cons.mpr ⟨(lw_g (lw_at lw_m1 146 rfl) rfl), (fun _ h => absurd h List.not_mem_nil)⟩)⟩)⟩)⟩)⟩)⟩)⟩)⟩)⟩)⟩)
theorem sn_in4 : ∀ w ∈ u_ws (sn_nm 4) (sn_T 4) (sn_N 4), w ∈ lw_all := (List.forall_mem_cons.mpr ⟨(lw_g (lw_at lw_m2 76 rfl) rfl), (List.forall_mem_cons.mpr ⟨(lw_g (lw_at lw_m2 78 rfl) rfl), (List.forall_mem_cons.mpr ⟨(lw_g (lw_at lw_m2 80 rfl) rfl), (List.forall_mem_cons.mpr ⟨(lw_g (lw_at lw_m2 82 rfl) rfl), (List.forall_mem_cons.mpr ⟨(lw_g (lw_at lw_m2 84 rfl) rfl), (List.forall_mem_cons.mpr ⟨(lw_g (lw_at lw_m2 86 rfl) rfl), (List.forall_mem_cons.mpr ⟨(lw_g (lw_at lw_m2 88 rfl) rfl), (List.forall_mem_cons.mpr ⟨(lw_g (lw_at lw_m2 90 rfl) rfl), (List.forall_mem_cons.mpr ⟨(lw_g (lw_at lw_m2 92 rfl) rfl), (List.forall_mem_cons.mpr ⟨(lw_g (lw_at lw_m2 94 rfl) rfl), (List.forall_mem_cons.mpr ⟨(lw_g (lw_at lw_m2 96 rfl) rfl), (List.forall_mem_cons.mpr ⟨(lw_g (lw_at lw_m2 98 rfl) rfl), (List.forall_mem_cons.mpr ⟨(lw_g (lw_at lw_m2 100 rfl) rfl), (List.forall_mem_cons.mpr ⟨(lw_g (lw_at lw_m2 102 rfl) rfl), (List.forall_mem_cons.mpr ⟨(lw_g (lw_at lw_m2 104 rfl) rfl), (List.forall_mem_cons.mpr ⟨(lw_g (lw_at lw_m2 106 rfl) rfl), (List.forall_mem_cons.mpr ⟨(lw_g (lw_at lw_m2 108 rfl) rfl), (List.forall_mem_cons.mpr ⟨(lw_g (lw_at lw_m2 110 rfl) rfl), (List.forall_mem_cons.mpr ⟨(lw_g (lw_at lw_m2 112 rfl) rfl), (List.forall_mem_cons.mpr ⟨(lw_g (lw_at lw_m2 114 rfl) rfl), (fun _ h => absurd h List.not_mem_nil)⟩)⟩)⟩)⟩)⟩)⟩)⟩)⟩)⟩)⟩)⟩)⟩)⟩)⟩)⟩)⟩)⟩)⟩)⟩)⟩)
theorem sn_in5 : ∀ w ∈ u_ws (sn_nm 5) (sn_T 5) (sn_N 5), w ∈ lw_all := (List.forall_mem_cons.mpr ⟨(lw_g (lw_at lw_m2 2 rfl) rfl), (List.forall_mem_cons.mpr ⟨(lw_g (lw_at lw_m2 4 rfl) rfl), (List.forall_mem_cons.mpr ⟨(lw_g (lw_at lw_m2 6 rfl) rfl), (List.forall_mem_cons.mpr ⟨(lw_g (lw_at lw_m2 8 rfl) rfl), (List.forall_mem_cons.mpr ⟨(lw_g (lw_at lw_m2 10 rfl) rfl), (List.forall_mem_cons.mpr ⟨(lw_g (lw_at lw_m2 12 rfl) rfl), (fun _ h => absurd h List.not_mem_nil)⟩)⟩)⟩)⟩)⟩)⟩)
theorem sn_in6 : ∀ w ∈ u_ws (sn_nm 6) (sn_T 6) (sn_N 6), w ∈ lw_all := (List.forall_mem_cons.mpr ⟨(lw_g (lw_at lw_m1 229 rfl) rfl), (List.forall_mem_cons.mpr ⟨(lw_g (lw_at lw_m1 231 rfl) rfl), (fun _ h => absurd h List.not_mem_nil)⟩)⟩)
theorem sn_in7 : ∀ w ∈ u_ws (sn_nm 7) (sn_T 7) (sn_N 7), w ∈ lw_all := (List.forall_mem_cons.mpr ⟨(lw_g (lw_at lw_m2 35 rfl) rfl), (List.forall_mem_cons.mpr ⟨(lw_g (lw_at lw_m2 37 rfl) rfl), (List.forall_mem_cons.mpr ⟨(lw_g (lw_at lw_m2 39 rfl) rfl), (List.forall_mem_cons.mpr ⟨(lw_g (lw_at lw_m2 41 rfl) rfl), (List.forall_mem_cons.mpr ⟨(lw_g (lw_at lw_m2 43 rfl) rfl), (List.forall_mem_cons.mpr ⟨(lw_g (lw_at lw_m2 45 rfl) rfl), (List.forall_mem_cons.mpr ⟨(lw_g (lw_at lw_m2 47 rfl) rfl), (fun _ h => absurd h List.not_mem_nil)⟩)⟩)⟩)⟩)⟩)⟩)⟩)
theorem sn_in8 : ∀ w ∈ u_ws (sn_nm 8) (sn_T 8) (sn_N 8), w ∈ lw_all := (List.forall_mem_cons.mpr ⟨(lw_g (lw_at lw_m2 187 rfl) rfl), (List.forall_mem_cons.mpr ⟨(lw_g (lw_at lw_m2 189 rfl) rfl), (List.forall_mem_cons.mpr ⟨(lw_g (lw_at lw_m2 191 rfl) rfl), (List.forall_mem_cons.mpr ⟨(lw_g (lw_at lw_m2 193 rfl) rfl), (List.forall_mem_cons.mpr ⟨(lw_g (lw_at lw_m2 195 rfl) rfl), (List.forall_mem_cons.mpr ⟨(lw_g (lw_at lw_m2 197 rfl) rfl), (List.forall_mem_cons.mpr ⟨(lw_g (lw_at lw_m2 199 rfl) rfl), (List.forall_mem_cons.mpr ⟨(lw_g (lw_at lw_m2 201 rfl) rfl), (List.forall_mem_cons.mpr ⟨(lw_g (lw_at lw_m2 203 rfl) rfl), (List.forall_mem_cons.mpr ⟨(lw_g (lw_at lw_m2 205 rfl) rfl), (List.forall_mem_cons.mpr ⟨(lw_g (lw_at lw_m2 207 rfl) rfl), (List.forall_mem_cons.mpr ⟨(lw_g (lw_at lw_m2 209 rfl) rfl), (List.forall_mem_cons.mpr ⟨(lw_g (lw_at lw_m2 211 rfl) rfl), (List.forall_mem_cons.mpr ⟨(lw_g (lw_at lw_m2 213 rfl) rfl), (List.forall_mem_cons.mpr ⟨(lw_g (lw_at lw_m2 215 rfl) rfl), (List.forall_mem_cons.mpr ⟨(lw_g (lw_at lw_m2 217 rfl) rfl), (List.forall_mem_cons.mpr ⟨(lw_g (lw_at lw_m2 219 rfl) rfl), (List.forall_mem_cons.mpr ⟨(lw_g (lw_at lw_m2 221 rfl) rfl), (List.forall_mem_cons.mpr ⟨(lw_g (lw_at lw_m2 223 rfl) rfl), (List.forall_mem_cons.mpr ⟨(lw_g (lw_at lw_m2 225 rfl) rfl), (List.forall_mem_cons.mpr ⟨(lw_g (lw_at lw_m2 227 rfl) rfl), (List.forall_mem_cons.mpr ⟨(lw_g (lw_at lw_m2 229 rfl) rfl), (List.forall_mem_cons.mpr ⟨(lw_g (lw_at lw_m2 231 rfl) rfl), (List.forall_mem_cons.mpr ⟨(lw_g (lw_at lw_m2 233 rfl) rfl), (List.forall_mem_cons.mpr ⟨(lw_g (lw_at lw_m2 235 rfl) rfl), (List.forall_mem_cons.mpr ⟨(lw_g (lw_at lw_m2 237 rfl) rfl), (List.forall_mem_cons.mpr ⟨(lw_g (lw_at lw_m2 239 rfl) rfl), (List.forall_mem_cons.mpr ⟨(lw_g (lw_at lw_m3 1 rfl) rfl), (List.forall_mem_cons.mpr ⟨(lw_g (lw_at lw_m3 3 rfl) rfl), (List.forall_mem_cons.mpr ⟨(lw_g (lw_at lw_m3 5 rfl) rfl), (List.forall_mem_cons.mpr ⟨(lw_g (lw_at lw_m3 7 rfl) rfl), (List.forall_mem_cons.mpr ⟨(lw_g (lw_at lw_m3 9 rfl) rfl), (List.forall_mem_cons.mpr ⟨(lw_g (lw_at lw_m3 11 rfl) rfl), (List.forall_mem_cons.mpr ⟨(lw_g (lw_at lw_m3 13 rfl) rfl), (List.forall_mem_cons.mpr ⟨(lw_g (lw_at lw_m3 15 rfl) rfl), (fun _ h => absurd h List.not_mem_nil)⟩)⟩)⟩)⟩)⟩)⟩)⟩)⟩)⟩)⟩)⟩)⟩)⟩)⟩)⟩)⟩)⟩)⟩)⟩)⟩)⟩)⟩)⟩)⟩)⟩)⟩)⟩)⟩)⟩)⟩)⟩)⟩)⟩)⟩)⟩)
theorem sn_in9 : ∀ w ∈ u_ws (sn_nm 9) (sn_T 9) (sn_N 9), w ∈ lw_all := (List.forall_mem_cons.mpr ⟨(lw_g (lw_at lw_m2 139 rfl) rfl), (List.forall_mem_cons.mpr ⟨(lw_g (lw_at lw_m2 141 rfl) rfl), (List.forall_mem_cons.mpr ⟨(lw_g (lw_at lw_m2 143 rfl) rfl), (fun _ h => absurd h List.not_mem_nil)⟩)⟩)⟩)
theorem sn_in10 : ∀ w ∈ u_ws (sn_nm 10) (sn_T 10) (sn_N 10), w ∈ lw_all := (List.forall_mem_cons.mpr ⟨(lw_g (lw_at lw_m3 58 rfl) rfl), (List.forall_mem_cons.mpr ⟨(lw_g (lw_at lw_m3 60 rfl) rfl), (List.forall_mem_cons.mpr ⟨(lw_g (lw_at lw_m3 62 rfl) rfl), (List.forall_mem_cons.mpr ⟨(lw_g (lw_at lw_m3 64 rfl) rfl), (List.forall_mem_cons.mpr ⟨(lw_g (lw_at lw_m3 66 rfl) rfl), (List.forall_mem_cons.mpr ⟨(lw_g (lw_at lw_m3 68 rfl) rfl), (List.forall_mem_cons.mpr ⟨(lw_g (lw_at lw_m3 70 rfl) rfl), (List.forall_mem_cons.mpr ⟨(lw_g (lw_at lw_m3 72 rfl) rfl), (fun _ h => absurd h List.not_mem_nil)⟩)⟩)⟩)⟩)⟩)⟩)⟩)⟩)
theorem sn_in11 : ∀ w ∈ u_ws (sn_nm 11) (sn_T 11) (sn_N 11), w ∈ lw_all := (List.forall_mem_cons.mpr ⟨(lw_g (lw_at lw_m3 114 rfl) rfl), (List.forall_mem_cons.mpr ⟨(lw_g (lw_at lw_m3 116 rfl) rfl), (List.forall_mem_cons.mpr ⟨(lw_g (lw_at lw_m3 118 rfl) rfl), (List.forall_mem_cons.mpr ⟨(lw_g (lw_at lw_m3 120 rfl) rfl), (List.forall_mem_cons.mpr ⟨(lw_g (lw_at lw_m3 122 rfl) rfl), (List.forall_mem_cons.mpr ⟨(lw_g (lw_at lw_m3 124 rfl) rfl), (List.forall_mem_cons.mpr ⟨(lw_g (lw_at lw_m3 126 rfl) rfl), (List.forall_mem_cons.mpr ⟨(lw_g (lw_at lw_m3 128 rfl) rfl), (List.forall_mem_cons.mpr ⟨(lw_g (lw_at lw_m3 130 rfl) rfl), (List.forall_mem_cons.mpr ⟨(lw_g (lw_at lw_m3 132 rfl) rfl), (List.forall_mem_cons.mpr ⟨(lw_g (lw_at lw_m3 134 rfl) rfl), (List.forall_mem_cons.mpr ⟨(lw_g (lw_at lw_m3 136 rfl) rfl), (List.forall_mem_cons.mpr ⟨(lw_g (lw_at lw_m3 138 rfl) rfl), (List.forall_mem_cons.mpr ⟨(lw_g (lw_at lw_m3 140 rfl) rfl), (List.forall_mem_cons.mpr ⟨(lw_g (lw_at lw_m3 142 rfl) rfl), (fun _ h => absurd h List.not_mem_nil)⟩)⟩)⟩)⟩)⟩)⟩)⟩)⟩)⟩)⟩)⟩)⟩)⟩)⟩)⟩)
theorem sn_in12 : ∀ w ∈ u_ws (sn_nm 12) (sn_T 12) (sn_N 12), w ∈ lw_all := (List.forall_mem_cons.mpr ⟨(lw_g (lw_at lw_m3 95 rfl) rfl), (fun _ h => absurd h List.not_mem_nil)⟩)
theorem sn_in13 : ∀ w ∈ u_ws (sn_nm 13) (sn_T 13) (sn_N 13), w ∈ lw_all := (List.forall_mem_cons.mpr ⟨(lw_g (lw_at lw_m4 7 rfl) rfl), (List.forall_mem_cons.mpr ⟨(lw_g (lw_at lw_m4 9 rfl) rfl), (List.forall_mem_cons.mpr ⟨(lw_g (lw_at lw_m4 11 rfl) rfl), (List.forall_mem_cons.mpr ⟨(lw_g (lw_at lw_m4 13 rfl) rfl), (List.forall_mem_cons.mpr ⟨(lw_g (lw_at lw_m4 15 rfl) rfl), (List.forall_mem_cons.mpr ⟨(lw_g (lw_at lw_m4 17 rfl) rfl), (List.forall_mem_cons.mpr ⟨(lw_g (lw_at lw_m4 19 rfl) rfl), (List.forall_mem_cons.mpr ⟨(lw_g (lw_at lw_m4 21 rfl) rfl), (List.forall_mem_cons.mpr ⟨(lw_g (lw_at lw_m4 23 rfl) rfl), (List.forall_mem_cons.mpr ⟨(lw_g (lw_at lw_m4 25 rfl) rfl), (fun _ h => absurd h List.not_mem_nil)⟩)⟩)⟩)⟩)⟩)⟩)⟩)⟩)⟩)⟩)
theorem sn_in14 : ∀ w ∈ u_ws (sn_nm 14) (sn_T 14) (sn_N 14), w ∈ lw_all := (List.forall_mem_cons.mpr ⟨(lw_g (lw_at lw_m3 182 rfl) rfl), (List.forall_mem_cons.mpr ⟨(lw_g (lw_at lw_m3 184 rfl) rfl), (List.forall_mem_cons.mpr ⟨(lw_g (lw_at lw_m3 186 rfl) rfl), (List.forall_mem_cons.mpr ⟨(lw_g (lw_at lw_m3 188 rfl) rfl), (List.forall_mem_cons.mpr ⟨(lw_g (lw_at lw_m3 190 rfl) rfl), (List.forall_mem_cons.mpr ⟨(lw_g (lw_at lw_m3 192 rfl) rfl), (List.forall_mem_cons.mpr ⟨(lw_g (lw_at lw_m3 194 rfl) rfl), (List.forall_mem_cons.mpr ⟨(lw_g (lw_at lw_m3 196 rfl) rfl), (List.forall_mem_cons.mpr ⟨(lw_g (lw_at lw_m3 198 rfl) rfl), (List.forall_mem_cons.mpr ⟨(lw_g (lw_at lw_m3 200 rfl) rfl), (List.forall_mem_cons.mpr ⟨(lw_g (lw_at lw_m3 202 rfl) rfl), (fun _ h => absurd h List.not_mem_nil)⟩)⟩)⟩)⟩)⟩)⟩)⟩)⟩)⟩)⟩)⟩)
theorem sn_in15 : ∀ w ∈ u_ws (sn_nm 15) (sn_T 15) (sn_N 15), w ∈ lw_all := (List.forall_mem_cons.mpr ⟨(lw_g (lw_at lw_m3 228 rfl) rfl), (List.forall_mem_cons.mpr ⟨(lw_g (lw_at lw_m3 230 rfl) rfl), (List.forall_mem_cons.mpr ⟨(lw_g (lw_at lw_m3 232 rfl) rfl), (List.forall_mem_cons.mpr ⟨(lw_g (lw_at lw_m3 234 rfl) rfl), (fun _ h => absurd h List.not_mem_nil)⟩)⟩)⟩)⟩)
theorem sn_in16 : ∀ w ∈ u_ws (sn_nm 16) (sn_T 16) (sn_N 16), w ∈ lw_all := (List.forall_mem_cons.mpr ⟨(lw_g (lw_at lw_m4 152 rfl) rfl), (List.forall_mem_cons.mpr ⟨(lw_g (lw_at lw_m4 154 rfl) rfl), (List.forall_mem_cons.mpr ⟨(lw_g (lw_at lw_m4 156 rfl) rfl), (List.forall_mem_cons.mpr ⟨(lw_g (lw_at lw_m4 158 rfl) rfl), (List.forall_mem_cons.mpr ⟨(lw_g (lw_at lw_m4 160 rfl) rfl), (List.forall_mem_cons.mpr ⟨(lw_g (lw_at lw_m4 162 rfl) rfl), (List.forall_mem_cons.mpr ⟨(lw_g (lw_at lw_m4 164 rfl) rfl), (List.forall_mem_cons.mpr ⟨(lw_g (lw_at lw_m4 166 rfl) rfl), (List.forall_mem_cons.mpr ⟨(lw_g (lw_at lw_m4 168 rfl) rfl), (List.forall_mem_cons.mpr ⟨(lw_g (lw_at lw_m4 170 rfl) rfl), (List.forall_mem_cons.mpr ⟨(lw_g (lw_at lw_m4 172 rfl) rfl), (fun _ h => absurd h List.not_mem_nil)⟩)⟩)⟩)⟩)⟩)⟩)⟩)⟩)⟩)⟩)⟩)
theorem sn_in17 : ∀ w ∈ u_ws (sn_nm 17) (sn_T 17) (sn_N 17), w ∈ lw_all := (List.forall_mem_cons.mpr ⟨(lw_g (lw_at lw_m4 48 rfl) rfl), (List.forall_mem_cons.mpr ⟨(lw_g (lw_at lw_m4 50 rfl) rfl), (fun _ h => absurd h List.not_mem_nil)⟩)⟩)
theorem sn_in18 : ∀ w ∈ u_ws (sn_nm 18) (sn_T 18) (sn_N 18), w ∈ lw_all := (List.forall_mem_cons.mpr ⟨(lw_g (lw_at lw_m4 86 rfl) rfl), (List.forall_mem_cons.mpr ⟨(lw_g (lw_at lw_m4 88 rfl) rfl), (List.forall_mem_cons.mpr ⟨(lw_g (lw_at lw_m4 90 rfl) rfl), (List.forall_mem_cons.mpr ⟨(lw_g (lw_at lw_m4 92 rfl) rfl), (List.forall_mem_cons.mpr ⟨(lw_g (lw_at lw_m4 94 rfl) rfl), (List.forall_mem_cons.mpr ⟨(lw_g (lw_at lw_m4 96 rfl) rfl), (List.forall_mem_cons.mpr ⟨(lw_g (lw_at lw_m4 98 rfl) rfl), (fun _ h => absurd h List.not_mem_nil)⟩)⟩)⟩)⟩)⟩)⟩)⟩)
theorem sn_in19 : ∀ w ∈ u_ws (sn_nm 19) (sn_T 19) (sn_N 19), w ∈ lw_all := (List.forall_mem_cons.mpr ⟨(lw_g (lw_at lw_m4 122 rfl) rfl), (List.forall_mem_cons.mpr ⟨(lw_g (lw_at lw_m4 124 rfl) rfl), (List.forall_mem_cons.mpr ⟨(lw_g (lw_at lw_m4 126 rfl) rfl), (List.forall_mem_cons.mpr ⟨(lw_g (lw_at lw_m4 128 rfl) rfl), (List.forall_mem_cons.mpr ⟨(lw_g (lw_at lw_m4 130 rfl) rfl), (List.forall_mem_cons.mpr ⟨(lw_g (lw_at lw_m4 132 rfl) rfl), (List.forall_mem_cons.mpr ⟨(lw_g (lw_at lw_m4 134 rfl) rfl), (List.forall_mem_cons.mpr ⟨(lw_g (lw_at lw_m4 136 rfl) rfl), (List.forall_mem_cons.mpr ⟨(lw_g (lw_at lw_m4 138 rfl) rfl), (fun _ h => absurd h List.not_mem_nil)⟩)⟩)⟩)⟩)⟩)⟩)⟩)⟩)⟩)
theorem sn_in20 : ∀ w ∈ u_ws (sn_nm 20) (sn_T 20) (sn_N 20), w ∈ lw_all := (List.forall_mem_cons.mpr ⟨(lw_g (lw_at lw_m4 225 rfl) rfl), (List.forall_mem_cons.mpr ⟨(lw_g (lw_at lw_m4 227 rfl) rfl), (List.forall_mem_cons.mpr ⟨(lw_g (lw_at lw_m4 229 rfl) rfl), (List.forall_mem_cons.mpr ⟨(lw_g (lw_at lw_m4 231 rfl) rfl), (List.forall_mem_cons.mpr ⟨(lw_g (lw_at lw_m4 233 rfl) rfl), (List.forall_mem_cons.mpr ⟨(lw_g (lw_at lw_m4 235 rfl) rfl), (List.forall_mem_cons.mpr ⟨(lw_g (lw_at lw_m4 237 rfl) rfl), (List.forall_mem_cons.mpr ⟨(lw_g (lw_at lw_m4 239 rfl) rfl), (List.forall_mem_cons.mpr ⟨(lw_g (lw_at lw_m5 1 rfl) rfl), (List.forall_mem_cons.mpr ⟨(lw_g (lw_at lw_m5 3 rfl) rfl), (List.forall_mem_cons.mpr ⟨(lw_g (lw_at lw_m5 5 rfl) rfl), (List.forall_mem_cons.mpr ⟨(lw_g (lw_at lw_m5 7 rfl) rfl), (List.forall_mem_cons.mpr ⟨(lw_g (lw_at lw_m5 9 rfl) rfl), (List.forall_mem_cons.mpr ⟨(lw_g (lw_at lw_m5 11 rfl) rfl), (List.forall_mem_cons.mpr ⟨(lw_g (lw_at lw_m5 13 rfl) rfl), (List.forall_mem_cons.mpr ⟨(lw_g (lw_at lw_m5 15 rfl) rfl), (List.forall_mem_cons.mpr ⟨(lw_g (lw_at lw_m5 17 rfl) rfl), (fun _ h => absurd h List.not_mem_nil)⟩)⟩)⟩)⟩)⟩)⟩)⟩)⟩)⟩)⟩)⟩)⟩)⟩)⟩)⟩)⟩)⟩)
theorem sn_in21 : ∀ w ∈ u_ws (sn_nm 21) (sn_T 21) (sn_N 21), w ∈ lw_all := (List.forall_mem_cons.mpr ⟨(lw_g (lw_at lw_m4 199 rfl) rfl), (List.forall_mem_cons.mpr ⟨(lw_g (lw_at lw_m4 201 rfl) rfl), (List.forall_mem_cons.mpr ⟨(lw_g (lw_at lw_m4 203 rfl) rfl), (List.forall_mem_cons.mpr ⟨(lw_g (lw_at lw_m4 205 rfl) rfl), (fun _ h => absurd h List.not_mem_nil)⟩)⟩)⟩)⟩)
theorem sn_in22 : ∀ w ∈ u_ws (sn_nm 22) (sn_T 22) (sn_N 22), w ∈ lw_all := (List.forall_mem_cons.mpr ⟨(lw_g (lw_at lw_m5 73 rfl) rfl), (List.forall_mem_cons.mpr ⟨(lw_g (lw_at lw_m5 75 rfl) rfl), (List.forall_mem_cons.mpr ⟨(lw_g (lw_at lw_m5 77 rfl) rfl), (List.forall_mem_cons.mpr ⟨(lw_g (lw_at lw_m5 79 rfl) rfl), (List.forall_mem_cons.mpr ⟨(lw_g (lw_at lw_m5 81 rfl) rfl), (List.forall_mem_cons.mpr ⟨(lw_g (lw_at lw_m5 83 rfl) rfl), (List.forall_mem_cons.mpr ⟨(lw_g (lw_at lw_m5 85 rfl) rfl), (List.forall_mem_cons.mpr ⟨(lw_g (lw_at lw_m5 87 rfl) rfl), (List.forall_mem_cons.mpr ⟨(lw_g (lw_at lw_m5 89 rfl) rfl), (List.forall_mem_cons.mpr ⟨(lw_g (lw_at lw_m5 91 rfl) rfl), (List.forall_mem_cons.mpr ⟨(lw_g (lw_at lw_m5 93 rfl) rfl), (List.forall_mem_cons.mpr ⟨(lw_g (lw_at lw_m5 95 rfl) rfl), (List.forall_mem_cons.mpr ⟨(lw_g (lw_at lw_m5 97 rfl) rfl), (List.forall_mem_cons.mpr ⟨(lw_g (lw_at lw_m5 99 rfl) rfl), (List.forall_mem_cons.mpr ⟨(lw_g (lw_at lw_m5 101 rfl) rfl), (List.forall_mem_cons.mpr ⟨(lw_g (lw_at lw_m5 103 rfl) rfl), (List.forall_mem_cons.mpr ⟨(lw_g (lw_at lw_m5 105 rfl) rfl), (List.forall_mem_cons.mpr ⟨(lw_g (lw_at lw_m5 107 rfl) rfl), (List.forall_mem_cons.mpr ⟨(lw_g (lw_at lw_m5 109 rfl) rfl), (List.forall_mem_cons.mpr ⟨(lw_g (lw_at lw_m5 111 rfl) rfl), (List.forall_mem_cons.mpr ⟨(lw_g (lw_at lw_m5 113 rfl) rfl), (List.forall_mem_cons.mpr ⟨(lw_g (lw_at lw_m5 115 rfl) rfl), (List.forall_mem_cons.mpr ⟨(lw_g (lw_at lw_m5 117 rfl) rfl), (List.forall_mem_cons.mpr ⟨(lw_g (lw_at lw_m5 119 rfl) rfl), (List.forall_mem_cons.mpr ⟨(lw_g (lw_at lw_m5 121 rfl) rfl), (List.forall_mem_cons.mpr ⟨(lw_g (lw_at lw_m5 123 rfl) rfl), (List.forall_mem_cons.mpr ⟨(lw_g (lw_at lw_m5 125 rfl) rfl), (List.forall_mem_cons.mpr ⟨(lw_g (lw_at lw_m5 127 rfl) rfl), (fun _ h => absurd h List.not_mem_nil)⟩)⟩)⟩)⟩)⟩)⟩)⟩)⟩)⟩)⟩)⟩)⟩)⟩)⟩)⟩)⟩)⟩)⟩)⟩)⟩)⟩)⟩)⟩)⟩)⟩)⟩)⟩)⟩)
theorem sn_in23 : ∀ w ∈ u_ws (sn_nm 23) (sn_T 23) (sn_N 23), w ∈ lw_all := (List.forall_mem_cons.mpr ⟨(lw_g (lw_at lw_m5 39 rfl) rfl), (List.forall_mem_cons.mpr ⟨(lw_g (lw_at lw_m5 41 rfl) rfl), (fun _ h => absurd h List.not_mem_nil)⟩)⟩)
theorem sn_in24 : ∀ w ∈ u_ws (sn_nm 24) (sn_T 24) (sn_N 24), w ∈ lw_all := (List.forall_mem_cons.mpr ⟨(lw_g (lw_at lw_m5 152 rfl) rfl), (List.forall_mem_cons.mpr ⟨(lw_g (lw_at lw_m5 154 rfl) rfl), (List.forall_mem_cons.mpr ⟨(lw_g (lw_at lw_m5 156 rfl) rfl), (List.forall_mem_cons.mpr ⟨(lw_g (lw_at lw_m5 158 rfl) rfl), (List.forall_mem_cons.mpr ⟨(lw_g (lw_at lw_m5 160 rfl) rfl), (List.forall_mem_cons.mpr ⟨(lw_g (lw_at lw_m5 162 rfl) rfl), (List.forall_mem_cons.mpr ⟨(lw_g (lw_at lw_m5 164 rfl) rfl), (List.forall_mem_cons.mpr ⟨(lw_g (lw_at lw_m5 166 rfl) rfl), (List.forall_mem_cons.mpr ⟨(lw_g (lw_at lw_m5 168 rfl) rfl), (fun _ h => absurd h List.not_mem_nil)⟩)⟩)⟩)⟩)⟩)⟩)⟩)⟩)⟩)
theorem sn_in25 : ∀ w ∈ u_ws (sn_nm 25) (sn_T 25) (sn_N 25), w ∈ lw_all := (List.forall_mem_cons.mpr ⟨(lw_g (lw_at lw_m21 6 rfl) rfl), (List.forall_mem_cons.mpr ⟨(lw_g (lw_at lw_m21 8 rfl) rfl), (List.forall_mem_cons.mpr ⟨(lw_g (lw_at lw_m21 10 rfl) rfl), (List.forall_mem_cons.mpr ⟨(lw_g (lw_at lw_m21 12 rfl) rfl), (List.forall_mem_cons.mpr ⟨(lw_g (lw_at lw_m21 14 rfl) rfl), (List.forall_mem_cons.mpr ⟨(lw_g (lw_at lw_m21 16 rfl) rfl), (List.forall_mem_cons.mpr ⟨(lw_g (lw_at lw_m21 18 rfl) rfl), (List.forall_mem_cons.mpr ⟨(lw_g (lw_at lw_m21 20 rfl) rfl), (List.forall_mem_cons.mpr ⟨(lw_g (lw_at lw_m21 22 rfl) rfl), (List.forall_mem_cons.mpr ⟨(lw_g (lw_at lw_m21 24 rfl) rfl), (List.forall_mem_cons.mpr ⟨(lw_g (lw_at lw_m21 26 rfl) rfl), (List.forall_mem_cons.mpr ⟨(lw_g (lw_at lw_m21 28 rfl) rfl), (List.forall_mem_cons.mpr ⟨(lw_g (lw_at lw_m21 30 rfl) rfl), (List.forall_mem_cons.mpr ⟨(lw_g (lw_at lw_m21 32 rfl) rfl), (List.forall_mem_cons.mpr ⟨(lw_g (lw_at lw_m21 34 rfl) rfl), (List.forall_mem_cons.mpr ⟨(lw_g (lw_at lw_m21 36 rfl) rfl), (fun _ h => absurd h List.not_mem_nil)⟩)⟩)⟩)⟩)⟩)⟩)⟩)⟩)⟩)⟩)⟩)⟩)⟩)⟩)⟩)⟩)
theorem sn_in26 : ∀ w ∈ u_ws (sn_nm 26) (sn_T 26) (sn_N 26), w ∈ lw_all := (List.forall_mem_cons.mpr ⟨(lw_g (lw_at lw_m16 239 rfl) rfl), (List.forall_mem_cons.mpr ⟨(lw_g (lw_at lw_m17 1 rfl) rfl), (List.forall_mem_cons.mpr ⟨(lw_g (lw_at lw_m17 3 rfl) rfl), (List.forall_mem_cons.mpr ⟨(lw_g (lw_at lw_m17 5 rfl) rfl), (List.forall_mem_cons.mpr ⟨(lw_g (lw_at lw_m17 7 rfl) rfl), (List.forall_mem_cons.mpr ⟨(lw_g (lw_at lw_m17 9 rfl) rfl), (List.forall_mem_cons.mpr ⟨(lw_g (lw_at lw_m17 11 rfl) rfl), (List.forall_mem_cons.mpr ⟨(lw_g (lw_at lw_m17 13 rfl) rfl), (List.forall_mem_cons.mpr ⟨(lw_g (lw_at lw_m17 15 rfl) rfl), (List.forall_mem_cons.mpr ⟨(lw_g (lw_at lw_m17 17 rfl) rfl), (List.forall_mem_cons.mpr ⟨(lw_g (lw_at lw_m17 19 rfl) rfl), (List.forall_mem_cons.mpr ⟨(lw_g (lw_at lw_m17 21 rfl) rfl), (List.forall_mem_cons.mpr ⟨(lw_g (lw_at lw_m17 23 rfl) rfl), (List.forall_mem_cons.mpr ⟨(lw_g (lw_at lw_m17 25 rfl) rfl), (List.forall_mem_cons.mpr ⟨(lw_g (lw_at lw_m17 27 rfl) rfl), (List.forall_mem_cons.mpr ⟨(lw_g (lw_at lw_m17 29 rfl) rfl), (List.forall_mem_cons.mpr ⟨(lw_g (lw_at lw_m17 31 rfl) rfl), (List.forall_mem_cons.mpr ⟨(lw_g (lw_at lw_m17 33 rfl) rfl), (List.forall_mem_cons.mpr ⟨(lw_g (lw_at lw_m17 35 rfl) rfl), (List.forall_mem_cons.mpr ⟨(lw_g (lw_at lw_m17 37 rfl) rfl), (List.forall_mem_cons.mpr ⟨(lw_g (lw_at lw_m17 39 rfl) rfl), (List.forall_mem_cons.mpr ⟨(lw_g (lw_at lw_m17 41 rfl) rfl), (fun _ h => absurd h List.not_mem_nil)⟩)⟩)⟩)⟩)⟩)⟩)⟩)⟩)⟩)⟩)⟩)⟩)⟩)⟩)⟩)⟩)⟩)⟩)⟩)⟩)⟩)⟩)
theorem sn_in27 : ∀ w ∈ u_ws (sn_nm 27) (sn_T 27) (sn_N 27), w ∈ lw_all := (List.forall_mem_cons.mpr ⟨(lw_g (lw_at lw_m17 104 rfl) rfl), (List.forall_mem_cons.mpr ⟨(lw_g (lw_at lw_m17 106 rfl) rfl), (List.forall_mem_cons.mpr ⟨(lw_g (lw_at lw_m17 108 rfl) rfl), (List.forall_mem_cons.mpr ⟨(lw_g (lw_at lw_m17 110 rfl) rfl), (List.forall_mem_cons.mpr ⟨(lw_g (lw_at lw_m17 112 rfl) rfl), (List.forall_mem_cons.mpr ⟨(lw_g (lw_at lw_m17 114 rfl) rfl), (List.forall_mem_cons.mpr ⟨(lw_g (lw_at lw_m17 116 rfl) rfl), (List.forall_mem_cons.mpr ⟨(lw_g (lw_at lw_m17 118 rfl) rfl), (List.forall_mem_cons.mpr ⟨(lw_g (lw_at lw_m17 120 rfl) rfl), (List.forall_mem_cons.mpr ⟨(lw_g (lw_at lw_m17 122 rfl) rfl), (List.forall_mem_cons.mpr ⟨(lw_g (lw_at lw_m17 124 rfl) rfl), (List.forall_mem_cons.mpr ⟨(lw_g (lw_at lw_m17 126 rfl) rfl), (List.forall_mem_cons.mpr ⟨(lw_g (lw_at lw_m17 128 rfl) rfl), (List.forall_mem_cons.mpr ⟨(lw_g (lw_at lw_m17 130 rfl) rfl), (List.forall_mem_cons.mpr ⟨(lw_g (lw_at lw_m17 132 rfl) rfl), (List.forall_mem_cons.mpr ⟨(lw_g (lw_at lw_m17 134 rfl) rfl), (List.forall_mem_cons.mpr ⟨(lw_g (lw_at lw_m17 136 rfl) rfl), (List.forall_mem_cons.mpr ⟨(lw_g (lw_at lw_m17 138 rfl) rfl), (List.forall_mem_cons.mpr ⟨(lw_g (lw_at lw_m17 140 rfl) rfl), (List.forall_mem_cons.mpr ⟨(lw_g (lw_at lw_m17 142 rfl) rfl), (List.forall_mem_cons.mpr ⟨(lw_g (lw_at lw_m17 144 rfl) rfl), (List.forall_mem_cons.mpr ⟨(lw_g (lw_at lw_m17 146 rfl) rfl), (List.forall_mem_cons.mpr ⟨(lw_g (lw_at lw_m17 148 rfl) rfl), (List.forall_mem_cons.mpr ⟨(lw_g (lw_at lw_m17 150 rfl) rfl), (List.forall_mem_cons.mpr ⟨(lw_g (lw_at lw_m17 152 rfl) rfl), (List.forall_mem_cons.mpr ⟨(lw_g (lw_at lw_m17 154 rfl) rfl), (List.forall_mem_cons.mpr ⟨(lw_g (lw_at lw_m17 156 rfl) rfl), (List.forall_mem_cons.mpr ⟨(lw_g (lw_at lw_m17 158 rfl) rfl), (List.forall_mem_cons.mpr ⟨(lw_g (lw_at lw_m17 160 rfl) rfl), (List.forall_mem_cons.mpr ⟨(lw_g (lw_at lw_m17 162 rfl) rfl), (List.forall_mem_cons.mpr ⟨(lw_g (lw_at lw_m17 164 rfl) rfl), (List.forall_mem_cons.mpr ⟨(lw_g (lw_at lw_m17 166 rfl) rfl), (List.forall_mem_cons.mpr ⟨(lw_g (lw_at lw_m17 168 rfl) rfl), (List.forall_mem_cons.mpr ⟨(lw_g (lw_at lw_m17 170 rfl) rfl), (List.forall_mem_cons.mpr ⟨(lw_g (lw_at lw_m17 172 rfl) rfl), (List.forall_mem_cons.mpr ⟨(lw_g (lw_at lw_m17 174 rfl) rfl), (List.forall_mem_cons.mpr ⟨(lw_g (lw_at lw_m17 176 rfl) rfl), (List.forall_mem_cons.mpr ⟨(lw_g (lw_at lw_m17 178 rfl) rfl), (List.forall_mem_cons.mpr ⟨(lw_g (lw_at lw_m17 180 rfl) rfl), (List.forall_mem_cons.mpr ⟨(lw_g (lw_at lw_m17 182 rfl) rfl), (List.forall_mem_cons.mpr ⟨(lw_g (lw_at lw_m17 184 rfl) rfl), (List.forall_mem_cons.mpr ⟨(lw_g (lw_at lw_m17 186 rfl) rfl), (List.forall_mem_cons.mpr ⟨(lw_g (lw_at lw_m17 188 rfl) rfl), (List.forall_mem_cons.mpr ⟨(lw_g (lw_at lw_m17 190 rfl) rfl), (List.forall_mem_cons.mpr ⟨(lw_g (lw_at lw_m17 192 rfl) rfl), (List.forall_mem_cons.mpr ⟨(lw_g (lw_at lw_m17 194 rfl) rfl), (List.forall_mem_cons.mpr ⟨(lw_g (lw_at lw_m17 196 rfl) rfl), (fun _ h => absurd h List.not_mem_nil)⟩)⟩)⟩)⟩)⟩)⟩)⟩)⟩)⟩)⟩)⟩)⟩)⟩)⟩)⟩)⟩)⟩)⟩)⟩)⟩)⟩)⟩)⟩)⟩)⟩)⟩)⟩)⟩)⟩)⟩)⟩)⟩)⟩)⟩)⟩)⟩)⟩)⟩)⟩)⟩)⟩)⟩)⟩)⟩)⟩)⟩)⟩)
theorem sn_in28 : ∀ w ∈ u_ws (sn_nm 28) (sn_T 28) (sn_N 28), w ∈ lw_all := (List.forall_mem_cons.mpr ⟨(lw_g (lw_at lw_m18 5 rfl) rfl), (List.forall_mem_cons.mpr ⟨(lw_g (lw_at lw_m18 7 rfl) rfl), (List.forall_mem_cons.mpr ⟨(lw_g (lw_at lw_m18 9 rfl) rfl), (List.forall_mem_cons.mpr ⟨(lw_g (lw_at lw_m18 11 rfl) rfl), (List.forall_mem_cons.mpr ⟨(lw_g (lw_at lw_m18 13 rfl) rfl), (List.forall_mem_cons.mpr ⟨(lw_g (lw_at lw_m18 15 rfl) rfl), (List.forall_mem_cons.mpr ⟨(lw_g (lw_at lw_m18 17 rfl) rfl), (List.forall_mem_cons.mpr ⟨(lw_g (lw_at lw_m18 19 rfl) rfl), (List.forall_mem_cons.mpr ⟨(lw_g (lw_at lw_m18 21 rfl) rfl), (List.forall_mem_cons.mpr ⟨(lw_g (lw_at lw_m18 23 rfl) rfl), (List.forall_mem_cons.mpr ⟨(lw_g (lw_at lw_m18 25 rfl) rfl), (List.forall_mem_cons.mpr ⟨(lw_g (lw_at lw_m18 27 rfl) rfl), (List.forall_mem_cons.mpr ⟨(lw_g (lw_at lw_m18 29 rfl) rfl), (List.forall_mem_cons.mpr ⟨(lw_g (lw_at lw_m18 31 rfl) rfl), (List.forall_mem_cons.mpr ⟨(lw_g (lw_at lw_m18 33 rfl) rfl), (List.forall_mem_cons.mpr ⟨(lw_g (lw_at lw_m18 35 rfl) rfl), (List.forall_mem_cons.mpr ⟨(lw_g (lw_at lw_m18 37 rfl) rfl), (List.forall_mem_cons.mpr ⟨(lw_g (lw_at lw_m18 39 rfl) rfl), (List.forall_mem_cons.mpr ⟨(lw_g (lw_at lw_m18 41 rfl) rfl), (List.forall_mem_cons.mpr ⟨(lw_g (lw_at lw_m18 43 rfl) rfl), (List.forall_mem_cons.mpr ⟨(lw_g (lw_at lw_m18 45 rfl) rfl), (List.forall_mem_cons.mpr ⟨(lw_g (lw_at lw_m18 47 rfl) rfl), (List.forall_mem_cons.mpr ⟨(lw_g (lw_at lw_m18 49 rfl) rfl), (List.forall_mem_cons.mpr ⟨(lw_g (lw_at lw_m18 51 rfl) rfl), (List.forall_mem_cons.mpr ⟨(lw_g (lw_at lw_m18 53 rfl) rfl), (List.forall_mem_cons.mpr ⟨(lw_g (lw_at lw_m18 55 rfl) rfl), (List.forall_mem_cons.mpr ⟨(lw_g (lw_at lw_m18 57 rfl) rfl), (List.forall_mem_cons.mpr ⟨(lw_g (lw_at lw_m18 59 rfl) rfl), (List.forall_mem_cons.mpr ⟨(lw_g (lw_at lw_m18 61 rfl) rfl), (List.forall_mem_cons.mpr ⟨(lw_g (lw_at lw_m18 63 rfl) rfl), (List.forall_mem_cons.mpr ⟨(lw_g (lw_at lw_m18 65 rfl) rfl), (List.forall_mem_cons.mpr ⟨(lw_g (lw_at lw_m18 67 rfl) rfl), (List.forall_mem_cons.mpr ⟨(lw_g (lw_at lw_m18 69 rfl) rfl), (List.forall_mem_cons.mpr ⟨(lw_g (lw_at lw_m18 71 rfl) rfl), (List.forall_mem_cons.mpr ⟨(lw_g (lw_at lw_m18 73 rfl) rfl), (List.forall_mem_cons.mpr ⟨(lw_g (lw_at lw_m18 75 rfl) rfl), (fun _ h => absurd h List.not_mem_nil)⟩)⟩)⟩)⟩)⟩)⟩)⟩)⟩)⟩)⟩)⟩)⟩)⟩)⟩)⟩)⟩)⟩)⟩)⟩)⟩)⟩)⟩)⟩)⟩)⟩)⟩)⟩)⟩)⟩)⟩)⟩)⟩)⟩)⟩)⟩)⟩)
theorem sn_in29 : ∀ w ∈ u_ws (sn_nm 29) (sn_T 29) (sn_N 29), w ∈ lw_all := (List.forall_mem_cons.mpr ⟨(lw_g (lw_at lw_m18 110 rfl) rfl), (List.forall_mem_cons.mpr ⟨(lw_g (lw_at lw_m18 112 rfl) rfl), (List.forall_mem_cons.mpr ⟨(lw_g (lw_at lw_m18 114 rfl) rfl), (List.forall_mem_cons.mpr ⟨(lw_g (lw_at lw_m18 116 rfl) rfl), (List.forall_mem_cons.mpr ⟨(lw_g (lw_at lw_m18 118 rfl) rfl), (List.forall_mem_cons.mpr ⟨(lw_g (lw_at lw_m18 120 rfl) rfl), (List.forall_mem_cons.mpr ⟨(lw_g (lw_at lw_m18 122 rfl) rfl), (List.forall_mem_cons.mpr ⟨(lw_g (lw_at lw_m18 124 rfl) rfl), (List.forall_mem_cons.mpr ⟨(lw_g (lw_at lw_m18 126 rfl) rfl), (List.forall_mem_cons.mpr ⟨(lw_g (lw_at lw_m18 128 rfl) rfl), (List.forall_mem_cons.mpr ⟨(lw_g (lw_at lw_m18 130 rfl) rfl), (List.forall_mem_cons.mpr ⟨(lw_g (lw_at lw_m18 132 rfl) rfl), (List.forall_mem_cons.mpr ⟨(lw_g (lw_at lw_m18 134 rfl) rfl), (List.forall_mem_cons.mpr ⟨(lw_g (lw_at lw_m18 136 rfl) rfl), (List.forall_mem_cons.mpr ⟨(lw_g (lw_at lw_m18 138 rfl) rfl), (List.forall_mem_cons.mpr ⟨(lw_g (lw_at lw_m18 140 rfl) rfl), (List.forall_mem_cons.mpr ⟨(lw_g (lw_at lw_m18 142 rfl) rfl), (List.forall_mem_cons.mpr ⟨(lw_g (lw_at lw_m18 144 rfl) rfl), (List.forall_mem_cons.mpr ⟨(lw_g (lw_at lw_m18 146 rfl) rfl), (List.forall_mem_cons.mpr ⟨(lw_g (lw_at lw_m18 148 rfl) rfl), (List.forall_mem_cons.mpr ⟨(lw_g (lw_at lw_m18 150 rfl) rfl), (List.forall_mem_cons.mpr ⟨(lw_g (lw_at lw_m18 152 rfl) rfl), (List.forall_mem_cons.mpr ⟨(lw_g (lw_at lw_m18 154 rfl) rfl), (List.forall_mem_cons.mpr ⟨(lw_g (lw_at lw_m18 156 rfl) rfl), (List.forall_mem_cons.mpr ⟨(lw_g (lw_at lw_m18 158 rfl) rfl), (List.forall_mem_cons.mpr ⟨(lw_g (lw_at lw_m18 160 rfl) rfl), (fun _ h => absurd h List.not_mem_nil)⟩)⟩)⟩)⟩)⟩)⟩)⟩)⟩)⟩)⟩)⟩)⟩)⟩)⟩)⟩)⟩)⟩)⟩)⟩)⟩)⟩)⟩)⟩)⟩)⟩)⟩)
theorem sn_in30 : ∀ w ∈ u_ws (sn_nm 30) (sn_T 30) (sn_N 30), w ∈ lw_all := (List.forall_mem_cons.mpr ⟨(lw_g (lw_at lw_m18 191 rfl) rfl), (List.forall_mem_cons.mpr ⟨(lw_g (lw_at lw_m18 193 rfl) rfl), (List.forall_mem_cons.mpr ⟨(lw_g (lw_at lw_m18 195 rfl) rfl), (List.forall_mem_cons.mpr ⟨(lw_g (lw_at lw_m18 197 rfl) rfl), (List.forall_mem_cons.mpr ⟨(lw_g (lw_at lw_m18 199 rfl) rfl), (List.forall_mem_cons.mpr ⟨(lw_g (lw_at lw_m18 201 rfl) rfl), (List.forall_mem_cons.mpr ⟨(lw_g (lw_at lw_m18 203 rfl) rfl), (List.forall_mem_cons.mpr ⟨(lw_g (lw_at lw_m18 205 rfl) rfl), (List.forall_mem_cons.mpr ⟨(lw_g (lw_at lw_m18 207 rfl) rfl), (List.forall_mem_cons.mpr ⟨(lw_g (lw_at lw_m18 209 rfl) rfl), (List.forall_mem_cons.mpr ⟨(lw_g (lw_at lw_m18 211 rfl) rfl), (List.forall_mem_cons.mpr ⟨(lw_g (lw_at lw_m18 213 rfl) rfl), (List.forall_mem_cons.mpr ⟨(lw_g (lw_at lw_m18 215 rfl) rfl), (List.forall_mem_cons.mpr ⟨(lw_g (lw_at lw_m18 217 rfl) rfl), (List.forall_mem_cons.mpr ⟨(lw_g (lw_at lw_m18 219 rfl) rfl), (List.forall_mem_cons.mpr ⟨(lw_g (lw_at lw_m18 221 rfl) rfl), (List.forall_mem_cons.mpr ⟨(lw_g (lw_at lw_m18 223 rfl) rfl), (List.forall_mem_cons.mpr ⟨(lw_g (lw_at lw_m18 225 rfl) rfl), (List.forall_mem_cons.mpr ⟨(lw_g (lw_at lw_m18 227 rfl) rfl), (List.forall_mem_cons.mpr ⟨(lw_g (lw_at lw_m18 229 rfl) rfl), (fun _ h => absurd h List.not_mem_nil)⟩)⟩)⟩)⟩)⟩)⟩)⟩)⟩)⟩)⟩)⟩)⟩)⟩)⟩)⟩)⟩)⟩)⟩)⟩)⟩)
theorem sn_in31 : ∀ w ∈ u_ws (sn_nm 31) (sn_T 31) (sn_N 31), w ∈ lw_all := (List.forall_mem_cons.mpr ⟨(lw_g (lw_at lw_m19 32 rfl) rfl), (List.forall_mem_cons.mpr ⟨(lw_g (lw_at lw_m19 34 rfl) rfl), (List.forall_mem_cons.mpr ⟨(lw_g (lw_at lw_m19 36 rfl) rfl), (List.forall_mem_cons.mpr ⟨(lw_g (lw_at lw_m19 38 rfl) rfl), (List.forall_mem_cons.mpr ⟨(lw_g (lw_at lw_m19 40 rfl) rfl), (List.forall_mem_cons.mpr ⟨(lw_g (lw_at lw_m19 42 rfl) rfl), (List.forall_mem_cons.mpr ⟨(lw_g (lw_at lw_m19 44 rfl) rfl), (List.forall_mem_cons.mpr ⟨(lw_g (lw_at lw_m19 46 rfl) rfl), (List.forall_mem_cons.mpr ⟨(lw_g (lw_at lw_m19 48 rfl) rfl), (List.forall_mem_cons.mpr ⟨(lw_g (lw_at lw_m19 50 rfl) rfl), (List.forall_mem_cons.mpr ⟨(lw_g (lw_at lw_m19 52 rfl) rfl), (List.forall_mem_cons.mpr ⟨(lw_g (lw_at lw_m19 54 rfl) rfl), (List.forall_mem_cons.mpr ⟨(lw_g (lw_at lw_m19 56 rfl) rfl), (List.forall_mem_cons.mpr ⟨(lw_g (lw_at lw_m19 58 rfl) rfl), (List.forall_mem_cons.mpr ⟨(lw_g (lw_at lw_m19 60 rfl) rfl), (List.forall_mem_cons.mpr ⟨(lw_g (lw_at lw_m19 62 rfl) rfl), (List.forall_mem_cons.mpr ⟨(lw_g (lw_at lw_m19 64 rfl) rfl), (List.forall_mem_cons.mpr ⟨(lw_g (lw_at lw_m19 66 rfl) rfl), (List.forall_mem_cons.mpr ⟨(lw_g (lw_at lw_m19 68 rfl) rfl), (List.forall_mem_cons.mpr ⟨(lw_g (lw_at lw_m19 70 rfl) rfl), (List.forall_mem_cons.mpr ⟨(lw_g (lw_at lw_m19 72 rfl) rfl), (List.forall_mem_cons.mpr ⟨(lw_g (lw_at lw_m19 74 rfl) rfl), (List.forall_mem_cons.mpr ⟨(lw_g (lw_at lw_m19 76 rfl) rfl), (List.forall_mem_cons.mpr ⟨(lw_g (lw_at lw_m19 78 rfl) rfl), (List.forall_mem_cons.mpr ⟨(lw_g (lw_at lw_m19 80 rfl) rfl), (List.forall_mem_cons.mpr ⟨(lw_g (lw_at lw_m19 82 rfl) rfl), (List.forall_mem_cons.mpr ⟨(lw_g (lw_at lw_m19 84 rfl) rfl), (List.forall_mem_cons.mpr ⟨(lw_g (lw_at lw_m19 86 rfl) rfl), (List.forall_mem_cons.mpr ⟨(lw_g (lw_at lw_m19 88 rfl) rfl), (List.forall_mem_cons.mpr ⟨(lw_g (lw_at lw_m19 90 rfl) rfl), (List.forall_mem_cons.mpr ⟨(lw_g (lw_at lw_m19 92 rfl) rfl), (List.forall_mem_cons.mpr ⟨(lw_g (lw_at lw_m19 94 rfl) rfl), (List.forall_mem_cons.mpr ⟨(lw_g (lw_at lw_m19 96 rfl) rfl), (List.forall_mem_cons.mpr ⟨(lw_g (lw_at lw_m19 98 rfl) rfl), (fun _ h => absurd h List.not_mem_nil)⟩)⟩)⟩)⟩)⟩)⟩)⟩)⟩)⟩)⟩)⟩)⟩)⟩)⟩)⟩)⟩)⟩)⟩)⟩)⟩)⟩)⟩)⟩)⟩)⟩)⟩)⟩)⟩)⟩)⟩)⟩)⟩)⟩)⟩)
theorem sn_in32 : ∀ w ∈ u_ws (sn_nm 32) (sn_T 32) (sn_N 32), w ∈ lw_all := (List.forall_mem_cons.mpr ⟨(lw_g (lw_at lw_m19 130 rfl) rfl), (List.forall_mem_cons.mpr ⟨(lw_g (lw_at lw_m19 132 rfl) rfl), (List.forall_mem_cons.mpr ⟨(lw_g (lw_at lw_m19 134 rfl) rfl), (List.forall_mem_cons.mpr ⟨(lw_g (lw_at lw_m19 136 rfl) rfl), (List.forall_mem_cons.mpr ⟨(lw_g (lw_at lw_m19 138 rfl) rfl), (List.forall_mem_cons.mpr ⟨(lw_g (lw_at lw_m19 140 rfl) rfl), (List.forall_mem_cons.mpr ⟨(lw_g (lw_at lw_m19 142 rfl) rfl), (List.forall_mem_cons.mpr ⟨(lw_g (lw_at lw_m19 144 rfl) rfl), (List.forall_mem_cons.mpr ⟨(lw_g (lw_at lw_m19 146 rfl) rfl), (List.forall_mem_cons.mpr ⟨(lw_g (lw_at lw_m19 148 rfl) rfl), (List.forall_mem_cons.mpr ⟨(lw_g (lw_at lw_m19 150 rfl) rfl), (List.forall_mem_cons.mpr ⟨(lw_g (lw_at lw_m19 152 rfl) rfl), (List.forall_mem_cons.mpr ⟨(lw_g (lw_at lw_m19 154 rfl) rfl), (List.forall_mem_cons.mpr ⟨(lw_g (lw_at lw_m19 156 rfl) rfl), (List.forall_mem_cons.mpr ⟨(lw_g (lw_at lw_m19 158 rfl) rfl), (List.forall_mem_cons.mpr ⟨(lw_g (lw_at lw_m19 160 rfl) rfl), (List.forall_mem_cons.mpr ⟨(lw_g (lw_at lw_m19 162 rfl) rfl), (List.forall_mem_cons.mpr ⟨(lw_g (lw_at lw_m19 164 rfl) rfl), (List.forall_mem_cons.mpr ⟨(lw_g (lw_at lw_m19 166 rfl) rfl), (List.forall_mem_cons.mpr ⟨(lw_g (lw_at lw_m19 168 rfl) rfl), (List.forall_mem_cons.mpr ⟨(lw_g (lw_at lw_m19 170 rfl) rfl), (List.forall_mem_cons.mpr ⟨(lw_g (lw_at lw_m19 172 rfl) rfl), (List.forall_mem_cons.mpr ⟨(lw_g (lw_at lw_m19 174 rfl) rfl), (fun _ h => absurd h List.not_mem_nil)⟩)⟩)⟩)⟩)⟩)⟩)⟩)⟩)⟩)⟩)⟩)⟩)⟩)⟩)⟩)⟩)⟩)⟩)⟩)⟩)⟩)⟩)⟩)
theorem sn_in33 : ∀ w ∈ u_ws (sn_nm 33) (sn_T 33) (sn_N 33), w ∈ lw_all := (List.forall_mem_cons.mpr ⟨(lw_g (lw_at lw_m19 217 rfl) rfl), (List.forall_mem_cons.mpr ⟨(lw_g (lw_at lw_m19 219 rfl) rfl), (List.forall_mem_cons.mpr ⟨(lw_g (lw_at lw_m19 221 rfl) rfl), (List.forall_mem_cons.mpr ⟨(lw_g (lw_at lw_m19 223 rfl) rfl), (List.forall_mem_cons.mpr ⟨(lw_g (lw_at lw_m19 225 rfl) rfl), (List.forall_mem_cons.mpr ⟨(lw_g (lw_at lw_m19 227 rfl) rfl), (List.forall_mem_cons.mpr ⟨(lw_g (lw_at lw_m19 229 rfl) rfl), (List.forall_mem_cons.mpr ⟨(lw_g (lw_at lw_m19 231 rfl) rfl), (List.forall_mem_cons.mpr ⟨(lw_g (lw_at lw_m19 233 rfl) rfl), (List.forall_mem_cons.mpr ⟨(lw_g (lw_at lw_m19 235 rfl) rfl), (List.forall_mem_cons.mpr ⟨(lw_g (lw_at lw_m19 237 rfl) rfl), (List.forall_mem_cons.mpr ⟨(lw_g (lw_at lw_m19 239 rfl) rfl), (List.forall_mem_cons.mpr ⟨(lw_g (lw_at lw_m20 1 rfl) rfl), (List.forall_mem_cons.mpr ⟨(lw_g (lw_at lw_m20 3 rfl) rfl), (List.forall_mem_cons.mpr ⟨(lw_g (lw_at lw_m20 5 rfl) rfl), (List.forall_mem_cons.mpr ⟨(lw_g (lw_at lw_m20 7 rfl) rfl), (List.forall_mem_cons.mpr ⟨(lw_g (lw_at lw_m20 9 rfl) rfl), (List.forall_mem_cons.mpr ⟨(lw_g (lw_at lw_m20 11 rfl) rfl), (List.forall_mem_cons.mpr ⟨(lw_g (lw_at lw_m20 13 rfl) rfl), (List.forall_mem_cons.mpr ⟨(lw_g (lw_at lw_m20 15 rfl) rfl), (List.forall_mem_cons.mpr ⟨(lw_g (lw_at lw_m20 17 rfl) rfl), (List.forall_mem_cons.mpr ⟨(lw_g (lw_at lw_m20 19 rfl) rfl), (List.forall_mem_cons.mpr ⟨(lw_g (lw_at lw_m20 21 rfl) rfl), (List.forall_mem_cons.mpr ⟨(lw_g (lw_at lw_m20 23 rfl) rfl), (List.forall_mem_cons.mpr ⟨(lw_g (lw_at lw_m20 25 rfl) rfl), (List.forall_mem_cons.mpr ⟨(lw_g (lw_at lw_m20 27 rfl) rfl), (List.forall_mem_cons.mpr ⟨(lw_g (lw_at lw_m20 29 rfl) rfl), (List.forall_mem_cons.mpr ⟨(lw_g (lw_at lw_m20 31 rfl) rfl), (List.forall_mem_cons.mpr ⟨(lw_g (lw_at lw_m20 33 rfl) rfl), (List.forall_mem_cons.mpr ⟨(lw_g (lw_at lw_m20 35 rfl) rfl), (List.forall_mem_cons.mpr ⟨(lw_g (lw_at lw_m20 37 rfl) rfl), (List.forall_mem_cons.mpr ⟨(lw_g (lw_at lw_m20 39 rfl) rfl), (List.forall_mem_cons.mpr ⟨(lw_g (lw_at lw_m20 41 rfl) rfl), (List.forall_mem_cons.mpr ⟨(lw_g (lw_at lw_m20 43 rfl) rfl), (fun _ h => absurd h List.not_mem_nil)⟩)⟩)⟩)⟩)⟩)⟩)⟩)⟩)⟩)⟩)⟩)⟩)⟩)⟩)⟩)⟩)⟩)⟩)⟩)⟩)⟩)⟩)⟩)⟩)⟩)⟩)⟩)⟩)⟩)⟩)⟩)⟩)⟩)⟩)
theorem sn_in34 : ∀ w ∈ u_ws (sn_nm 34) (sn_T 34) (sn_N 34), w ∈ lw_all := (List.forall_mem_cons.mpr ⟨(lw_g (lw_at lw_m20 86 rfl) rfl), (List.forall_mem_cons.mpr ⟨(lw_g (lw_at lw_m20 88 rfl) rfl), (List.forall_mem_cons.mpr ⟨(lw_g (lw_at lw_m20 90 rfl) rfl), (List.forall_mem_cons.mpr ⟨(lw_g (lw_at lw_m20 92 rfl) rfl), (List.forall_mem_cons.mpr ⟨(lw_g (lw_at lw_m20 94 rfl) rfl), (List.forall_mem_cons.mpr ⟨(lw_g (lw_at lw_m20 96 rfl) rfl), (List.forall_mem_cons.mpr ⟨(lw_g (lw_at lw_m20 98 rfl) rfl), (List.forall_mem_cons.mpr ⟨(lw_g (lw_at lw_m20 100 rfl) rfl), (List.forall_mem_cons.mpr ⟨(lw_g (lw_at lw_m20 102 rfl) rfl), (List.forall_mem_cons.mpr ⟨(lw_g (lw_at lw_m20 104 rfl) rfl), (List.forall_mem_cons.mpr ⟨(lw_g (lw_at lw_m20 106 rfl) rfl), (List.forall_mem_cons.mpr ⟨(lw_g (lw_at lw_m20 108 rfl) rfl), (List.forall_mem_cons.mpr ⟨(lw_g (lw_at lw_m20 110 rfl) rfl), (List.forall_mem_cons.mpr ⟨(lw_g (lw_at lw_m20 112 rfl) rfl), (List.forall_mem_cons.mpr ⟨(lw_g (lw_at lw_m20 114 rfl) rfl), (List.forall_mem_cons.mpr ⟨(lw_g (lw_at lw_m20 116 rfl) rfl), (List.forall_mem_cons.mpr ⟨(lw_g (lw_at lw_m20 118 rfl) rfl), (List.forall_mem_cons.mpr ⟨(lw_g (lw_at lw_m20 120 rfl) rfl), (List.forall_mem_cons.mpr ⟨(lw_g (lw_at lw_m20 122 rfl) rfl), (List.forall_mem_cons.mpr ⟨(lw_g (lw_at lw_m20 124 rfl) rfl), (List.forall_mem_cons.mpr ⟨(lw_g (lw_at lw_m20 126 rfl) rfl), (List.forall_mem_cons.mpr ⟨(lw_g (lw_at lw_m20 128 rfl) rfl), (List.forall_mem_cons.mpr ⟨(lw_g (lw_at lw_m20 130 rfl) rfl), (List.forall_mem_cons.mpr ⟨(lw_g (lw_at lw_m20 132 rfl) rfl), (List.forall_mem_cons.mpr ⟨(lw_g (lw_at lw_m20 134 rfl) rfl), (List.forall_mem_cons.mpr ⟨(lw_g (lw_at lw_m20 136 rfl) rfl), (List.forall_mem_cons.mpr ⟨(lw_g (lw_at lw_m20 138 rfl) rfl), (List.forall_mem_cons.mpr ⟨(lw_g (lw_at lw_m20 140 rfl) rfl), (List.forall_mem_cons.mpr ⟨(lw_g (lw_at lw_m20 142 rfl) rfl), (List.forall_mem_cons.mpr ⟨(lw_g (lw_at lw_m20 144 rfl) rfl), (List.forall_mem_cons.mpr ⟨(lw_g (lw_at lw_m20 146 rfl) rfl), (List.forall_mem_cons.mpr ⟨(lw_g (lw_at lw_m20 148 rfl) rfl), (List.forall_mem_cons.mpr ⟨(lw_g (lw_at lw_m20 150 rfl) rfl), (List.forall_mem_cons.mpr ⟨(lw_g (lw_at lw_m20 152 rfl) rfl), (List.forall_mem_cons.mpr ⟨(lw_g (lw_at lw_m20 154 rfl) rfl), (fun _ h => absurd h List.not_mem_nil)⟩)⟩)⟩)⟩)⟩)⟩)⟩)⟩)⟩)⟩)⟩)⟩)⟩)⟩)⟩)⟩)⟩)⟩)⟩)⟩)⟩)⟩)⟩)⟩)⟩)⟩)⟩)⟩)⟩)⟩)⟩)⟩)⟩)⟩)⟩)
theorem sn_in35 : ∀ w ∈ u_ws (sn_nm 35) (sn_T 35) (sn_N 35), w ∈ lw_all := (List.forall_mem_cons.mpr ⟨(lw_g (lw_at lw_m20 185 rfl) rfl), (List.forall_mem_cons.mpr ⟨(lw_g (lw_at lw_m20 187 rfl) rfl), (List.forall_mem_cons.mpr ⟨(lw_g (lw_at lw_m20 189 rfl) rfl), (List.forall_mem_cons.mpr ⟨(lw_g (lw_at lw_m20 191 rfl) rfl), (List.forall_mem_cons.mpr ⟨(lw_g (lw_at lw_m20 193 rfl) rfl), (List.forall_mem_cons.mpr ⟨(lw_g (lw_at lw_m20 195 rfl) rfl), (List.forall_mem_cons.mpr ⟨(lw_g (lw_at lw_m20 197 rfl) rfl), (List.forall_mem_cons.mpr ⟨(lw_g (lw_at lw_m20 199 rfl) rfl), (List.forall_mem_cons.mpr ⟨(lw_g (lw_at lw_m20 201 rfl) rfl), (List.forall_mem_cons.mpr ⟨(lw_g (lw_at lw_m20 203 rfl) rfl), (List.forall_mem_cons.mpr ⟨(lw_g (lw_at lw_m20 205 rfl) rfl), (List.forall_mem_cons.mpr ⟨(lw_g (lw_at lw_m20 207 rfl) rfl), (List.forall_mem_cons.mpr ⟨(lw_g (lw_at lw_m20 209 rfl) rfl), (List.forall_mem_cons.mpr ⟨(lw_g (lw_at lw_m20 211 rfl) rfl), (List.forall_mem_cons.mpr ⟨(lw_g (lw_at lw_m20 213 rfl) rfl), (List.forall_mem_cons.mpr ⟨(lw_g (lw_at lw_m20 215 rfl) rfl), (List.forall_mem_cons.mpr ⟨(lw_g (lw_at lw_m20 217 rfl) rfl), (List.forall_mem_cons.mpr ⟨(lw_g (lw_at lw_m20 219 rfl) rfl), (List.forall_mem_cons.mpr ⟨(lw_g (lw_at lw_m20 221 rfl) rfl), (List.forall_mem_cons.mpr ⟨(lw_g (lw_at lw_m20 223 rfl) rfl), (List.forall_mem_cons.mpr ⟨(lw_g (lw_at lw_m20 225 rfl) rfl), (List.forall_mem_cons.mpr ⟨(lw_g (lw_at lw_m20 227 rfl) rfl), (fun _ h => absurd h List.not_mem_nil)⟩)⟩)⟩)⟩)⟩)⟩)⟩)⟩)⟩)⟩)⟩)⟩)⟩)⟩)⟩)⟩)⟩)⟩)⟩)⟩)⟩)⟩)
theorem sn_in36 : ∀ w ∈ u_ws (sn_nm 36) (sn_T 36) (sn_N 36), w ∈ lw_all := (List.forall_mem_cons.mpr ⟨(lw_g (lw_at lw_m9 88 rfl) rfl), (List.forall_mem_cons.mpr ⟨(lw_g (lw_at lw_m9 90 rfl) rfl), (List.forall_mem_cons.mpr ⟨(lw_g (lw_at lw_m9 92 rfl) rfl), (List.forall_mem_cons.mpr ⟨(lw_g (lw_at lw_m9 94 rfl) rfl), (fun _ h => absurd h List.not_mem_nil)⟩)⟩)⟩)⟩)
theorem sn_in37 : ∀ w ∈ u_ws (sn_nm 37) (sn_T 37) (sn_N 37), w ∈ lw_all := (List.forall_mem_cons.mpr ⟨(lw_g (lw_at lw_m9 181 rfl) rfl), (List.forall_mem_cons.mpr ⟨(lw_g (lw_at lw_m9 183 rfl) rfl), (List.forall_mem_cons.mpr ⟨(lw_g (lw_at lw_m9 185 rfl) rfl), (List.forall_mem_cons.mpr ⟨(lw_g (lw_at lw_m9 187 rfl) rfl), (List.forall_mem_cons.mpr ⟨(lw_g (lw_at lw_m9 189 rfl) rfl), (List.forall_mem_cons.mpr ⟨(lw_g (lw_at lw_m9 191 rfl) rfl), (fun _ h => absurd h List.not_mem_nil)⟩)⟩)⟩)⟩)⟩)⟩)
theorem sn_in38 : ∀ w ∈ u_ws (sn_nm 38) (sn_T 38) (sn_N 38), w ∈ lw_all := (List.forall_mem_cons.mpr ⟨(lw_g (lw_at lw_m9 224 rfl) rfl), (List.forall_mem_cons.mpr ⟨(lw_g (lw_at lw_m9 226 rfl) rfl), (List.forall_mem_cons.mpr ⟨(lw_g (lw_at lw_m9 228 rfl) rfl), (List.forall_mem_cons.mpr ⟨(lw_g (lw_at lw_m9 230 rfl) rfl), (List.forall_mem_cons.mpr ⟨(lw_g (lw_at lw_m9 232 rfl) rfl), (List.forall_mem_cons.mpr ⟨(lw_g (lw_at lw_m9 234 rfl) rfl), (List.forall_mem_cons.mpr ⟨(lw_g (lw_at lw_m9 236 rfl) rfl), (fun _ h => absurd h List.not_mem_nil)⟩)⟩)⟩)⟩)⟩)⟩)⟩)
theorem sn_in39 : ∀ w ∈ u_ws (sn_nm 39) (sn_T 39) (sn_N 39), w ∈ lw_all := (List.forall_mem_cons.mpr ⟨(lw_g (lw_at lw_m11 97 rfl) rfl), (List.forall_mem_cons.mpr ⟨(lw_g (lw_at lw_m11 99 rfl) rfl), (List.forall_mem_cons.mpr ⟨(lw_g (lw_at lw_m11 101 rfl) rfl), (fun _ h => absurd h List.not_mem_nil)⟩)⟩)⟩)
theorem sn_in41 : ∀ w ∈ u_ws (sn_nm 41) (sn_T 41) (sn_N 41), w ∈ lw_all := (List.forall_mem_cons.mpr ⟨(lw_g (lw_at lw_m11 140 rfl) rfl), (List.forall_mem_cons.mpr ⟨(lw_g (lw_at lw_m11 142 rfl) rfl), (List.forall_mem_cons.mpr ⟨(lw_g (lw_at lw_m11 136 rfl) rfl), (List.forall_mem_cons.mpr ⟨(lw_g (lw_at lw_m11 138 rfl) rfl), (fun _ h => absurd h List.not_mem_nil)⟩)⟩)⟩)⟩)
theorem sn_in42 : ∀ w ∈ u_ws (sn_nm 42) (sn_T 42) (sn_N 42), w ∈ lw_all := (List.forall_mem_cons.mpr ⟨(lw_g (lw_at lw_m11 175 rfl) rfl), (List.forall_mem_cons.mpr ⟨(lw_g (lw_at lw_m11 176 rfl) rfl), (List.forall_mem_cons.mpr ⟨(lw_g (lw_at lw_m11 167 rfl) rfl), (List.forall_mem_cons.mpr ⟨(lw_g (lw_at lw_m11 169 rfl) rfl), (List.forall_mem_cons.mpr ⟨(lw_g (lw_at lw_m11 171 rfl) rfl), (List.forall_mem_cons.mpr ⟨(lw_g (lw_at lw_m11 173 rfl) rfl), (fun _ h => absurd h List.not_mem_nil)⟩)⟩)⟩)⟩)⟩)⟩)
theorem sn_in43 : ∀ w ∈ u_ws (sn_nm 43) (sn_T 43) (sn_N 43), w ∈ lw_all := (List.forall_mem_cons.mpr ⟨(lw_g (lw_at lw_m11 214 rfl) rfl), (List.forall_mem_cons.mpr ⟨(lw_g (lw_at lw_m11 216 rfl) rfl), (fun _ h => absurd h List.not_mem_nil)⟩)⟩)
theorem sn_in44 : ∀ w ∈ u_ws (sn_nm 44) (sn_T 44) (sn_N 44), w ∈ lw_all := (List.forall_mem_cons.mpr ⟨(lw_g (lw_at lw_m12 0 rfl) rfl), (List.forall_mem_cons.mpr ⟨(lw_g (lw_at lw_m12 2 rfl) rfl), (fun _ h => absurd h List.not_mem_nil)⟩)⟩)
theorem sn_in45 : ∀ w ∈ u_ws (sn_nm 45) (sn_T 45) (sn_N 45), w ∈ lw_all := (List.forall_mem_cons.mpr ⟨(lw_g (lw_at lw_m12 75 rfl) rfl), (List.forall_mem_cons.mpr ⟨(lw_g (lw_at lw_m12 77 rfl) rfl), (fun _ h => absurd h List.not_mem_nil)⟩)⟩)
theorem sn_in46 : ∀ w ∈ u_ws (sn_nm 46) (sn_T 46) (sn_N 46), w ∈ lw_all := (List.forall_mem_cons.mpr ⟨(lw_g (lw_at lw_m13 49 rfl) rfl), (List.forall_mem_cons.mpr ⟨(lw_g (lw_at lw_m13 51 rfl) rfl), (List.forall_mem_cons.mpr ⟨(lw_g (lw_at lw_m13 53 rfl) rfl), (List.forall_mem_cons.mpr ⟨(lw_g (lw_at lw_m13 55 rfl) rfl), (List.forall_mem_cons.mpr ⟨(lw_g (lw_at lw_m13 57 rfl) rfl), (fun _ h => absurd h List.not_mem_nil)⟩)⟩)⟩)⟩)⟩)
theorem sn_in47 : ∀ w ∈ u_ws (sn_nm 47) (sn_T 47) (sn_N 47), w ∈ lw_all := (List.forall_mem_cons.mpr ⟨(lw_g (lw_at lw_m13 121 rfl) rfl), (List.forall_mem_cons.mpr ⟨(lw_g (lw_at lw_m13 123 rfl) rfl), (List.forall_mem_cons.mpr ⟨(lw_g (lw_at lw_m13 125 rfl) rfl), (List.forall_mem_cons.mpr ⟨(lw_g (lw_at lw_m13 127 rfl) rfl), (List.forall_mem_cons.mpr ⟨(lw_g (lw_at lw_m13 129 rfl) rfl), (fun _ h => absurd h List.not_mem_nil)⟩)⟩)⟩)⟩)⟩)
theorem sn_in48 : ∀ w ∈ u_ws (sn_nm 48) (sn_T 48) (sn_N 48), w ∈ lw_all := (List.forall_mem_cons.mpr ⟨(lw_g (lw_at lw_m13 150 rfl) rfl), (List.forall_mem_cons.mpr ⟨(lw_g (lw_at lw_m13 152 rfl) rfl), (List.forall_mem_cons.mpr ⟨(lw_g (lw_at lw_m13 154 rfl) rfl), (List.forall_mem_cons.mpr ⟨(lw_g (lw_at lw_m13 156 rfl) rfl), (List.forall_mem_cons.mpr ⟨(lw_g (lw_at lw_m13 158 rfl) rfl), (fun _ h => absurd h List.not_mem_nil)⟩)⟩)⟩)⟩)⟩)
theorem sn_in50 : ∀ w ∈ u_ws (sn_nm 50) (sn_T 50) (sn_N 50), w ∈ lw_all := (List.forall_mem_cons.mpr ⟨(lw_g (lw_at lw_m14 73 rfl) rfl), (fun _ h => absurd h List.not_mem_nil)⟩)
theorem sn_in51 : ∀ w ∈ u_ws (sn_nm 51) (sn_T 51) (sn_N 51), w ∈ lw_all := (List.forall_mem_cons.mpr ⟨(lw_g (lw_at lw_m14 85 rfl) rfl), (List.forall_mem_cons.mpr ⟨(lw_g (lw_at lw_m14 87 rfl) rfl), (fun _ h => absurd h List.not_mem_nil)⟩)⟩)
theorem sn_in52 : ∀ w ∈ u_ws (sn_nm 52) (sn_T 52) (sn_N 52), w ∈ lw_all := (List.forall_mem_cons.mpr ⟨(lw_g (lw_at lw_m14 214 rfl) rfl), (List.forall_mem_cons.mpr ⟨(lw_g (lw_at lw_m14 216 rfl) rfl), (fun _ h => absurd h List.not_mem_nil)⟩)⟩)
theorem sn_in53 : ∀ w ∈ u_ws (sn_nm 53) (sn_T 53) (sn_N 53), w ∈ lw_all := (List.forall_mem_cons.mpr ⟨(lw_g (lw_at lw_m14 232 rfl) rfl), (List.forall_mem_cons.mpr ⟨(lw_g (lw_at lw_m14 234 rfl) rfl), (fun _ h => absurd h List.not_mem_nil)⟩)⟩)
theorem sn_in54 : ∀ w ∈ u_ws (sn_nm 54) (sn_T 54) (sn_N 54), w ∈ lw_all := (List.forall_mem_cons.mpr ⟨(lw_g (lw_at lw_m15 14 rfl) rfl), (List.forall_mem_cons.mpr ⟨(lw_g (lw_at lw_m15 16 rfl) rfl), (List.forall_mem_cons.mpr ⟨(lw_g (lw_at lw_m15 18 rfl) rfl), (fun _ h => absurd h List.not_mem_nil)⟩)⟩)⟩)
theorem sn_in55 : ∀ w ∈ u_ws (sn_nm 55) (sn_T 55) (sn_N 55), w ∈ lw_all := (List.forall_mem_cons.mpr ⟨(lw_g (lw_at lw_m7 64 rfl) rfl), (List.forall_mem_cons.mpr ⟨(lw_g (lw_at lw_m7 66 rfl) rfl), (List.forall_mem_cons.mpr ⟨(lw_g (lw_at lw_m7 68 rfl) rfl), (List.forall_mem_cons.mpr ⟨(lw_g (lw_at lw_m7 70 rfl) rfl), (fun _ h => absurd h List.not_mem_nil)⟩)⟩)⟩)⟩)
theorem sn_in56 : ∀ w ∈ u_ws (sn_nm 56) (sn_T 56) (sn_N 56), w ∈ lw_all := (List.forall_mem_cons.mpr ⟨(lw_g (lw_at lw_m15 195 rfl) rfl), (List.forall_mem_cons.mpr ⟨(lw_g (lw_at lw_m15 197 rfl) rfl), (fun _ h => absurd h List.not_mem_nil)⟩)⟩)
theorem sn_in57 : ∀ w ∈ u_ws (sn_nm 57) (sn_T 57) (sn_N 57), w ∈ lw_all := (List.forall_mem_cons.mpr ⟨(lw_g (lw_at lw_m9 11 rfl) rfl), (List.forall_mem_cons.mpr ⟨(lw_g (lw_at lw_m9 13 rfl) rfl), (List.forall_mem_cons.mpr ⟨(lw_g (lw_at lw_m9 15 rfl) rfl), (List.forall_mem_cons.mpr ⟨(lw_g (lw_at lw_m9 17 rfl) rfl), (List.forall_mem_cons.mpr ⟨(lw_g (lw_at lw_m9 19 rfl) rfl), (List.forall_mem_cons.mpr ⟨(lw_g (lw_at lw_m9 21 rfl) rfl), (fun _ h => absurd h List.not_mem_nil)⟩)⟩)⟩)⟩)⟩)⟩)
theorem sn_in58 : ∀ w ∈ u_ws (sn_nm 58) (sn_T 58) (sn_N 58), w ∈ lw_all := (List.forall_mem_cons.mpr ⟨(lw_g (lw_at lw_m16 95 rfl) rfl), (List.forall_mem_cons.mpr ⟨(lw_g (lw_at lw_m16 97 rfl) rfl), (List.forall_mem_cons.mpr ⟨(lw_g (lw_at lw_m16 99 rfl) rfl), (List.forall_mem_cons.mpr ⟨(lw_g (lw_at lw_m16 101 rfl) rfl), (List.forall_mem_cons.mpr ⟨(lw_g (lw_at lw_m16 103 rfl) rfl), (fun _ h => absurd h List.not_mem_nil)⟩)⟩)⟩)⟩)⟩)
theorem sn_in59 : ∀ w ∈ u_ws (sn_nm 59) (sn_T 59) (sn_N 59), w ∈ lw_all := (List.forall_mem_cons.mpr ⟨(lw_g (lw_at lw_m8 175 rfl) rfl), (List.forall_mem_cons.mpr ⟨(lw_g (lw_at lw_m8 177 rfl) rfl), (List.forall_mem_cons.mpr ⟨(lw_g (lw_at lw_m8 179 rfl) rfl), (List.forall_mem_cons.mpr ⟨(lw_g (lw_at lw_m8 181 rfl) rfl), (List.forall_mem_cons.mpr ⟨(lw_g (lw_at lw_m8 183 rfl) rfl), (List.forall_mem_cons.mpr ⟨(lw_g (lw_at lw_m8 185 rfl) rfl), (fun _ h => absurd h List.not_mem_nil)⟩)⟩)⟩)⟩)⟩)⟩)
theorem sn_in63 : ∀ w ∈ u_ws (sn_nm 63) (sn_T 63) (sn_N 63), w ∈ lw_all := (List.forall_mem_cons.mpr ⟨(lw_g (lw_at lw_m3 47 rfl) rfl), (List.forall_mem_cons.mpr ⟨(lw_g (lw_at lw_m3 43 rfl) rfl), (List.forall_mem_cons.mpr ⟨(lw_g (lw_at lw_m3 45 rfl) rfl), (fun _ h => absurd h List.not_mem_nil)⟩)⟩)⟩)
theorem sn_in : ∀ c, c < 90 → ∀ w ∈ u_ws (sn_nm c) (sn_T c) (sn_N c), w ∈ lw_all := by
  intro c hc
  match c, hc with
  | 0, _ => intro w hw; cases hw
  | 1, _ => exact sn_in1
  | 2, _ => exact sn_in2
  | 3, _ => exact sn_in3
  | 4, _ => exact sn_in4
  | 5, _ => exact sn_in5
  | 6, _ => exact sn_in6
  | 7, _ => exact sn_in7
  | 8, _ => exact sn_in8
  | 9, _ => exact sn_in9
  | 10, _ => exact sn_in10
  | 11, _ => exact sn_in11
  | 12, _ => exact sn_in12
  | 13, _ => exact sn_in13
  | 14, _ => exact sn_in14
  | 15, _ => exact sn_in15
  | 16, _ => exact sn_in16
  | 17, _ => exact sn_in17
  | 18, _ => exact sn_in18
  | 19, _ => exact sn_in19
  | 20, _ => exact sn_in20
  | 21, _ => exact sn_in21
  | 22, _ => exact sn_in22
  | 23, _ => exact sn_in23
  | 24, _ => exact sn_in24
  | 25, _ => exact sn_in25
  | 26, _ => exact sn_in26
  | 27, _ => exact sn_in27
  | 28, _ => exact sn_in28
  | 29, _ => exact sn_in29
  | 30, _ => exact sn_in30
  | 31, _ => exact sn_in31
  | 32, _ => exact sn_in32
  | 33, _ => exact sn_in33
  | 34, _ => exact sn_in34
  | 35, _ => exact sn_in35
  | 36, _ => exact sn_in36
  | 37, _ => exact sn_in37
  | 38, _ => exact sn_in38
  | 39, _ => exact sn_in39
  | 40, _ => intro w hw; cases hw
  | 41, _ => exact sn_in41
  | 42, _ => exact sn_in42
  | 43, _ => exact sn_in43
  | 44, _ => exact sn_in44
  | 45, _ => exact sn_in45
  | 46, _ => exact sn_in46
  | 47, _ => exact sn_in47
  | 48, _ => exact sn_in48
  | 49, _ => intro w hw; cases hw
  | 50, _ => exact sn_in50
  | 51, _ => exact sn_in51
  | 52, _ => exact sn_in52
  | 53, _ => exact sn_in53
  | 54, _ => exact sn_in54
  | 55, _ => exact sn_in55
  | 56, _ => exact sn_in56
  | 57, _ => exact sn_in57
  | 58, _ => exact sn_in58
  | 59, _ => exact sn_in59
  | 60, _ => intro w hw; cases hw
  | 61, _ => intro w hw; cases hw
  | 62, _ => intro w hw; cases hw
  | 63, _ => exact sn_in63
  | 64, _ => intro w hw; cases hw
  | 65, _ => intro w hw; cases hw
  | 66, _ => intro w hw; cases hw
  | 67, _ => intro w hw; cases hw
  | 68, _ => intro w hw; cases hw
  | 69, _ => intro w hw; cases hw
  | 70, _ => intro w hw; cases hw
  | 71, _ => intro w hw; cases hw
  | 72, _ => intro w hw; cases hw
  | 73, _ => intro w hw; cases hw
  | 74, _ => intro w hw; cases hw
  | 75, _ => intro w hw; cases hw
  | 76, _ => intro w hw; cases hw
  | 77, _ => intro w hw; cases hw
  | 78, _ => intro w hw; cases hw
  | 79, _ => intro w hw; cases hw
  | 80, _ => intro w hw; cases hw
  | 81, _ => intro w hw; cases hw
  | 82, _ => intro w hw; cases hw
  | 83, _ => intro w hw; cases hw
  | 84, _ => intro w hw; cases hw
  | 85, _ => intro w hw; cases hw
  | 86, _ => intro w hw; cases hw
  | 87, _ => intro w hw; cases hw
  | 88, _ => intro w hw; cases hw
  | 89, _ => intro w hw; cases hw
  | n + 90, h => exact absurd h (by omega)
/-- a link to field k of class c, under some name of its class -/
def sn_lkF (own : String) (i c k : Nat) (s : State) : Prop := ∃ ref : String, ((Cond.fieldLink own i ref (sn_T c k).2.1 (sn_T c k).2.2.1 ∈ lw_all) ∨ ∃ host : String, va_Nw (.fieldLinkNest own i ref (sn_T c k).2.1 (sn_T c k).2.2.1 host) s) ∧ (ref = (sn_T c k).1 ∨ Cond.sameField ref (sn_T c k).1 (sn_T c k).2.1 (sn_T c k).2.2.1 ∈ lw_all)
section
variable {p : Program} {l : Launch} {e : Env} {R : Room} {s : State} {m : MethodId} {args : Array Value} {below : List Frame} {meth : Method} {c : Code} {Q : State → Prop} {D : va_G} {κ : FieldType → ClassId} {A : Nat → Prop} {k8 : Nat → pm_E} {a8 : Nat → Nat} {nL : Nat} {ad0 : Nat → Nat} {h0 : pm_H} {cc : ByteArray} {own : String} {pc : Nat} {ls st : List Value} {h : pm_H} {L : Nat} {xs : Nat → Int32}
theorem sg_getfield {a v i : Nat} {x : Value} (S : CallFix p m c cc nL s args lw_all own) (hK : va_K D sn_cl (sn_tys κ) s) (h8k : sn_K8 k8 L xs) (hl : ∀ c k, pm_sub c (v / 1024) = true → k = v / 8 % 128 → c < 90 → k < sn_N c → sn_lkF own i c k s) (hv : pm_gf pm_tab h a (v / 1024) (v / 8 % 128) = some x) (d : decode cc pc = .ok (.getfield i, 3)) (k : sn_G p l e R s m args below meth c Q D κ A k8 a8 nL ad0 h0 (pc + 3) ls (x :: st) h) : sn_G p l e R s m args below meth c Q D κ A k8 a8 nL ad0 h0 pc ls (.ref a :: st) h := by
  intro ad H locs la cells slots hR h8 hE hS hF hs c1 c2
  unfold pm_gf at hv
  split at hv
  · rename_i cc0 fs he
    split at hv
    · rename_i hsub
      have h8' : ¬ a < 8 := by
        intro ha
        rw [hR.2.2.2 a ha] at he
        rcases (show a = 0 ∨ a = 1 ∨ a = 2 ∨ (3 ≤ a) by omega) with rfl | rfl | rfl | h3
        · rw [h8k.1] at he; cases he
        · rw [h8k.2.1] at he; cases he
        · rw [h8k.2.2.1] at he; cases he
        · obtain ⟨n', f', e'⟩ := h8k.2.2.2 a h3 ha
          rw [e'] at he; cases he
      have hlt : a < h.1 := by
        rcases Nat.lt_or_ge a h.1 with q | q
        · exact q
        · rw [hR.1.2.2.1 a q] at he
          cases he
          cases hv
      have ht := hR.1.2.2.2 a (by omega) hlt
      rw [he] at ht
      obtain ⟨hc90, hlen⟩ := ht
      have hkN : v / 8 % 128 < sn_N cc0 := by rw [← hlen]; exact (List.getElem?_eq_some_iff.mp hv).1
      have hwf : sn_v h.1 x := by
        have := hR.1.2.1 a
        rw [he] at this
        exact this x (List.mem_of_getElem? hv)
      have kk := k ad H locs la cells slots hR h8 hE hS hF (sn_S_cons hwf (sn_S_tl hs)) c1 c2
      obtain ⟨ref, hlink, hsame⟩ := hl cc0 _ hsub rfl hc90 hkN
      have hw := sn_ws_at (κ := κ) (ad := ad) (h := h) (a := a) (by omega) hlt
      rw [he] at hw
      have hv2 : (fs.map (sn_V ad))[v / 8 % 128]? = some (sn_V ad x) := by rw [List.getElem?_map, hv]; rfl
      have hsm : ∀ z, s.fieldFound? (sn_T cc0 (v / 8 % 128)).1 (sn_T cc0 (v / 8 % 128)).2.1 (sn_T cc0 (v / 8 % 128)).2.2.1 = some z → s.fieldFound? ref (sn_T cc0 (v / 8 % 128)).2.1 (sn_T cc0 (v / 8 % 128)).2.2.1 = some z := by
        rcases hsame with q | q
        · rw [q]; exact fun z e => e
        · exact u_same (S.2.2.2.2 _ q)
      rcases hlink with hlink | ⟨host, hlink⟩
      · exact va_get S.1 S.2.1 S.2.2.2.2 (sn_in cc0 hc90) S.2.2.2.1 hK hR.2.1 (a - 8) hw (sn_cl_at hc90) _ hkN (S.2.2.2.2 _ hlink) hsm hv2 d kk
      · exact va_getN S.1 S.2.1 S.2.2.2.2 (sn_in cc0 hc90) S.2.2.2.1 hK hR.2.1 (a - 8) hw (sn_cl_at hc90) _ hkN (va_Nw.use rfl hlink) hsm hv2 d kk
    · cases hv
  · cases hv
theorem sg_putfield {a v i : Nat} {x : Value} {h' : pm_H} (S : CallFix p m c cc nL s args lw_all own) (hK : va_K D sn_cl (sn_tys κ) s) (h8k : sn_K8 k8 L xs) (hl : ∀ c k, pm_sub c (v / 1024) = true → k = v / 8 % 128 → c < 90 → k < sn_N c → sn_dg (sn_ty c k) = v % 8 ∧ (((sn_T c k).2.2.2 = false ∧ sn_lkF own i c k s) ∨ ((sn_T c k).2.2.2 = true ∧ meth.name = "<init>" ∧ (sn_T c k).1 = own ∧ ∃ ref : String, Cond.fieldLink own i ref (sn_T c k).2.1 (sn_T c k).2.2.1 ∈ lw_all ∧ ref = (sn_T c k).1))) (hv : pm_pf pm_tab h a (v / 1024) (v / 8 % 128) (v % 8) x = some h') (d : decode cc pc = .ok (.putfield i, 3)) (k : sn_G p l e R s m args below meth c Q D κ A k8 a8 nL ad0 h0 (pc + 3) ls st h') : sn_G p l e R s m args below meth c Q D κ A k8 a8 nL ad0 h0 pc ls (x :: .ref a :: st) h := by
  intro ad H locs la cells slots hR h8 hE hS hF hs c1 c2
  have hs2 := sn_S_tl (sn_S_tl hs)
  unfold pm_pf at hv
  split at hv
  · rename_i cc0 fs he
    split at hv
    · rename_i hcond
      obtain ⟨hsub, hkl, hok⟩ := hcond
      have h8' : ¬ a < 8 := by
        intro ha
        rw [hR.2.2.2 a ha] at he
        rcases (show a = 0 ∨ a = 1 ∨ a = 2 ∨ (3 ≤ a) by omega) with rfl | rfl | rfl | h3
        · rw [h8k.1] at he; cases he
        · rw [h8k.2.1] at he; cases he
        · rw [h8k.2.2.1] at he; cases he
        · obtain ⟨n', f', e'⟩ := h8k.2.2.2 a h3 ha
          rw [e'] at he; cases he
      have hlt : a < h.1 := by
        rcases Nat.lt_or_ge a h.1 with q | q
        · exact q
        · rw [hR.1.2.2.1 a q] at he
          cases he
          exact absurd hkl (Nat.not_lt_zero _)
      have ht := hR.1.2.2.2 a (by omega) hlt
      rw [he] at ht
      obtain ⟨hc90, hlen⟩ := ht
      have hkN : v / 8 % 128 < sn_N cc0 := by rw [← hlen]; exact hkl
      obtain ⟨hdg, hcase⟩ := hl cc0 _ hsub rfl hc90 hkN
      rw [← hdg] at hok
      obtain ⟨hn1, hf1⟩ := sn_okfit (ad := ad) hok
      have hwf := hR.1.2.1 a
      rw [he] at hwf
      have hw := sn_ws_at (κ := κ) (ad := ad) (h := h) (a := a) (by omega) hlt
      rw [he] at hw
      have hxv : sn_v h.1 x := sn_S_hd hs
      have hnew : sn_e h.1 (.inr (cc0, fs.set (v / 8 % 128) x)) := by
        intro u hu
        rcases List.mem_or_eq_of_mem_set hu with q | rfl
        · exact hwf u q
        · exact hxv
      cases hv
      have fin : ∀ (H1 : Heap) (locs1 : List Loc), va_P D sn_cl ((sn_ws κ ad h).set (a - 8) (ad a, .inr (cc0, (fs.map (sn_V ad)).set (v / 8 % 128) (sn_V ad x)))) H1 → va_D A ((sn_ws κ ad h).set (a - 8) (ad a, .inr (cc0, (fs.map (sn_V ad)).set (v / 8 % 128) (sn_V ad x)))) → va_S A s.heap H1 locs1 → W p l e R s m args below meth c H1 locs1 cells slots Q (F0 m (pc + 3) la (st.map (sn_V ad))) := by
        intro H1 locs1 hP1 hD1 hS1
        have ee : sn_ws κ ad (pm_up h a (.inr (cc0, fs.set (v / 8 % 128) x))) = (sn_ws κ ad h).set (a - 8) (ad a, .inr (cc0, (fs.map (sn_V ad)).set (v / 8 % 128) (sn_V ad x))) := by
          rw [sn_ws_up (by omega) hlt]
          show _ = (sn_ws κ ad h).set (a - 8) (ad a, .inr (cc0, _))
          rw [← List.map_set]
          rfl
        refine k ad H1 locs1 la cells slots ⟨sn_h_up hR.1 hlt hnew (fun _ => ⟨hc90, by rw [List.length_set]; exact hlen⟩), ?_, ?_, fun b hb => ?_⟩ h8 hE hS1 hF hs2 c1 c2
        · rw [ee]; exact hP1
        · rw [ee]; exact hD1
        · show va_up h.2.2 a _ b = _
          rw [va_up_ne _ _ (by omega)]; exact hR.2.2.2 b hb
      rcases hcase with ⟨hfin, ref, hlink, hsame⟩ | ⟨hfin, hin2, hdecl, ref, hlink, hsame⟩
      · have hsm : ∀ z, s.fieldFound? (sn_T cc0 (v / 8 % 128)).1 (sn_T cc0 (v / 8 % 128)).2.1 (sn_T cc0 (v / 8 % 128)).2.2.1 = some z → s.fieldFound? ref (sn_T cc0 (v / 8 % 128)).2.1 (sn_T cc0 (v / 8 % 128)).2.2.1 = some z := by
          rcases hsame with q | q
          · rw [q]; exact fun z e => e
          · exact u_same (S.2.2.2.2 _ q)
        rcases hlink with hlink | ⟨host, hlink⟩
        · exact va_put S.1 S.2.1 S.2.2.2.2 (sn_in cc0 hc90) (sn_ty cc0) (sn_tyok cc0 hc90) (sn_nmok cc0 hc90) S.2.2.2.1 hK hR.2.1 hR.2.2.1 hS (a - 8) hw (sn_cl_at hc90) _ hkN (S.2.2.2.2 _ hlink) hsm hfin (sn_tyok cc0 hc90 _ hkN) hn1 hf1 (by rw [List.length_map]; exact hkl) d fin
        · exact va_putN S.1 S.2.1 S.2.2.2.2 (sn_in cc0 hc90) (sn_ty cc0) (sn_tyok cc0 hc90) (sn_nmok cc0 hc90) S.2.2.2.1 hK hR.2.1 hR.2.2.1 hS (a - 8) hw (sn_cl_at hc90) _ hkN (va_Nw.use rfl hlink) hsm hfin (sn_tyok cc0 hc90 _ hkN) hn1 hf1 (by rw [List.length_map]; exact hkl) d fin
      · exact va_putF S.1 S.2.1 S.2.2.2.2 (sn_in cc0 hc90) (sn_ty cc0) (sn_tyok cc0 hc90) (sn_nmok cc0 hc90) S.2.2.2.1 hK hR.2.1 hR.2.2.1 hS (a - 8) hw (sn_cl_at hc90) _ hkN (S.2.2.2.2 _ hlink) (by rw [hsame]; exact fun z e => e) hfin hin2 hdecl (sn_tyok cc0 hc90 _ hkN) hn1 hf1 (by rw [List.length_map]; exact hkl) d fin
    · cases hv
  · cases hv
end
