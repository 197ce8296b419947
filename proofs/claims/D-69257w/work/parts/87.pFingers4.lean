set_option maxRecDepth 100000
theorem F_in7 {x : Int32} : f516 x.toInt64 0 7 = some (if 0 ≤ x ∧ x ≤ 7 then 1 else 0) := F_in64 (y := 7)
theorem F_inT7 {x : Int32} : f1795 x.toInt64 0 7 = some (if 0 ≤ x ∧ x ≤ 7 then 1 else 0) := F_inT (y := 7)
theorem vz {v : Int32} (h : v = 0 ∨ v = 1) : vp_nar .boolean v = v := by
  rcases h with rfl | rfl <;> rfl
theorem F_groupR {n : Nat} {C T : wS} (h : F_R n C T) {x y : Int32} (hy : y = 0 ∨ y = 1) : F_R n (sz (sz C (21, 0, 0) x y) (0, 0, 0) 20 0) (sz (sz (sz T (0, 0, 0) 0 0) (13, 0, 0) x y) (0, 0, 0) 20 0) := by
  obtain ⟨⟨ht, hr, hl, hta⟩, hm, he, hc, hs⟩ := h
  obtain ⟨⟨t1, t2, t3, t4⟩, ⟨t5, t6, t7⟩, t8, t9, t10, t11, t12⟩ := ht
  obtain ⟨r1, r2, r3, r4, r5, r6⟩ := hr
  refine ⟨⟨⟨⟨?_, ?_, ?_, ?_⟩, ⟨?_, ?_, ?_⟩, ?_, ?_, ?_, ?_, ?_⟩, ⟨?_, ?_, ?_, ?_, ?_, ?_⟩, ⟨?_, ?_⟩, ?_⟩, ?_, ⟨?_, ?_, ?_⟩, ?_, ?_⟩
  · funext i; simp [sz_1, t1]
  · funext i; simp [sz_1, t2]
  · funext i; simp [sz_1, t3]
  · funext i; simp [sz_2, t4]
  · funext i; simp [sz_1, sz_2, t5]
  · funext i; simp [sz_1, sz_2, t6]
  · funext i; simp [sz_1, t7]
  · simpa [sz_1] using t8
  · simpa [sz_1] using t9
  · simpa [sz_1] using t10
  · simpa [sz_1] using t11
  · simpa [sz_1] using t12
  · simpa [sz_1] using r1
  · simpa [sz_1] using r2
  · simpa [sz_1] using r3
  · simpa [sz_1] using r4
  · simpa [sz_1] using r5
  · intro i
    have := r6 i
    have e : (sz (sz C (21, 0, 0) x y) (0, 0, 0) 20 0).1 (21, 0, 0) i = if i = x then y else C.1 (21, 0, 0) i := by simp [sz_1]
    rw [e]
    split
    · exact hy
    · exact this
  · funext i; simp [sz_1, hl.1]
  · simpa [sz_1] using hl.2
  · exact F_tab_cong hta (fun p s => ⟨funext fun i => by simp [sz_2], funext fun i => by simp [sz_1]⟩) ⟨funext fun i => by simp [sz_2], funext fun i => by simp [sz_1], funext fun i => by simp [sz_1]⟩
  · obtain ⟨v1, v2, ⟨v3, v4, v5, v6, v7⟩, v8, v9, v10⟩ := hm
    refine ⟨by simpa [sz_1] using v1, by simpa [sz_1] using v2, ⟨?_, ?_, ?_, ?_, ?_⟩, ?_, ?_, ?_⟩ <;> funext i <;> simp [sz_1, v3, v4, v5, v6, v7, v8, v9, v10]
  · simp [sz_1]
  · simp [sz_1]
  · intro q; simp [sz_1] at q
  · unfold F_cnt at hc ⊢; simpa [sz_1] using hc
  · unfold F_tst at hs ⊢
    obtain ⟨s1, s2, s3, s4, s5, s6⟩ := hs
    refine ⟨by simpa [sz_1] using s1, by simpa [sz_1, sz_2] using s2, by simpa [sz_1, sz_2] using s3, by simpa [sz_1] using s4, by simpa [sz_1] using s5, ?_⟩
    funext i; simp [sz_1, s6]
theorem F_group {n : Nat} {C T : wS} (h : F_R n C T) {x y : Int32} (hy : y = 0 ∨ y = 1) : F_ok2 n (fun _ => 1) (f523 C x y) (f1799 T x y) := by
  have h21 := h.1.1.2.1.2.2
  have h20 := h.2.2.1.2.1
  by_cases g : 0 ≤ x ∧ x ≤ 7
  · have g8 : 0 ≤ x ∧ x < 8 := by clear h h20 h21; grind
    by_cases v : C.1 (21, 0, 0) x = y
    · refine ⟨0, C, _, ?_, F_code h (v := 0), Or.inl ⟨?_, by simp [sz_1]⟩⟩
      · unfold f1799 f1799_2
        rw [F_inT7]
        simp [g, g8, ← h21, v]
      · unfold f523 f523_2
        rw [F_in7, vz hy, sz_id v, F_told0 h20]
        simp [g, F_proper, g8, v]
    · refine ⟨1, _, _, ?_, F_groupR h hy (x := x), Or.inl ⟨?_, by simp [sz_1]⟩⟩
      · unfold f1799 f1799_2
        rw [F_inT7, vz hy]
        simp [g, g8, ← h21, v]
      · unfold f523 f523_2
        rw [F_in7, vz hy, F_told1]
        simp [g, F_proper, g8, v]
  · refine ⟨0, C, _, ?_, F_code h (v := 1), Or.inr ⟨70, ?_, by simp [sz_1]⟩⟩
    · unfold f1799 f1799_2
      rw [F_inT7]
      simp [g]
    · unfold f523
      rw [F_in7]
      simp [g, F_proper]
set_option maxRecDepth 100000
theorem i_div1 {a b : Int32} (ha : 0 ≤ a) (hb : 1 ≤ b) : (a / b).toInt = a.toInt / b.toInt := by
  have n1 := Int32.le_iff_toInt_le.mp ha
  have n2 := Int32.le_iff_toInt_le.mp hb
  have z : (0 : Int32).toInt = 0 := rfl
  have o : (1 : Int32).toInt = 1 := rfl
  have n3 := Int32.toInt_lt a
  rw [Int32.toInt_div, Int.tdiv_eq_ediv_of_nonneg (by omega)]
  have h1 : a.toInt / b.toInt ≤ a.toInt := Int.ediv_le_self _ (by omega)
  have h2 : 0 ≤ a.toInt / b.toInt := Int.ediv_nonneg (by omega) (by omega)
  exact Int.bmod_eq_of_le (by omega) (by omega)
/-- a length is at least a step if it has a step -/
theorem F_div1 {x s : Int32} (hs : 1 ≤ s) : (1 ≤ x ∧ 1 ≤ x / s) ↔ s ≤ x := by
  have z : (0 : Int32).toInt = 0 := rfl
  have o : (1 : Int32).toInt = 1 := rfl
  have n2 := Int32.le_iff_toInt_le.mp hs
  constructor
  · rintro ⟨h1, h2⟩
    have a1 := Int32.le_iff_toInt_le.mp h1
    have a2 := Int32.le_iff_toInt_le.mp h2
    rw [i_div1 (by rw [i_le]; omega) hs] at a2
    rw [i_le]
    by_cases q : x.toInt < s.toInt
    · rw [Int.ediv_eq_zero_of_lt (by omega) q] at a2; omega
    · omega
  · intro h1
    have a1 := Int32.le_iff_toInt_le.mp h1
    refine ⟨by rw [i_le]; omega, ?_⟩
    rw [i_le, i_div1 (by rw [i_le]; omega) hs]
    have := Int.ediv_le_ediv (a := s.toInt) (b := x.toInt) (c := s.toInt) (by omega) a1
    rw [Int.ediv_self (by omega)] at this
    omega
theorem F_in120 {x : Int32} : f516 x.toInt64 1 120 = some (if 1 ≤ x ∧ x ≤ 120 then 1 else 0) := by
  have z : (1 : Int64) = (1 : Int32).toInt64 := rfl
  have z2 : (120 : Int64) = (120 : Int32).toInt64 := rfl
  unfold f516
  rw [z, z2]
  have h1 : (x.toInt64 < (1 : Int32).toInt64) = (x < 1) := by
    rw [i_lt]; refine propext ?_
    rw [Int64.lt_iff_toInt_lt, Int32.toInt_toInt64, Int32.toInt_toInt64]
  simp only [h1, l_le]
  grind
theorem F_inw {w : Int64} : f516 w 1 100000 = f1795 w 1 100000 := rfl
theorem F_inw1 {w : Int64} : f1795 w 1 100000 = some 0 ∨ f1795 w 1 100000 = some 1 := by
  unfold f1795
  split
  · exact Or.inl rfl
  · split
    · exact Or.inr rfl
    · exact Or.inl rfl
theorem F_wantR {n : Nat} {C T : wS} (h : F_R n C T) (hb : C.1 (0, 0, 0) 7 < 6) {x : Int32} {w : Int64} (hx : 1 ≤ x ∧ x ≤ 120) : F_R n (sz (sl (sz (sz C (15, 0, 0) (C.1 (0, 0, 0) 7) x) (0, 0, 0) 7 (C.1 (0, 0, 0) 7 + 1)) (16, 0, 0) (C.1 (0, 0, 0) 7) w) (0, 0, 0) 20 0)
    (sz (sz (sl (sz (sz T (0, 0, 0) 0 0) (8, 0, 0) (C.1 (0, 0, 0) 7) x) (9, 0, 0) (C.1 (0, 0, 0) 7) w) (0, 0, 0) 6 (C.1 (0, 0, 0) 7 + 1)) (0, 0, 0) 20 0) := by
  obtain ⟨⟨ht, hr, hl, hta⟩, hm, he, hc, hs⟩ := h
  obtain ⟨⟨t1, t2, t3, t4⟩, ⟨t5, t6, t7⟩, t8, t9, t10, t11, t12⟩ := ht
  obtain ⟨r1, ⟨m1, m2, w1, w2, b1, b2⟩, r3, r4, r5, r6⟩ := hr
  have nb : 0 ≤ C.1 (0, 0, 0) 7 + 1 ∧ C.1 (0, 0, 0) 7 + 1 ≤ 6 := by clear r3 r4 r5 r6 t1 t2 t3 t4 t5 t6 t7 hl hta hm he hc hs; grind
  refine ⟨⟨⟨⟨?_, ?_, ?_, ?_⟩, ⟨?_, ?_, ?_⟩, ?_, ?_, ?_, ?_, ?_⟩, ⟨?_, ⟨?_, ?_, ?_, ?_, ?_, ?_⟩, ?_, ?_, ?_, ?_⟩, ⟨?_, ?_⟩, ?_⟩, ?_, ⟨?_, ?_, ?_⟩, ?_, ?_⟩
  · funext i; simp [sz_1, sl_1, t1]
  · funext i; simp [sz_1, sl_1, t2]
  · funext i; simp [sz_1, sl_1, t3]
  · funext i; simp [sz_2, sl_2, t4]
  · funext i; simp [sz_1, sz_2, sl_1, sl_2, t5]
  · funext i; simp [sz_1, sz_2, sl_1, sl_2, t6]
  · funext i; simp [sz_1, sl_1, t7]
  · simpa [sz_1, sl_1] using t8
  · simpa [sz_1, sl_1] using t9
  · simpa [sz_1, sl_1] using t10
  · simp [sz_1, sl_1]
  · simpa [sz_1, sl_1] using t12
  · simpa [sz_1, sl_1] using r1
  · simpa [sz_1, sl_1] using m1
  · simpa [sz_1, sl_1] using m2
  · simpa [sz_1, sl_1] using nb.1
  · simpa [sz_1, sl_1] using nb.2
  · simpa [sz_1, sl_1] using b1
  · simpa [sz_1, sl_1] using b2
  · simpa [sz_1, sl_1] using r3
  · simpa [sz_1, sl_1] using r4
  · intro i
    have e : (sz (sl (sz (sz C (15, 0, 0) (C.1 (0, 0, 0) 7) x) (0, 0, 0) 7 (C.1 (0, 0, 0) 7 + 1)) (16, 0, 0) (C.1 (0, 0, 0) 7) w) (0, 0, 0) 20 0).1 (15, 0, 0) i = if i = C.1 (0, 0, 0) 7 then x else C.1 (15, 0, 0) i := by simp [sz_1, sl_1]
    have e7 : (sz (sl (sz (sz C (15, 0, 0) (C.1 (0, 0, 0) 7) x) (0, 0, 0) 7 (C.1 (0, 0, 0) 7 + 1)) (16, 0, 0) (C.1 (0, 0, 0) 7) w) (0, 0, 0) 20 0).1 (0, 0, 0) 7 = C.1 (0, 0, 0) 7 + 1 := by simp [sz_1, sl_1]
    rw [e, e7]
    have q := r5 i
    by_cases g : i = C.1 (0, 0, 0) 7
    · rw [if_pos g]
      refine ⟨?_, hx.2, fun _ _ => hx.1⟩
      have a := Int32.le_iff_toInt_le.mp hx.1
      have z : (0 : Int32).toInt = 0 := rfl
      have o : (1 : Int32).toInt = 1 := rfl
      rw [i_le]; omega
    · rw [if_neg g]
      refine ⟨q.1, q.2.1, fun h1 h2 => q.2.2 h1 ?_⟩
      have a := Int32.lt_iff_toInt_lt.mp h2
      rw [up1 hb] at a
      have : ¬ i.toInt = (C.1 (0, 0, 0) 7).toInt := fun w => g (Int32.toInt_inj.mp w)
      rw [i_lt]; omega
  · simpa [sz_1, sl_1] using r6
  · funext i; simp [sz_1, sl_1, hl.1]
  · simpa [sz_1, sl_1] using hl.2
  · exact F_tab_cong hta (fun p s => ⟨funext fun i => by simp [sz_2, sl_2], funext fun i => by simp [sz_1, sl_1]⟩) ⟨funext fun i => by simp [sz_2, sl_2], funext fun i => by simp [sz_1, sl_1], funext fun i => by simp [sz_1, sl_1]⟩
  · obtain ⟨v1, v2, ⟨v3, v4, v5, v6, v7⟩, v8, v9, v10⟩ := hm
    refine ⟨by simpa [sz_1, sl_1] using v1, by simpa [sz_1, sl_1] using v2, ⟨?_, ?_, ?_, ?_, ?_⟩, ?_, ?_, ?_⟩ <;> funext i <;> simp [sz_1, sl_1, v3, v4, v5, v6, v7, v8, v9, v10]
  · simp [sz_1]
  · simp [sz_1]
  · intro q; simp [sz_1] at q
  · unfold F_cnt at hc ⊢; simpa [sz_1, sl_1] using hc
  · unfold F_tst at hs ⊢
    obtain ⟨s1, s2, s3, s4, s5, s6⟩ := hs
    refine ⟨by simpa [sz_1, sl_1] using s1, by simpa [sz_1, sz_2, sl_1, sl_2] using s2, by simpa [sz_1, sz_2, sl_1, sl_2] using s3, by simpa [sz_1, sl_1] using s4, by simpa [sz_1, sl_1] using s5, ?_⟩
    funext i; simp [sz_1, sl_1, s6]
theorem F_want {n : Nat} {C T : wS} (h : F_R n C T) {x : Int32} {w : Int64} : F_ok2 n (fun _ => 1) (f521 C x w) (f1797 T x w) := by
  have hw := h.1.1.2.2.2.2.2.1
  have hst := h.1.1.2.2.1
  have hs1 := h.1.2.1.1.1
  have hb := h.1.2.1.2.1.2.2
  have d := F_div1 (x := x) hs1
  have s0 : ¬ C.1 (0, 0, 0) 0 = 0 := by clear h hw hb hst d; grind
  have fail : F_ok2 n (fun _ => 1) (f521_2 C x w 0) (f1797_2 T x w 1) := ⟨0, C, _, by simp [f1797_2], F_code h (v := 1), Or.inr ⟨70, by simp [f521_2, F_proper], by simp [sz_1]⟩⟩
  unfold f521 f1797
  rw [← hst, F_in120, F_inw]
  by_cases g : C.1 (0, 0, 0) 0 ≤ x
  · obtain ⟨g1, g2⟩ := d.mpr g
    have g3 : ¬ x < 1 := by clear h hw hb hst d fail; grind
    have g4 : ¬ x < C.1 (0, 0, 0) 0 := by clear h hw hb hst d fail; grind
    by_cases k : x / C.1 (0, 0, 0) 0 ≤ 120
    · rcases F_inw1 (w := w) with q | q
      · simpa [g3, g4, s0, g2, k, q] using fail
      · by_cases f6 : C.1 (0, 0, 0) 7 = 6
        · have t6 : T.1 (0, 0, 0) 6 = 6 := by rw [← hw]; exact f6
          refine ⟨0, C, _, ?_, F_code h (v := 0), Or.inl ⟨?_, by simp [sz_1]⟩⟩
          · simp [g4, s0, k, q, f1797_2, t6]
          · simp [g3, s0, g2, k, q, f521_2, F_proper, f6]
        · have lt : C.1 (0, 0, 0) 7 < 6 := by clear h hw hst d fail; grind
          have c6 : 0 ≤ C.1 (0, 0, 0) 7 ∧ C.1 (0, 0, 0) 7 < 6 := ⟨hb.1, lt⟩
          refine ⟨1, _, _, ?_, F_wantR h lt (x := x / C.1 (0, 0, 0) 0) (w := w) ⟨g2, k⟩, Or.inl ⟨?_, by simp [sz_1, sl_1]⟩⟩
          · simp [g4, s0, k, q, f1797_2, ← hw, f6, ← hst, c6]
          · simp [g3, s0, g2, k, q, f521_2, F_proper, f6, c6, F_told1]
    · simpa [g3, g4, s0, k] using fail
  · have g4 : x < C.1 (0, 0, 0) 0 := by clear h hw hb hst d fail; grind
    by_cases g3 : x < 1
    · simpa [g3, g4] using fail
    · have g2 : ¬ 1 ≤ x / C.1 (0, 0, 0) 0 := fun q => g (d.mp ⟨by clear h hw hb hst d fail q; grind, q⟩)
      simpa [g3, g4, s0, g2] using fail
set_option maxRecDepth 100000
theorem i_div2 {a b : Int32} (ha : 0 ≤ a) (hb : 1 ≤ b) : (a / b).toInt = a.toInt / b.toInt := by
  have n1 := Int32.le_iff_toInt_le.mp ha
  have n2 := Int32.le_iff_toInt_le.mp hb
  have z : (0 : Int32).toInt = 0 := rfl
  have o : (1 : Int32).toInt = 1 := rfl
  have n3 := Int32.toInt_lt a
  rw [Int32.toInt_div, Int.tdiv_eq_ediv_of_nonneg (by omega)]
  have h1 : a.toInt / b.toInt ≤ a.toInt := Int.ediv_le_self _ (by omega)
  have h2 : 0 ≤ a.toInt / b.toInt := Int.ediv_nonneg (by omega) (by omega)
  exact Int.bmod_eq_of_le (by omega) (by omega)
theorem F_pieceR {n : Nat} {C T : wS} (h : F_R n C T) (hb : C.1 (0, 0, 0) 4 < 24) {x y : Int32} (hx : 0 ≤ x ∧ x ≤ 60) (hy : 0 ≤ y ∧ y ≤ 7) : F_R n (sz (sz (sz (sz C (12, 0, 0) (C.1 (0, 0, 0) 4) x) (13, 0, 0) (C.1 (0, 0, 0) 4) y) (0, 0, 0) 20 0) (0, 0, 0) 4 (C.1 (0, 0, 0) 4 + 1))
    (sz (sz (sz (sz (sz T (0, 0, 0) 0 0) (5, 0, 0) (C.1 (0, 0, 0) 4) x) (6, 0, 0) (C.1 (0, 0, 0) 4) y) (0, 0, 0) 3 (C.1 (0, 0, 0) 4 + 1)) (0, 0, 0) 20 0) := by
  obtain ⟨⟨ht, hr, hl, hta⟩, hm, he, hc, hs⟩ := h
  obtain ⟨⟨t1, t2, t3, t4⟩, ⟨t5, t6, t7⟩, t8, t9, t10, t11, t12⟩ := ht
  obtain ⟨r1, ⟨m1, m2, w1, w2, b1, b2⟩, r3, r4, r5, r6⟩ := hr
  have nb : 0 ≤ C.1 (0, 0, 0) 4 + 1 ∧ C.1 (0, 0, 0) 4 + 1 ≤ 24 ∧ C.1 (0, 0, 0) 4 < C.1 (0, 0, 0) 4 + 1 := by clear r3 r4 r5 r6 t1 t2 t3 t4 t5 t6 t7 hl hta hm he hc hs; grind
  refine ⟨⟨⟨⟨?_, ?_, ?_, ?_⟩, ⟨?_, ?_, ?_⟩, ?_, ?_, ?_, ?_, ?_⟩, ⟨?_, ⟨?_, ?_, ?_, ?_, ?_, ?_⟩, ?_, ?_, ?_, ?_⟩, ⟨?_, ?_⟩, ?_⟩, ?_, ⟨?_, ?_, ?_⟩, ?_, ?_⟩
  · funext i; simp [sz_1, t1]
  · funext i; simp [sz_1, t2]
  · funext i; simp [sz_1, t3]
  · funext i; simp [sz_2, t4]
  · funext i; simp [sz_1, sz_2, t5]
  · funext i; simp [sz_1, sz_2, t6]
  · funext i; simp [sz_1, t7]
  · simpa [sz_1] using t8
  · simpa [sz_1] using t9
  · simp [sz_1]
  · simpa [sz_1] using t11
  · simpa [sz_1] using t12
  · simpa [sz_1] using r1
  · simpa [sz_1] using nb.1
  · simpa [sz_1] using nb.2.1
  · simpa [sz_1] using w1
  · simpa [sz_1] using w2
  · simpa [sz_1] using b1
  · simpa [sz_1] using b2
  · intro i
    have e : (sz (sz (sz (sz C (12, 0, 0) (C.1 (0, 0, 0) 4) x) (13, 0, 0) (C.1 (0, 0, 0) 4) y) (0, 0, 0) 20 0) (0, 0, 0) 4 (C.1 (0, 0, 0) 4 + 1)).1 (12, 0, 0) i = if i = C.1 (0, 0, 0) 4 then x else C.1 (12, 0, 0) i := by simp [sz_1]
    rw [e]
    split
    · exact hx
    · exact r3 i
  · intro i
    have e : (sz (sz (sz (sz C (12, 0, 0) (C.1 (0, 0, 0) 4) x) (13, 0, 0) (C.1 (0, 0, 0) 4) y) (0, 0, 0) 20 0) (0, 0, 0) 4 (C.1 (0, 0, 0) 4 + 1)).1 (13, 0, 0) i = if i = C.1 (0, 0, 0) 4 then y else C.1 (13, 0, 0) i := by simp [sz_1]
    rw [e]
    split
    · exact hy
    · exact r4 i
  · simpa [sz_1] using r5
  · simpa [sz_1] using r6
  · funext i; simp [sz_1, hl.1]
  · have e4 : (sz (sz (sz (sz C (12, 0, 0) (C.1 (0, 0, 0) 4) x) (13, 0, 0) (C.1 (0, 0, 0) 4) y) (0, 0, 0) 20 0) (0, 0, 0) 4 (C.1 (0, 0, 0) 4 + 1)).1 (0, 0, 0) 4 = C.1 (0, 0, 0) 4 + 1 := by simp [sz_1]
    have all : ∀ i, 0 ≤ C.1 (22, 0, 0) i ∧ C.1 (22, 0, 0) i < C.1 (0, 0, 0) 4 + 1 := fun i => by
      have q := hl.2.2 i
      have a := Int32.lt_iff_toInt_lt.mp nb.2.2
      have b := Int32.le_iff_toInt_le.mp m1
      have z : (0 : Int32).toInt = 0 := rfl
      refine ⟨q.1, ?_⟩
      rcases q.2 with q | q
      · have c := Int32.lt_iff_toInt_lt.mp q
        rw [i_lt]; omega
      · rw [q, i_lt]; omega
    have e : ∀ i, (sz (sz (sz (sz C (12, 0, 0) (C.1 (0, 0, 0) 4) x) (13, 0, 0) (C.1 (0, 0, 0) 4) y) (0, 0, 0) 20 0) (0, 0, 0) 4 (C.1 (0, 0, 0) 4 + 1)).1 (22, 0, 0) i = C.1 (22, 0, 0) i := fun i => by simp [sz_1]
    refine ⟨fun i _ _ => ?_, fun i => ?_⟩
    · rw [e, e4]; exact all i
    · rw [e, e4]; exact ⟨(all i).1, Or.inl (all i).2⟩
  · exact F_tab_cong hta (fun p s => ⟨funext fun i => by simp [sz_2], funext fun i => by simp [sz_1]⟩) ⟨funext fun i => by simp [sz_2], funext fun i => by simp [sz_1], funext fun i => by simp [sz_1]⟩
  · obtain ⟨v1, v2, ⟨v3, v4, v5, v6, v7⟩, v8, v9, v10⟩ := hm
    refine ⟨by simpa [sz_1] using v1, by simpa [sz_1] using v2, ⟨?_, ?_, ?_, ?_, ?_⟩, ?_, ?_, ?_⟩ <;> funext i <;> simp [sz_1, v3, v4, v5, v6, v7, v8, v9, v10]
  · simp [sz_1]
  · simp [sz_1]
  · intro q; simp [sz_1] at q
  · unfold F_cnt at hc ⊢; simpa [sz_1] using hc
  · unfold F_tst at hs ⊢
    obtain ⟨s1, s2, s3, s4, s5, s6⟩ := hs
    refine ⟨by simpa [sz_1] using s1, by simpa [sz_1, sz_2] using s2, by simpa [sz_1, sz_2] using s3, by simpa [sz_1] using s4, by simpa [sz_1] using s5, ?_⟩
    funext i; simp [sz_1, s6]
theorem F_piece {n : Nat} {C T : wS} (h : F_R n C T) {x y : Int32} : F_ok2 n (fun k => if k = 71 then 1 else 2) (f514 C x y) (f1794 T x y) := by
  have hmn := h.1.1.2.2.2.2.1
  have hst := h.1.1.2.2.1
  have hs1 := h.1.2.1.1.1
  have hm := h.1.2.1.2.1
  have s0 : ¬ C.1 (0, 0, 0) 0 = 0 := by clear h hmn hm hst; grind
  by_cases f : C.1 (0, 0, 0) 4 = 24
  · have lt : ¬ C.1 (0, 0, 0) 4 < 24 := by rw [f]; decide
    have t24 : T.1 (0, 0, 0) 3 = 24 := by rw [← hmn]; exact f
    have hT : ∀ v, f1794_2 T x y v = some (0, sz T (0, 0, 0) 0 1) := fun v => by simp [f1794_2, t24, f1794_5]
    refine ⟨0, C, _, ?_, F_code h (v := 1), Or.inr ⟨71, by simp [f514, lt, f514_2, F_can], by simp [sz_1]⟩⟩
    unfold f1794
    rw [← hst, F_inT7]
    by_cases c1 : x < 1
    · simp [c1, hT]
    · by_cases c2 : x / C.1 (0, 0, 0) 0 ≤ 60
      · by_cases c3 : 0 ≤ y ∧ y ≤ 7
        · simp [c1, s0, c2, c3, hT]
        · simp [c1, s0, c2, c3, hT]
      · simp [c1, s0, c2, hT]
  · have lt : C.1 (0, 0, 0) 4 < 24 := by clear h hmn hst; grind
    have t24 : ¬ T.1 (0, 0, 0) 3 = 24 := by rw [← hmn]; exact f
    have fail : F_ok2 n (fun k => if k = 71 then 1 else 2) (f514_4 C x y 0) (f1794_2 T x y 0) := ⟨0, C, _, by simp [f1794_2, t24, f1794_5], F_code h (v := 2), Or.inr ⟨70, by simp [f514_4, F_proper], by simp [sz_1]⟩⟩
    unfold f514 f514_2 f1794
    rw [← hst, F_inT7, F_in7]
    by_cases c1 : x < 1
    · simpa [lt, F_can, c1] using fail
    · by_cases c2 : x / C.1 (0, 0, 0) 0 ≤ 60
      · by_cases c3 : 0 ≤ y ∧ y ≤ 7
        · have c24 : 0 ≤ C.1 (0, 0, 0) 4 ∧ C.1 (0, 0, 0) 4 < 24 := ⟨hm.1, lt⟩
          have x0 : 0 ≤ x := by clear h hmn hst hm c2 fail; grind
          have d0 : 0 ≤ x / C.1 (0, 0, 0) 0 := by
            rw [i_le, i_div2 x0 hs1]
            have a := Int32.le_iff_toInt_le.mp x0
            have b := Int32.le_iff_toInt_le.mp hs1
            have z : (0 : Int32).toInt = 0 := rfl
            have o : (1 : Int32).toInt = 1 := rfl
            rw [z]
            exact Int.ediv_nonneg (by omega) (by omega)
          have e1 : C.1 (0, 0, 0) 4 + 1 - 1 = C.1 (0, 0, 0) 4 := by grind
          refine ⟨C.1 (0, 0, 0) 4, _, _, ?_, F_pieceR h lt (x := x / C.1 (0, 0, 0) 0) (y := y) ⟨d0, c2⟩ c3, Or.inl ⟨?_, by simp [sz_1]⟩⟩
          · simp [c1, s0, c2, c3, f1794_2, f, f1794_5, ← hst, ← hmn, c24, e1]
          · simp [lt, F_can, c1, s0, c2, c3, f514_4, F_proper, c24, F_told1, sz_1]
        · simpa [lt, F_can, c1, s0, c2, c3] using fail
      · simpa [lt, F_can, c1, s0, c2] using fail
