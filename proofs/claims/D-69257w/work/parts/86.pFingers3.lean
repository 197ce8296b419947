set_option maxRecDepth 100000
theorem F_made {C : wS} {x : Int32} : f538 C x = some (if C.1 (0, 0, 0) 20 = 0 then .inl 71 else if 0 ≤ x ∧ x ≤ C.1 (0, 0, 0) 26 - 1 then .inr () else .inl 67) := by
  unfold f538
  rw [F_can, F_in64]
  by_cases c0 : C.1 (0, 0, 0) 20 = 0
  · simp [c0]
  · by_cases c1 : 0 ≤ x ∧ x ≤ C.1 (0, 0, 0) 26 - 1
    · simp [c0, c1, F_there]
    · simp [c0, c1, F_there]
/-- an index below a count, on both sides -/
theorem F_ixs {x c : Int32} {m : Int32} (hc : 0 ≤ c) (hm : c ≤ m) (hm2 : m ≤ 100000) : (0 ≤ x ∧ x < c → (0 ≤ x ∧ x ≤ c - 1) ∧ (0 ≤ x ∧ x < m) ∧ ¬ x < 0) ∧ (¬ (0 ≤ x ∧ x < c) → ¬ (0 ≤ x ∧ x ≤ c - 1) ∧ (x < 0 ∨ ¬ x < 0 ∧ ¬ x < c)) := by
  constructor
  · intro h; grind
  · intro h; grind
theorem F_load {n : Nat} {C T : wS} (h : F_R n C T) {x y : Int32} : F_ok n C F_code3 (f541 C x y) (f1819 T x y) := by
  have e := h.2.2.1
  have hk := h.2.1
  have hc := h.2.2.2.1.1
  by_cases c0 : C.1 (0, 0, 0) 20 = 0
  · have d0 : T.1 (0, 0, 0) 20 = 0 := by rw [← e.1]; exact c0
    exact ⟨0, _, by simp [f1819, F_none, d0], F_code h (v := 1), Or.inr ⟨71, by simp [f541, F_made, c0], by simp [sz_1, F_code3]⟩⟩
  · have d0 : ¬ T.1 (0, 0, 0) 20 = 0 := by rw [← e.1]; exact c0
    have ix := F_ixs (x := x) hc.1 hc.2 (by decide)
    have h35 := hk.2.2.1.2.2.2.2
    by_cases cx : 0 ≤ x ∧ x < C.1 (0, 0, 0) 26
    · obtain ⟨i1, i2, i3⟩ := ix.1 cx
      have i4 : x < T.1 (0, 0, 0) 22 := by rw [← hk.1]; exact cx.2
      by_cases v : y < C.1 (35, 0, 0) x
      · exact ⟨0, _, by simp [f1819, F_none, d0, i3, sz_1, i4, f1819_4, i2, ← h35, v, sz_sz], F_code h (v := 0), Or.inl ⟨by simp [f541, F_made, c0, i1, i2, v], by simp [sz_1]⟩⟩
      · exact ⟨1, _, by simp [f1819, F_none, d0, i3, sz_1, i4, f1819_4, i2, ← h35, v, sz_sz], F_code h (v := 0), Or.inl ⟨by simp [f541, F_made, c0, i1, i2, v], by simp [sz_1]⟩⟩
    · obtain ⟨i1, i2⟩ := ix.2 cx
      refine ⟨0, _, ?_, F_code h (v := 2), Or.inr ⟨67, by simp [f541, F_made, c0, i1], by simp [sz_1, F_code3]⟩⟩
      rcases i2 with i2 | ⟨i2, i3⟩
      · simp [f1819, F_none, d0, i2, f1819_4, sz_sz]
      · have i4 : ¬ x < T.1 (0, 0, 0) 22 := by rw [← hk.1]; exact i3
        simp [f1819, F_none, d0, i2, sz_1, i4, f1819_4, sz_sz]
theorem F_product {n : Nat} {C T : wS} (h : F_R n C T) {x y : Int32} : F_ok n C F_code3 (f537 C x y) (f1816 T x y) := by
  have e := h.2.2.1
  have hk := h.2.1
  have hc := h.2.2.2.1.1
  by_cases c0 : C.1 (0, 0, 0) 20 = 0
  · have d0 : T.1 (0, 0, 0) 20 = 0 := by rw [← e.1]; exact c0
    exact ⟨0, _, by simp [f1816, F_none, d0], F_code h (v := 1), Or.inr ⟨71, by simp [f537, F_made, c0], by simp [sz_1, F_code3]⟩⟩
  · have d0 : ¬ T.1 (0, 0, 0) 20 = 0 := by rw [← e.1]; exact c0
    have ix := F_ixs (x := x) hc.1 hc.2 (by decide)
    obtain ⟨h22, _, ⟨h31, h32, h33, h34, _⟩, _⟩ := hk
    by_cases cx : 0 ≤ x ∧ x < C.1 (0, 0, 0) 26
    · obtain ⟨i1, i2, i3⟩ := ix.1 cx
      have i4 : x < T.1 (0, 0, 0) 22 := by rw [← h22]; exact cx.2
      by_cases cy : 0 ≤ y ∧ y ≤ 3
      · have j3 : ¬ y < 0 := by clear e h ix; grind
        have hC : f537 C x y = if y = 0 then some (.inr (C.1 (31, 0, 0) x)) else if y = 1 then some (.inr (C.1 (32, 0, 0) x)) else if y = 2 then some (.inr (C.1 (33, 0, 0) x)) else some (.inr (C.1 (34, 0, 0) x)) := by
          unfold f537
          rw [F_made, F_in3]
          simp [c0, i1, cy, F_proper, i2]
        have hT : f1816 T x y = if y = 0 then some (C.1 (31, 0, 0) x, sz T (0, 0, 0) 0 0) else if y = 1 then some (C.1 (32, 0, 0) x, sz T (0, 0, 0) 0 0) else if y = 2 then some (C.1 (33, 0, 0) x, sz T (0, 0, 0) 0 0) else some (C.1 (34, 0, 0) x, sz T (0, 0, 0) 0 0) := by
          unfold f1816 f1816_6
          rw [F_none, if_neg d0]
          simp [i3, sz_1, i4, j3, cy.2, i2, ← h31, ← h32, ← h33, ← h34, sz_sz]
        rw [hC, hT]
        by_cases y0 : y = 0
        · exact ⟨C.1 (31, 0, 0) x, _, by rw [if_pos y0], F_code h (v := 0), Or.inl ⟨by rw [if_pos y0], by simp [sz_1]⟩⟩
        · by_cases y1 : y = 1
          · exact ⟨C.1 (32, 0, 0) x, _, by rw [if_neg y0, if_pos y1], F_code h (v := 0), Or.inl ⟨by rw [if_neg y0, if_pos y1], by simp [sz_1]⟩⟩
          · by_cases y2 : y = 2
            · exact ⟨C.1 (33, 0, 0) x, _, by rw [if_neg y0, if_neg y1, if_pos y2], F_code h (v := 0), Or.inl ⟨by rw [if_neg y0, if_neg y1, if_pos y2], by simp [sz_1]⟩⟩
            · exact ⟨C.1 (34, 0, 0) x, _, by rw [if_neg y0, if_neg y1, if_neg y2], F_code h (v := 0), Or.inl ⟨by rw [if_neg y0, if_neg y1, if_neg y2], by simp [sz_1]⟩⟩
      · refine ⟨0, _, ?_, F_code h (v := 3), Or.inr ⟨70, ?_, by simp [sz_1, F_code3]⟩⟩
        · unfold f1816 f1816_6
          rw [F_none, if_neg d0]
          by_cases j3 : y < 0
          · simp [i3, sz_1, i4, j3, sz_sz]
          · have j4 : ¬ y ≤ 3 := by clear e h ix; grind
            simp [i3, sz_1, i4, j3, j4, sz_sz]
        · unfold f537
          rw [F_made, F_in3]
          simp [c0, i1, cy, F_proper]
    · obtain ⟨i1, i2⟩ := ix.2 cx
      refine ⟨0, _, ?_, F_code h (v := 2), Or.inr ⟨67, by simp [f537, F_made, c0, i1], by simp [sz_1, F_code3]⟩⟩
      unfold f1816 f1816_6
      rw [F_none, if_neg d0]
      rcases i2 with i2 | ⟨i2, i3⟩
      · simp [i2, sz_sz]
      · have i4 : ¬ x < T.1 (0, 0, 0) 22 := by rw [← h22]; exact i3
        simp [i2, sz_1, i4, sz_sz]
set_option maxRecDepth 100000
theorem F_joint1 {n : Nat} {C T : wS} (h : F_R n C T) {x y : Int32} : F_ok n C F_code3 (f539 C x y) (f1817 T x y) := by
  have e := h.2.2.1
  have hk := h.2.1
  have hc := h.2.2.2.1.2
  by_cases c0 : C.1 (0, 0, 0) 20 = 0
  · have d0 : T.1 (0, 0, 0) 20 = 0 := by rw [← e.1]; exact c0
    exact ⟨0, _, by simp [f1817, F_none, d0], F_code h (v := 1), Or.inr ⟨71, by simp [f539, F_can, c0], by simp [sz_1, F_code3]⟩⟩
  · have d0 : ¬ T.1 (0, 0, 0) 20 = 0 := by rw [← e.1]; exact c0
    have ix := F_ixs (x := x) hc.1 hc.2 (by decide)
    have ix2 := F_ixs (x := x) (m := 32) hc.1 (by clear h e hk ix; grind) (by decide)
    obtain ⟨_, h28, _, h37, h38, h39⟩ := hk
    by_cases cx : 0 ≤ x ∧ x < C.1 (0, 0, 0) 30
    · obtain ⟨i1, i2, i3⟩ := ix.1 cx
      have i5 := (ix2.1 cx).2.1
      have i4 : x < T.1 (0, 0, 0) 28 := by rw [← h28]; exact cx.2
      by_cases cy : 0 ≤ y ∧ y ≤ 2
      · have j3 : ¬ y < 0 := by clear e h ix ix2; grind
        have hC : f539 C x y = if y = 0 then some (.inr (C.1 (37, 0, 0) x)) else if y = 1 then some (.inr (C.1 (38, 0, 0) x)) else some (.inr (C.1 (39, 0, 0) x)) := by
          unfold f539
          rw [F_in64, F_in2]
          simp [F_can, c0, i1, cy, F_proper, F_there, i2]
        have hT : f1817 T x y = if y = 0 then some (C.1 (37, 0, 0) x, sz T (0, 0, 0) 0 0) else if y = 1 then some (C.1 (38, 0, 0) x, sz T (0, 0, 0) 0 0) else some (C.1 (39, 0, 0) x, sz T (0, 0, 0) 0 0) := by
          unfold f1817 f1817_6
          rw [F_none, if_neg d0]
          simp [i3, sz_1, i4, j3, cy.2, i5, ← h37, ← h38, ← h39, sz_sz]
        rw [hC, hT]
        by_cases y0 : y = 0
        · exact ⟨C.1 (37, 0, 0) x, _, by rw [if_pos y0], F_code h (v := 0), Or.inl ⟨by rw [if_pos y0], by simp [sz_1]⟩⟩
        · by_cases y1 : y = 1
          · exact ⟨C.1 (38, 0, 0) x, _, by rw [if_neg y0, if_pos y1], F_code h (v := 0), Or.inl ⟨by rw [if_neg y0, if_pos y1], by simp [sz_1]⟩⟩
          · exact ⟨C.1 (39, 0, 0) x, _, by rw [if_neg y0, if_neg y1], F_code h (v := 0), Or.inl ⟨by rw [if_neg y0, if_neg y1], by simp [sz_1]⟩⟩
      · refine ⟨0, _, ?_, F_code h (v := 3), Or.inr ⟨70, ?_, by simp [sz_1, F_code3]⟩⟩
        · unfold f1817 f1817_6
          rw [F_none, if_neg d0]
          by_cases j3 : y < 0
          · simp [i3, sz_1, i4, j3, sz_sz]
          · have j4 : ¬ y ≤ 2 := by clear e h ix ix2; grind
            simp [i3, sz_1, i4, j3, j4, sz_sz]
        · unfold f539
          rw [F_in64, F_in2]
          simp [F_can, c0, i1, cy, F_proper, F_there]
    · obtain ⟨i1, i2⟩ := ix.2 cx
      refine ⟨0, _, ?_, F_code h (v := 2), Or.inr ⟨67, ?_, by simp [sz_1, F_code3]⟩⟩
      · unfold f1817 f1817_6
        rw [F_none, if_neg d0]
        rcases i2 with i2 | ⟨i2, i3⟩
        · simp [i2, sz_sz]
        · have i4 : ¬ x < T.1 (0, 0, 0) 28 := by rw [← h28]; exact i3
          simp [i2, sz_1, i4, sz_sz]
      · unfold f539
        rw [F_in64]
        simp [F_can, c0, i1, F_there]
theorem F_counted {n : Nat} (hn : n ≤ 1000000) {C T : wS} (h : F_R n C T) {x : Int32} : F_ok n C (fun _ => 1) (f544 C x) (f1822 T x) := by
  obtain ⟨⟨b0, g0, bn⟩, t1, t2, _⟩ := h.2.2.2.2
  have n0 := Int32.le_iff_toInt_le.mp b0
  have n1 := Int32.le_iff_toInt_le.mp g0
  have z : (0 : Int32).toInt = 0 := rfl
  have hs : T.2 (0, 0, 0) 32 - T.2 (0, 0, 0) 33 = (C.1 (0, 0, 0) 32).toInt64 := by
    rw [t1, t2]
    apply Int64.toInt_inj.mp
    rw [Int64.toInt_sub, Int32.toInt_toInt64, Int32.toInt_toInt64, Int32.toInt_toInt64, i_add (by omega) (by omega)]
    rw [show (C.1 (0, 0, 0) 31).toInt + (C.1 (0, 0, 0) 32).toInt - (C.1 (0, 0, 0) 31).toInt = (C.1 (0, 0, 0) 32).toInt by omega]
    exact Int.bmod_eq_of_le (by omega) (by omega)
  by_cases x0 : x = 0
  · subst x0
    exact ⟨(C.1 (0, 0, 0) 31).toInt64, _, by simp [f1822, f1822_3, t2], F_code h (v := 0), Or.inl ⟨by simp [f544, f544_3, F_there], by simp [sz_1]⟩⟩
  · by_cases x1 : x = 1
    · subst x1
      exact ⟨(C.1 (0, 0, 0) 32).toInt64, _, by simp [f1822, f1822_3, hs], F_code h (v := 0), Or.inl ⟨by simp [f544, f544_3, F_there], by simp [sz_1]⟩⟩
    · refine ⟨0, _, ?_, F_code h (v := 1), Or.inr ⟨67, by simp [f544, f544_3, F_there, x0, x1], by simp [sz_1]⟩⟩
      by_cases c3 : x < 0
      · simp [f1822, c3, f1822_3]
      · have c4 : ¬ x ≤ 1 := by clear h t1 t2 hs bn n0 n1; grind
        simp [f1822, c3, c4, f1822_3]
/-- both answered, the component's state may change -/
def F_ok2 {α : Type} (n : Nat) (code : Nat → Int32) (c : Option ((Nat × wS) ⊕ (α × wS))) (t : Option (α × wS)) : Prop :=
  ∃ v C' T', t = some (v, T') ∧ F_R n C' T' ∧ ((c = some (.inr (v, C')) ∧ T'.1 (0, 0, 0) 0 = 0) ∨ ∃ k, c = some (.inl (k, C')) ∧ T'.1 (0, 0, 0) 0 = code k)
theorem F_in1000 {x : Int32} : f516 x.toInt64 0 1000 = some (if 0 ≤ x ∧ x ≤ 1000 then 1 else 0) := F_in64 (y := 1000)
theorem F_inT {x y : Int32} : f1795 x.toInt64 0 y.toInt64 = some (if 0 ≤ x ∧ x ≤ y then 1 else 0) := by
  have z : (0 : Int64) = (0 : Int32).toInt64 := rfl
  unfold f1795
  rw [z]
  have h1 : (x.toInt64 < (0 : Int32).toInt64) = (x < 0) := by
    rw [i_lt]; refine propext ?_
    rw [Int64.lt_iff_toInt_lt, Int32.toInt_toInt64, Int32.toInt_toInt64]
  simp only [h1, l_le]
  grind
theorem F_inT1000 {x : Int32} : f1795 x.toInt64 0 1000 = some (if 0 ≤ x ∧ x ≤ 1000 then 1 else 0) := F_inT (y := 1000)
/-- the hours of a product are set on both sides -/
theorem F_hours {n : Nat} {C T : wS} (h : F_R n C T) {x y : Int32} : F_R n (sz C (35, 0, 0) x y) (sz T (28, 0, 0) x y) := by
  obtain ⟨ha, hm, he, hc, ht⟩ := h
  refine ⟨F_all_q ha (fr_z fr_0 rfl) (fr_z fr_0 rfl), ?_, ?_, ?_, F_tst_fr ht (P := fun k _ => decide (k = (35, 0, 0))) (fr_z fr_0 (by simp)) (Q := fun k _ => decide (k = (28, 0, 0))) (fr_z fr_0 (by simp)) (by decide) (by decide) (by decide) (fun _ => by decide) (by decide) (by decide) (by decide) (fun _ => by decide)⟩
  · obtain ⟨w1, w2, ⟨w3, w4, w5, w6, w7⟩, w8, w9, w10⟩ := hm
    refine ⟨by simpa [sz_1] using w1, by simpa [sz_1] using w2, ⟨?_, ?_, ?_, ?_, ?_⟩, ?_, ?_, ?_⟩
    · rw [sz_oth (by decide), sz_oth (by decide)]; exact w3
    · rw [sz_oth (by decide), sz_oth (by decide)]; exact w4
    · rw [sz_oth (by decide), sz_oth (by decide)]; exact w5
    · rw [sz_oth (by decide), sz_oth (by decide)]; exact w6
    · rw [sz_row, sz_row, w7]
    · rw [sz_oth (by decide), sz_oth (by decide)]; exact w8
    · rw [sz_oth (by decide), sz_oth (by decide)]; exact w9
    · rw [sz_oth (by decide), sz_oth (by decide)]; exact w10
  · obtain ⟨e1, e2, e3⟩ := he
    refine ⟨by simpa [sz_1] using e1, by simpa [sz_1] using e2, fun q i h1 h2 => ?_⟩
    rw [sz_oth (by decide), sz_oth (by decide)]
    exact e3 (by simpa [sz_1] using q) i h1 (by simpa [sz_1] using h2)
  · unfold F_cnt at hc ⊢
    simpa [sz_1] using hc
theorem sz_id {S : wS} {k : wK} {i v : Int32} (h : S.1 k i = v) : sz S k i v = S := by
  unfold sz
  refine Prod.ext ?_ rfl
  funext k' j
  dsimp only
  by_cases e : k' = k ∧ j = i
  · rw [if_pos e, e.1, e.2, h]
  · rw [if_neg e]
theorem F_cure {n : Nat} {C T : wS} (h : F_R n C T) {x y : Int32} : F_ok2 n F_code3 (f540 C x y) (f1818 T x y) := by
  have e := h.2.2.1
  have hk := h.2.1
  have hc := h.2.2.2.1.1
  by_cases c0 : C.1 (0, 0, 0) 20 = 0
  · have d0 : T.1 (0, 0, 0) 20 = 0 := by rw [← e.1]; exact c0
    exact ⟨0, C, _, by simp [f1818, F_none, d0], F_code h (v := 1), Or.inr ⟨71, by simp [f540, F_made, c0], by simp [sz_1, F_code3]⟩⟩
  · have d0 : ¬ T.1 (0, 0, 0) 20 = 0 := by rw [← e.1]; exact c0
    have ix := F_ixs (x := x) hc.1 hc.2 (by decide)
    have h35 := hk.2.2.1.2.2.2.2
    by_cases cx : 0 ≤ x ∧ x < C.1 (0, 0, 0) 26
    · obtain ⟨i1, i2, i3⟩ := ix.1 cx
      have i4 : x < T.1 (0, 0, 0) 22 := by rw [← hk.1]; exact cx.2
      by_cases cy : 0 ≤ y ∧ y ≤ 1000
      · by_cases v : C.1 (35, 0, 0) x = y
        · refine ⟨0, C, _, ?_, F_code h (v := 0), Or.inl ⟨?_, by simp [sz_1]⟩⟩
          · unfold f1818 f1818_5
            rw [F_none, if_neg d0, F_inT1000]
            simp [i3, sz_1, i4, cy, i2, ← h35, v, sz_sz]
          · unfold f540
            rw [F_made, F_in1000]
            simp [c0, i1, cy, F_proper, i2, v, sz_id v]
        · refine ⟨1, _, _, ?_, F_hours (F_code h (v := 0)) (x := x) (y := y), Or.inl ⟨?_, by simp [sz_1]⟩⟩
          · unfold f1818 f1818_5
            rw [F_none, if_neg d0, F_inT1000]
            simp [i3, sz_1, i4, cy, i2, ← h35, v, sz_sz]
          · unfold f540
            rw [F_made, F_in1000]
            simp [c0, i1, cy, F_proper, i2, v]
      · refine ⟨0, C, _, ?_, F_code h (v := 3), Or.inr ⟨70, ?_, by simp [sz_1, F_code3]⟩⟩
        · unfold f1818 f1818_5
          rw [F_none, if_neg d0, F_inT1000]
          simp [i3, sz_1, i4, cy, sz_sz]
        · unfold f540
          rw [F_made, F_in1000]
          simp [c0, i1, cy, F_proper]
    · obtain ⟨i1, i2⟩ := ix.2 cx
      refine ⟨0, C, _, ?_, F_code h (v := 2), Or.inr ⟨67, by simp [f540, F_made, c0, i1], by simp [sz_1, F_code3]⟩⟩
      unfold f1818 f1818_5
      rw [F_none, if_neg d0]
      rcases i2 with i2 | ⟨i2, i3⟩
      · simp [i2, sz_sz]
      · have i4 : ¬ x < T.1 (0, 0, 0) 22 := by rw [← hk.1]; exact i3
        simp [i2, sz_1, i4, sz_sz]
set_option maxRecDepth 100000
theorem F_told1 {S : wS} : f518 S 1 = some (1, sz S (0, 0, 0) 20 0) := by
  unfold f518
  simp
theorem F_told0 {S : wS} (h : S.1 (0, 0, 0) 20 = 0 ∨ S.1 (0, 0, 0) 20 = 1) : f518 S 0 = some (0, S) := by
  unfold f518
  rw [F_and h, sz_id rfl]
  simp [h]
theorem F_barR {n : Nat} {C T : wS} (h : F_R n C T) (hb : C.1 (0, 0, 0) 10 < 8) {x y : Int32} : F_R n (sz (sl (sz (sl C (18, 0, 0) (C.1 (0, 0, 0) 10) x.toInt64) (0, 0, 0) 10 (C.1 (0, 0, 0) 10 + 1)) (19, 0, 0) (C.1 (0, 0, 0) 10) y.toInt64) (0, 0, 0) 20 0)
    (sz (sz (sz (sz (sz T (0, 0, 0) 0 0) (11, 0, 0) (C.1 (0, 0, 0) 10) x) (12, 0, 0) (C.1 (0, 0, 0) 10) y) (0, 0, 0) 9 (C.1 (0, 0, 0) 10 + 1)) (0, 0, 0) 20 0) := by
  obtain ⟨⟨ht, hr, hl, hta⟩, hm, he, hc, hs⟩ := h
  obtain ⟨⟨t1, t2, t3, t4⟩, ⟨t5, t6, t7⟩, t8, t9, t10, t11, t12⟩ := ht
  obtain ⟨r1, ⟨m1, m2, w1, w2, b1, b2⟩, r3, r4, r5, r6⟩ := hr
  have nb : 0 ≤ C.1 (0, 0, 0) 10 + 1 ∧ C.1 (0, 0, 0) 10 + 1 ≤ 8 := by clear r3 r4 r5 r6 t1 t2 t3 t4 t5 t6 t7 hl hta hm he hc hs; grind
  refine ⟨⟨⟨⟨?_, ?_, ?_, ?_⟩, ⟨?_, ?_, ?_⟩, ?_, ?_, ?_, ?_, ?_⟩, ⟨?_, ⟨?_, ?_, ?_, ?_, ?_, ?_⟩, ?_, ?_, ?_, ?_⟩, ⟨?_, ?_⟩, ?_⟩, ?_, ⟨?_, ?_, ?_⟩, ?_, ?_⟩
  · funext i; simp [sz_1, sl_1, t1]
  · funext i; simp [sz_1, sl_1, t2]
  · funext i; simp [sz_1, sl_1, t3]
  · funext i; simp [sz_2, sl_2, t4]
  · funext i; simp only [sz_1, sz_2, sl_1, sl_2, t5]; simp only [Prod.mk.injEq, Nat.reduceEqDiff, false_and, if_false, true_and, and_self]; split <;> rfl
  · funext i; simp only [sz_1, sz_2, sl_1, sl_2, t6]; simp only [Prod.mk.injEq, Nat.reduceEqDiff, false_and, if_false, true_and, and_self]; split <;> rfl
  · funext i; simp [sz_1, sl_1, t7]
  · simpa [sz_1, sl_1] using t8
  · simpa [sz_1, sl_1] using t9
  · simpa [sz_1, sl_1] using t10
  · simpa [sz_1, sl_1] using t11
  · simp [sz_1, sl_1]
  · simpa [sz_1, sl_1] using r1
  · simpa [sz_1, sl_1] using m1
  · simpa [sz_1, sl_1] using m2
  · simpa [sz_1, sl_1] using w1
  · simpa [sz_1, sl_1] using w2
  · simpa [sz_1, sl_1] using nb.1
  · simpa [sz_1, sl_1] using nb.2
  · simpa [sz_1, sl_1] using r3
  · simpa [sz_1, sl_1] using r4
  · simpa [sz_1, sl_1] using r5
  · simpa [sz_1, sl_1] using r6
  · funext i; simp [sz_1, sl_1, hl.1]
  · simpa [sz_1, sl_1] using hl.2
  · exact F_tab_cong hta (fun p s => ⟨funext fun i => by simp [sz_2, sl_2], funext fun i => by simp [sz_1, sl_1]⟩) ⟨funext fun i => by simp [sz_2], funext fun i => by simp [sz_1], funext fun i => by simp [sz_1]⟩
  · obtain ⟨v1, v2, ⟨v3, v4, v5, v6, v7⟩, v8, v9, v10⟩ := hm
    refine ⟨by simpa [sz_1, sl_1] using v1, by simpa [sz_1, sl_1] using v2, ⟨?_, ?_, ?_, ?_, ?_⟩, ?_, ?_, ?_⟩ <;> funext i <;> simp [sz_1, sl_1, v3, v4, v5, v6, v7, v8, v9, v10]
  · simp [sz_1]
  · simp [sz_1]
  · intro q; simp [sz_1] at q
  · unfold F_cnt at hc ⊢; simpa [sz_1, sl_1] using hc
  · unfold F_tst at hs ⊢
    obtain ⟨s1, s2, s3, s4, s5, s6⟩ := hs
    refine ⟨by simpa [sz_1, sl_1] using s1, by simpa [sz_1, sz_2, sl_1] using s2, by simpa [sz_1, sz_2, sl_1] using s3, by simpa [sz_1, sl_1] using s4, by simpa [sz_1, sl_1] using s5, ?_⟩
    funext i; simp [sz_1, sl_1, s6]
theorem F_bar {n : Nat} {C T : wS} (h : F_R n C T) {x y : Int32} : F_ok2 n (fun _ => 1) (f522 C x y) (f1798 T x y) := by
  have hbn := h.1.1.2.2.2.2.2.2
  have hb := h.1.2.1.2.1.2.2.2.2
  by_cases g : 0 ≤ x ∧ x < y
  · have g1 : ¬ x < 0 := by clear h hb hbn; grind
    have g2 : ¬ y ≤ x := by clear h hb hbn; grind
    by_cases f8 : C.1 (0, 0, 0) 10 = 8
    · have t8 : T.1 (0, 0, 0) 9 = 8 := by rw [← hbn]; exact f8
      exact ⟨0, C, _, by simp [f1798, g1, g2, f1798_2, t8], F_code h (v := 0), Or.inl ⟨by simp [f522, g1, g2, f522_2, F_proper, f8], by simp [sz_1]⟩⟩
    · have lt : C.1 (0, 0, 0) 10 < 8 := by clear h hbn; grind
      have c8 : 0 ≤ C.1 (0, 0, 0) 10 ∧ C.1 (0, 0, 0) 10 < 8 := ⟨hb.1, lt⟩
      refine ⟨1, _, _, ?_, F_barR h lt (x := x) (y := y), Or.inl ⟨?_, by simp [sz_1]⟩⟩
      · simp [f1798, g1, g2, f1798_2, ← hbn, f8, c8]
      · simp [f522, g1, g2, f522_2, F_proper, f8, c8, F_told1]
  · refine ⟨0, C, _, ?_, F_code h (v := 1), Or.inr ⟨70, ?_, by simp [sz_1]⟩⟩
    · by_cases g1 : x < 0
      · simp [f1798, g1, f1798_2]
      · have g2 : y ≤ x := by clear h hb hbn; grind
        simp [f1798, g1, g2, f1798_2]
    · by_cases g1 : x < 0
      · simp [f522, g1, f522_2, F_proper]
      · have g2 : y ≤ x := by clear h hb hbn; grind
        simp [f522, g1, g2, f522_2, F_proper]
