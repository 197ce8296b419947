set_option maxRecDepth 100000
/-- no bar is met by a place: from bar k on, n bars -/
def F_nb (b e : Int32 → Int64) (p : Int64) : Nat → Int32 → Bool
  | 0, _ => true
  | n + 1, k => (decide (p ≤ b k) || decide (e k ≤ p)) && F_nb b e p n (k + 1)
theorem F_and {a : Int32} (h : a = 0 ∨ a = 1) : a &&& 1 = a := by rcases h with rfl | rfl <;> rfl
theorem F_and0 {a : Int32} : a &&& 0 = 0 := by simp
theorem F_barC {S : wS} {p : Int64} (hb : S.1 (0, 0, 0) 10 ≤ 8) : ∀ (n k : Nat) (y j : Int32), j.toInt + n = (S.1 (0, 0, 0) 10).toInt → 0 ≤ j → (y = 0 ∨ y = 1) → n < k → lp (f530_b4 S) k (y, p, j) = some (if F_nb (S.2 (18, 0, 0)) (S.2 (19, 0, 0)) p n j then y else 0)
  | 0, k + 1, y, j, hj, h0, hy, _ => by
    have : ¬ j < S.1 (0, 0, 0) 10 := by rw [i_lt]; omega
    rw [lp_0 (b := y)]
    · simp [F_nb]
    · simp [f530_b4, this]
  | n + 1, k + 1, y, j, hj, h0, hy, hk => by
    have h1 : j < S.1 (0, 0, 0) 10 := by rw [i_lt]; omega
    have h2 : 0 ≤ j ∧ j < 8 := by grind
    have h3 := up1 h1
    have h4 : 0 ≤ j + 1 := by grind
    by_cases c1 : p ≤ S.2 (18, 0, 0) j
    · rw [lp_s (a' := (y, p, j + 1)), F_barC hb n k y (j + 1) (by omega) h4 hy (by omega)]
      · simp [F_nb, c1]
      · simp [f530_b4, h1, h2, c1, F_and hy]
    · by_cases c2 : p < S.2 (19, 0, 0) j
      · rw [lp_s (a' := (0, p, j + 1)), F_barC hb n k 0 (j + 1) (by omega) h4 (Or.inl rfl) (by omega)]
        · have : ¬ S.2 (19, 0, 0) j ≤ p := by grind
          simp [F_nb, c1, this]
        · simp [f530_b4, h1, h2, c1, c2]
      · rw [lp_s (a' := (y, p, j + 1)), F_barC hb n k y (j + 1) (by omega) h4 hy (by omega)]
        · have : S.2 (19, 0, 0) j ≤ p := by grind
          simp [F_nb, c1, this]
        · simp [f530_b4, h1, h2, c1, c2, F_and hy]
theorem F_barT {T : wS} {x : Int32} (hb : T.1 (0, 0, 0) 9 ≤ 8) : ∀ (n k : Nat) (y j : Int32), j.toInt + n = (T.1 (0, 0, 0) 9).toInt → 0 ≤ j → (y = 0 ∨ y = 1) → n < k → lp (f1806_b1 T) k (x, y, j) = some (if F_nb (fun i => (T.1 (11, 0, 0) i).toInt64) (fun i => (T.1 (12, 0, 0) i).toInt64) (x.toInt64 * (T.1 (0, 0, 0) 1).toInt64) n j then y else 1)
  | 0, k + 1, y, j, hj, h0, hy, _ => by
    have : ¬ j < T.1 (0, 0, 0) 9 := by rw [i_lt]; omega
    rw [lp_0 (b := y)]
    · simp [F_nb]
    · simp [f1806_b1, this]
  | n + 1, k + 1, y, j, hj, h0, hy, hk => by
    have h1 : j < T.1 (0, 0, 0) 9 := by rw [i_lt]; omega
    have h2 : 0 ≤ j ∧ j < 8 := by grind
    have h3 := up1 h1
    have h4 : 0 ≤ j + 1 := by grind
    rcases hy with rfl | rfl
    · by_cases c1 : x.toInt64 * (T.1 (0, 0, 0) 1).toInt64 ≤ (T.1 (11, 0, 0) j).toInt64
      · rw [lp_s (a' := (x, 0, j + 1)), F_barT hb n k 0 (j + 1) (by omega) h4 (Or.inl rfl) (by omega)]
        · simp [F_nb, c1]
        · simp [f1806_b1, h1, h2, c1]
      · by_cases c2 : x.toInt64 * (T.1 (0, 0, 0) 1).toInt64 < (T.1 (12, 0, 0) j).toInt64
        · rw [lp_s (a' := (x, 1, j + 1)), F_barT hb n k 1 (j + 1) (by omega) h4 (Or.inr rfl) (by omega)]
          · have : ¬ (T.1 (12, 0, 0) j).toInt64 ≤ x.toInt64 * (T.1 (0, 0, 0) 1).toInt64 := by grind
            simp [F_nb, c1, this]
          · simp [f1806_b1, h1, h2, c1, c2]
        · rw [lp_s (a' := (x, 0, j + 1)), F_barT hb n k 0 (j + 1) (by omega) h4 (Or.inl rfl) (by omega)]
          · have : (T.1 (12, 0, 0) j).toInt64 ≤ x.toInt64 * (T.1 (0, 0, 0) 1).toInt64 := by grind
            simp [F_nb, c1, this]
          · simp [f1806_b1, h1, h2, c1, c2]
    · rw [lp_s (a' := (x, 1, j + 1)), F_barT hb n k 1 (j + 1) (by omega) h4 (Or.inr rfl) (by omega)]
      · simp
      · simp [f1806_b1, h1]
set_option maxRecDepth 100000
/-- what is told is the same on both sides -/
def F_told (C T : wS) : Prop :=
  (C.1 (12, 0, 0) = T.1 (5, 0, 0) ∧ C.1 (13, 0, 0) = T.1 (6, 0, 0) ∧ C.1 (15, 0, 0) = T.1 (8, 0, 0) ∧ C.2 (16, 0, 0) = T.2 (9, 0, 0)) ∧
  (C.2 (18, 0, 0) = (fun i => (T.1 (11, 0, 0) i).toInt64) ∧ C.2 (19, 0, 0) = (fun i => (T.1 (12, 0, 0) i).toInt64) ∧ C.1 (21, 0, 0) = T.1 (13, 0, 0)) ∧
  (C.1 (0, 0, 0) 0 = T.1 (0, 0, 0) 1 ∧ C.1 (0, 0, 0) 1 = T.1 (0, 0, 0) 2 ∧ C.1 (0, 0, 0) 4 = T.1 (0, 0, 0) 3 ∧ C.1 (0, 0, 0) 7 = T.1 (0, 0, 0) 6 ∧ C.1 (0, 0, 0) 10 = T.1 (0, 0, 0) 9)
/-- ranges of what is told -/
def F_rng (C : wS) : Prop :=
  (1 ≤ C.1 (0, 0, 0) 0 ∧ C.1 (0, 0, 0) 0 ≤ 65536 ∧ 1 ≤ C.1 (0, 0, 0) 1 ∧ C.1 (0, 0, 0) 1 ≤ 65536) ∧
  (0 ≤ C.1 (0, 0, 0) 4 ∧ C.1 (0, 0, 0) 4 ≤ 24 ∧ 0 ≤ C.1 (0, 0, 0) 7 ∧ C.1 (0, 0, 0) 7 ≤ 6 ∧ 0 ≤ C.1 (0, 0, 0) 10 ∧ C.1 (0, 0, 0) 10 ≤ 8) ∧
  (∀ i, 0 ≤ C.1 (12, 0, 0) i ∧ C.1 (12, 0, 0) i ≤ 60) ∧ (∀ i, 0 ≤ C.1 (13, 0, 0) i ∧ C.1 (13, 0, 0) i ≤ 7) ∧
  (∀ i, 0 ≤ C.1 (15, 0, 0) i ∧ C.1 (15, 0, 0) i ≤ 120 ∧ (0 ≤ i → i < C.1 (0, 0, 0) 7 → 1 ≤ C.1 (15, 0, 0) i)) ∧ (∀ i, C.1 (21, 0, 0) i = 0 ∨ C.1 (21, 0, 0) i = 1)
/-- a line: numbers of pieces -/
def F_line (C T : wS) : Prop := C.1 (22, 0, 0) = T.1 (14, 0, 0) ∧ (∀ i, 0 ≤ i → i < C.1 (0, 0, 0) 4 → 0 ≤ C.1 (22, 0, 0) i ∧ C.1 (22, 0, 0) i < C.1 (0, 0, 0) 4) ∧ ∀ i, 0 ≤ C.1 (22, 0, 0) i ∧ (C.1 (22, 0, 0) i < C.1 (0, 0, 0) 4 ∨ C.1 (22, 0, 0) i = 0)
/-- whether piece p and the next may be joined at a place -/
def F_J (C : wS) (x p : Int32) : Bool :=
  decide (C.1 (0, 0, 0) 1 < C.1 (12, 0, 0) (C.1 (22, 0, 0) (p + 1))) &&
  (decide (C.1 (13, 0, 0) (C.1 (22, 0, 0) p) = C.1 (13, 0, 0) (C.1 (22, 0, 0) (p + 1))) || (decide (C.1 (21, 0, 0) (C.1 (13, 0, 0) (C.1 (22, 0, 0) p)) = 0) && decide (C.1 (21, 0, 0) (C.1 (13, 0, 0) (C.1 (22, 0, 0) (p + 1))) = 0))) &&
  F_nb (C.2 (18, 0, 0)) (C.2 (19, 0, 0)) (x.toInt64 * (C.1 (0, 0, 0) 0).toInt64) (C.1 (0, 0, 0) 10).toInt.toNat 0
theorem F_530_3 {C : wS} (hr : F_rng C) {x y : Int32} (hy : y = 0 ∨ y = 1) : f530_3 C x y = some (if F_nb (C.2 (18, 0, 0)) (C.2 (19, 0, 0)) (x.toInt64 * (C.1 (0, 0, 0) 0).toInt64) (C.1 (0, 0, 0) 10).toInt.toNat 0 then y else 0) := by
  obtain ⟨_, ⟨_, _, _, _, b1, b2⟩, _⟩ := hr
  have b1' := Int32.le_iff_toInt_le.mp b1
  have b2' := Int32.le_iff_toInt_le.mp b2
  have z0 : (0 : Int32).toInt = 0 := rfl
  have z8 : (8 : Int32).toInt = 8 := rfl
  unfold f530_3
  rw [F_barC b2 (C.1 (0, 0, 0) 10).toInt.toNat FU y 0 (by rw [z0]; omega) (by decide) hy (by rw [FU_eq]; omega)]
  simp only [Option.bind_some]
  split <;> simp [hy]
theorem F_mayC {C T : wS} (hr : F_rng C) (hl : F_line C T) {x p : Int32} (hp : 0 ≤ p) (hp2 : p < C.1 (0, 0, 0) 4) (hp3 : ¬ p + 1 = C.1 (0, 0, 0) 4) : f530 C x p (p + 1) = some (if F_J C x p then 1 else 0) := by
  have hr0 := hr
  obtain ⟨_, ⟨m1, m2, _⟩, hlen, hgrp, hprd, hal⟩ := hr
  obtain ⟨_, hln, _⟩ := hl
  have q1 : 0 ≤ p + 1 ∧ p + 1 < C.1 (0, 0, 0) 4 := by clear hlen hgrp hprd hal hln hr0; grind
  have c1 : 0 ≤ p ∧ p < 24 := by clear hlen hgrp hprd hal hln hr0; grind
  have c2 : 0 ≤ p + 1 ∧ p + 1 < 24 := by clear hlen hgrp hprd hal hln hr0; grind
  have a1 := hln p hp hp2
  have a2 := hln (p + 1) q1.1 q1.2
  have g1 := hgrp (C.1 (22, 0, 0) p)
  have g2 := hgrp (C.1 (22, 0, 0) (p + 1))
  clear hlen hgrp hprd hal hln
  have c3 : 0 ≤ C.1 (22, 0, 0) p ∧ C.1 (22, 0, 0) p < 24 := by grind
  have c4 : 0 ≤ C.1 (22, 0, 0) (p + 1) ∧ C.1 (22, 0, 0) (p + 1) < 24 := by grind
  have c5 : 0 ≤ C.1 (13, 0, 0) (C.1 (22, 0, 0) p) ∧ C.1 (13, 0, 0) (C.1 (22, 0, 0) p) < 8 := by grind
  have c6 : 0 ≤ C.1 (13, 0, 0) (C.1 (22, 0, 0) (p + 1)) ∧ C.1 (13, 0, 0) (C.1 (22, 0, 0) (p + 1)) < 8 := by grind
  unfold f530
  simp only [c1, c2, c3, c4, c5, c6, F_530_3 hr0 (Or.inl rfl), F_530_3 hr0 (Or.inr rfl), and_self, if_true]
  unfold F_J
  generalize F_nb (C.2 (18, 0, 0)) (C.2 (19, 0, 0)) (x.toInt64 * (C.1 (0, 0, 0) 0).toInt64) (C.1 (0, 0, 0) 10).toInt.toNat 0 = nb
  clear a1 a2 g1 g2 c1 c2 c3 c4 c5 c6 m1 m2 q1 hr0
  by_cases e1 : C.1 (12, 0, 0) (C.1 (22, 0, 0) (p + 1)) ≤ C.1 (0, 0, 0) 1
  · have : ¬ C.1 (0, 0, 0) 1 < C.1 (12, 0, 0) (C.1 (22, 0, 0) (p + 1)) := by grind
    simp [e1, this]
  · have : C.1 (0, 0, 0) 1 < C.1 (12, 0, 0) (C.1 (22, 0, 0) (p + 1)) := by grind
    simp only [e1, this, if_false]
    by_cases e2 : C.1 (13, 0, 0) (C.1 (22, 0, 0) p) = C.1 (13, 0, 0) (C.1 (22, 0, 0) (p + 1))
    · simp [e2]
    · by_cases e3 : C.1 (21, 0, 0) (C.1 (13, 0, 0) (C.1 (22, 0, 0) p)) = 0
      · by_cases e4 : C.1 (21, 0, 0) (C.1 (13, 0, 0) (C.1 (22, 0, 0) (p + 1))) = 0
        · simp [e2, e3, e4]
        · simp [e2, e3, e4]
      · simp [e2, e3]
theorem F_mayT {C T : wS} (ht : F_told C T) (hr : F_rng C) (hl : F_line C T) {x p : Int32} (hp : 0 ≤ p) (hp2 : p < C.1 (0, 0, 0) 4) : f1805 T p x = some (if p + 1 = C.1 (0, 0, 0) 4 then 0 else if F_J C x p then 1 else 0) := by
  obtain ⟨_, ⟨m1, m2, w1, w2, b1, b2⟩, hlen, hgrp, hprd, hal⟩ := hr
  obtain ⟨⟨t1, t2, t3, t4⟩, ⟨t5, t6, t7⟩, t8, t9, t10, t11, t12⟩ := ht
  obtain ⟨l0, hln, _⟩ := hl
  by_cases e0 : p + 1 = C.1 (0, 0, 0) 4
  · have : ¬ p + 1 < T.1 (0, 0, 0) 3 := by rw [← t10, e0]; grind
    unfold f1805
    rw [if_neg this, if_pos e0]
  have q1 : 0 ≤ p + 1 ∧ p + 1 < C.1 (0, 0, 0) 4 := by clear hlen hgrp hprd hal hln; grind
  have c1 : 0 ≤ p ∧ p < 24 := by clear hlen hgrp hprd hal hln; grind
  have c2 : 0 ≤ p + 1 ∧ p + 1 < 24 := by clear hlen hgrp hprd hal hln; grind
  have a1 := hln p hp hp2
  have a2 := hln (p + 1) q1.1 q1.2
  have g1 := hgrp (C.1 (22, 0, 0) p)
  have g2 := hgrp (C.1 (22, 0, 0) (p + 1))
  clear hlen hgrp hprd hal hln
  have c3 : 0 ≤ C.1 (22, 0, 0) p ∧ C.1 (22, 0, 0) p < 24 := by grind
  have c4 : 0 ≤ C.1 (22, 0, 0) (p + 1) ∧ C.1 (22, 0, 0) (p + 1) < 24 := by grind
  have c5 : 0 ≤ C.1 (13, 0, 0) (C.1 (22, 0, 0) p) ∧ C.1 (13, 0, 0) (C.1 (22, 0, 0) p) < 8 := by grind
  have c6 : 0 ≤ C.1 (13, 0, 0) (C.1 (22, 0, 0) (p + 1)) ∧ C.1 (13, 0, 0) (C.1 (22, 0, 0) (p + 1)) < 8 := by grind
  have b1' := Int32.le_iff_toInt_le.mp b1
  have b2' := Int32.le_iff_toInt_le.mp b2
  have z0 : (0 : Int32).toInt = 0 := rfl
  have z8 : (8 : Int32).toInt = 8 := rfl
  have hbar : f1806 T x = some (if F_nb (C.2 (18, 0, 0)) (C.2 (19, 0, 0)) (x.toInt64 * (C.1 (0, 0, 0) 0).toInt64) (C.1 (0, 0, 0) 10).toInt.toNat 0 then 0 else 1) := by
    unfold f1806
    rw [F_barT (by rw [← t12]; exact b2) (T.1 (0, 0, 0) 9).toInt.toNat FU 0 0 (by rw [z0, ← t12]; omega) (by decide) (Or.inl rfl) (by rw [FU_eq, ← t12]; omega)]
    rw [← t5, ← t6, ← t8, ← t12]
    simp only [Option.bind_some]
    split <;> simp
  rw [if_neg e0]
  unfold f1805
  rw [hbar, ← l0, ← t1, ← t2, ← t7, ← t9, ← t10]
  unfold F_J
  generalize F_nb (C.2 (18, 0, 0)) (C.2 (19, 0, 0)) (x.toInt64 * (C.1 (0, 0, 0) 0).toInt64) (C.1 (0, 0, 0) 10).toInt.toNat 0 = nb
  simp only [c1, c2, c3, c4, c5, c6, q1.2, and_self, if_true]
  clear a1 a2 g1 g2 c1 c2 c3 c4 c5 c6 m1 m2 q1
  by_cases e1 : C.1 (12, 0, 0) (C.1 (22, 0, 0) (p + 1)) ≤ C.1 (0, 0, 0) 1
  · have : ¬ C.1 (0, 0, 0) 1 < C.1 (12, 0, 0) (C.1 (22, 0, 0) (p + 1)) := by grind
    simp [e1, this]
  · have : C.1 (0, 0, 0) 1 < C.1 (12, 0, 0) (C.1 (22, 0, 0) (p + 1)) := by grind
    simp only [e1, this, if_false]
    cases nb
    · simp
    · by_cases e2 : C.1 (13, 0, 0) (C.1 (22, 0, 0) p) = C.1 (13, 0, 0) (C.1 (22, 0, 0) (p + 1))
      · simp [e2]
      · by_cases e3 : C.1 (21, 0, 0) (C.1 (13, 0, 0) (C.1 (22, 0, 0) p)) = 0
        · by_cases e4 : C.1 (21, 0, 0) (C.1 (13, 0, 0) (C.1 (22, 0, 0) (p + 1))) = 0
          · simp [e2, e3, e4]
          · simp [e2, e3, e4]
        · simp [e2, e3]
set_option maxRecDepth 100000
/-- alike but for the three places that a product's end is left in -/
def F_ag (C S : wS) : Prop := S.2 = C.2 ∧ ∀ k i, ¬ (k = (0, 0, 0) ∧ (i = 17 ∨ i = 18 ∨ i = 19)) → S.1 k i = C.1 k i
theorem F_agk {C S : wS} (h : F_ag C S) {k : wK} (hk : k ≠ (0, 0, 0)) : S.1 k = C.1 k := funext fun i => h.2 k i (fun e => hk e.1)
theorem F_agf {C S : wS} (h : F_ag C S) {i : Int32} (hi : decide (i = 17 ∨ i = 18 ∨ i = 19) = false) : S.1 (0, 0, 0) i = C.1 (0, 0, 0) i := h.2 _ _ (fun e => of_decide_eq_false hi e.2)
theorem F_ag0 {C : wS} : F_ag C C := ⟨rfl, fun _ _ _ => rfl⟩
theorem F_agt {C S R : wS} (h : F_ag C S) (g : F_ag S R) : F_ag C R := ⟨g.1.trans h.1, fun k i q => (g.2 k i q).trans (h.2 k i q)⟩
theorem F_ag_sz {C S : wS} {i v : Int32} (h : F_ag C S) (hi : decide (i = 17 ∨ i = 18 ∨ i = 19) = true) : F_ag C (sz S (0, 0, 0) i v) := by
  refine ⟨h.1, fun k q hq => ?_⟩
  have hn : ¬ (k = (0, 0, 0) ∧ q = i) := fun e => hq ⟨e.1, by rw [e.2]; exact of_decide_eq_true hi⟩
  rw [sz_1, if_neg hn]
  exact h.2 k q hq
theorem F_rng_ag {C S : wS} (h : F_ag C S) (hr : F_rng C) : F_rng S := by
  unfold F_rng
  rw [F_agk h (k := (12, 0, 0)) (by decide), F_agk h (k := (13, 0, 0)) (by decide), F_agk h (k := (15, 0, 0)) (by decide), F_agk h (k := (21, 0, 0)) (by decide),
    F_agf h (i := 0) (by decide), F_agf h (i := 1) (by decide), F_agf h (i := 4) (by decide), F_agf h (i := 7) (by decide), F_agf h (i := 10) (by decide)]
  exact hr
theorem F_line_ag {C S T U : wS} (h : F_ag C S) (g : F_ag T U) (hl : F_line C T) : F_line S U := by
  unfold F_line
  rw [F_agk h (k := (22, 0, 0)) (by decide), F_agk g (k := (14, 0, 0)) (by decide), F_agf h (i := 4) (by decide)]
  exact hl
theorem F_told_ag {C S T U : wS} (h : F_ag C S) (g : F_ag T U) (ht : F_told C T) : F_told S U := by
  unfold F_told
  rw [h.1, g.1, F_agk h (k := (12, 0, 0)) (by decide), F_agk h (k := (13, 0, 0)) (by decide), F_agk h (k := (15, 0, 0)) (by decide), F_agk h (k := (21, 0, 0)) (by decide),
    F_agf h (i := 0) (by decide), F_agf h (i := 1) (by decide), F_agf h (i := 4) (by decide), F_agf h (i := 7) (by decide), F_agf h (i := 10) (by decide),
    F_agk g (k := (5, 0, 0)) (by decide), F_agk g (k := (6, 0, 0)) (by decide), F_agk g (k := (8, 0, 0)) (by decide), F_agk g (k := (11, 0, 0)) (by decide), F_agk g (k := (12, 0, 0)) (by decide), F_agk g (k := (13, 0, 0)) (by decide),
    F_agf g (i := 1) (by decide), F_agf g (i := 2) (by decide), F_agf g (i := 3) (by decide), F_agf g (i := 6) (by decide), F_agf g (i := 9) (by decide)]
  exact ht
theorem F_J_ag {C S : wS} (h : F_ag C S) {x p : Int32} : F_J S x p = F_J C x p := by
  unfold F_J
  rw [h.1, F_agk h (k := (12, 0, 0)) (by decide), F_agk h (k := (13, 0, 0)) (by decide), F_agk h (k := (22, 0, 0)) (by decide), F_agk h (k := (21, 0, 0)) (by decide),
    F_agf h (i := 0) (by decide), F_agf h (i := 1) (by decide), F_agf h (i := 10) (by decide)]
/-- the length of the piece at a place of the line -/
def F_L (C : wS) (p : Int32) : Int32 := C.1 (12, 0, 0) (C.1 (22, 0, 0) p)
/-- a product of pr steps is followed: n pieces are left -/
def F_fol (C : wS) (pr : Int32) : Nat → Int32 → Int32 → Int32 → Int32 → Option (Int32 × Int32 × Int32)
  | 0, _, _, _, _ => none
  | n + 1, p, s, j, x => if x + (F_L C p - s) < pr then (if p + 1 = C.1 (0, 0, 0) 4 then none else if F_J C (x + (F_L C p - s)) p then F_fol C pr n (p + 1) (C.1 (0, 0, 0) 1) (j + 1) (x + (F_L C p - s)) else none) else some (p, s + (pr - x), j)
theorem F_J_loss {C : wS} {x p : Int32} (h : F_J C x p = true) : C.1 (0, 0, 0) 1 < F_L C (p + 1) := by
  unfold F_J at h
  simp only [Bool.and_eq_true, decide_eq_true_eq] at h
  exact h.1.1
theorem F_folC {C T : wS} (hr : F_rng C) (hl : F_line C T) {q : Int32} (hq : 0 ≤ q ∧ q < 6) (hpr : C.1 (15, 0, 0) q ≤ 120) : ∀ (n k : Nat) (S : wS) (p s j x : Int32), F_ag C S → S.1 (0, 0, 0) 17 = p → S.1 (0, 0, 0) 18 = s → S.1 (0, 0, 0) 19 = j → p.toInt + n = (C.1 (0, 0, 0) 4).toInt → 0 ≤ p → 1 ≤ n → 0 ≤ s → s ≤ F_L C p → 0 ≤ x → x < C.1 (15, 0, 0) q → n < k →
    (F_fol C (C.1 (15, 0, 0) q) n p s j x = none ∧ ∃ S2, lp f529_b1 k (q, x, S) = some (.inl S2) ∧ F_ag C S2) ∨
    (∃ p' s' j' S3, F_fol C (C.1 (15, 0, 0) q) n p s j x = some (p', s', j') ∧ lp f529_b1 k (q, x, S) = some (.inr (.inl (1, S3))) ∧ F_ag C S3 ∧ S3.1 (0, 0, 0) 17 = p' ∧ S3.1 (0, 0, 0) 18 = s' ∧ S3.1 (0, 0, 0) 19 = j')
  | 0, k, S, p, s, j, x, _, _, _, _, _, _, h1, _, _, _, _, _ => absurd h1 (by omega)
  | n + 1, k + 1, S, p, s, j, x, ha, e17, e18, e19, hn, hp, h1, hs, hsl, hx, hxp, hk => by
    have hlen := hr.2.2.1 (C.1 (22, 0, 0) p)
    have hm := hr.2.1
    have hp2 : p < C.1 (0, 0, 0) 4 := by rw [i_lt]; omega
    have a1 := hl.2.1 p hp hp2
    have hss := hr.1
    have v1 := F_agk ha (k := (15, 0, 0)) (by decide)
    have v2 := F_agk ha (k := (22, 0, 0)) (by decide)
    have v3 := F_agk ha (k := (12, 0, 0)) (by decide)
    have v4 := F_agf ha (i := 4) (by decide)
    have v5 := F_agf ha (i := 1) (by decide)
    have c1 : 0 ≤ p ∧ p < 24 := by clear hr hl; grind
    have c2 : 0 ≤ C.1 (22, 0, 0) p ∧ C.1 (22, 0, 0) p < 24 := by clear hr hl; grind
    have hL : F_L C p = C.1 (12, 0, 0) (C.1 (22, 0, 0) p) := rfl
    have hup := up1 hp2
    unfold F_fol
    by_cases e1 : x + (F_L C p - s) < C.1 (15, 0, 0) q
    · rw [if_pos e1]
      by_cases e2 : p + 1 = C.1 (0, 0, 0) 4
      · rw [if_pos e2]
        refine Or.inl ⟨rfl, S, ?_, ha⟩
        refine lp_0 ?_
        simp [f529_b1, hq, v1, hxp, e17, e18, v2, v3, v4, c1, c2, ← hL, e1, e2]
      · rw [if_neg e2]
        have hmj := F_mayC (x := x + (F_L C p - s)) (F_rng_ag ha hr) (F_line_ag ha F_ag0 hl) (p := p) hp (by rw [v4]; exact hp2) (by rw [v4]; exact e2)
        rw [F_J_ag ha] at hmj
        by_cases e3 : F_J C (x + (F_L C p - s)) p = true
        · rw [if_pos e3]
          rw [if_pos e3] at hmj
          have hls := F_J_loss e3
          have hlen2 := hr.2.2.1 (C.1 (22, 0, 0) (p + 1))
          have hL2 : F_L C (p + 1) = C.1 (12, 0, 0) (C.1 (22, 0, 0) (p + 1)) := rfl
          have ih := F_folC hr hl hq hpr n k (sz (sz (sz S (0, 0, 0) 17 (p + 1)) (0, 0, 0) 18 (C.1 (0, 0, 0) 1)) (0, 0, 0) 19 (j + 1)) (p + 1) (C.1 (0, 0, 0) 1) (j + 1) (x + (F_L C p - s))
            (F_ag_sz (F_ag_sz (F_ag_sz ha (by decide)) (by decide)) (by decide)) (by simp [sz_1]) (by simp [sz_1]) (by simp [sz_1]) (by omega) (by clear hr hl; grind)
            (by rcases n with _ | n; · exfalso; apply e2; rw [i_eq]; omega
                · omega) (by clear hr hl; grind) (by clear hr hl; grind) (by clear hr hl; grind) e1 (by omega)
          rw [lp_s (a' := (q, x + (F_L C p - s), sz (sz (sz S (0, 0, 0) 17 (p + 1)) (0, 0, 0) 18 (C.1 (0, 0, 0) 1)) (0, 0, 0) 19 (j + 1)))]
          · exact ih
          · simp [f529_b1, hq, v1, hxp, e17, e18, e19, v2, v3, v4, v5, c1, c2, ← hL, e1, e2, hmj]
        · rw [if_neg e3]
          rw [if_neg e3] at hmj
          refine Or.inl ⟨rfl, S, ?_, ha⟩
          refine lp_0 ?_
          simp [f529_b1, hq, v1, hxp, e17, e18, v2, v3, v4, c1, c2, ← hL, e1, e2, hmj]
    · rw [if_neg e1]
      refine Or.inr ⟨p, s + (C.1 (15, 0, 0) q - x), j, sz S (0, 0, 0) 18 (s + (C.1 (15, 0, 0) q - x)), rfl, ?_, F_ag_sz ha (by decide), by simp [sz_1, e17], by simp [sz_1], by simp [sz_1, e19]⟩
      refine lp_0 ?_
      simp [f529_b1, hq, v1, hxp, e17, e18, v2, v3, c1, c2, ← hL, e1]
set_option maxRecDepth 100000
theorem F_folT {C T : wS} (ht : F_told C T) (hr : F_rng C) (hl : F_line C T) {q : Int32} (hq : 0 ≤ q ∧ q < 6) (hpr : C.1 (15, 0, 0) q ≤ 120) : ∀ (n k : Nat) (U : wS) (p s j x : Int32), F_ag T U → U.1 (0, 0, 0) 17 = p → U.1 (0, 0, 0) 18 = s → U.1 (0, 0, 0) 19 = j → p.toInt + n = (C.1 (0, 0, 0) 4).toInt → 0 ≤ p → 1 ≤ n → 0 ≤ s → s ≤ F_L C p → 0 ≤ x → x < C.1 (15, 0, 0) q → n + 1 < k →
    (F_fol C (C.1 (15, 0, 0) q) n p s j x = none ∧ ∃ U2, lp f1804_b1 k (q, x, U) = some (.inl (0, U2)) ∧ F_ag T U2) ∨
    (∃ p' s' j' U3, F_fol C (C.1 (15, 0, 0) q) n p s j x = some (p', s', j') ∧ lp f1804_b1 k (q, x, U) = some (.inr U3) ∧ F_ag T U3 ∧ U3.1 (0, 0, 0) 17 = p' ∧ U3.1 (0, 0, 0) 18 = s' ∧ U3.1 (0, 0, 0) 19 = j')
  | 0, k, S, p, s, j, x, _, _, _, _, _, _, h1, _, _, _, _, _ => absurd h1 (by omega)
  | n + 1, k + 1, U, p, s, j, x, ha, e17, e18, e19, hn, hp, h1, hs, hsl, hx, hxp, hk => by
    have hlen := hr.2.2.1 (C.1 (22, 0, 0) p)
    have hm := hr.2.1
    have hp2 : p < C.1 (0, 0, 0) 4 := by rw [i_lt]; omega
    have a1 := hl.2.1 p hp hp2
    have hss := hr.1
    have v1 : U.1 (8, 0, 0) = C.1 (15, 0, 0) := by rw [F_agk ha (by decide), ← ht.1.2.2.1]
    have v2 : U.1 (14, 0, 0) = C.1 (22, 0, 0) := by rw [F_agk ha (by decide), ← hl.1]
    have v3 : U.1 (5, 0, 0) = C.1 (12, 0, 0) := by rw [F_agk ha (by decide), ← ht.1.1]
    have v5 : U.1 (0, 0, 0) 2 = C.1 (0, 0, 0) 1 := by rw [F_agf ha (by decide), ← ht.2.2.2.1]
    have c1 : 0 ≤ p ∧ p < 24 := by clear hr hl ht; grind
    have c2 : 0 ≤ C.1 (22, 0, 0) p ∧ C.1 (22, 0, 0) p < 24 := by clear hr hl ht; grind
    have hL : F_L C p = C.1 (12, 0, 0) (C.1 (22, 0, 0) p) := rfl
    have hup := up1 hp2
    unfold F_fol
    by_cases e1 : x + (F_L C p - s) < C.1 (15, 0, 0) q
    · rw [if_pos e1]
      have e0 : ¬ C.1 (15, 0, 0) q - x < F_L C p - s := by clear hr hl ht; grind
      have ha2 : F_ag T (sz U (0, 0, 0) 18 (s + (F_L C p - s))) := F_ag_sz ha (by decide)
      have hmj := F_mayT (F_told_ag F_ag0 ha2 ht) hr (F_line_ag F_ag0 ha2 hl) (x := x + (F_L C p - s)) (p := p) hp hp2
      by_cases e2 : p + 1 = C.1 (0, 0, 0) 4
      · rw [if_pos e2]
        rw [if_pos e2] at hmj
        refine Or.inl ⟨rfl, _, ?_, ha2⟩
        refine lp_0 ?_
        simp [f1804_b1, f1804_3_1, hq, v1, hxp, e17, e18, v2, v3, c1, c2, ← hL, e0, e1, hmj]
      · rw [if_neg e2]
        rw [if_neg e2] at hmj
        by_cases e3 : F_J C (x + (F_L C p - s)) p = true
        · rw [if_pos e3]
          rw [if_pos e3] at hmj
          have hls := F_J_loss e3
          have hlen2 := hr.2.2.1 (C.1 (22, 0, 0) (p + 1))
          have hL2 : F_L C (p + 1) = C.1 (12, 0, 0) (C.1 (22, 0, 0) (p + 1)) := rfl
          have ih := F_folT ht hr hl hq hpr n k (sz (sz (sz (sz U (0, 0, 0) 18 (s + (F_L C p - s))) (0, 0, 0) 17 (p + 1)) (0, 0, 0) 18 (C.1 (0, 0, 0) 1)) (0, 0, 0) 19 (j + 1)) (p + 1) (C.1 (0, 0, 0) 1) (j + 1) (x + (F_L C p - s))
            (F_ag_sz (F_ag_sz (F_ag_sz ha2 (by decide)) (by decide)) (by decide)) (by simp [sz_1]) (by simp [sz_1]) (by simp [sz_1]) (by omega) (by clear hr hl ht; grind)
            (by rcases n with _ | n; · exfalso; apply e2; rw [i_eq]; omega
                · omega) (by clear hr hl ht; grind) (by clear hr hl ht; grind) (by clear hr hl ht; grind) e1 (by omega)
          rw [lp_s (a' := (q, x + (F_L C p - s), sz (sz (sz (sz U (0, 0, 0) 18 (s + (F_L C p - s))) (0, 0, 0) 17 (p + 1)) (0, 0, 0) 18 (C.1 (0, 0, 0) 1)) (0, 0, 0) 19 (j + 1)))]
          · exact ih
          · simp [f1804_b1, f1804_3_1, hq, v1, hxp, e17, e18, e19, v2, v3, v5, c1, c2, ← hL, e0, e1, hmj]
        · rw [if_neg e3]
          rw [if_neg e3] at hmj
          refine Or.inl ⟨rfl, _, ?_, ha2⟩
          refine lp_0 ?_
          simp [f1804_b1, f1804_3_1, hq, v1, hxp, e17, e18, v2, v3, c1, c2, ← hL, e0, e1, hmj]
    · rw [if_neg e1]
      refine Or.inr ⟨p, s + (C.1 (15, 0, 0) q - x), j, sz U (0, 0, 0) 18 (s + (C.1 (15, 0, 0) q - x)), rfl, ?_, F_ag_sz ha (by decide), by simp [sz_1, e17], by simp [sz_1], by simp [sz_1, e19]⟩
      obtain ⟨k, rfl⟩ : ∃ k', k = k' + 1 := ⟨k - 1, by omega⟩
      have e4 : ¬ x + (C.1 (15, 0, 0) q - x) < C.1 (15, 0, 0) q := by clear hr hl ht; grind
      rw [lp_s (a' := (q, x + (C.1 (15, 0, 0) q - x), sz U (0, 0, 0) 18 (s + (C.1 (15, 0, 0) q - x))))]
      · refine lp_0 ?_
        simp [f1804_b1, hq, sz_1, v1, e4]
      · by_cases e0 : C.1 (15, 0, 0) q - x < F_L C p - s
        · simp [f1804_b1, f1804_3_1, hq, v1, hxp, e17, e18, v2, v3, c1, c2, ← hL, e0, e4]
        · have e5 : F_L C p - s = C.1 (15, 0, 0) q - x := by clear hr hl ht; grind
          simp [f1804_b1, f1804_3_1, hq, v1, hxp, e17, e18, v2, v3, c1, c2, ← hL, e4, e5]
/-- where a product ends is a place of the line -/
theorem F_fol_ok {C T : wS} (hr : F_rng C) (hl : F_line C T) {pr : Int32} (hpr : pr ≤ 120) : ∀ (n : Nat) (p s j x p' s' j' : Int32), p.toInt + n = (C.1 (0, 0, 0) 4).toInt → 0 ≤ p → 0 ≤ s → s ≤ F_L C p → 0 ≤ x → x < pr → 0 ≤ j → j ≤ p → F_fol C pr n p s j x = some (p', s', j') → p ≤ p' ∧ p' < C.1 (0, 0, 0) 4 ∧ 0 ≤ s' ∧ s' ≤ F_L C p' ∧ j ≤ j' ∧ j' - j = p' - p ∧ (s < s' ∨ p < p')
  | 0, p, s, j, x, p', s', j', _, _, _, _, _, _, _, _, e => by simp [F_fol] at e
  | n + 1, p, s, j, x, p', s', j', hn, hp, hs, hsl, hx, hxp, hj, hjp, e => by
    have hlen := hr.2.2.1 (C.1 (22, 0, 0) p)
    have hm := hr.2.1
    have hp2 : p < C.1 (0, 0, 0) 4 := by rw [i_lt]; omega
    have hL : F_L C p = C.1 (12, 0, 0) (C.1 (22, 0, 0) p) := rfl
    have hup := up1 hp2
    have hss := hr.1
    unfold F_fol at e
    by_cases e1 : x + (F_L C p - s) < pr
    · rw [if_pos e1] at e
      by_cases e2 : p + 1 = C.1 (0, 0, 0) 4
      · rw [if_pos e2] at e; cases e
      · rw [if_neg e2] at e
        by_cases e3 : F_J C (x + (F_L C p - s)) p = true
        · rw [if_pos e3] at e
          have hls := F_J_loss e3
          have ih := F_fol_ok hr hl hpr n (p + 1) (C.1 (0, 0, 0) 1) (j + 1) (x + (F_L C p - s)) p' s' j' (by omega) (by clear hr hl e; grind) (by clear hr hl e; grind) (by clear hr hl e; grind) (by clear hr hl e; grind) e1 (by clear hr hl e; grind) (by clear hr hl e; grind) e
          clear hr hl e
          grind
        · rw [if_neg e3] at e; cases e
    · rw [if_neg e1] at e
      have e := Option.some.inj e
      simp only [Prod.mk.injEq] at e
      obtain ⟨rfl, rfl, rfl⟩ := e
      clear hr hl hm hss hup
      have hlen2 := hlen.2
      rw [← hL] at hlen2
      clear hlen hL
      refine ⟨Int32.le_refl _, hp2, by grind, by grind, Int32.le_refl _, by simp, Or.inl (by grind)⟩
set_option maxRecDepth 100000
/-- places that may change -/
def w_fr (P : wK → Int32 → Bool) (S R : wS) : Prop := ∀ k i, P k i = false → R.1 k i = S.1 k i ∧ R.2 k i = S.2 k i
theorem fr_0 {P : wK → Int32 → Bool} {S : wS} : w_fr P S S := fun _ _ _ => ⟨rfl, rfl⟩
theorem fr_t {P : wK → Int32 → Bool} {S R U : wS} (h : w_fr P S R) (g : w_fr P R U) : w_fr P S U := fun k i q => ⟨((g k i q).1).trans (h k i q).1, ((g k i q).2).trans (h k i q).2⟩
theorem fr_z {P : wK → Int32 → Bool} {S R : wS} {k : wK} {i v : Int32} (h : w_fr P S R) (hp : P k i = true) : w_fr P S (sz R k i v) := fun k' i' q => by
  have hn : ¬ (k' = k ∧ i' = i) := fun e => by rw [e.1, e.2, hp] at q; cases q
  rw [sz_1, sz_2, if_neg hn]
  exact h k' i' q
theorem fr_l {P : wK → Int32 → Bool} {S R : wS} {k : wK} {i : Int32} {v : Int64} (h : w_fr P S R) (hp : P k i = true) : w_fr P S (sl R k i v) := fun k' i' q => by
  have hn : ¬ (k' = k ∧ i' = i) := fun e => by rw [e.1, e.2, hp] at q; cases q
  rw [sl_1, sl_2, if_neg hn]
  exact h k' i' q
theorem fr_1 {P : wK → Int32 → Bool} {S R : wS} (h : w_fr P S R) {k : wK} (hp : ∀ i, P k i = false) : R.1 k = S.1 k := funext fun i => (h k i (hp i)).1
theorem fr_2 {P : wK → Int32 → Bool} {S R : wS} (h : w_fr P S R) {k : wK} (hp : ∀ i, P k i = false) : R.2 k = S.2 k := funext fun i => (h k i (hp i)).2
def F_17 (k : wK) (i : Int32) : Bool := decide (k = (0, 0, 0)) && (decide (i = 17) || decide (i = 18) || decide (i = 19))
def F_PC (k : wK) (i : Int32) : Bool := decide (k.1 = 3) || decide (k = (4, 0, 0)) || F_17 k i
def F_PT (k : wK) (i : Int32) : Bool := decide (k.1 = 15) || decide (k.1 = 16) || decide (k.1 = 17) || F_17 k i
theorem F_ag_frC {C S : wS} (h : F_ag C S) : w_fr F_PC C S := fun k i q => by
  refine ⟨h.2 k i (fun e => ?_), by rw [h.1]⟩
  obtain ⟨rfl, e⟩ := e
  rcases e with rfl | rfl | rfl <;> simp [F_PC, F_17] at q
theorem F_ag_frT {C S : wS} (h : F_ag C S) : w_fr F_PT C S := fun k i q => by
  refine ⟨h.2 k i (fun e => ?_), by rw [h.1]⟩
  obtain ⟨rfl, e⟩ := e
  rcases e with rfl | rfl | rfl <;> simp [F_PT, F_17] at q
theorem F_k0 {k : wK} (h1 : decide (k.1 = 3) = false) (h2 : decide (k = (4, 0, 0)) = false) (h3 : decide (k = (0, 0, 0)) = false) (i : Int32) : F_PC k i = false := by
  unfold F_PC F_17; rw [h1, h2, h3]; rfl
theorem F_kT {k : wK} (h1 : decide (k.1 = 15) = false) (h2 : decide (k.1 = 16) = false) (h4 : decide (k.1 = 17) = false) (h3 : decide (k = (0, 0, 0)) = false) (i : Int32) : F_PT k i = false := by
  unfold F_PT F_17; rw [h1, h2, h4, h3]; rfl
theorem F_rng_fr {C S : wS} (h : w_fr F_PC C S) (hr : F_rng C) : F_rng S := by
  unfold F_rng
  rw [fr_1 h (k := (12, 0, 0)) (F_k0 rfl rfl rfl), fr_1 h (k := (13, 0, 0)) (F_k0 rfl rfl rfl), fr_1 h (k := (15, 0, 0)) (F_k0 rfl rfl rfl), fr_1 h (k := (21, 0, 0)) (F_k0 rfl rfl rfl),
    (h (0, 0, 0) 0 rfl).1, (h (0, 0, 0) 1 rfl).1, (h (0, 0, 0) 4 rfl).1, (h (0, 0, 0) 7 rfl).1, (h (0, 0, 0) 10 rfl).1]
  exact hr
theorem F_line_fr {C S T U : wS} (h : w_fr F_PC C S) (g : w_fr F_PT T U) (hl : F_line C T) : F_line S U := by
  unfold F_line
  rw [fr_1 h (k := (22, 0, 0)) (F_k0 rfl rfl rfl), fr_1 g (k := (14, 0, 0)) (F_kT rfl rfl rfl rfl), (h (0, 0, 0) 4 rfl).1]
  exact hl
theorem F_told_fr {C S T U : wS} (h : w_fr F_PC C S) (g : w_fr F_PT T U) (ht : F_told C T) : F_told S U := by
  unfold F_told
  rw [fr_1 h (k := (12, 0, 0)) (F_k0 rfl rfl rfl), fr_1 h (k := (13, 0, 0)) (F_k0 rfl rfl rfl), fr_1 h (k := (15, 0, 0)) (F_k0 rfl rfl rfl), fr_1 h (k := (21, 0, 0)) (F_k0 rfl rfl rfl),
    fr_2 h (k := (16, 0, 0)) (F_k0 rfl rfl rfl), fr_2 h (k := (18, 0, 0)) (F_k0 rfl rfl rfl), fr_2 h (k := (19, 0, 0)) (F_k0 rfl rfl rfl),
    (h (0, 0, 0) 0 rfl).1, (h (0, 0, 0) 1 rfl).1, (h (0, 0, 0) 4 rfl).1, (h (0, 0, 0) 7 rfl).1, (h (0, 0, 0) 10 rfl).1,
    fr_1 g (k := (5, 0, 0)) (F_kT rfl rfl rfl rfl), fr_1 g (k := (6, 0, 0)) (F_kT rfl rfl rfl rfl), fr_1 g (k := (8, 0, 0)) (F_kT rfl rfl rfl rfl), fr_1 g (k := (11, 0, 0)) (F_kT rfl rfl rfl rfl), fr_1 g (k := (12, 0, 0)) (F_kT rfl rfl rfl rfl), fr_1 g (k := (13, 0, 0)) (F_kT rfl rfl rfl rfl),
    fr_2 g (k := (9, 0, 0)) (F_kT rfl rfl rfl rfl),
    (g (0, 0, 0) 1 rfl).1, (g (0, 0, 0) 2 rfl).1, (g (0, 0, 0) 3 rfl).1, (g (0, 0, 0) 6 rfl).1, (g (0, 0, 0) 9 rfl).1]
  exact ht
/-- the tables -/
def F_tab (C T : wS) : Prop := ∀ p s, 0 ≤ p → p < 25 → 0 ≤ s → s < 61 → C.2 (3, p, s) 0 = T.2 (15, 0, 0) (61 * p + s) ∧ C.1 (3, p, s) 1 = T.1 (16, 0, 0) (61 * p + s) ∧ C.1 (3, p, s) 2 = T.1 (17, 0, 0) (61 * p + s)
theorem F_ix {p s p' s' : Int32} (h1 : 0 ≤ p) (h2 : p < 25) (h3 : 0 ≤ s) (h4 : s < 61) (g1 : 0 ≤ p') (g2 : p' < 25) (g3 : 0 ≤ s') (g4 : s' < 61) (e : 61 * p' + s' = 61 * p + s) : p' = p ∧ s' = s := by grind
theorem F_in {p s : Int32} (h1 : 0 ≤ p) (h2 : p < 25) (h3 : 0 ≤ s) (h4 : s < 61) : 0 ≤ 61 * p + s ∧ 61 * p + s < 1525 := by grind
/-- both tables get an entry -/
theorem F_tab_set {C T : wS} (h : F_tab C T) {p s : Int32} (h1 : 0 ≤ p) (h2 : p < 25) (h3 : 0 ≤ s) (h4 : s < 61) {w : Int64} {a b : Int32} : F_tab (sz (sz (sl C (3, p, s) 0 w) (3, p, s) 1 a) (3, p, s) 2 b) (sz (sz (sl T (15, 0, 0) (61 * p + s) w) (16, 0, 0) (61 * p + s) a) (17, 0, 0) (61 * p + s) b) := by
  intro p' s' g1 g2 g3 g4
  have hh := h p' s' g1 g2 g3 g4
  by_cases e : p' = p ∧ s' = s
  · obtain ⟨rfl, rfl⟩ := e
    simp [sz_1, sz_2, sl_1, sl_2]
  · have n1 : ¬ (61 * p' + s' = 61 * p + s) := fun q => e (F_ix h1 h2 h3 h4 g1 g2 g3 g4 q)
    have n2 : ¬ ((3, p', s') : wK) = (3, p, s) := fun q => by
      simp only [Prod.mk.injEq, true_and] at q; exact e q
    simp only [sz_1, sz_2, sl_1, sl_2, n1, n2, false_and, and_false, if_false]
    exact hh
theorem F_tab_cong {C T S U : wS} (h : F_tab C T) (h1 : ∀ p s, S.2 (3, p, s) = C.2 (3, p, s) ∧ S.1 (3, p, s) = C.1 (3, p, s)) (h2 : U.2 (15, 0, 0) = T.2 (15, 0, 0) ∧ U.1 (16, 0, 0) = T.1 (16, 0, 0) ∧ U.1 (17, 0, 0) = T.1 (17, 0, 0)) : F_tab S U := by
  intro p s g1 g2 g3 g4
  rw [(h1 p s).1, (h1 p s).2, h2.1, h2.2.1, h2.2.2]
  exact h p s g1 g2 g3 g4
set_option maxRecDepth 100000
/-- all that the filling of the tables looks at -/
def F_all (C T : wS) : Prop := F_told C T ∧ F_rng C ∧ F_line C T ∧ F_tab C T
/-- a product begins at a step: both sides -/
theorem F_begin {C T : wS} (h : F_all C T) {q p s : Int32} (hq : 0 ≤ q) (hq2 : q < C.1 (0, 0, 0) 7) (hp : 0 ≤ p) (hp2 : p < C.1 (0, 0, 0) 4) (hs : 0 ≤ s) (hs2 : s ≤ F_L C p) :
    (∃ S U, f529 C q p s = some (0, S) ∧ f1804 T q p s = some (0, U) ∧ F_ag C S ∧ F_ag T U) ∨
    (∃ S U a b j, f529 C q p s = some (1, S) ∧ f1804 T q p s = some (1, U) ∧ F_ag C S ∧ F_ag T U ∧ S.1 (0, 0, 0) 17 = a ∧ S.1 (0, 0, 0) 18 = b ∧ S.1 (0, 0, 0) 19 = j ∧ U.1 (0, 0, 0) 17 = a ∧ U.1 (0, 0, 0) 18 = b ∧ U.1 (0, 0, 0) 19 = j ∧
      p ≤ a ∧ a < C.1 (0, 0, 0) 4 ∧ 0 ≤ b ∧ b ≤ F_L C a ∧ 0 ≤ j ∧ j = a - p ∧ (s < b ∨ p < a)) := by
  obtain ⟨ht, hr, hl, _⟩ := h
  have hm := hr.2.1
  have hprd := hr.2.2.2.2.1 q
  have q6 : 0 ≤ q ∧ q < 6 := by clear hr hl ht; grind
  have hp' := Int32.lt_iff_toInt_lt.mp hp2
  have h0' := Int32.le_iff_toInt_le.mp hp
  have z0 : (0 : Int32).toInt = 0 := rfl
  have hm2 := Int32.le_iff_toInt_le.mp hm.2.1
  have z24 : (24 : Int32).toInt = 24 := rfl
  have hx : (0 : Int32) < C.1 (15, 0, 0) q := by have := hprd.2.2 hq hq2; clear hr hl ht; grind
  have hn : p.toInt + ((C.1 (0, 0, 0) 4).toInt - p.toInt).toNat = (C.1 (0, 0, 0) 4).toInt := by omega
  have hA : ∀ {S : wS}, F_ag S (sz (sz (sz S (0, 0, 0) 17 p) (0, 0, 0) 18 s) (0, 0, 0) 19 0) := F_ag_sz (F_ag_sz (F_ag_sz F_ag0 (by decide)) (by decide)) (by decide)
  have c := F_folC hr hl q6 hprd.2.1 ((C.1 (0, 0, 0) 4).toInt - p.toInt).toNat FU (sz (sz (sz C (0, 0, 0) 17 p) (0, 0, 0) 18 s) (0, 0, 0) 19 0) p s 0 0 hA (by simp [sz_1]) (by simp [sz_1]) (by simp [sz_1]) hn hp (by omega) hs hs2 (by decide) hx (by rw [FU_eq]; omega)
  have t := F_folT ht hr hl q6 hprd.2.1 ((C.1 (0, 0, 0) 4).toInt - p.toInt).toNat FU (sz (sz (sz T (0, 0, 0) 17 p) (0, 0, 0) 18 s) (0, 0, 0) 19 0) p s 0 0 hA (by simp [sz_1]) (by simp [sz_1]) (by simp [sz_1]) hn hp (by omega) hs hs2 (by decide) hx (by rw [FU_eq]; omega)
  unfold f529 f1804
  rcases c with ⟨e1, S, c1, c2⟩ | ⟨a, b, j, S, e1, c1, c2, c3, c4, c5⟩
  · rcases t with ⟨_, U, t1, t2⟩ | ⟨a, b, j, U, e2, _⟩
    · exact Or.inl ⟨S, U, by rw [c1]; rfl, by rw [t1]; rfl, c2, t2⟩
    · rw [e1] at e2; cases e2
  · rcases t with ⟨e2, _⟩ | ⟨a', b', j', U, e2, t1, t2, t3, t4, t5⟩
    · rw [e1] at e2; cases e2
    · rw [e1] at e2
      have e2 := Option.some.inj e2
      simp only [Prod.mk.injEq] at e2
      obtain ⟨rfl, rfl, rfl⟩ := e2
      have ok := F_fol_ok hr hl hprd.2.1 _ p s 0 0 a b j hn hp hs hs2 (by decide) hx (by decide) hp e1
      have oj := ok.2.2.2.2.2.1
      refine Or.inr ⟨S, U, a, b, j, by rw [c1]; rfl, by rw [t1]; rfl, c2, t2, c3, c4, c5, t3, t4, t5, ok.1, ok.2.1, ok.2.2.1, ok.2.2.2.1, ok.2.2.2.2.1, ?_, ok.2.2.2.2.2.2⟩
      rw [← oj]; simp
theorem F_better {w w' : Int64} {a a' b b' : Int32} {S : wS} {p s : Int32} (h1 : 0 ≤ p ∧ p < 25) (h2 : 0 ≤ s ∧ s < 61) (e1 : S.2 (4, 0, 0) 0 = w) (e2 : S.1 (4, 0, 0) 1 = a) (e3 : S.1 (4, 0, 0) 2 = b) (e4 : S.2 (3, p, s) 0 = w') (e5 : S.1 (3, p, s) 1 = a') (e6 : S.1 (3, p, s) 2 = b') : f579 S p s = some (if w = w' then (if a < a' ∨ a = a' ∧ b < b' then 1 else 0) else if w ≤ w' then 0 else 1) := by
  unfold f579
  rw [if_pos h1, if_pos h2, e1, e2, e3, e4, e5, e6]
  grind
theorem F_betterT {w w' : Int64} {a a' b b' : Int32} {T : wS} {x : Int32} (h1 : 0 ≤ x ∧ x < 1525) (e4 : T.2 (15, 0, 0) x = w') (e5 : T.1 (16, 0, 0) x = a') (e6 : T.1 (17, 0, 0) x = b') : f1807 T x w a b = some (if w = w' then (if a < a' ∨ a = a' ∧ b < b' then 1 else 0) else if w ≤ w' then 0 else 1) := by
  unfold f1807
  rw [if_pos h1, e4, e5, e6]
  grind
set_option maxRecDepth 100000
theorem F_all_fr {C T S U : wS} (h : F_all C T) (f : w_fr F_PC C S) (g : w_fr F_PT T U) (ht : F_tab S U) : F_all S U := ⟨F_told_fr f g h.1, F_rng_fr f h.2.1, F_line_fr f g h.2.2.1, ht⟩
theorem F_all_ag {C T S U : wS} (h : F_all C T) (f : F_ag C S) (g : F_ag T U) : F_all S U :=
  F_all_fr h (F_ag_frC f) (F_ag_frT g) (F_tab_cong h.2.2.2 (fun p s => ⟨by rw [f.1], F_agk f (by simp)⟩) ⟨by rw [g.1], F_agk g (by decide), F_agk g (by decide)⟩)
theorem F_by_fr {S : wS} {w : Int64} {a b : Int32} : w_fr F_PC S (sz (sz (sl S (4, 0, 0) 0 w) (4, 0, 0) 1 a) (4, 0, 0) 2 b) := fr_z (fr_z (fr_l fr_0 rfl) rfl) rfl
theorem F_all_by {S U : wS} (h : F_all S U) {w : Int64} {a b : Int32} : F_all (sz (sz (sl S (4, 0, 0) 0 w) (4, 0, 0) 1 a) (4, 0, 0) 2 b) U :=
  F_all_fr h F_by_fr fr_0 (F_tab_cong h.2.2.2 (fun p s => ⟨funext fun i => by simp [sz_2, sl_2], funext fun i => by simp [sz_1, sl_1]⟩) ⟨rfl, rfl, rfl⟩)
theorem F_set_frC {S : wS} {p s : Int32} {w : Int64} {a b : Int32} : w_fr F_PC S (sz (sz (sl S (3, p, s) 0 w) (3, p, s) 1 a) (3, p, s) 2 b) := fr_z (fr_z (fr_l fr_0 rfl) rfl) rfl
theorem F_set_frT {U : wS} {x : Int32} {w : Int64} {a b : Int32} : w_fr F_PT U (sz (sz (sl U (15, 0, 0) x w) (16, 0, 0) x a) (17, 0, 0) x b) := fr_z (fr_z (fr_l fr_0 rfl) rfl) rfl
theorem F_all_set {S U : wS} (h : F_all S U) {p s : Int32} (h1 : 0 ≤ p) (h2 : p < 25) (h3 : 0 ≤ s) (h4 : s < 61) {w : Int64} {a b : Int32} : F_all (sz (sz (sl S (3, p, s) 0 w) (3, p, s) 1 a) (3, p, s) 2 b) (sz (sz (sl U (15, 0, 0) (61 * p + s) w) (16, 0, 0) (61 * p + s) a) (17, 0, 0) (61 * p + s) b) :=
  F_all_fr h F_set_frC F_set_frT (F_tab_set h.2.2.2 h1 h2 h3 h4)
/-- one product is tried at a step -/
theorem F_try {S U : wS} (h : F_all S U) {q p s : Int32} (hq : 0 ≤ q) (hq2 : q < S.1 (0, 0, 0) 7) (hp : 0 ≤ p) (hp2 : p < S.1 (0, 0, 0) 4) (hs : 0 ≤ s) (hs2 : s ≤ F_L S p) :
    ∃ S' U', f526_b3 (p, s, q, S) = some (.inl (p, s, q + 1, S')) ∧ f1802_b3 (p, s, 61 * p + s, q, U) = some (.inl (p, s, 61 * p + s, q + 1, U')) ∧ F_all S' U' ∧ w_fr F_PC S S' ∧ w_fr F_PT U U' := by
  have hr := h.2.1
  have hm := hr.2.1
  have hw := h.1.2.2.2.2.2.1
  have hlen := hr.2.2.1 (S.1 (22, 0, 0) p)
  have hL : F_L S p = S.1 (12, 0, 0) (S.1 (22, 0, 0) p) := rfl
  have q6 : 0 ≤ q ∧ q < 6 := by clear h hr; grind
  have cp : 0 ≤ p ∧ p < 25 := by clear h hr; grind
  have cs : 0 ≤ s ∧ s < 61 := by clear h hr; grind
  have hq2' : q < U.1 (0, 0, 0) 6 := by rw [← hw]; exact hq2
  rcases F_begin h hq hq2 hp hp2 hs hs2 with ⟨S2, U2, c1, t1, a1, a2⟩ | ⟨S2, U2, a, b, j, c1, t1, a1, a2, x1, x2, x3, y1, y2, y3, o1, o2, o3, o4, o5, o6, o7⟩
  · refine ⟨S2, U2, ?_, ?_, F_all_ag h a1 a2, F_ag_frC a1, F_ag_frT a2⟩
    · simp [f526_b3, f528, c1, hq2]
    · simp [f1802_b3, t1, hq2']
  · have hlen2 := hr.2.2.1 (S.1 (22, 0, 0) a)
    have hL2 : F_L S a = S.1 (12, 0, 0) (S.1 (22, 0, 0) a) := rfl
    have ca : 0 ≤ a ∧ a < 25 := by clear h hr; grind
    have cb : 0 ≤ b ∧ b < 61 := by clear h hr; grind
    have hall := F_all_ag h a1 a2
    have tab := hall.2.2.2 a b ca.1 ca.2 cb.1 cb.2
    have tabp := hall.2.2.2 p s cp.1 cp.2 cs.1 cs.2
    have hix := F_in ca.1 ca.2 cb.1 cb.2
    have hix2 := F_in cp.1 cp.2 cs.1 cs.2
    have hwr : U2.2 (9, 0, 0) q = S2.2 (16, 0, 0) q := by rw [hall.1.1.2.2.2]
    have hS : f528 S q p s = some (1, sz (sz (sl S2 (4, 0, 0) 0 (S2.2 (16, 0, 0) q + S2.2 (3, a, b) 0)) (4, 0, 0) 1 (j + S2.1 (3, a, b) 1)) (4, 0, 0) 2 (S2.1 (3, a, b) 2)) := by
      simp [f528, c1, x1, x2, x3, ca, cb, q6, f577v1]
    have fby : w_fr F_PC S2 (sz (sz (sl S2 (4, 0, 0) 0 (S2.2 (16, 0, 0) q + S2.2 (3, a, b) 0)) (4, 0, 0) 1 (j + S2.1 (3, a, b) 1)) (4, 0, 0) 2 (S2.1 (3, a, b) 2)) := F_by_fr
    have aby := F_all_by hall (w := S2.2 (16, 0, 0) q + S2.2 (3, a, b) 0) (a := j + S2.1 (3, a, b) 1) (b := S2.1 (3, a, b) 2)
    have hbC := F_better (S := sz (sz (sl S2 (4, 0, 0) 0 (S2.2 (16, 0, 0) q + S2.2 (3, a, b) 0)) (4, 0, 0) 1 (j + S2.1 (3, a, b) 1)) (4, 0, 0) 2 (S2.1 (3, a, b) 2)) cp cs (w := S2.2 (16, 0, 0) q + S2.2 (3, a, b) 0) (a := j + S2.1 (3, a, b) 1) (b := S2.1 (3, a, b) 2) (w' := S2.2 (3, p, s) 0) (a' := S2.1 (3, p, s) 1) (b' := S2.1 (3, p, s) 2)
      (by simp [sz_1, sz_2, sl_1, sl_2]) (by simp [sz_1, sz_2, sl_1, sl_2]) (by simp [sz_1, sz_2, sl_1, sl_2]) (by simp [sz_1, sz_2, sl_1, sl_2]) (by simp [sz_1, sz_2, sl_1, sl_2]) (by simp [sz_1, sz_2, sl_1, sl_2])
    have hbT := F_betterT (T := U2) hix2 (w := S2.2 (16, 0, 0) q + S2.2 (3, a, b) 0) (a := j + S2.1 (3, a, b) 1) (b := S2.1 (3, a, b) 2) tabp.1.symm tabp.2.1.symm tabp.2.2.symm
    have e1 : U2.2 (15, 0, 0) (61 * a + b) + U2.2 (9, 0, 0) q = S2.2 (16, 0, 0) q + S2.2 (3, a, b) 0 := by rw [hwr, ← tab.1]; exact Int64.add_comm _ _
    have e2 : U2.1 (16, 0, 0) (61 * a + b) + j = j + S2.1 (3, a, b) 1 := by rw [← tab.2.1]; exact Int32.add_comm _ _
    have e3 : U2.1 (17, 0, 0) (61 * a + b) = S2.1 (3, a, b) 2 := tab.2.2.symm
    by_cases v : (if S2.2 (16, 0, 0) q + S2.2 (3, a, b) 0 = S2.2 (3, p, s) 0 then (if j + S2.1 (3, a, b) 1 < S2.1 (3, p, s) 1 ∨ j + S2.1 (3, a, b) 1 = S2.1 (3, p, s) 1 ∧ S2.1 (3, a, b) 2 < S2.1 (3, p, s) 2 then (1 : Int32) else 0) else if S2.2 (16, 0, 0) q + S2.2 (3, a, b) 0 ≤ S2.2 (3, p, s) 0 then 0 else 1) = 0
    · rw [v] at hbC hbT
      refine ⟨_, U2, ?_, ?_, aby, fr_t (F_ag_frC a1) fby, F_ag_frT a2⟩
      · simp [f526_b3, hS, hq2, cp, cs, hbC]
      · simp [f1802_b3, t1, hq2', y1, y2, y3, hix, q6, e1, e2, e3, hbT]
    · refine ⟨_, _, ?_, ?_, F_all_set aby cp.1 cp.2 cs.1 cs.2 (w := S2.2 (16, 0, 0) q + S2.2 (3, a, b) 0) (a := j + S2.1 (3, a, b) 1) (b := S2.1 (3, a, b) 2), fr_t (fr_t (F_ag_frC a1) fby) F_set_frC, fr_t (F_ag_frT a2) F_set_frT⟩
      · simp only [f526_b3, hS, hq2, cp, cs, hbC, f578v1, f577, Option.bind_some, v, if_true, if_false, and_self]
        simp [sz_1, sz_2, sl_1, sl_2]
      · simp only [f1802_b3, t1, hq2', y1, y2, y3, hix, q6, e1, e2, e3, hbT, Option.bind_some, v, if_true, if_false, and_self, f1803, hix2]
        simp
set_option maxRecDepth 100000
theorem dn1 {k : Int32} (h : 0 ≤ k) : (k + (-1)).toInt = k.toInt - 1 := by
  have h1 := Int32.le_iff_toInt_le.mp h
  have h2 := Int32.toInt_lt k
  have z : (0 : Int32).toInt = 0 := rfl
  have m : (-1 : Int32).toInt = -1 := rfl
  rw [Int32.toInt_add, m]
  exact Int.bmod_eq_of_le (by simp at h2 ⊢; omega) (by simp at h2 ⊢; omega)
theorem F_L_fr {S R : wS} (h : w_fr F_PC S R) {p : Int32} : F_L R p = F_L S p := by
  unfold F_L
  rw [fr_1 h (k := (12, 0, 0)) (F_k0 rfl rfl rfl), fr_1 h (k := (22, 0, 0)) (F_k0 rfl rfl rfl)]
/-- all products are tried at a step -/
theorem F_inner {p s : Int32} (hp : 0 ≤ p) (hs : 0 ≤ s) : ∀ (n k k' : Nat) (S U : wS) (q : Int32), F_all S U → p < S.1 (0, 0, 0) 4 → s ≤ F_L S p → 0 ≤ q → q.toInt + n = (S.1 (0, 0, 0) 7).toInt → n < k → n < k' →
    ∃ S' U', lp f526_b3 k (p, s, q, S) = some (p, s, S') ∧ lp f1802_b3 k' (p, s, 61 * p + s, q, U) = some (p, s, U') ∧ F_all S' U' ∧ w_fr F_PC S S' ∧ w_fr F_PT U U'
  | 0, k + 1, k' + 1, S, U, q, h, hp2, hs2, hq, hn, _, _ => by
    have hw := h.1.2.2.2.2.2.1
    have h1 : ¬ q < S.1 (0, 0, 0) 7 := by rw [i_lt]; omega
    have h2 : ¬ q < U.1 (0, 0, 0) 6 := by rw [← hw]; exact h1
    exact ⟨S, U, lp_0 (by simp [f526_b3, h1]), lp_0 (by simp [f1802_b3, h2]), h, fr_0, fr_0⟩
  | n + 1, k + 1, k' + 1, S, U, q, h, hp2, hs2, hq, hn, hk, hk' => by
    have h1 : q < S.1 (0, 0, 0) 7 := by rw [i_lt]; omega
    obtain ⟨S1, U1, c1, t1, a1, f1, g1⟩ := F_try h hq h1 hp hp2 hs hs2
    have hup := up1 h1
    have e7 := (f1 (0, 0, 0) 7 rfl).1
    have e4 := (f1 (0, 0, 0) 4 rfl).1
    have hq1 : 0 ≤ q + 1 := by rw [i_le]; have := Int32.le_iff_toInt_le.mp hq; have z : (0 : Int32).toInt = 0 := rfl; omega
    obtain ⟨S2, U2, c2, t2, a2, f2, g2⟩ := F_inner hp hs n k k' S1 U1 (q + 1) a1 (by rw [e4]; exact hp2) (by rw [F_L_fr f1]; exact hs2) hq1 (by rw [e7]; omega) (by omega) (by omega)
    exact ⟨S2, U2, by rw [lp_s c1]; exact c2, by rw [lp_s t1]; exact t2, a2, fr_t f1 f2, fr_t g1 g2⟩
set_option maxRecDepth 100000
/-- the steps of a piece, from the last one on -/
theorem F_middle {p : Int32} (hp : 0 ≤ p) : ∀ (n k k' : Nat) (S U : wS) (s : Int32), F_all S U → p < S.1 (0, 0, 0) 4 → s < F_L S p → -1 ≤ s → s.toInt + 1 = n → n < k → n < k' →
    ∃ S' U', lp f526_b2 k (p, s, S) = some (p, S') ∧ lp f1802_b2 k' (p, s, U) = some (p, U') ∧ F_all S' U' ∧ w_fr F_PC S S' ∧ w_fr F_PT U U'
  | 0, k + 1, k' + 1, S, U, s, h, hp2, hs2, hs, hn, _, _ => by
    have h1 : s < 0 := by rw [i_lt]; have z : (0 : Int32).toInt = 0 := rfl; omega
    exact ⟨S, U, lp_0 (by simp [f526_b2, h1]), lp_0 (by simp [f1802_b2, h1]), h, fr_0, fr_0⟩
  | n + 1, k + 1, k' + 1, S, U, s, h, hp2, hs2, hs, hn, hk, hk' => by
    have z : (0 : Int32).toInt = 0 := rfl
    have h0 : 0 ≤ s := by rw [i_le]; omega
    have h1 : ¬ s < 0 := by rw [i_lt]; omega
    have hr := h.2.1
    have hm := hr.2.1
    have hlen := hr.2.2.1 (S.1 (22, 0, 0) p)
    have hL : F_L S p = S.1 (12, 0, 0) (S.1 (22, 0, 0) p) := rfl
    have cp : 0 ≤ p ∧ p < 25 := by clear h hr; grind
    have cs : 0 ≤ s ∧ s < 61 := by clear h hr; grind
    have cs1 : 0 ≤ s + 1 ∧ s + 1 < 61 := by clear h hr; grind
    have ei : 61 * p + (s + 1) = 61 * p + s + 1 := by grind
    have hix := F_in cp.1 cp.2 cs1.1 cs1.2
    rw [ei] at hix
    have hix2 := F_in cp.1 cp.2 cs.1 cs.2
    have tab := h.2.2.2 p (s + 1) cp.1 cp.2 cs1.1 cs1.2
    rw [ei] at tab
    have aby := F_all_by h (w := S.2 (3, p, s + 1) 0) (a := S.1 (3, p, s + 1) 1) (b := S.1 (3, p, s + 1) 2 + 1)
    have aset := F_all_set aby cp.1 cp.2 cs.1 cs.2 (w := S.2 (3, p, s + 1) 0) (a := S.1 (3, p, s + 1) 1) (b := S.1 (3, p, s + 1) 2 + 1)
    have f1 : w_fr F_PC S (sz (sz (sl (sz (sz (sl S (4, 0, 0) 0 (S.2 (3, p, s + 1) 0)) (4, 0, 0) 1 (S.1 (3, p, s + 1) 1)) (4, 0, 0) 2 (S.1 (3, p, s + 1) 2 + 1)) (3, p, s) 0 (S.2 (3, p, s + 1) 0)) (3, p, s) 1 (S.1 (3, p, s + 1) 1)) (3, p, s) 2 (S.1 (3, p, s + 1) 2 + 1)) := fr_t F_by_fr F_set_frC
    have g1 : w_fr F_PT U (sz (sz (sl U (15, 0, 0) (61 * p + s) (S.2 (3, p, s + 1) 0)) (16, 0, 0) (61 * p + s) (S.1 (3, p, s + 1) 1)) (17, 0, 0) (61 * p + s) (S.1 (3, p, s + 1) 2 + 1)) := F_set_frT
    have e7 := (f1 (0, 0, 0) 7 rfl).1
    have e4 := (f1 (0, 0, 0) 4 rfl).1
    have w1 := Int32.le_iff_toInt_le.mp hm.2.2.1
    have w2 := Int32.le_iff_toInt_le.mp hm.2.2.2.1
    have z6 : (6 : Int32).toInt = 6 := rfl
    obtain ⟨S2, U2, c2, t2, a2, f2, g2⟩ := F_inner hp h0 (S.1 (0, 0, 0) 7).toInt.toNat FU FU _ _ 0 aset (by rw [e4]; exact hp2) (by rw [F_L_fr f1]; clear h hr; grind) (by decide) (by rw [e7, z]; omega) (by rw [FU_eq]; omega) (by rw [FU_eq]; omega)
    have f12 := fr_t f1 f2
    have g12 := fr_t g1 g2
    have e4' := (f12 (0, 0, 0) 4 rfl).1
    have hd := dn1 h0
    have m1 : (-1 : Int32).toInt = -1 := rfl
    obtain ⟨S3, U3, c3, t3, a3, f3, g3⟩ := F_middle hp n k k' S2 U2 (s + (-1)) a2 (by rw [e4']; exact hp2) (by rw [F_L_fr f12]; clear h hr; grind) (by rw [i_le]; omega) (by omega) (by omega) (by omega)
    refine ⟨S3, U3, ?_, ?_, a3, fr_t f12 f3, fr_t g12 g3⟩
    · rw [lp_s (a' := (p, s + (-1), S2))]
      · exact c3
      · have : f527 S p s = some (sz (sz (sl S (4, 0, 0) 0 (S.2 (3, p, s + 1) 0)) (4, 0, 0) 1 (S.1 (3, p, s + 1) 1)) (4, 0, 0) 2 (S.1 (3, p, s + 1) 2 + 1)) := by simp [f527, cp, cs1, f577v1]
        have h2 : f578v1 (sz (sz (sl S (4, 0, 0) 0 (S.2 (3, p, s + 1) 0)) (4, 0, 0) 1 (S.1 (3, p, s + 1) 1)) (4, 0, 0) 2 (S.1 (3, p, s + 1) 2 + 1)) p s = some (sz (sz (sl (sz (sz (sl S (4, 0, 0) 0 (S.2 (3, p, s + 1) 0)) (4, 0, 0) 1 (S.1 (3, p, s + 1) 1)) (4, 0, 0) 2 (S.1 (3, p, s + 1) 2 + 1)) (3, p, s) 0 (S.2 (3, p, s + 1) 0)) (3, p, s) 1 (S.1 (3, p, s + 1) 1)) (3, p, s) 2 (S.1 (3, p, s + 1) 2 + 1)) := by
          simp [f578v1, cp, cs, f577, sz_1, sz_2, sl_1, sl_2]
        simp only [f526_b2, h1, if_false, this, Option.bind_some, cp, cs, and_self, if_true, h2, c2]
    · rw [lp_s (a' := (p, s + (-1), U2))]
      · exact t3
      · simp only [f1802_b2, h1, if_false, f1803, hix, hix2, and_self, if_true, Option.bind_some, ← tab.1, ← tab.2.1, ← tab.2.2, t2]
set_option maxRecDepth 100000
/-- all pieces, from the last one on -/
theorem F_outer : ∀ (n k k' : Nat) (S U : wS) (p : Int32), F_all S U → p < S.1 (0, 0, 0) 4 → -1 ≤ p → p.toInt + 1 = n → n < k → n < k' →
    ∃ S' U', lp f526_b1 k (p, S) = some S' ∧ lp f1802_b1 k' (p, U) = some U' ∧ F_all S' U' ∧ w_fr F_PC S S' ∧ w_fr F_PT U U'
  | 0, k + 1, k' + 1, S, U, p, h, hp2, hp, hn, _, _ => by
    have h1 : p < 0 := by rw [i_lt]; have z : (0 : Int32).toInt = 0 := rfl; omega
    exact ⟨S, U, lp_0 (by simp [f526_b1, h1]), lp_0 (by simp [f1802_b1, h1]), h, fr_0, fr_0⟩
  | n + 1, k + 1, k' + 1, S, U, p, h, hp2, hp, hn, hk, hk' => by
    have z : (0 : Int32).toInt = 0 := rfl
    have h0 : 0 ≤ p := by rw [i_le]; omega
    have h1 : ¬ p < 0 := by rw [i_lt]; omega
    have m1 : (-1 : Int32).toInt = -1 := rfl
    have hdp := dn1 h0
    have k1 : p + (-1) < S.1 (0, 0, 0) 4 := by rw [i_lt]; have := Int32.lt_iff_toInt_lt.mp hp2; omega
    have k2 : -1 ≤ p + (-1) := by rw [i_le]; omega
    have k3 : (p + (-1)).toInt + 1 = n := by omega
    have k4 : n < k := by omega
    have k5 : n < k' := by omega
    have hr := h.2.1
    have hm := hr.2.1
    have hlen := hr.2.2.1 (S.1 (22, 0, 0) p)
    have hL : F_L S p = S.1 (12, 0, 0) (S.1 (22, 0, 0) p) := rfl
    have a0 := h.2.2.1.2.1 p h0 hp2
    have cp : 0 ≤ p ∧ p < 25 := by clear h hr; grind
    have cp24 : 0 ≤ p ∧ p < 24 := by clear h hr; grind
    have cp1 : 0 ≤ p + 1 ∧ p + 1 < 25 := by clear h hr; grind
    have cl : 0 ≤ S.1 (22, 0, 0) p ∧ S.1 (22, 0, 0) p < 24 := by clear h hr; grind
    have cs : 0 ≤ F_L S p ∧ F_L S p < 61 := by clear h hr; grind
    have l0 := h.2.2.1.1
    have t1' := h.1.1.1
    have ei : 61 * (p + 1) + 0 = 61 * (p + 1) := by simp
    have hix := F_in cp1.1 cp1.2 (s := 0) (by decide) (by decide)
    rw [ei] at hix
    have hix2 := F_in cp.1 cp.2 cs.1 cs.2
    have tab := h.2.2.2 (p + 1) 0 cp1.1 cp1.2 (by decide) (by decide)
    rw [ei] at tab
    have aset := F_all_set h cp.1 cp.2 cs.1 cs.2 (w := S.2 (3, p + 1, 0) 0) (a := S.1 (3, p + 1, 0) 1) (b := S.1 (3, p + 1, 0) 2)
    have f1 : w_fr F_PC S (sz (sz (sl S (3, p, F_L S p) 0 (S.2 (3, p + 1, 0) 0)) (3, p, F_L S p) 1 (S.1 (3, p + 1, 0) 1)) (3, p, F_L S p) 2 (S.1 (3, p + 1, 0) 2)) := F_set_frC
    have g1 : w_fr F_PT U (sz (sz (sl U (15, 0, 0) (61 * p + F_L S p) (S.2 (3, p + 1, 0) 0)) (16, 0, 0) (61 * p + F_L S p) (S.1 (3, p + 1, 0) 1)) (17, 0, 0) (61 * p + F_L S p) (S.1 (3, p + 1, 0) 2)) := F_set_frT
    have e4 := (f1 (0, 0, 0) 4 rfl).1
    have cs0 := Int32.le_iff_toInt_le.mp cs.1
    have cs6 := Int32.lt_iff_toInt_lt.mp cs.2
    have z61 : (61 : Int32).toInt = 61 := rfl
    have one : (1 : Int32).toInt = 1 := rfl
    have hd : (F_L S p - 1).toInt = (F_L S p).toInt - 1 := by
      have q := wi_sub (b := 1) cs.1 (by decide)
      rw [one] at q; exact q
    obtain ⟨S2, U2, c2, t2, a2, f2, g2⟩ := F_middle h0 (F_L S p).toInt.toNat FU FU _ _ (F_L S p - 1) aset (by rw [e4]; exact hp2) (by rw [F_L_fr f1, i_lt]; omega) (by rw [i_le]; omega) (by omega) (by rw [FU_eq]; omega) (by rw [FU_eq]; omega)
    have f12 := fr_t f1 f2
    have g12 := fr_t g1 g2
    have e4' := (f12 (0, 0, 0) 4 rfl).1
    obtain ⟨S3, U3, c3, t3, a3, f3, g3⟩ := F_outer n k k' S2 U2 (p + (-1)) a2 (by rw [e4']; exact k1) k2 k3 k4 k5
    refine ⟨S3, U3, ?_, ?_, a3, fr_t f12 f3, fr_t g12 g3⟩
    · rw [lp_s (a' := (p + (-1), S2))]
      · exact c3
      · have h2 : f578 S p (F_L S p) (p + 1) 0 = some (sz (sz (sl S (3, p, F_L S p) 0 (S.2 (3, p + 1, 0) 0)) (3, p, F_L S p) 1 (S.1 (3, p + 1, 0) 1)) (3, p, F_L S p) 2 (S.1 (3, p + 1, 0) 2)) := by
          simp [f578, cp, cs, cp1, f577]
        simp only [f526_b1, h1, if_false, cp24, cl, cp, ← hL, cs, cp1, and_self, if_true, h2, Option.bind_some, c2]
    · rw [lp_s (a' := (p + (-1), U2))]
      · exact t3
      · simp only [f1802_b1, h1, if_false, cp24, ← l0, ← t1', cl, ← hL, hix, hix2, f1803, and_self, if_true, Option.bind_some, ← tab.1, ← tab.2.1, ← tab.2.2, t2]
set_option maxRecDepth 100000
/-- the tables are filled -/
theorem F_fill {S U : wS} (h : F_all S U) : ∃ S' U', f526 S = some S' ∧ f1802 U = some U' ∧ F_all S' U' ∧ w_fr F_PC S S' ∧ w_fr F_PT U U' := by
  have hr := h.2.1
  have hm := hr.2.1
  have hmn := h.1.2.2.2.2.1
  have cp : 0 ≤ S.1 (0, 0, 0) 4 ∧ S.1 (0, 0, 0) 4 < 25 := by clear h hr; grind
  have ei : 61 * S.1 (0, 0, 0) 4 + 0 = 61 * S.1 (0, 0, 0) 4 := by simp
  have hix := F_in cp.1 cp.2 (s := 0) (by decide) (by decide)
  have aset := F_all_set h cp.1 cp.2 (s := 0) (by decide) (by decide) (w := 0) (a := 0) (b := 0)
  rw [ei] at hix aset
  have f1 : w_fr F_PC S (sz (sz (sl S (3, S.1 (0, 0, 0) 4, 0) 0 0) (3, S.1 (0, 0, 0) 4, 0) 1 0) (3, S.1 (0, 0, 0) 4, 0) 2 0) := F_set_frC
  have g1 : w_fr F_PT U (sz (sz (sl U (15, 0, 0) (61 * S.1 (0, 0, 0) 4) 0) (16, 0, 0) (61 * S.1 (0, 0, 0) 4) 0) (17, 0, 0) (61 * S.1 (0, 0, 0) 4) 0) := F_set_frT
  have e4 := (f1 (0, 0, 0) 4 rfl).1
  have e3 := (g1 (0, 0, 0) 3 rfl).1
  have c0 := Int32.le_iff_toInt_le.mp cp.1
  have c25 := Int32.lt_iff_toInt_lt.mp cp.2
  have z : (0 : Int32).toInt = 0 := rfl
  have z25 : (25 : Int32).toInt = 25 := rfl
  have m1 : (-1 : Int32).toInt = -1 := rfl
  have one : (1 : Int32).toInt = 1 := rfl
  have hd : (S.1 (0, 0, 0) 4 - 1).toInt = (S.1 (0, 0, 0) 4).toInt - 1 := by
      have q := wi_sub (b := 1) cp.1 (by decide)
      rw [one] at q; exact q
  obtain ⟨S2, U2, c2, t2, a2, f2, g2⟩ := F_outer (S.1 (0, 0, 0) 4).toInt.toNat FU FU _ _ (S.1 (0, 0, 0) 4 - 1) aset (by rw [e4, i_lt]; omega) (by rw [i_le]; omega) (by omega) (by rw [FU_eq]; omega) (by rw [FU_eq]; omega)
  refine ⟨S2, U2, ?_, ?_, a2, fr_t f1 f2, fr_t g1 g2⟩
  · have h2 : f577 S (S.1 (0, 0, 0) 4) 0 0 0 0 = some (sz (sz (sl S (3, S.1 (0, 0, 0) 4, 0) 0 0) (3, S.1 (0, 0, 0) 4, 0) 1 0) (3, S.1 (0, 0, 0) 4, 0) 2 0) := by simp [f577, cp]
    simp only [f526, cp, and_self, if_true, h2, Option.bind_some, e4, c2]
  · simp only [f1802, ← hmn, f1803, hix, and_self, if_true, Option.bind_some]
    rw [e3, ← hmn]
    simp only [t2, Option.bind_some]
