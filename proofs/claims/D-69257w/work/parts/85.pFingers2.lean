set_option maxRecDepth 100000
theorem F_J_fr {C S : wS} (h : w_fr F_PC C S) {x p : Int32} : F_J S x p = F_J C x p := by
  unfold F_J
  rw [fr_1 h (k := (12, 0, 0)) (F_k0 rfl rfl rfl), fr_1 h (k := (13, 0, 0)) (F_k0 rfl rfl rfl), fr_1 h (k := (22, 0, 0)) (F_k0 rfl rfl rfl), fr_1 h (k := (21, 0, 0)) (F_k0 rfl rfl rfl),
    fr_2 h (k := (18, 0, 0)) (F_k0 rfl rfl rfl), fr_2 h (k := (19, 0, 0)) (F_k0 rfl rfl rfl), (h (0, 0, 0) 0 rfl).1, (h (0, 0, 0) 1 rfl).1, (h (0, 0, 0) 10 rfl).1]
theorem F_fol_fr {C S : wS} (h : w_fr F_PC C S) {pr : Int32} : ∀ (n : Nat) (p s j x : Int32), F_fol S pr n p s j x = F_fol C pr n p s j x
  | 0, _, _, _, _ => rfl
  | n + 1, p, s, j, x => by
    unfold F_fol
    rw [F_L_fr h, F_J_fr h, (h (0, 0, 0) 4 rfl).1, (h (0, 0, 0) 1 rfl).1, F_fol_fr h n]
/-- where a product that begins at a step of a piece ends -/
def F_end (C : wS) (q p s : Int32) : Option (Int32 × Int32 × Int32) := F_fol C (C.1 (15, 0, 0) q) ((C.1 (0, 0, 0) 4).toInt - p.toInt).toNat p s 0 0
theorem F_end_fr {C S : wS} (h : w_fr F_PC C S) {q p s : Int32} : F_end S q p s = F_end C q p s := by
  unfold F_end
  rw [(h (0, 0, 0) 4 rfl).1, fr_1 h (k := (15, 0, 0)) (F_k0 rfl rfl rfl), F_fol_fr h]
theorem F_begin2 {C T : wS} (h : F_all C T) {q p s : Int32} (hq : 0 ≤ q) (hq2 : q < C.1 (0, 0, 0) 7) (hp : 0 ≤ p) (hp2 : p < C.1 (0, 0, 0) 4) (hs : 0 ≤ s) (hs2 : s ≤ F_L C p) :
    (F_end C q p s = none ∧ ∃ S U, f529 C q p s = some (0, S) ∧ f1804 T q p s = some (0, U) ∧ F_ag C S ∧ F_ag T U) ∨
    (∃ S U a b j, F_end C q p s = some (a, b, j) ∧ f529 C q p s = some (1, S) ∧ f1804 T q p s = some (1, U) ∧ F_ag C S ∧ F_ag T U ∧ S.1 (0, 0, 0) 17 = a ∧ S.1 (0, 0, 0) 18 = b ∧ S.1 (0, 0, 0) 19 = j ∧ U.1 (0, 0, 0) 17 = a ∧ U.1 (0, 0, 0) 18 = b ∧ U.1 (0, 0, 0) 19 = j ∧
      p ≤ a ∧ a < C.1 (0, 0, 0) 4 ∧ 0 ≤ b ∧ b ≤ F_L C a ∧ 0 ≤ j ∧ j = a - p ∧ (s < b ∨ p < a)) := by
  obtain ⟨ht, hr, hl, _⟩ := h
  have hm := hr.2.1
  have hprd := hr.2.2.2.2.1 q
  have q6 : 0 ≤ q ∧ q < 6 := by clear hr hl ht; grind
  have hp' := Int32.lt_iff_toInt_lt.mp hp2
  have h0' := Int32.le_iff_toInt_le.mp hp
  have z0 : (0 : Int32).toInt = 0 := rfl
  have hm2 := Int32.le_iff_toInt_le.mp hm.2.1
  have z24 : (24 : Int32).toInt = 24 := rfl
  have hx : (0 : Int32) < C.1 (15, 0, 0) q := by have := hprd.2.2 hq hq2; clear hr hl ht; grind
  have hn : p.toInt + ((C.1 (0, 0, 0) 4).toInt - p.toInt).toNat = (C.1 (0, 0, 0) 4).toInt := by omega
  have hA : ∀ {S : wS}, F_ag S (sz (sz (sz S (0, 0, 0) 17 p) (0, 0, 0) 18 s) (0, 0, 0) 19 0) := F_ag_sz (F_ag_sz (F_ag_sz F_ag0 (by decide)) (by decide)) (by decide)
  have c := F_folC hr hl q6 hprd.2.1 ((C.1 (0, 0, 0) 4).toInt - p.toInt).toNat FU (sz (sz (sz C (0, 0, 0) 17 p) (0, 0, 0) 18 s) (0, 0, 0) 19 0) p s 0 0 hA (by simp [sz_1]) (by simp [sz_1]) (by simp [sz_1]) hn hp (by omega) hs hs2 (by decide) hx (by rw [FU_eq]; omega)
  have t := F_folT ht hr hl q6 hprd.2.1 ((C.1 (0, 0, 0) 4).toInt - p.toInt).toNat FU (sz (sz (sz T (0, 0, 0) 17 p) (0, 0, 0) 18 s) (0, 0, 0) 19 0) p s 0 0 hA (by simp [sz_1]) (by simp [sz_1]) (by simp [sz_1]) hn hp (by omega) hs hs2 (by decide) hx (by rw [FU_eq]; omega)
  unfold f529 f1804 F_end
  rcases c with ⟨e1, S, c1, c2⟩ | ⟨a, b, j, S, e1, c1, c2, c3, c4, c5⟩
  · rcases t with ⟨_, U, t1, t2⟩ | ⟨a, b, j, U, e2, _⟩
    · exact Or.inl ⟨e1, S, U, by rw [c1]; rfl, by rw [t1]; rfl, c2, t2⟩
    · rw [e1] at e2; cases e2
  · rcases t with ⟨e2, _⟩ | ⟨a', b', j', U, e2, t1, t2, t3, t4, t5⟩
    · rw [e1] at e2; cases e2
    · have e3 := e1
      rw [e1] at e2
      have e2 := Option.some.inj e2
      simp only [Prod.mk.injEq] at e2
      obtain ⟨rfl, rfl, rfl⟩ := e2
      have ok := F_fol_ok hr hl hprd.2.1 _ p s 0 0 a b j hn hp hs hs2 (by decide) hx (by decide) hp e1
      have oj := ok.2.2.2.2.2.1
      refine Or.inr ⟨S, U, a, b, j, e3, by rw [c1]; rfl, by rw [t1]; rfl, c2, t2, c3, c4, c5, t3, t4, t5, ok.1, ok.2.1, ok.2.2.1, ok.2.2.2.1, ok.2.2.2.2.1, ?_, ok.2.2.2.2.2.2⟩
      rw [← oj]; simp
/-- which product goes on at a step -/
theorem F_go {p s : Int32} (hp : 0 ≤ p) (hs : 0 ≤ s) : ∀ (n k k' : Nat) (S U : wS) (q : Int32), F_all S U → p < S.1 (0, 0, 0) 4 → s ≤ F_L S p → 0 ≤ q → q.toInt + n = (S.1 (0, 0, 0) 7).toInt → n < k → n < k' →
    ∃ S' U' q', lp f531_b3 k (p, s, q, S) = some (p, s, q', S') ∧ F_all S' U' ∧ w_fr F_PC S S' ∧ w_fr F_PT U U' ∧
      ((q' = S.1 (0, 0, 0) 7 ∧ lp f1809_b1 k' (p, s, 61 * p + s, q, U) = some (.inr U')) ∨
       (0 ≤ q' ∧ q' < S.1 (0, 0, 0) 7 ∧ lp f1809_b1 k' (p, s, 61 * p + s, q, U) = some (.inl (q', U')) ∧ ∃ a b j, F_end S q' p s = some (a, b, j) ∧ U'.1 (0, 0, 0) 17 = a ∧ U'.1 (0, 0, 0) 18 = b ∧ U'.1 (0, 0, 0) 19 = j))
  | 0, k + 1, k' + 1, S, U, q, h, hp2, hs2, hq, hn, _, _ => by
    have hw := h.1.2.2.2.2.2.1
    have h1 : ¬ q < S.1 (0, 0, 0) 7 := by rw [i_lt]; omega
    have h2 : ¬ q < U.1 (0, 0, 0) 6 := by rw [← hw]; exact h1
    have h3 : q = S.1 (0, 0, 0) 7 := by rw [i_eq]; omega
    exact ⟨S, U, q, lp_0 (by simp [f531_b3, h1]), h, fr_0, fr_0, Or.inl ⟨h3, lp_0 (by simp [f1809_b1, h2])⟩⟩
  | n + 1, k + 1, k' + 1, S, U, q, h, hp2, hs2, hq, hn, hk, hk' => by
    have h1 : q < S.1 (0, 0, 0) 7 := by rw [i_lt]; omega
    have hup := up1 h1
    have hq1 : 0 ≤ q + 1 := by rw [i_le]; have := Int32.le_iff_toInt_le.mp hq; have z : (0 : Int32).toInt = 0 := rfl; omega
    have k3 : (q + 1).toInt + n = (S.1 (0, 0, 0) 7).toInt := by omega
    have k4 : n < k := by omega
    have k5 : n < k' := by omega
    -- going on with the next product
    have next : ∀ S1 U1, F_all S1 U1 → w_fr F_PC S S1 → w_fr F_PT U U1 → f531_b3 (p, s, q, S) = some (.inl (p, s, q + 1, S1)) → f1809_b1 (p, s, 61 * p + s, q, U) = some (.inl (p, s, 61 * p + s, q + 1, U1)) →
        ∃ S' U' q', lp f531_b3 (k + 1) (p, s, q, S) = some (p, s, q', S') ∧ F_all S' U' ∧ w_fr F_PC S S' ∧ w_fr F_PT U U' ∧
          ((q' = S.1 (0, 0, 0) 7 ∧ lp f1809_b1 (k' + 1) (p, s, 61 * p + s, q, U) = some (.inr U')) ∨
           (0 ≤ q' ∧ q' < S.1 (0, 0, 0) 7 ∧ lp f1809_b1 (k' + 1) (p, s, 61 * p + s, q, U) = some (.inl (q', U')) ∧ ∃ a b j, F_end S q' p s = some (a, b, j) ∧ U'.1 (0, 0, 0) 17 = a ∧ U'.1 (0, 0, 0) 18 = b ∧ U'.1 (0, 0, 0) 19 = j)) := by
      intro S1 U1 a1 f1 g1 c1 t1
      have e7 := (f1 (0, 0, 0) 7 rfl).1
      have e4 := (f1 (0, 0, 0) 4 rfl).1
      obtain ⟨S2, U2, q', c2, a2, f2, g2, r⟩ := F_go hp hs n k k' S1 U1 (q + 1) a1 (by rw [e4]; exact hp2) (by rw [F_L_fr f1]; exact hs2) hq1 (by rw [e7]; exact k3) k4 k5
      rw [e7, F_end_fr f1] at r
      exact ⟨S2, U2, q', by rw [lp_s c1]; exact c2, a2, fr_t f1 f2, fr_t g1 g2, by rw [lp_s t1]; exact r⟩
    have hr := h.2.1
    have hm := hr.2.1
    have hw := h.1.2.2.2.2.2.1
    have hlen := hr.2.2.1 (S.1 (22, 0, 0) p)
    have hL : F_L S p = S.1 (12, 0, 0) (S.1 (22, 0, 0) p) := rfl
    have q6 : 0 ≤ q ∧ q < 6 := by clear h hr next; grind
    have cp : 0 ≤ p ∧ p < 25 := by clear h hr next; grind
    have cs : 0 ≤ s ∧ s < 61 := by clear h hr next; grind
    have hq2' : q < U.1 (0, 0, 0) 6 := by rw [← hw]; exact h1
    rcases F_begin2 h hq h1 hp hp2 hs hs2 with ⟨en, S2, U2, c1, t1, a1, a2⟩ | ⟨S2, U2, a, b, j, en, c1, t1, a1, a2, x1, x2, x3, y1, y2, y3, o1, o2, o3, o4, o5, o6, o7⟩
    · exact next S2 U2 (F_all_ag h a1 a2) (F_ag_frC a1) (F_ag_frT a2) (by simp [f531_b3, f528, c1, h1]) (by simp [f1809_b1, t1, hq2'])
    · have hlen2 := hr.2.2.1 (S.1 (22, 0, 0) a)
      have hL2 : F_L S a = S.1 (12, 0, 0) (S.1 (22, 0, 0) a) := rfl
      have ca : 0 ≤ a ∧ a < 25 := by clear h hr next en; grind
      have cb : 0 ≤ b ∧ b < 61 := by clear h hr next en; grind
      have hall := F_all_ag h a1 a2
      have tab := hall.2.2.2 a b ca.1 ca.2 cb.1 cb.2
      have tabp := hall.2.2.2 p s cp.1 cp.2 cs.1 cs.2
      have hix := F_in ca.1 ca.2 cb.1 cb.2
      have hix2 := F_in cp.1 cp.2 cs.1 cs.2
      have hwr : U2.2 (9, 0, 0) q = S2.2 (16, 0, 0) q := by rw [hall.1.1.2.2.2]
      have hS : f528 S q p s = some (1, sz (sz (sl S2 (4, 0, 0) 0 (S2.2 (16, 0, 0) q + S2.2 (3, a, b) 0)) (4, 0, 0) 1 (j + S2.1 (3, a, b) 1)) (4, 0, 0) 2 (S2.1 (3, a, b) 2)) := by
        simp [f528, c1, x1, x2, x3, ca, cb, q6, f577v1]
      have fby : w_fr F_PC S2 (sz (sz (sl S2 (4, 0, 0) 0 (S2.2 (16, 0, 0) q + S2.2 (3, a, b) 0)) (4, 0, 0) 1 (j + S2.1 (3, a, b) 1)) (4, 0, 0) 2 (S2.1 (3, a, b) 2)) := F_by_fr
      have aby := F_all_by hall (w := S2.2 (16, 0, 0) q + S2.2 (3, a, b) 0) (a := j + S2.1 (3, a, b) 1) (b := S2.1 (3, a, b) 2)
      have e1 : U2.2 (15, 0, 0) (61 * a + b) + U2.2 (9, 0, 0) q = S2.2 (16, 0, 0) q + S2.2 (3, a, b) 0 := by rw [hwr, ← tab.1]; exact Int64.add_comm _ _
      have e2 : U2.1 (16, 0, 0) (61 * a + b) + j = j + S2.1 (3, a, b) 1 := by rw [← tab.2.1]; exact Int32.add_comm _ _
      have e3 : U2.1 (17, 0, 0) (61 * a + b) = S2.1 (3, a, b) 2 := tab.2.2.symm
      by_cases v : S2.2 (16, 0, 0) q + S2.2 (3, a, b) 0 = S2.2 (3, p, s) 0 ∧ j + S2.1 (3, a, b) 1 = S2.1 (3, p, s) 1 ∧ S2.1 (3, a, b) 2 = S2.1 (3, p, s) 2
      · refine ⟨_, U2, q, lp_0 (b := (p, s, q, _)) ?_, aby, fr_t (F_ag_frC a1) fby, F_ag_frT a2, Or.inr ⟨hq, h1, lp_0 ?_, a, b, j, en, y1, y2, y3⟩⟩
        · simp only [f531_b3, hS, h1, cp, cs, f580, Option.bind_some, if_true, and_self, sz_1, sz_2, sl_1, sl_2]
          simp [v]
        · simp only [f1809_b1, t1, hq2', y1, y2, y3, hix, q6, hix2, e1, e2, e3, ← tabp.1, ← tabp.2.1, ← tabp.2.2, Option.bind_some, if_true, and_self]
          simp [v, f1809_3_1]
      · refine next _ U2 aby (fr_t (F_ag_frC a1) fby) (F_ag_frT a2) ?_ ?_
        · simp only [f531_b3, hS, h1, cp, cs, f580, Option.bind_some, if_true, and_self, sz_1, sz_2, sl_1, sl_2]
          by_cases v1 : S2.2 (16, 0, 0) q + S2.2 (3, a, b) 0 = S2.2 (3, p, s) 0
          · by_cases v2 : j + S2.1 (3, a, b) 1 = S2.1 (3, p, s) 1
            · have v3 : ¬ S2.1 (3, a, b) 2 = S2.1 (3, p, s) 2 := fun w => v ⟨v1, v2, w⟩
              simp [v1, v2, v3]
            · simp [v1, v2]
          · simp [v1]
        · simp only [f1809_b1, t1, hq2', y1, y2, y3, hix, q6, hix2, e1, e2, e3, ← tabp.1, ← tabp.2.1, ← tabp.2.2, Option.bind_some, if_true, and_self]
          by_cases v1 : S2.2 (16, 0, 0) q + S2.2 (3, a, b) 0 = S2.2 (3, p, s) 0
          · by_cases v2 : j + S2.1 (3, a, b) 1 = S2.1 (3, p, s) 1
            · have v3 : ¬ S2.1 (3, a, b) 2 = S2.1 (3, p, s) 2 := fun w => v ⟨v1, v2, w⟩
              simp [v1, v2, v3, f1809_3_1]
            · simp [v1, v2, f1809_3_1]
          · simp [v1, f1809_3_1]
set_option maxRecDepth 100000
theorem i_add {a b : Int32} (h : -2147483648 ≤ a.toInt + b.toInt) (h' : a.toInt + b.toInt ≤ 2147483647) : (a + b).toInt = a.toInt + b.toInt := by
  rw [Int32.toInt_add]
  exact Int.bmod_eq_of_le (by omega) (by omega)
/-- what the filling of the tables looks at, as places -/
def F_nC (k : wK) (i : Int32) : Bool := decide (k = (12, 0, 0)) || decide (k = (13, 0, 0)) || decide (k = (15, 0, 0)) || decide (k = (16, 0, 0)) || decide (k = (18, 0, 0)) || decide (k = (19, 0, 0)) || decide (k = (21, 0, 0)) || decide (k = (22, 0, 0)) || decide (k.1 = 3) || (decide (k = (0, 0, 0)) && (decide (i = 0) || decide (i = 1) || decide (i = 4) || decide (i = 7) || decide (i = 10)))
def F_nT (k : wK) (i : Int32) : Bool := decide (k = (5, 0, 0)) || decide (k = (6, 0, 0)) || decide (k = (8, 0, 0)) || decide (k = (9, 0, 0)) || decide (k = (11, 0, 0)) || decide (k = (12, 0, 0)) || decide (k = (13, 0, 0)) || decide (k = (14, 0, 0)) || decide (k = (15, 0, 0)) || decide (k = (16, 0, 0)) || decide (k = (17, 0, 0)) || (decide (k = (0, 0, 0)) && (decide (i = 1) || decide (i = 2) || decide (i = 3) || decide (i = 6) || decide (i = 9)))
def F_QC (k : wK) (i : Int32) : Bool := !F_nC k i
def F_QT (k : wK) (i : Int32) : Bool := !F_nT k i
theorem F_all_q {C T S U : wS} (H : F_all C T) (h : w_fr F_QC C S) (g : w_fr F_QT T U) : F_all S U := by
  obtain ⟨ht, hr, hl, hta⟩ := H
  refine ⟨?_, ?_, ?_, ?_⟩
  · unfold F_told
    rw [fr_1 h (k := (12, 0, 0)) (fun _ => rfl), fr_1 h (k := (13, 0, 0)) (fun _ => rfl), fr_1 h (k := (15, 0, 0)) (fun _ => rfl), fr_1 h (k := (21, 0, 0)) (fun _ => rfl),
      fr_2 h (k := (16, 0, 0)) (fun _ => rfl), fr_2 h (k := (18, 0, 0)) (fun _ => rfl), fr_2 h (k := (19, 0, 0)) (fun _ => rfl),
      (h (0, 0, 0) 0 rfl).1, (h (0, 0, 0) 1 rfl).1, (h (0, 0, 0) 4 rfl).1, (h (0, 0, 0) 7 rfl).1, (h (0, 0, 0) 10 rfl).1,
      fr_1 g (k := (5, 0, 0)) (fun _ => rfl), fr_1 g (k := (6, 0, 0)) (fun _ => rfl), fr_1 g (k := (8, 0, 0)) (fun _ => rfl), fr_1 g (k := (11, 0, 0)) (fun _ => rfl), fr_1 g (k := (12, 0, 0)) (fun _ => rfl), fr_1 g (k := (13, 0, 0)) (fun _ => rfl),
      fr_2 g (k := (9, 0, 0)) (fun _ => rfl),
      (g (0, 0, 0) 1 rfl).1, (g (0, 0, 0) 2 rfl).1, (g (0, 0, 0) 3 rfl).1, (g (0, 0, 0) 6 rfl).1, (g (0, 0, 0) 9 rfl).1]
    exact ht
  · unfold F_rng
    rw [fr_1 h (k := (12, 0, 0)) (fun _ => rfl), fr_1 h (k := (13, 0, 0)) (fun _ => rfl), fr_1 h (k := (15, 0, 0)) (fun _ => rfl), fr_1 h (k := (21, 0, 0)) (fun _ => rfl),
      (h (0, 0, 0) 0 rfl).1, (h (0, 0, 0) 1 rfl).1, (h (0, 0, 0) 4 rfl).1, (h (0, 0, 0) 7 rfl).1, (h (0, 0, 0) 10 rfl).1]
    exact hr
  · unfold F_line
    rw [fr_1 h (k := (22, 0, 0)) (fun _ => rfl), fr_1 g (k := (14, 0, 0)) (fun _ => rfl), (h (0, 0, 0) 4 rfl).1]
    exact hl
  · exact F_tab_cong hta (fun p s => ⟨fr_2 h (k := (3, p, s)) (fun _ => by simp [F_QC, F_nC]), fr_1 h (k := (3, p, s)) (fun _ => by simp [F_QC, F_nC])⟩) ⟨fr_2 g (k := (15, 0, 0)) (fun _ => rfl), fr_1 g (k := (16, 0, 0)) (fun _ => rfl), fr_1 g (k := (17, 0, 0)) (fun _ => rfl)⟩
theorem F_L_q {S R : wS} (h : w_fr F_QC S R) {p : Int32} : F_L R p = F_L S p := by
  unfold F_L
  rw [fr_1 h (k := (12, 0, 0)) (fun _ => rfl), fr_1 h (k := (22, 0, 0)) (fun _ => rfl)]
/-- what was made, on both sides -/
def F_mk (C T : wS) : Prop := C.1 (0, 0, 0) 26 = T.1 (0, 0, 0) 22 ∧ C.1 (0, 0, 0) 30 = T.1 (0, 0, 0) 28 ∧
  (C.1 (31, 0, 0) = T.1 (24, 0, 0) ∧ C.1 (32, 0, 0) = T.1 (25, 0, 0) ∧ C.1 (33, 0, 0) = T.1 (26, 0, 0) ∧ C.1 (34, 0, 0) = T.1 (27, 0, 0) ∧ C.1 (35, 0, 0) = T.1 (28, 0, 0)) ∧
  C.1 (37, 0, 0) = T.1 (30, 0, 0) ∧ C.1 (38, 0, 0) = T.1 (31, 0, 0) ∧ C.1 (39, 0, 0) = T.1 (32, 0, 0)
theorem F_mk_fr {C T S U : wS} (h : w_fr F_PC C S) (g : w_fr F_PT T U) (hk : F_mk C T) : F_mk S U := by
  unfold F_mk
  rw [(h (0, 0, 0) 26 rfl).1, (h (0, 0, 0) 30 rfl).1, (g (0, 0, 0) 22 rfl).1, (g (0, 0, 0) 28 rfl).1,
    fr_1 h (k := (31, 0, 0)) (F_k0 rfl rfl rfl), fr_1 h (k := (32, 0, 0)) (F_k0 rfl rfl rfl), fr_1 h (k := (33, 0, 0)) (F_k0 rfl rfl rfl), fr_1 h (k := (34, 0, 0)) (F_k0 rfl rfl rfl), fr_1 h (k := (35, 0, 0)) (F_k0 rfl rfl rfl),
    fr_1 h (k := (37, 0, 0)) (F_k0 rfl rfl rfl), fr_1 h (k := (38, 0, 0)) (F_k0 rfl rfl rfl), fr_1 h (k := (39, 0, 0)) (F_k0 rfl rfl rfl),
    fr_1 g (k := (24, 0, 0)) (F_kT rfl rfl rfl rfl), fr_1 g (k := (25, 0, 0)) (F_kT rfl rfl rfl rfl), fr_1 g (k := (26, 0, 0)) (F_kT rfl rfl rfl rfl), fr_1 g (k := (27, 0, 0)) (F_kT rfl rfl rfl rfl), fr_1 g (k := (28, 0, 0)) (F_kT rfl rfl rfl rfl),
    fr_1 g (k := (30, 0, 0)) (F_kT rfl rfl rfl rfl), fr_1 g (k := (31, 0, 0)) (F_kT rfl rfl rfl rfl), fr_1 g (k := (32, 0, 0)) (F_kT rfl rfl rfl rfl)]
  exact hk
theorem fr_w {P Q : wK → Int32 → Bool} {S R : wS} (h : w_fr P S R) (hPQ : ∀ k i, Q k i = false → P k i = false) : w_fr Q S R := fun k i q => h k i (hPQ k i q)
/-- a row as a function: set at a place -/
theorem sz_row {S : wS} {k : wK} {i v : Int32} : (sz S k i v).1 k = fun j => if j = i then v else S.1 k j := funext fun j => by simp [sz_1]
theorem sz_oth {S : wS} {k k' : wK} {i v : Int32} (h : k' ≠ k) : (sz S k i v).1 k' = S.1 k' := funext fun j => by rw [sz_1, if_neg (fun e => h e.1)]
/-- places that the walk may change -/
def F_WC (k : wK) (i : Int32) : Bool := decide (k = (31, 0, 0)) || decide (k = (32, 0, 0)) || decide (k = (33, 0, 0)) || decide (k = (34, 0, 0)) || decide (k = (35, 0, 0)) || decide (k = (37, 0, 0)) || decide (k = (38, 0, 0)) || decide (k = (39, 0, 0)) || decide (k = (4, 0, 0)) || (decide (k = (0, 0, 0)) && (decide (i = 26) || decide (i = 30) || decide (i = 17) || decide (i = 18) || decide (i = 19)))
def F_WT (k : wK) (i : Int32) : Bool := decide (k = (24, 0, 0)) || decide (k = (25, 0, 0)) || decide (k = (26, 0, 0)) || decide (k = (27, 0, 0)) || decide (k = (28, 0, 0)) || decide (k = (30, 0, 0)) || decide (k = (31, 0, 0)) || decide (k = (32, 0, 0)) || (decide (k = (0, 0, 0)) && (decide (i = 22) || decide (i = 28) || decide (i = 17) || decide (i = 18) || decide (i = 19)))
theorem F_WQ {k : wK} {i : Int32} (h : F_QC k i = false) : F_WC k i = false := by
  simp only [F_QC, F_nC, F_WC, Bool.not_eq_false', Bool.or_eq_true, Bool.and_eq_true, decide_eq_true_eq, Bool.or_eq_false_iff, Bool.and_eq_false_iff, decide_eq_false_iff_not] at h ⊢
  obtain ⟨a, b, c⟩ := k
  simp only [Prod.mk.injEq] at h ⊢
  rcases h with ((((((((h | h) | h) | h) | h) | h) | h) | h) | h) | ⟨h, (((h' | h') | h') | h') | h'⟩ <;> simp_all
theorem F_WQT {k : wK} {i : Int32} (h : F_QT k i = false) : F_WT k i = false := by
  simp only [F_QT, F_nT, F_WT, Bool.not_eq_false', Bool.or_eq_true, Bool.and_eq_true, decide_eq_true_eq, Bool.or_eq_false_iff, Bool.and_eq_false_iff, decide_eq_false_iff_not] at h ⊢
  obtain ⟨a, b, c⟩ := k
  simp only [Prod.mk.injEq] at h ⊢
  rcases h with ((((((((((h | h) | h) | h) | h) | h) | h) | h) | h) | h) | h) | ⟨h, (((h' | h') | h') | h') | h'⟩ <;> simp_all
theorem F_all_w {C T S U : wS} (H : F_all C T) (h : w_fr F_WC C S) (g : w_fr F_WT T U) : F_all S U := F_all_q H (fr_w h (fun _ _ q => F_WQ q)) (fr_w g (fun _ _ q => F_WQT q))
theorem F_L_w {S R : wS} (h : w_fr F_WC S R) {p : Int32} : F_L R p = F_L S p := F_L_q (fr_w h (fun _ _ q => F_WQ q))
theorem F_ag_w {C S : wS} (h : F_ag C S) : w_fr F_WC C S := fun k i q => by
  refine ⟨h.2 k i (fun e => ?_), by rw [h.1]⟩
  obtain ⟨rfl, e⟩ := e
  rcases e with rfl | rfl | rfl <;> simp [F_WC] at q
theorem F_ag_wT {C S : wS} (h : F_ag C S) : w_fr F_WT C S := fun k i q => by
  refine ⟨h.2 k i (fun e => ?_), by rw [h.1]⟩
  obtain ⟨rfl, e⟩ := e
  rcases e with rfl | rfl | rfl <;> simp [F_WT] at q
/-- the joints of a product -/
theorem F_joint {p j : Int32} (hp : 0 ≤ p) : ∀ (n k k' : Nat) (S U : wS) (c x : Int32), F_all S U → F_mk S U → S.1 (0, 0, 0) 19 = j → U.1 (0, 0, 0) 19 = j → p + j < S.1 (0, 0, 0) 4 → 0 ≤ j → j ≤ 24 → p < S.1 (0, 0, 0) 4 → 0 ≤ c → c.toInt + n = j.toInt → 0 ≤ S.1 (0, 0, 0) 30 → (S.1 (0, 0, 0) 30).toInt + n ≤ 23 → n < k → n < k' →
    ∃ S' U', lp f532_b1 k (p, x, c, S) = some S' ∧ lp f1810_b1 k' (p, x, c, U) = some U' ∧ F_mk S' U' ∧ w_fr F_WC S S' ∧ w_fr F_WT U U' ∧ (S'.1 (0, 0, 0) 30).toInt = (S.1 (0, 0, 0) 30).toInt + n ∧ S'.1 (0, 0, 0) 26 = S.1 (0, 0, 0) 26 ∧ U'.1 (0, 0, 0) 17 = U.1 (0, 0, 0) 17 ∧ U'.1 (0, 0, 0) 18 = U.1 (0, 0, 0) 18
  | 0, k + 1, k' + 1, S, U, c, x, h, hm, e1, e2, hpj, hj, hj2, hp2, hc, hn, hb, hb2, hk, hk' => by
    have h1 : ¬ c < j := by rw [i_lt]; omega
    exact ⟨S, U, lp_0 (by simp [f532_b1, e1, h1]), lp_0 (by simp [f1810_b1, e2, h1]), hm, fr_0, fr_0, by omega, rfl, rfl, rfl⟩
  | n + 1, k + 1, k' + 1, S, U, c, x, h, hm, e1, e2, hpj, hj, hj2, hp2, hc, hn, hb, hb2, hk, hk' => by
    have h1 : c < j := by rw [i_lt]; omega
    have hup := up1 h1
    have z : (0 : Int32).toInt = 0 := rfl
    have z24 : (24 : Int32).toInt = 24 := rfl
    have b0 := Int32.le_iff_toInt_le.mp hb
    have j24 : S.1 (0, 0, 0) 30 < 24 := by rw [i_lt]; omega
    have bu := up1 j24
    have k1 : 0 ≤ c + 1 := by rw [i_le]; have := Int32.le_iff_toInt_le.mp hc; omega
    have k3 : (c + 1).toInt + n = j.toInt := by omega
    have k4 : n < k := by omega
    have k5 : n < k' := by omega
    have k6 : 0 ≤ S.1 (0, 0, 0) 30 + 1 := by rw [i_le]; omega
    have k7 : (S.1 (0, 0, 0) 30 + 1).toInt + n ≤ 23 := by omega
    have k8 : (S.1 (0, 0, 0) 30 + 1).toInt + n = (S.1 (0, 0, 0) 30).toInt + (n + 1 : Nat) := by omega
    have m24 := h.2.1.2.1
    have n1 := Int32.le_iff_toInt_le.mp m24.2.1
    have n2 := Int32.lt_iff_toInt_lt.mp hp2
    have n3 := Int32.le_iff_toInt_le.mp hp
    have n4 := Int32.le_iff_toInt_le.mp hj2
    have n5 := Int32.le_iff_toInt_le.mp hj
    have n6 := Int32.le_iff_toInt_le.mp hc
    have n7 := Int32.lt_iff_toInt_lt.mp h1
    have n8 := Int32.lt_iff_toInt_lt.mp hpj
    have n9 := up1 hp2
    have pj : (p + j).toInt = p.toInt + j.toInt := i_add (by omega) (by omega)
    have pc : (p + 1 + c).toInt = p.toInt + 1 + c.toInt := by rw [i_add (by omega) (by omega), n9]
    have ci : 0 ≤ p + 1 + c ∧ p + 1 + c < S.1 (0, 0, 0) 4 := ⟨by rw [i_le]; omega, by rw [i_lt]; omega⟩
    have ci2 : 0 ≤ p + 1 + c ∧ p + 1 + c < 24 := ⟨by rw [i_le]; omega, by rw [i_lt]; omega⟩
    have cl0 := h.2.2.1.2.1 (p + 1 + c) ci.1 ci.2
    have cl : 0 ≤ S.1 (22, 0, 0) (p + 1 + c) ∧ S.1 (22, 0, 0) (p + 1 + c) < 24 := ⟨cl0.1, by rw [i_lt]; have := Int32.lt_iff_toInt_lt.mp cl0.2; omega⟩
    have cj : 0 ≤ S.1 (0, 0, 0) 30 ∧ S.1 (0, 0, 0) 30 < 24 := ⟨hb, j24⟩
    have cj32 : 0 ≤ S.1 (0, 0, 0) 30 ∧ S.1 (0, 0, 0) 30 < 32 := ⟨hb, by rw [i_lt]; have z32 : (32 : Int32).toInt = 32 := rfl; omega⟩
    have l0 := h.2.2.1.1
    have t1 := h.1.1.1
    have t9 := h.1.2.2.2.1
    obtain ⟨q1, q2, ⟨q3, q4, q5, q6, q7⟩, q8, q9, q10⟩ := hm
    have f1 : w_fr F_WC S (sz (sz (sz (sz S (37, 0, 0) (S.1 (0, 0, 0) 30) (S.1 (0, 0, 0) 26)) (38, 0, 0) (S.1 (0, 0, 0) 30) x) (0, 0, 0) 30 (S.1 (0, 0, 0) 30 + 1)) (39, 0, 0) (S.1 (0, 0, 0) 30) (p + 1 + c)) := fr_z (fr_z (fr_z (fr_z fr_0 rfl) rfl) rfl) rfl
    have g1 : w_fr F_WT U (sz (sz (sz (sz U (30, 0, 0) (S.1 (0, 0, 0) 30) (S.1 (0, 0, 0) 26)) (31, 0, 0) (S.1 (0, 0, 0) 30) x) (32, 0, 0) (S.1 (0, 0, 0) 30) (p + 1 + c)) (0, 0, 0) 28 (S.1 (0, 0, 0) 30 + 1)) := fr_z (fr_z (fr_z (fr_z fr_0 rfl) rfl) rfl) rfl
    have hm1 : F_mk (sz (sz (sz (sz S (37, 0, 0) (S.1 (0, 0, 0) 30) (S.1 (0, 0, 0) 26)) (38, 0, 0) (S.1 (0, 0, 0) 30) x) (0, 0, 0) 30 (S.1 (0, 0, 0) 30 + 1)) (39, 0, 0) (S.1 (0, 0, 0) 30) (p + 1 + c)) (sz (sz (sz (sz U (30, 0, 0) (S.1 (0, 0, 0) 30) (S.1 (0, 0, 0) 26)) (31, 0, 0) (S.1 (0, 0, 0) 30) x) (32, 0, 0) (S.1 (0, 0, 0) 30) (p + 1 + c)) (0, 0, 0) 28 (S.1 (0, 0, 0) 30 + 1)) := by
      refine ⟨by simpa [sz_1] using q1, by simp [sz_1], ⟨?_, ?_, ?_, ?_, ?_⟩, ?_, ?_, ?_⟩ <;> funext i <;> simp [sz_1, ← q3, ← q4, ← q5, ← q6, ← q7, ← q8, ← q9, ← q10]
    obtain ⟨S2, U2, c2, t2, hm2, f2, g2, r1, r2, r3, r4⟩ := F_joint hp n k k' _ _ (c + 1) (x + (F_L S (p + 1 + c) - S.1 (0, 0, 0) 1)) (F_all_w h f1 g1) hm1 (by simpa [sz_1] using e1) (by simpa [sz_1] using e2) (by simpa [sz_1] using hpj) hj hj2 (by simpa [sz_1] using hp2) k1 k3 (by simpa [sz_1] using k6) (by simpa [sz_1] using k7) k4 k5
    refine ⟨S2, U2, ?_, ?_, hm2, fr_t f1 f2, fr_t g1 g2, ?_, ?_, ?_, ?_⟩
    · rw [lp_s (a' := (p, x + (F_L S (p + 1 + c) - S.1 (0, 0, 0) 1), c + 1, sz (sz (sz (sz S (37, 0, 0) (S.1 (0, 0, 0) 30) (S.1 (0, 0, 0) 26)) (38, 0, 0) (S.1 (0, 0, 0) 30) x) (0, 0, 0) 30 (S.1 (0, 0, 0) 30 + 1)) (39, 0, 0) (S.1 (0, 0, 0) 30) (p + 1 + c)))]
      · exact c2
      · simp only [f532_b1, e1, h1, cj, ci2, cl, if_true, and_self, F_L]
    · rw [lp_s (a' := (p, x + (F_L S (p + 1 + c) - S.1 (0, 0, 0) 1), c + 1, sz (sz (sz (sz U (30, 0, 0) (S.1 (0, 0, 0) 30) (S.1 (0, 0, 0) 26)) (31, 0, 0) (S.1 (0, 0, 0) 30) x) (32, 0, 0) (S.1 (0, 0, 0) 30) (p + 1 + c)) (0, 0, 0) 28 (S.1 (0, 0, 0) 30 + 1)))]
      · exact t2
      · simp only [f1810_b1, e2, h1, ← q2, ← q1, ← l0, ← t1, ← t9, cj32, ci2, cl, if_true, and_self, F_L]
    · rw [r1]
      have : (sz (sz (sz (sz S (37, 0, 0) (S.1 (0, 0, 0) 30) (S.1 (0, 0, 0) 26)) (38, 0, 0) (S.1 (0, 0, 0) 30) x) (0, 0, 0) 30 (S.1 (0, 0, 0) 30 + 1)) (39, 0, 0) (S.1 (0, 0, 0) 30) (p + 1 + c)).1 (0, 0, 0) 30 = S.1 (0, 0, 0) 30 + 1 := by simp [sz_1]
      rw [this]; exact k8
    · rw [r2]; simp [sz_1]
    · rw [r3]; simp [sz_1]
    · rw [r4]; simp [sz_1]
set_option maxRecDepth 100000
theorem F_mk_ag {C T S : wS} (h : F_ag C S) (hk : F_mk C T) : F_mk S T := F_mk_fr (F_ag_frC h) fr_0 hk
/-- a product is made -/
theorem F_make {S U : wS} (h : F_all S U) (hm : F_mk S U) {q p s a b j : Int32} (hq : 0 ≤ q) (hq2 : q < S.1 (0, 0, 0) 7) (hp : 0 ≤ p) (hp2 : p < S.1 (0, 0, 0) 4) (hs : 0 ≤ s) (hs2 : s ≤ F_L S p) (he : F_end S q p s = some (a, b, j)) (y1 : U.1 (0, 0, 0) 17 = a) (y2 : U.1 (0, 0, 0) 18 = b) (y3 : U.1 (0, 0, 0) 19 = j)
    (hc : 0 ≤ S.1 (0, 0, 0) 26 ∧ S.1 (0, 0, 0) 26 < 1440) (hb : 0 ≤ S.1 (0, 0, 0) 30) (hb2 : S.1 (0, 0, 0) 30 ≤ p) :
    ∃ S' U', f532 S q p s = some S' ∧ f1810 U q p s = some U' ∧ F_mk S' U' ∧ w_fr F_WC S S' ∧ w_fr F_WT U U' ∧ (S'.1 (0, 0, 0) 30).toInt = (S.1 (0, 0, 0) 30).toInt + (a.toInt - p.toInt) ∧ S'.1 (0, 0, 0) 26 = S.1 (0, 0, 0) 26 + 1 ∧ U'.1 (0, 0, 0) 17 = a ∧ U'.1 (0, 0, 0) 18 = b ∧ p ≤ a ∧ a < S.1 (0, 0, 0) 4 ∧ 0 ≤ b ∧ b ≤ F_L S a ∧ (s < b ∨ p < a) := by
  rcases F_begin2 h hq hq2 hp hp2 hs hs2 with ⟨en, _⟩ | ⟨S2, U2, a', b', j', en, c1, t1, a1, a2, x1, x2, x3, _, _, _, o1, o2, o3, o4, o5, o6, o7⟩
  · rw [he] at en; cases en
  rw [he] at en
  have en := Option.some.inj en
  simp only [Prod.mk.injEq] at en
  obtain ⟨rfl, rfl, rfl⟩ := en
  have z : (0 : Int32).toInt = 0 := rfl
  have z24 : (24 : Int32).toInt = 24 := rfl
  have m24 := h.2.1.2.1
  have n1 := Int32.le_iff_toInt_le.mp m24.2.1
  have n2 := Int32.lt_iff_toInt_lt.mp hp2
  have n3 := Int32.le_iff_toInt_le.mp hp
  have n4 := Int32.le_iff_toInt_le.mp o1
  have n5 := Int32.lt_iff_toInt_lt.mp o2
  have n6 := Int32.le_iff_toInt_le.mp o5
  have n7 := Int32.le_iff_toInt_le.mp hb
  have n8 := Int32.le_iff_toInt_le.mp hb2
  have n9 : (0 : Int32) ≤ a := by rw [i_le]; omega
  have pj : j.toInt = a.toInt - p.toInt := by rw [o6]; exact wi_sub n9 hp
  have j24 : j ≤ 24 := by rw [i_le]; omega
  have pja : (p + j).toInt = p.toInt + j.toInt := i_add (by omega) (by omega)
  have pjm : p + j < S.1 (0, 0, 0) 4 := by rw [i_lt]; omega
  have cp : 0 ≤ p ∧ p < 24 := ⟨hp, by rw [i_lt]; omega⟩
  have cl0 := h.2.2.1.2.1 p hp hp2
  have cl : 0 ≤ S.1 (22, 0, 0) p ∧ S.1 (22, 0, 0) p < 24 := ⟨cl0.1, by rw [i_lt]; have := Int32.lt_iff_toInt_lt.mp cl0.2; omega⟩
  have k0 : (0 : Int32).toInt + j.toInt.toNat = j.toInt := by omega
  have k1 : (S.1 (0, 0, 0) 30).toInt + j.toInt.toNat ≤ 23 := by omega
  have k2 : j.toInt.toNat < FU := by rw [FU_eq]; omega
  have k3 : (S.1 (0, 0, 0) 30).toInt + j.toInt.toNat = (S.1 (0, 0, 0) 30).toInt + (a.toInt - p.toInt) := by omega
  have v12 := F_agk a1 (k := (12, 0, 0)) (by decide)
  have v22 := F_agk a1 (k := (22, 0, 0)) (by decide)
  have v26 := F_agf a1 (i := 26) (by decide)
  have v30 := F_agf a1 (i := 30) (by decide)
  have v4 := F_agf a1 (i := 4) (by decide)
  have l0 := h.2.2.1.1
  have tt1 := h.1.1.1
  have hm2 := F_mk_ag a1 hm
  have hall := F_all_ag h a1 (F_ag0 (C := U))
  obtain ⟨q1, q2, ⟨q3, q4, q5, q6, q7⟩, q8, q9, q10⟩ := hm2
  have f1 : w_fr F_WC S2 (sz (sz (sz (sz (sz S2 (31, 0, 0) (S.1 (0, 0, 0) 26) q) (32, 0, 0) (S.1 (0, 0, 0) 26) p) (33, 0, 0) (S.1 (0, 0, 0) 26) s) (34, 0, 0) (S.1 (0, 0, 0) 26) j) (35, 0, 0) (S.1 (0, 0, 0) 26) 0) := fr_z (fr_z (fr_z (fr_z (fr_z fr_0 rfl) rfl) rfl) rfl) rfl
  have g1 : w_fr F_WT U (sz (sz (sz (sz (sz U (24, 0, 0) (S.1 (0, 0, 0) 26) q) (25, 0, 0) (S.1 (0, 0, 0) 26) p) (26, 0, 0) (S.1 (0, 0, 0) 26) s) (27, 0, 0) (S.1 (0, 0, 0) 26) j) (28, 0, 0) (S.1 (0, 0, 0) 26) 0) := fr_z (fr_z (fr_z (fr_z (fr_z fr_0 rfl) rfl) rfl) rfl) rfl
  have hmk : F_mk (sz (sz (sz (sz (sz S2 (31, 0, 0) (S.1 (0, 0, 0) 26) q) (32, 0, 0) (S.1 (0, 0, 0) 26) p) (33, 0, 0) (S.1 (0, 0, 0) 26) s) (34, 0, 0) (S.1 (0, 0, 0) 26) j) (35, 0, 0) (S.1 (0, 0, 0) 26) 0) (sz (sz (sz (sz (sz U (24, 0, 0) (S.1 (0, 0, 0) 26) q) (25, 0, 0) (S.1 (0, 0, 0) 26) p) (26, 0, 0) (S.1 (0, 0, 0) 26) s) (27, 0, 0) (S.1 (0, 0, 0) 26) j) (28, 0, 0) (S.1 (0, 0, 0) 26) 0) := by
    refine ⟨by simpa [sz_1] using q1, by simpa [sz_1] using q2, ⟨?_, ?_, ?_, ?_, ?_⟩, ?_, ?_, ?_⟩ <;> funext i <;> simp [sz_1, ← q3, ← q4, ← q5, ← q6, ← q7, ← q8, ← q9, ← q10]
  obtain ⟨S3, U3, c3, t3, hm3, f3, g3, r1, r2, r3, r4⟩ := F_joint hp j.toInt.toNat FU FU _ _ 0 (F_L S p - s) (F_all_w hall f1 g1) hmk (by simpa [sz_1] using x3) (by simpa [sz_1] using y3) (by simpa [sz_1, v4] using pjm) o5 j24 (by simpa [sz_1, v4] using hp2) (by decide) k0 (by simpa [sz_1, v30] using hb) (by simpa [sz_1, v30] using k1) k2 k2
  have e26 : S3.1 (0, 0, 0) 26 = S.1 (0, 0, 0) 26 := by rw [r2]; simp [sz_1, v26]
  have e22 : U3.1 (0, 0, 0) 22 = S.1 (0, 0, 0) 26 := by rw [← hm3.1]; exact e26
  refine ⟨sz S3 (0, 0, 0) 26 (S.1 (0, 0, 0) 26 + 1), sz U3 (0, 0, 0) 22 (S.1 (0, 0, 0) 26 + 1), ?_, ?_, ?_, fr_z (fr_t (fr_t (F_ag_w a1) f1) f3) rfl, fr_z (fr_t g1 g3) rfl, ?_, by simp [sz_1], ?_, ?_, o1, o2, o3, o4, o7⟩
  · simp only [f532, c1, Option.bind_some, v26, hc, cp, v22, cl, v12, x3, and_self, if_true]
    have : S.1 (12, 0, 0) (S.1 (22, 0, 0) p) - s = F_L S p - s := rfl
    rw [this, c3]
    simp only [Option.bind_some, e26]
  · have u22 : U.1 (0, 0, 0) 22 = S.1 (0, 0, 0) 26 := by rw [← q1]; exact v26
    simp only [f1810, u22, hc, cp, ← l0, cl, ← tt1, y3, and_self, if_true]
    have : S.1 (12, 0, 0) (S.1 (22, 0, 0) p) - s = F_L S p - s := rfl
    rw [this, t3]
    simp only [Option.bind_some, e22]
  · obtain ⟨w1, w2, ⟨w3, w4, w5, w6, w7⟩, w8, w9, w10⟩ := hm3
    refine ⟨by simp [sz_1], by simpa [sz_1] using w2, ⟨?_, ?_, ?_, ?_, ?_⟩, ?_, ?_, ?_⟩ <;> funext i <;> simp [sz_1, w3, w4, w5, w6, w7, w8, w9, w10]
  · have g : (sz S3 (0, 0, 0) 26 (S.1 (0, 0, 0) 26 + 1)).1 (0, 0, 0) 30 = S3.1 (0, 0, 0) 30 := by simp [sz_1]
    have g2 : (sz (sz (sz (sz (sz S2 (31, 0, 0) (S.1 (0, 0, 0) 26) q) (32, 0, 0) (S.1 (0, 0, 0) 26) p) (33, 0, 0) (S.1 (0, 0, 0) 26) s) (34, 0, 0) (S.1 (0, 0, 0) 26) j) (35, 0, 0) (S.1 (0, 0, 0) 26) 0).1 (0, 0, 0) 30 = S.1 (0, 0, 0) 30 := by simp [sz_1, v30]
    rw [g, r1, g2]; exact k3
  · have : (sz U3 (0, 0, 0) 22 (S.1 (0, 0, 0) 26 + 1)).1 (0, 0, 0) 17 = U3.1 (0, 0, 0) 17 := by simp [sz_1]
    rw [this, r3]; simpa [sz_1] using y1
  · have : (sz U3 (0, 0, 0) 22 (S.1 (0, 0, 0) 26 + 1)).1 (0, 0, 0) 18 = U3.1 (0, 0, 0) 18 := by simp [sz_1]
    rw [this, r4]; simpa [sz_1] using y2
set_option maxRecDepth 100000
theorem F_J_q {C S : wS} (h : w_fr F_QC C S) {x p : Int32} : F_J S x p = F_J C x p := by
  unfold F_J
  rw [fr_1 h (k := (12, 0, 0)) (fun _ => rfl), fr_1 h (k := (13, 0, 0)) (fun _ => rfl), fr_1 h (k := (22, 0, 0)) (fun _ => rfl), fr_1 h (k := (21, 0, 0)) (fun _ => rfl),
    fr_2 h (k := (18, 0, 0)) (fun _ => rfl), fr_2 h (k := (19, 0, 0)) (fun _ => rfl), (h (0, 0, 0) 0 rfl).1, (h (0, 0, 0) 1 rfl).1, (h (0, 0, 0) 10 rfl).1]
theorem F_fol_q {C S : wS} (h : w_fr F_QC C S) {pr : Int32} : ∀ (n : Nat) (p s j x : Int32), F_fol S pr n p s j x = F_fol C pr n p s j x
  | 0, _, _, _, _ => rfl
  | n + 1, p, s, j, x => by
    unfold F_fol
    rw [F_L_q h, F_J_q h, (h (0, 0, 0) 4 rfl).1, (h (0, 0, 0) 1 rfl).1, F_fol_q h n]
theorem F_end_w {C S : wS} (h : w_fr F_WC C S) {q p s : Int32} : F_end S q p s = F_end C q p s := by
  have h' : w_fr F_QC C S := fr_w h (fun _ _ q => F_WQ q)
  unfold F_end
  rw [(h' (0, 0, 0) 4 rfl).1, fr_1 h' (k := (15, 0, 0)) (fun _ => rfl), F_fol_q h']
theorem F_PW {k : wK} {i : Int32} (h : F_17 k i = true) : F_WC k i = true := by
  simp only [F_17, F_WC, Bool.and_eq_true, Bool.or_eq_true, decide_eq_true_eq] at h ⊢
  obtain ⟨rfl, (rfl | rfl) | rfl⟩ := h <;> simp
/-- one step of the walk -/
theorem F_step {S U : wS} (h : F_all S U) (hm : F_mk S U) {p s : Int32} (hp : 0 ≤ p) (hp2 : p < S.1 (0, 0, 0) 4) (hs : 0 ≤ s) (hs2 : s ≤ F_L S p) (hc0 : 0 ≤ S.1 (0, 0, 0) 26) (hc : (S.1 (0, 0, 0) 26).toInt ≤ 60 * p.toInt + s.toInt) (hb : 0 ≤ S.1 (0, 0, 0) 30) (hb2 : S.1 (0, 0, 0) 30 ≤ p) :
    ∃ S' U' p' s', f531_b1 (p, s, S) = some (.inl (p', s', S')) ∧ f1808_b1 (p, s, U) = some (.inl (p', s', U')) ∧ F_all S' U' ∧ F_mk S' U' ∧ 0 ≤ p' ∧ p' ≤ S.1 (0, 0, 0) 4 ∧ 0 ≤ s' ∧ (p' < S.1 (0, 0, 0) 4 → s' ≤ F_L S' p') ∧ s' ≤ 60 ∧ (¬ p' < S.1 (0, 0, 0) 4 → s' = 0) ∧ S'.1 (0, 0, 0) 4 = S.1 (0, 0, 0) 4 ∧ 0 ≤ S'.1 (0, 0, 0) 26 ∧ (S'.1 (0, 0, 0) 26).toInt ≤ 60 * p'.toInt + s'.toInt ∧ 0 ≤ S'.1 (0, 0, 0) 30 ∧ S'.1 (0, 0, 0) 30 ≤ p' ∧ (p < p' ∨ p = p' ∧ s < s') ∧ (∀ k i, F_PC k i = false → F_WC k i = false → S'.1 k i = S.1 k i ∧ S'.2 k i = S.2 k i) ∧ (∀ k i, F_PT k i = false → F_WT k i = false → U'.1 k i = U.1 k i ∧ U'.2 k i = U.2 k i) := by
  have z : (0 : Int32).toInt = 0 := rfl
  have z24 : (24 : Int32).toInt = 24 := rfl
  have z60 : (60 : Int32).toInt = 60 := rfl
  have m24 := h.2.1.2.1
  have n1 := Int32.le_iff_toInt_le.mp m24.2.1
  have n2 := Int32.lt_iff_toInt_lt.mp hp2
  have n3 := Int32.le_iff_toInt_le.mp hp
  have n4 := Int32.le_iff_toInt_le.mp hs
  have n5 := Int32.le_iff_toInt_le.mp hs2
  have hlen := h.2.1.2.2.1 (S.1 (22, 0, 0) p)
  have hL : F_L S p = S.1 (12, 0, 0) (S.1 (22, 0, 0) p) := rfl
  rw [← hL] at hlen
  have n6 := Int32.le_iff_toInt_le.mp hlen.2
  have n7 := Int32.le_iff_toInt_le.mp hb2
  have n8 := Int32.le_iff_toInt_le.mp hb
  have n9 := Int32.le_iff_toInt_le.mp hc0
  have nup := up1 hp2
  have cp : 0 ≤ p ∧ p < 24 := ⟨hp, by rw [i_lt]; omega⟩
  have cl0 := h.2.2.1.2.1 p hp hp2
  have cl : 0 ≤ S.1 (22, 0, 0) p ∧ S.1 (22, 0, 0) p < 24 := ⟨cl0.1, by rw [i_lt]; have := Int32.lt_iff_toInt_lt.mp cl0.2; omega⟩
  have l0 := h.2.2.1.1
  have tt1 := h.1.1.1
  have hmn := h.1.2.2.2.2.1
  have hp2' : p < U.1 (0, 0, 0) 3 := by rw [← hmn]; exact hp2
  by_cases e : s = F_L S p
  · have a1 : 0 ≤ p + 1 := by rw [i_le]; omega
    have a2 : p + 1 ≤ S.1 (0, 0, 0) 4 := by rw [i_le]; omega
    have a3 : (S.1 (0, 0, 0) 26).toInt ≤ 60 * (p + 1).toInt + (0 : Int32).toInt := by omega
    have a4 : S.1 (0, 0, 0) 30 ≤ p + 1 := by rw [i_le]; omega
    have a5 : p < p + 1 := by rw [i_lt]; omega
    refine ⟨S, U, p + 1, 0, ?_, ?_, h, hm, a1, a2, by decide, fun g => (h.2.1.2.2.1 _).1, by decide, fun _ => rfl, rfl, hc0, a3, hb, a4, Or.inl a5, fun _ _ _ _ => ⟨rfl, rfl⟩, fun _ _ _ _ => ⟨rfl, rfl⟩⟩
    · simp only [f531_b1, hp2, cp, cl, ← hL, e, and_self, if_true]
    · simp only [f1808_b1, hp2', cp, ← l0, cl, ← tt1, ← hL, e, and_self, if_true]
  · have w1 := Int32.le_iff_toInt_le.mp m24.2.2.1
    have w2 := Int32.le_iff_toInt_le.mp m24.2.2.2.1
    have z6 : (6 : Int32).toInt = 6 := rfl
    have k0 : (0 : Int32).toInt + (S.1 (0, 0, 0) 7).toInt.toNat = (S.1 (0, 0, 0) 7).toInt := by omega
    have k1 : (S.1 (0, 0, 0) 7).toInt.toNat < FU := by rw [FU_eq]; omega
    have sl : s < F_L S p := by rw [i_lt]; have : ¬ s.toInt = (F_L S p).toInt := fun q => e (Int32.toInt_inj.mp q); omega
    have n10 := Int32.lt_iff_toInt_lt.mp sl
    have sup := up1 sl
    have b1440 : S.1 (0, 0, 0) 26 < 1440 := by rw [i_lt]; have z1440 : (1440 : Int32).toInt = 1440 := rfl; omega
    obtain ⟨S1, U1, q', c1, a1, f1, g1, r⟩ := F_go hp hs (S.1 (0, 0, 0) 7).toInt.toNat FU FU S U 0 h hp2 hs2 (by decide) k0 k1 k1
    have hm1 := F_mk_fr f1 g1 hm
    have v4 := (f1 (0, 0, 0) 4 rfl).1
    have v7 := (f1 (0, 0, 0) 7 rfl).1
    have v26 := (f1 (0, 0, 0) 26 rfl).1
    have v30 := (f1 (0, 0, 0) 30 rfl).1
    rcases r with ⟨eq, t1⟩ | ⟨hq, hq2, t1, a, b, j, he, y1, y2, y3⟩
    · have a2 : 0 ≤ s + 1 := by rw [i_le]; omega
      have a3 : s + 1 ≤ F_L S p := by rw [i_le]; omega
      have a4 : s + 1 ≤ 60 := by rw [i_le]; omega
      have a5 : s < s + 1 := by rw [i_lt]; omega
      have a6 : (S.1 (0, 0, 0) 26).toInt ≤ 60 * p.toInt + (s + 1).toInt := by omega
      have a7 : p ≤ S.1 (0, 0, 0) 4 := by rw [i_le]; omega
      refine ⟨S1, U1, p, s + 1, ?_, ?_, a1, hm1, hp, a7, a2, fun _ => by rw [F_L_fr f1]; exact a3, a4, fun g => absurd hp2 g, v4, by rw [v26]; exact hc0, by rw [v26]; exact a6, by rw [v30]; exact hb, by rw [v30]; exact hb2, Or.inr ⟨rfl, a5⟩, fun k i q _ => f1 k i q, fun k i q _ => g1 k i q⟩
      · simp only [f531_b1, hp2, cp, cl, ← hL, e, and_self, if_true, if_false, c1, Option.bind_some, f531_5_1, eq, v7]
      · have hg : f1809 U p s = some (-1, U1) := by simp only [f1809, t1, Option.bind_some]
        have hneg : (-1 : Int32) < 0 := by decide
        simp only [f1808_b1, hp2', cp, ← l0, cl, ← tt1, ← hL, e, and_self, if_true, if_false, hg, Option.bind_some, hneg]
    · have he1 : F_end S1 q' p s = some (a, b, j) := by rw [F_end_fr f1]; exact he
      obtain ⟨S2, U2, c2, t2, hm2, f2, g2, r1, r2, y1', y2', o1, o2, o3, o4, o5⟩ := F_make a1 hm1 hq (by rw [v7]; exact hq2) hp (by rw [v4]; exact hp2) hs (by rw [F_L_fr f1]; exact hs2) he1 y1 y2 y3 (by rw [v26]; exact ⟨hc0, b1440⟩) (by rw [v30]; exact hb) (by rw [v30]; exact hb2)
      have a2 := F_all_w a1 f2 g2
      have f2q : w_fr F_QC S1 S2 := fr_w f2 (fun _ _ q => F_WQ q)
      have v4' := (f2q (0, 0, 0) 4 rfl).1
      have v7' := (f2q (0, 0, 0) 7 rfl).1
      have he2 : F_end S2 q' p s = some (a, b, j) := by rw [F_end_w f2]; exact he1
      rcases F_begin2 a2 hq (by rw [v7', v7]; exact hq2) hp (by rw [v4', v4]; exact hp2) hs (by rw [F_L_w f2, F_L_fr f1]; exact hs2) with ⟨en, _⟩ | ⟨S3, U3, a', b', j', en, c3, _, ag, _, x1, x2, x3, _⟩
      · rw [he2] at en; cases en
      rw [he2] at en
      have en := Option.some.inj en
      simp only [Prod.mk.injEq] at en
      obtain ⟨rfl, rfl, rfl⟩ := en
      have x26 := F_agf ag (i := 26) (by decide)
      have x30 := F_agf ag (i := 30) (by decide)
      have x4 := F_agf ag (i := 4) (by decide)
      rw [v4] at o2
      rw [F_L_fr f1] at o4
      have n11 := Int32.le_iff_toInt_le.mp o1
      have n12 := Int32.lt_iff_toInt_lt.mp o2
      have n13 := Int32.le_iff_toInt_le.mp o3
      have n14 := Int32.le_iff_toInt_le.mp o4
      have hlenA := h.2.1.2.2.1 (S.1 (22, 0, 0) a)
      have hLA : F_L S a = S.1 (12, 0, 0) (S.1 (22, 0, 0) a) := rfl
      rw [← hLA] at hlenA
      have n15 := Int32.le_iff_toInt_le.mp hlenA.2
      rw [v26] at r2
      rw [v30] at r1
      have n16 := up1 b1440
      have b1 : 0 ≤ a := by rw [i_le]; omega
      have b2 : a ≤ S.1 (0, 0, 0) 4 := by rw [i_le]; omega
      have b3 : b ≤ 60 := by rw [i_le]; omega
      have o5' : (s.toInt < b.toInt ∨ p.toInt < a.toInt) := by
        rcases o5 with o | o
        · exact Or.inl (Int32.lt_iff_toInt_lt.mp o)
        · exact Or.inr (Int32.lt_iff_toInt_lt.mp o)
      have b4 : (S.1 (0, 0, 0) 26 + 1).toInt ≤ 60 * a.toInt + b.toInt := by omega
      have b5 : 0 ≤ S.1 (0, 0, 0) 26 + 1 := by rw [i_le]; omega
      have b6 : 0 ≤ S2.1 (0, 0, 0) 30 := by rw [i_le]; omega
      have b7 : S2.1 (0, 0, 0) 30 ≤ a := by rw [i_le]; omega
      have b8 : p < a ∨ p = a ∧ s < b := by
        by_cases q : p.toInt < a.toInt
        · exact Or.inl (by rw [i_lt]; exact q)
        · refine Or.inr ⟨by rw [i_eq]; omega, by rw [i_lt]; omega⟩
      refine ⟨S3, U2, a, b, ?_, ?_, F_all_ag a2 ag F_ag0, F_mk_ag ag hm2, b1, b2, o3, fun _ => by rw [F_L_fr (F_ag_frC ag), F_L_w f2, F_L_fr f1]; exact o4, b3, fun g => absurd o2 g, by rw [x4, v4', v4], by rw [x26, r2]; exact b5, by rw [x26, r2]; exact b4, by rw [x30]; exact b6, by rw [x30]; exact b7, b8, ?_, ?_⟩
      · have hne : ¬ q' = S1.1 (0, 0, 0) 7 := by rw [v7]; intro q; rw [q] at hq2; exact absurd hq2 (by rw [i_lt]; omega)
        simp only [f531_b1, hp2, cp, cl, ← hL, e, and_self, if_true, if_false, c1, Option.bind_some, f531_5_1, hne, c2, c3, x1, x2]
      · have hg : f1809 U p s = some (q', U1) := by simp only [f1809, t1, Option.bind_some]
        have hneg : ¬ q' < 0 := by rw [i_lt]; have := Int32.le_iff_toInt_le.mp hq; omega
        simp only [f1808_b1, hp2', cp, ← l0, cl, ← tt1, ← hL, e, and_self, if_true, if_false, hg, Option.bind_some, hneg, t2, y1', y2']
      · intro k i h1 h2
        have u1 := f1 k i h1
        have u2 := f2 k i h2
        have u3 := F_ag_w ag k i h2
        exact ⟨u3.1.trans (u2.1.trans u1.1), u3.2.trans (u2.2.trans u1.2)⟩
      · intro k i h1 h2
        have u1 := g1 k i h1
        have u2 := g2 k i h2
        exact ⟨u2.1.trans u1.1, u2.2.trans u1.2⟩
set_option maxRecDepth 100000
def F_XC (k : wK) (i : Int32) : Bool := F_PC k i || F_WC k i
def F_XT (k : wK) (i : Int32) : Bool := F_PT k i || F_WT k i
theorem F_xc {k : wK} {i : Int32} (h : F_XC k i = false) : F_PC k i = false ∧ F_WC k i = false := by simpa [F_XC] using h
theorem F_xt {k : wK} {i : Int32} (h : F_XT k i = false) : F_PT k i = false ∧ F_WT k i = false := by simpa [F_XT] using h
/-- the walk's loop -/
theorem F_wloop : ∀ (n k k' : Nat) (S U : wS) (p s : Int32), F_all S U → F_mk S U → 0 ≤ p → p ≤ S.1 (0, 0, 0) 4 → 0 ≤ s → (p < S.1 (0, 0, 0) 4 → s ≤ F_L S p) → s ≤ 60 → (¬ p < S.1 (0, 0, 0) 4 → s = 0) → 0 ≤ S.1 (0, 0, 0) 26 → (S.1 (0, 0, 0) 26).toInt ≤ 60 * p.toInt + s.toInt → 0 ≤ S.1 (0, 0, 0) 30 → S.1 (0, 0, 0) 30 ≤ p → 62 * ((S.1 (0, 0, 0) 4).toInt - p.toInt) + 61 - s.toInt ≤ n → n < k → n < k' →
    ∃ S' U', lp f531_b1 k (p, s, S) = some S' ∧ lp f1808_b1 k' (p, s, U) = some U' ∧ F_all S' U' ∧ F_mk S' U' ∧ w_fr F_XC S S' ∧ w_fr F_XT U U' ∧ 0 ≤ S'.1 (0, 0, 0) 26 ∧ (S'.1 (0, 0, 0) 26).toInt ≤ 1440 ∧ 0 ≤ S'.1 (0, 0, 0) 30 ∧ (S'.1 (0, 0, 0) 30).toInt ≤ 24 := by
  intro n
  induction n with
  | zero =>
    intro k k' S U p s h hm hp hp2 hs hs2 hs3 _ _ _ _ _ hn _ _
    have z60 : (60 : Int32).toInt = 60 := rfl
    have := Int32.le_iff_toInt_le.mp hp2
    have := Int32.le_iff_toInt_le.mp hs3
    omega
  | succ n ih =>
    intro k k' S U p s h hm hp hp2 hs hs2 hs3 hs0 hc0 hc hb hb2 hn hk hk'
    obtain ⟨k, rfl⟩ : ∃ j, k = j + 1 := ⟨k - 1, by omega⟩
    obtain ⟨k', rfl⟩ : ∃ j, k' = j + 1 := ⟨k' - 1, by omega⟩
    have z60 : (60 : Int32).toInt = 60 := rfl
    have z24 : (24 : Int32).toInt = 24 := rfl
    have m24 := h.2.1.2.1
    have n1 := Int32.le_iff_toInt_le.mp m24.2.1
    have n2 := Int32.le_iff_toInt_le.mp hp2
    have n3 := Int32.le_iff_toInt_le.mp hs3
    have n4 := Int32.le_iff_toInt_le.mp hb2
    have hmn := h.1.2.2.2.2.1
    have k4 : n < k := by omega
    have k5 : n < k' := by omega
    by_cases e : p < S.1 (0, 0, 0) 4
    · obtain ⟨S1, U1, p1, s1, c1, t1, a1, m1, q1, q2, q3, q4, q5, q0, q6, q7, q8, q9, q10, q11, f1, g1⟩ := F_step h hm hp e hs (hs2 e) hc0 hc hb hb2
      have n5 := Int32.le_iff_toInt_le.mp q2
      have n6 := Int32.le_iff_toInt_le.mp q5
      have n7 := Int32.le_iff_toInt_le.mp q3
      have z : (0 : Int32).toInt = 0 := rfl
      have d : p.toInt < p1.toInt ∨ p.toInt = p1.toInt ∧ s.toInt < s1.toInt := by
        rcases q11 with q | ⟨q, r⟩
        · exact Or.inl (Int32.lt_iff_toInt_lt.mp q)
        · exact Or.inr ⟨by rw [q], Int32.lt_iff_toInt_lt.mp r⟩
      have k6 : 62 * ((S.1 (0, 0, 0) 4).toInt - p1.toInt) + 61 - s1.toInt ≤ n := by omega
      obtain ⟨S2, U2, c2, t2, a2, m2, f2, g2, r⟩ := ih k k' S1 U1 p1 s1 a1 m1 q1 (by rw [q6]; exact q2) q3 (by rw [q6]; exact q4) q5 (by rw [q6]; exact q0) q7 q8 q9 q10 (by rw [q6]; exact k6) k4 k5
      refine ⟨S2, U2, by rw [lp_s c1]; exact c2, by rw [lp_s t1]; exact t2, a2, m2, ?_, ?_, r⟩
      · intro k i hx
        have u := f1 k i (F_xc hx).1 (F_xc hx).2
        have v := f2 k i hx
        exact ⟨v.1.trans u.1, v.2.trans u.2⟩
      · intro k i hx
        have u := g1 k i (F_xt hx).1 (F_xt hx).2
        have v := g2 k i hx
        exact ⟨v.1.trans u.1, v.2.trans u.2⟩
    · have e' : ¬ p < U.1 (0, 0, 0) 3 := by rw [← hmn]; exact e
      have n8 : ¬ p.toInt < (S.1 (0, 0, 0) 4).toInt := fun q => e (by rw [i_lt]; exact q)
      refine ⟨S, U, lp_0 (by simp only [f531_b1, e, if_false]), lp_0 (by simp only [f1808_b1, e', if_false]), h, hm, fr_0, fr_0, hc0, ?_, hb, by omega⟩
      have z : (0 : Int32).toInt = 0 := rfl
      have := hs0 e
      subst this
      omega
/-- the walk -/
theorem F_keep {L : Int32 → Int32} : ∀ (n k : Nat) (U : wS) (c : Int32), U.1 (0, 0, 0) 3 ≤ 24 → U.1 (14, 0, 0) = L → 0 ≤ c → c.toInt + n = (U.1 (0, 0, 0) 3).toInt → n < k →
    ∃ U', lp f1808_b6 k (c, U) = some U' ∧ w_fr (fun k _ => decide (k = (22, 0, 0))) U U' ∧ (∀ i, (0 ≤ i ∧ i < c → U'.1 (22, 0, 0) i = U.1 (22, 0, 0) i) ∧ (c ≤ i → i < U.1 (0, 0, 0) 3 → U'.1 (22, 0, 0) i = L i))
  | 0, k + 1, U, c, hm, hL, hc, hn, hk => by
    have e : ¬ c < U.1 (0, 0, 0) 3 := by rw [i_lt]; omega
    refine ⟨U, lp_0 (by simp only [f1808_b6, e, if_false]), fr_0, fun i => ⟨fun _ => rfl, fun h1 h2 => ?_⟩⟩
    have n1 := Int32.le_iff_toInt_le.mp h1
    have n2 := Int32.lt_iff_toInt_lt.mp h2
    omega
  | n + 1, k + 1, U, c, hm, hL, hc, hn, hk => by
    have e : c < U.1 (0, 0, 0) 3 := by rw [i_lt]; omega
    have up := up1 e
    have z : (0 : Int32).toInt = 0 := rfl
    have z24 : (24 : Int32).toInt = 24 := rfl
    have n0 := Int32.le_iff_toInt_le.mp hc
    have nm := Int32.le_iff_toInt_le.mp hm
    have n1 := Int32.lt_iff_toInt_lt.mp e
    have cc : 0 ≤ c ∧ c < 24 := ⟨hc, by rw [i_lt]; omega⟩
    have k1 : 0 ≤ c + 1 := by rw [i_le]; omega
    have k2 : (c + 1).toInt + n = (U.1 (0, 0, 0) 3).toInt := by omega
    obtain ⟨U', t1, g1, hv⟩ := F_keep (L := L) n k (sz U (22, 0, 0) c (U.1 (14, 0, 0) c)) (c + 1) (by simpa [sz_1] using hm) (by rw [sz_oth (by decide)]; exact hL) k1 (by simpa [sz_1] using k2) (by omega)
    refine ⟨U', ?_, fr_t (fr_z fr_0 (by simp)) g1, fun i => ⟨fun hi => ?_, fun h1 h2 => ?_⟩⟩
    · rw [lp_s (a' := (c + 1, sz U (22, 0, 0) c (U.1 (14, 0, 0) c)))]
      · exact t1
      · simp only [f1808_b6, e, cc, and_self, if_true]
    · have n2 := Int32.lt_iff_toInt_lt.mp hi.2
      have hne : ¬ i = c := fun q => by rw [q] at n2; omega
      rw [(hv i).1 ⟨hi.1, by rw [i_lt]; omega⟩, sz_1, if_neg (fun q => hne q.2)]
    · by_cases q : i = c
      · subst q
        rw [(hv i).1 ⟨hc, by rw [i_lt]; omega⟩, sz_1, if_pos ⟨rfl, rfl⟩, hL]
      · have n3 := Int32.le_iff_toInt_le.mp h1
        have : ¬ i.toInt = c.toInt := fun w => q (Int32.toInt_inj.mp w)
        exact (hv i).2 (by rw [i_le]; omega) (by simpa [sz_1] using h2)
set_option maxRecDepth 100000
def F_YC (k : wK) (i : Int32) : Bool := F_XC k i || decide (k = (22, 0, 0)) || decide (k = (0, 0, 0) ∧ i = 20)
def F_YT (k : wK) (i : Int32) : Bool := F_XT k i || decide (k = (22, 0, 0)) || decide (k = (14, 0, 0)) || decide (k = (0, 0, 0) ∧ i = 20)
theorem F_yc {k : wK} {i : Int32} (h : F_YC k i = false) : F_XC k i = false := by
  simp only [F_YC, Bool.or_eq_false_iff] at h; exact h.1.1
theorem F_yt {k : wK} {i : Int32} (h : F_YT k i = false) : F_XT k i = false := by
  simp only [F_YT, Bool.or_eq_false_iff] at h; exact h.1.1.1
/-- kept as it was walked -/
def F_kept (C T : wS) : Prop := ∀ i, 0 ≤ i → i < C.1 (0, 0, 0) 4 → T.1 (22, 0, 0) i = C.1 (22, 0, 0) i
theorem F_walk {S U : wS} (h : F_all S U) (hm : F_mk S U) : ∃ S' U', f531 S = some S' ∧ f1808 U = some (S'.1 (0, 0, 0) 26, U') ∧ F_all S' U' ∧ F_mk S' U' ∧ F_kept S' U' ∧ S'.1 (0, 0, 0) 20 = 1 ∧ U'.1 (0, 0, 0) 20 = 1 ∧ (0 ≤ S'.1 (0, 0, 0) 26 ∧ S'.1 (0, 0, 0) 26 ≤ 1440) ∧ (0 ≤ S'.1 (0, 0, 0) 30 ∧ S'.1 (0, 0, 0) 30 ≤ 24) ∧ w_fr F_YC S S' ∧ w_fr F_YT U U' := by
  have z : (0 : Int32).toInt = 0 := rfl
  have z24 : (24 : Int32).toInt = 24 := rfl
  have z1440 : (1440 : Int32).toInt = 1440 := rfl
  have m24 := h.2.1.2.1
  have n0 := Int32.le_iff_toInt_le.mp m24.1
  have n1 := Int32.le_iff_toInt_le.mp m24.2.1
  have f0 : w_fr F_WC S (sz (sz S (0, 0, 0) 30 0) (0, 0, 0) 26 0) := fr_z (fr_z fr_0 rfl) rfl
  have g0 : w_fr F_WT U (sz (sz U (0, 0, 0) 22 0) (0, 0, 0) 28 0) := fr_z (fr_z fr_0 rfl) rfl
  have a0 := F_all_w h f0 g0
  have hm0 : F_mk (sz (sz S (0, 0, 0) 30 0) (0, 0, 0) 26 0) (sz (sz U (0, 0, 0) 22 0) (0, 0, 0) 28 0) := by
    obtain ⟨w1, w2, ⟨w3, w4, w5, w6, w7⟩, w8, w9, w10⟩ := hm
    refine ⟨by simp [sz_1], by simp [sz_1], ⟨?_, ?_, ?_, ?_, ?_⟩, ?_, ?_, ?_⟩ <;> funext i <;> simp [sz_1, w3, w4, w5, w6, w7, w8, w9, w10]
  have e4 : (sz (sz S (0, 0, 0) 30 0) (0, 0, 0) 26 0).1 (0, 0, 0) 4 = S.1 (0, 0, 0) 4 := by simp [sz_1]
  have e26 : (sz (sz S (0, 0, 0) 30 0) (0, 0, 0) 26 0).1 (0, 0, 0) 26 = 0 := by simp [sz_1]
  have e30 : (sz (sz S (0, 0, 0) 30 0) (0, 0, 0) 26 0).1 (0, 0, 0) 30 = 0 := by simp [sz_1]
  have kk : 62 * ((S.1 (0, 0, 0) 4).toInt - (0 : Int32).toInt) + 61 - (0 : Int32).toInt ≤ (1600 : Nat) := by omega
  have kf : 1600 < FU := by rw [FU_eq]; omega
  obtain ⟨S1, U1, c1, t1, a1, m1, f1, g1, r1, r2, r3, r4⟩ := F_wloop 1600 FU FU _ _ 0 0 a0 hm0 (by decide) (by rw [e4]; exact m24.1) (by decide) (fun _ => (a0.2.1.2.2.1 _).1) (by decide) (fun _ => rfl) (by rw [e26]; decide) (by rw [e26]; decide) (by rw [e30]; decide) (by rw [e30]; decide) (by rw [e4]; exact kk) kf kf
  have m24' := a1.2.1.2.1
  have n0' := Int32.le_iff_toInt_le.mp m24'.1
  have n1' := Int32.le_iff_toInt_le.mp m24'.2.1
  have hmn := a1.1.2.2.2.2.1
  have u3 : (sz U1 (0, 0, 0) 20 1).1 (0, 0, 0) 3 = S1.1 (0, 0, 0) 4 := by simp [sz_1, hmn]
  have k3 : (0 : Int32).toInt + (S1.1 (0, 0, 0) 4).toInt.toNat = (S1.1 (0, 0, 0) 4).toInt := by omega
  have k4 : (S1.1 (0, 0, 0) 4).toInt.toNat < FU := by rw [FU_eq]; omega
  obtain ⟨U2, t2, g2, hv⟩ := F_keep (L := S1.1 (22, 0, 0)) (S1.1 (0, 0, 0) 4).toInt.toNat FU (sz U1 (0, 0, 0) 20 1) 0 (by rw [u3]; exact m24'.2.1) (by rw [sz_oth (by decide)]; exact a1.2.2.1.1.symm) (by decide) (by rw [u3]; exact k3) k4
  have gU : w_fr F_YT U1 U2 := fr_t (fr_z fr_0 rfl) (fr_w g2 (fun k i q => by simp only [F_YT, Bool.or_eq_false_iff] at q; exact q.1.1.2))
  have fS : w_fr F_YC S1 (sz S1 (0, 0, 0) 20 1) := fr_z fr_0 rfl
  have gq : w_fr F_QT U1 U2 := by
    intro k i q
    have hk : ¬ k = (22, 0, 0) := fun e => by subst e; simp [F_QT, F_nT] at q
    have hk2 : ¬ (k = (0, 0, 0) ∧ i = 20) := fun e => by obtain ⟨rfl, rfl⟩ := e; simp [F_QT, F_nT] at q
    have a := g2 k i (by simp [hk])
    rw [a.1, a.2, sz_1, sz_2, if_neg hk2]
    exact ⟨rfl, rfl⟩
  have fq : w_fr F_QC S1 (sz S1 (0, 0, 0) 20 1) := fr_z fr_0 rfl
  refine ⟨sz S1 (0, 0, 0) 20 1, U2, ?_, ?_, F_all_q a1 fq gq, ?_, ?_, by simp [sz_1], ?_, ⟨by simpa [sz_1] using r1, ?_⟩, ⟨by simpa [sz_1] using r3, ?_⟩, ?_, ?_⟩
  · simp only [f531, c1, Option.bind_some]
  · have e22 : U2.1 (0, 0, 0) 22 = S1.1 (0, 0, 0) 26 := by rw [(g2 (0, 0, 0) 22 (by decide)).1, sz_1, if_neg (by decide)]; exact m1.1.symm
    have e' : (sz S1 (0, 0, 0) 20 1).1 (0, 0, 0) 26 = S1.1 (0, 0, 0) 26 := by simp [sz_1]
    simp only [f1808, t1, Option.bind_some, t2, e22, e']
  · obtain ⟨w1, w2, ⟨w3, w4, w5, w6, w7⟩, w8, w9, w10⟩ := m1
    have o : ∀ {k : wK}, k ≠ (22, 0, 0) → k ≠ (0, 0, 0) → U2.1 k = U1.1 k := fun {k} h1 h2 => funext fun i => by
      rw [(g2 k i (by simp [h1])).1, sz_1, if_neg (fun e => h2 e.1)]
    have o' : ∀ {k : wK}, k ≠ (0, 0, 0) → (sz S1 (0, 0, 0) 20 1).1 k = S1.1 k := fun h => sz_oth h
    refine ⟨?_, ?_, ⟨?_, ?_, ?_, ?_, ?_⟩, ?_, ?_, ?_⟩
    · rw [(g2 (0, 0, 0) 22 (by decide)).1, sz_1, sz_1, if_neg (by decide), if_neg (by decide)]; exact w1
    · rw [(g2 (0, 0, 0) 28 (by decide)).1, sz_1, sz_1, if_neg (by decide), if_neg (by decide)]; exact w2
    · rw [o (by decide) (by decide), o' (by decide)]; exact w3
    · rw [o (by decide) (by decide), o' (by decide)]; exact w4
    · rw [o (by decide) (by decide), o' (by decide)]; exact w5
    · rw [o (by decide) (by decide), o' (by decide)]; exact w6
    · rw [o (by decide) (by decide), o' (by decide)]; exact w7
    · rw [o (by decide) (by decide), o' (by decide)]; exact w8
    · rw [o (by decide) (by decide), o' (by decide)]; exact w9
    · rw [o (by decide) (by decide), o' (by decide)]; exact w10
  · intro i h1 h2
    rw [sz_oth (by decide)]
    refine (hv i).2 h1 ?_
    rw [u3]
    simpa [sz_1] using h2
  · rw [(g2 (0, 0, 0) 20 (by decide)).1]; simp [sz_1]
  · have : (sz S1 (0, 0, 0) 20 1).1 (0, 0, 0) 26 = S1.1 (0, 0, 0) 26 := by simp [sz_1]
    rw [this, i_le]; omega
  · have : (sz S1 (0, 0, 0) 20 1).1 (0, 0, 0) 30 = S1.1 (0, 0, 0) 30 := by simp [sz_1]
    rw [this, i_le]; omega
  · refine fr_t (fr_t (fr_w f0 (fun k i q => (F_xc (F_yc q)).2)) (fr_w f1 (fun k i q => F_yc q))) fS
  · refine fr_t (fr_t (fr_w g0 (fun k i q => (F_xt (F_yt q)).2)) (fr_w g1 (fun k i q => F_yt q))) gU
set_option maxRecDepth 100000
/-- the line as it was told -/
theorem F_turn0 : ∀ (n k k' : Nat) (S U : wS) (c : Int32), S.1 (0, 0, 0) 4 ≤ 24 → S.1 (0, 0, 0) 4 = U.1 (0, 0, 0) 3 → S.1 (22, 0, 0) = U.1 (14, 0, 0) → 0 ≤ c → c.toInt + n = (S.1 (0, 0, 0) 4).toInt → (∀ i, 0 ≤ i → i < c → S.1 (22, 0, 0) i = i) → n < k → n < k' →
    ∃ S' U', lp f525_b1 k (c, S) = some S' ∧ lp f1801_b1 k' (c, U) = some U' ∧ S'.1 (22, 0, 0) = U'.1 (14, 0, 0) ∧ (∀ i, 0 ≤ i → i < S.1 (0, 0, 0) 4 → S'.1 (22, 0, 0) i = i) ∧ (∀ i, ¬ (0 ≤ i ∧ i < S.1 (0, 0, 0) 4) → S'.1 (22, 0, 0) i = S.1 (22, 0, 0) i) ∧ w_fr (fun k _ => decide (k = (22, 0, 0))) S S' ∧ w_fr (fun k _ => decide (k = (14, 0, 0))) U U'
  | 0, k + 1, k' + 1, S, U, c, hm, hmn, hl, hc, hn, hi, _, _ => by
    have e : ¬ c < S.1 (0, 0, 0) 4 := by rw [i_lt]; omega
    have e' : ¬ c < U.1 (0, 0, 0) 3 := by rw [← hmn]; exact e
    refine ⟨S, U, lp_0 (by simp only [f525_b1, e, if_false]), lp_0 (by simp only [f1801_b1, e', if_false]), hl, fun i h1 h2 => hi i h1 ?_, fun _ _ => rfl, fr_0, fr_0⟩
    have n2 := Int32.lt_iff_toInt_lt.mp h2
    rw [i_lt]; omega
  | n + 1, k + 1, k' + 1, S, U, c, hm, hmn, hl, hc, hn, hi, hk, hk' => by
    have e : c < S.1 (0, 0, 0) 4 := by rw [i_lt]; omega
    have e' : c < U.1 (0, 0, 0) 3 := by rw [← hmn]; exact e
    have up := up1 e
    have z : (0 : Int32).toInt = 0 := rfl
    have z24 : (24 : Int32).toInt = 24 := rfl
    have n0 := Int32.le_iff_toInt_le.mp hc
    have nm := Int32.le_iff_toInt_le.mp hm
    have n1 := Int32.lt_iff_toInt_lt.mp e
    have cc : 0 ≤ c ∧ c < 24 := ⟨hc, by rw [i_lt]; omega⟩
    have k1 : 0 ≤ c + 1 := by rw [i_le]; omega
    have k2 : (c + 1).toInt + n = (S.1 (0, 0, 0) 4).toInt := by omega
    have e4 : (sz S (22, 0, 0) c c).1 (0, 0, 0) 4 = S.1 (0, 0, 0) 4 := by simp [sz_1]
    obtain ⟨S', U', c1, t1, l1, v1, v2, f1, g1⟩ := F_turn0 n k k' (sz S (22, 0, 0) c c) (sz U (14, 0, 0) c c) (c + 1) (by rw [e4]; exact hm) (by rw [e4]; simpa [sz_1] using hmn) (by rw [sz_row, sz_row, hl]) k1 (by rw [e4]; exact k2) (fun i h1 h2 => by
      by_cases q : i = c
      · subst q; simp [sz_1]
      · rw [sz_1, if_neg (fun w => q w.2)]
        refine hi i h1 ?_
        have n2 := Int32.lt_iff_toInt_lt.mp h2
        have : ¬ i.toInt = c.toInt := fun w => q (Int32.toInt_inj.mp w)
        rw [i_lt]; omega) (by omega) (by omega)
    rw [e4] at v1 v2
    refine ⟨S', U', ?_, ?_, l1, v1, fun i q => by
      rw [v2 i q, sz_1, if_neg (fun w => q ⟨by rw [w.2]; exact hc, by rw [w.2]; exact e⟩)], fr_t (fr_z fr_0 (by simp)) f1, fr_t (fr_z fr_0 (by simp)) g1⟩
    · rw [lp_s (a' := (c + 1, sz S (22, 0, 0) c c))]
      · exact c1
      · simp only [f525_b1, e, cc, and_self, if_true]
    · rw [lp_s (a' := (c + 1, sz U (14, 0, 0) c c))]
      · exact t1
      · simp only [f1801_b1, e', cc, and_self, if_true]
theorem F_turn {S U : wS} (h : F_all S U) : ∃ S' U', f525 S = some S' ∧ f1801 U = some U' ∧ F_all S' U' ∧ (∀ i, 0 ≤ i → i < S.1 (0, 0, 0) 4 → S'.1 (22, 0, 0) i = i) ∧ w_fr (fun k _ => decide (k = (22, 0, 0))) S S' ∧ w_fr (fun k _ => decide (k = (14, 0, 0))) U U' := by
  have z : (0 : Int32).toInt = 0 := rfl
  have z24 : (24 : Int32).toInt = 24 := rfl
  have m24 := h.2.1.2.1
  have n0 := Int32.le_iff_toInt_le.mp m24.1
  have n1 := Int32.le_iff_toInt_le.mp m24.2.1
  have k0 : (0 : Int32).toInt + (S.1 (0, 0, 0) 4).toInt.toNat = (S.1 (0, 0, 0) 4).toInt := by omega
  have k1 : (S.1 (0, 0, 0) 4).toInt.toNat < FU := by rw [FU_eq]; omega
  obtain ⟨S', U', c1, t1, l1, v1, v2, f1, g1⟩ := F_turn0 (S.1 (0, 0, 0) 4).toInt.toNat FU FU S U 0 m24.2.1 h.1.2.2.2.2.1 h.2.2.1.1 (by decide) k0 (fun i h1 h2 => by
    have a := Int32.le_iff_toInt_le.mp h1
    have b := Int32.lt_iff_toInt_lt.mp h2
    omega) k1 k1
  refine ⟨S', U', by simp only [f525, c1, Option.bind_some], by simp only [f1801, t1, Option.bind_some], ?_, v1, f1, g1⟩
  have e4 := (f1 (0, 0, 0) 4 (by decide)).1
  obtain ⟨ht, hr, hl, hta⟩ := h
  have o : ∀ {k : wK}, decide (k = (22, 0, 0)) = false → S'.1 k = S.1 k ∧ S'.2 k = S.2 k := fun h => ⟨funext fun i => (f1 _ i h).1, funext fun i => (f1 _ i h).2⟩
  have o' : ∀ {k : wK}, decide (k = (14, 0, 0)) = false → U'.1 k = U.1 k ∧ U'.2 k = U.2 k := fun h => ⟨funext fun i => (g1 _ i h).1, funext fun i => (g1 _ i h).2⟩
  refine ⟨?_, ?_, ⟨l1, fun i h1 h2 => ?_, fun i => ?_⟩, ?_⟩
  · unfold F_told
    rw [(o (k := (12, 0, 0)) rfl).1, (o (k := (13, 0, 0)) rfl).1, (o (k := (15, 0, 0)) rfl).1, (o (k := (16, 0, 0)) rfl).2, (o (k := (18, 0, 0)) rfl).2, (o (k := (19, 0, 0)) rfl).2, (o (k := (21, 0, 0)) rfl).1, (o (k := (0, 0, 0)) rfl).1,
      (o' (k := (5, 0, 0)) rfl).1, (o' (k := (6, 0, 0)) rfl).1, (o' (k := (8, 0, 0)) rfl).1, (o' (k := (9, 0, 0)) rfl).2, (o' (k := (11, 0, 0)) rfl).1, (o' (k := (12, 0, 0)) rfl).1, (o' (k := (13, 0, 0)) rfl).1, (o' (k := (0, 0, 0)) rfl).1]
    exact ht
  · unfold F_rng
    rw [(o (k := (12, 0, 0)) rfl).1, (o (k := (13, 0, 0)) rfl).1, (o (k := (15, 0, 0)) rfl).1, (o (k := (21, 0, 0)) rfl).1, (o (k := (0, 0, 0)) rfl).1]
    exact hr
  · rw [e4] at h2 ⊢
    rw [v1 i h1 h2]; exact ⟨h1, h2⟩
  · rw [e4]
    by_cases q : 0 ≤ i ∧ i < S.1 (0, 0, 0) 4
    · rw [v1 i q.1 q.2]; exact ⟨q.1, Or.inl q.2⟩
    · rw [v2 i q]; exact hl.2.2 i
  · exact F_tab_cong hta (fun p s => ⟨(o (k := (3, p, s)) (by simp)).2, (o (k := (3, p, s)) (by simp)).1⟩) ⟨(o' (k := (15, 0, 0)) rfl).2, (o' (k := (16, 0, 0)) rfl).1, (o' (k := (17, 0, 0)) rfl).1⟩
set_option maxRecDepth 100000
/-- tests: n is at least their number -/
def F_tst (n : Nat) (C T : wS) : Prop := (0 ≤ C.1 (0, 0, 0) 31 ∧ 0 ≤ C.1 (0, 0, 0) 32 ∧ (C.1 (0, 0, 0) 31).toInt + (C.1 (0, 0, 0) 32).toInt ≤ n) ∧ T.2 (0, 0, 0) 32 = (C.1 (0, 0, 0) 31 + C.1 (0, 0, 0) 32).toInt64 ∧ T.2 (0, 0, 0) 33 = (C.1 (0, 0, 0) 31).toInt64 ∧ C.1 (0, 0, 0) 33 = T.1 (0, 0, 0) 34 ∧ (C.1 (0, 0, 0) 33 = 0 ∨ C.1 (0, 0, 0) 33 = 1) ∧ C.1 (44, 0, 0) = T.1 (36, 0, 0)
def F_end1 (C T : wS) : Prop := C.1 (0, 0, 0) 20 = T.1 (0, 0, 0) 20 ∧ (C.1 (0, 0, 0) 20 = 0 ∨ C.1 (0, 0, 0) 20 = 1) ∧ (C.1 (0, 0, 0) 20 = 1 → F_kept C T)
def F_cnt (C : wS) : Prop := (0 ≤ C.1 (0, 0, 0) 26 ∧ C.1 (0, 0, 0) 26 ≤ 1440) ∧ 0 ≤ C.1 (0, 0, 0) 30 ∧ C.1 (0, 0, 0) 30 ≤ 24
/-- THE RELATION of the two Fingers -/
def F_R (n : Nat) (C T : wS) : Prop := F_all C T ∧ F_mk C T ∧ F_end1 C T ∧ F_cnt C ∧ F_tst n C T
theorem F_tst_fr {n : Nat} {P Q : wK → Int32 → Bool} {C T S U : wS} (h : F_tst n C T) (f : w_fr P C S) (g : w_fr Q T U) (p1 : P (0, 0, 0) 31 = false) (p2 : P (0, 0, 0) 32 = false) (p3 : P (0, 0, 0) 33 = false) (p4 : ∀ i, P (44, 0, 0) i = false) (q1 : Q (0, 0, 0) 32 = false) (q2 : Q (0, 0, 0) 33 = false) (q3 : Q (0, 0, 0) 34 = false) (q4 : ∀ i, Q (36, 0, 0) i = false) : F_tst n S U := by
  unfold F_tst
  rw [(f _ _ p1).1, (f _ _ p2).1, (f _ _ p3).1, fr_1 f p4, (g _ _ q1).2, (g _ _ q2).2, (g _ _ q3).1, fr_1 g q4]
  exact h
theorem F_mk_1 {C T S U : wS} (h : F_mk C T) (f : w_fr (fun k _ => decide (k = (22, 0, 0))) C S) (g : w_fr (fun k _ => decide (k = (14, 0, 0))) T U) : F_mk S U := by
  have o : ∀ {k : wK}, decide (k = (22, 0, 0)) = false → S.1 k = C.1 k := fun h => funext fun i => (f _ i h).1
  have o' : ∀ {k : wK}, decide (k = (14, 0, 0)) = false → U.1 k = T.1 k := fun h => funext fun i => (g _ i h).1
  unfold F_mk
  rw [o (k := (0, 0, 0)) rfl, o (k := (31, 0, 0)) rfl, o (k := (32, 0, 0)) rfl, o (k := (33, 0, 0)) rfl, o (k := (34, 0, 0)) rfl, o (k := (35, 0, 0)) rfl, o (k := (37, 0, 0)) rfl, o (k := (38, 0, 0)) rfl, o (k := (39, 0, 0)) rfl,
    o' (k := (0, 0, 0)) rfl, o' (k := (24, 0, 0)) rfl, o' (k := (25, 0, 0)) rfl, o' (k := (26, 0, 0)) rfl, o' (k := (27, 0, 0)) rfl, o' (k := (28, 0, 0)) rfl, o' (k := (30, 0, 0)) rfl, o' (k := (31, 0, 0)) rfl, o' (k := (32, 0, 0)) rfl]
  exact h
/-- the code is set: nothing else -/
theorem F_code {n : Nat} {C T : wS} (h : F_R n C T) {v : Int32} : F_R n C (sz T (0, 0, 0) 0 v) := by
  obtain ⟨ha, hm, he, hc, ht⟩ := h
  have g : w_fr F_QT T (sz T (0, 0, 0) 0 v) := fr_z fr_0 rfl
  refine ⟨F_all_q ha fr_0 g, ?_, ?_, hc, F_tst_fr ht (P := fun _ _ => false) fr_0 (Q := fun k i => decide (k = (0, 0, 0) ∧ i = 0)) (fr_z fr_0 (by simp)) rfl rfl rfl (fun _ => rfl) (by decide) (by decide) (by decide) (fun _ => by simp)⟩
  · obtain ⟨w1, w2, ⟨w3, w4, w5, w6, w7⟩, w8, w9, w10⟩ := hm
    refine ⟨by simpa [sz_1] using w1, by simpa [sz_1] using w2, ⟨?_, ?_, ?_, ?_, ?_⟩, ?_, ?_, ?_⟩ <;> rw [sz_oth (by decide)] <;> assumption
  · obtain ⟨e1, e2, e3⟩ := he
    refine ⟨by simpa [sz_1] using e1, e2, fun q i h1 h2 => ?_⟩
    rw [sz_oth (by decide)]; exact e3 q i h1 h2
theorem F_run {n : Nat} {C T : wS} (h : F_R n C T) : ∃ C' T' v, f524 C = some (v, C') ∧ f1800 T = some (v, T') ∧ F_R n C' T' ∧ T'.1 (0, 0, 0) 0 = 0 := by
  obtain ⟨ha, hm, he, hc, ht⟩ := F_code h (v := 0)
  obtain ⟨S1, U1, c1, t1, a1, _, f1, g1⟩ := F_turn ha
  obtain ⟨S2, U2, c2, t2, a2, f2, g2⟩ := F_fill a1
  have hm2 := F_mk_fr f2 g2 (F_mk_1 hm f1 g1)
  obtain ⟨S3, U3, c3, t3, a3, m3, k3, x20, y20, cb, jb, f3, g3⟩ := F_walk a2 hm2
  have tst := F_tst_fr (F_tst_fr (F_tst_fr ht f1 g1 (by decide) (by decide) (by decide) (fun _ => by decide) (by decide) (by decide) (by decide) (fun _ => by decide)) f2 g2 rfl rfl rfl (F_k0 rfl rfl rfl) rfl rfl rfl (F_kT rfl rfl rfl rfl)) f3 g3 rfl rfl rfl (fun _ => rfl) rfl rfl rfl (fun _ => rfl)
  refine ⟨S3, U3, S3.1 (0, 0, 0) 26, ?_, ?_, ⟨a3, m3, ⟨x20.trans y20.symm, Or.inr x20, fun _ => k3⟩, ⟨cb, jb⟩, tst⟩, ?_⟩
  · simp only [f524, c1, c2, c3, Option.bind_some]
  · simp only [f1800, t1, t2, t3, Option.bind_some]
  · rw [(g3 (0, 0, 0) 0 rfl).1, (g2 (0, 0, 0) 0 rfl).1, (g1 (0, 0, 0) 0 (by decide)).1]; simp [sz_1]
set_option maxRecDepth 100000
theorem l_le {a b : Int32} : (a.toInt64 ≤ b.toInt64) = (a ≤ b) := by
  rw [i_le]; refine propext ?_
  rw [Int64.le_iff_toInt_le, Int32.toInt_toInt64, Int32.toInt_toInt64]
theorem F_in64 {x y : Int32} : f516 x.toInt64 0 y.toInt64 = some (if 0 ≤ x ∧ x ≤ y then 1 else 0) := by
  have z : (0 : Int64) = (0 : Int32).toInt64 := rfl
  unfold f516
  rw [z]
  have h1 : (x.toInt64 < (0 : Int32).toInt64) = (x < 0) := by
    rw [i_lt]; refine propext ?_
    rw [Int64.lt_iff_toInt_lt, Int32.toInt_toInt64, Int32.toInt_toInt64]
  simp only [h1, l_le]
  grind
theorem F_in2 {x : Int32} : f516 x.toInt64 0 2 = some (if 0 ≤ x ∧ x ≤ 2 then 1 else 0) := F_in64 (y := 2)
theorem F_in3 {x : Int32} : f516 x.toInt64 0 3 = some (if 0 ≤ x ∧ x ≤ 3 then 1 else 0) := F_in64 (y := 3)
theorem F_can {v : Int32} : f515 v = some (if v = 0 then .inl 71 else .inr ()) := by grind [f515]
theorem F_proper {v : Int32} : f517 v = some (if v = 0 then .inl 70 else .inr ()) := by grind [f517]
theorem F_there {v : Int32} : f520 v = some (if v = 0 then .inl 67 else .inr ()) := by grind [f520]
theorem F_none {T : wS} : f1814 T = if T.1 (0, 0, 0) 20 = 0 then some (1, sz T (0, 0, 0) 0 1) else some (0, sz T (0, 0, 0) 0 0) := by
  unfold f1814 f1814_2
  split <;> simp
theorem sz_sz {S : wS} {k : wK} {i v w : Int32} : sz (sz S k i v) k i w = sz S k i w := by
  unfold sz
  refine Prod.ext ?_ rfl
  funext k' j
  dsimp only
  by_cases e : k' = k ∧ j = i
  · simp [e]
  · simp [e]
/-- both answered, and the relation holds: the answer, or what was thrown with its code -/
def F_ok {α : Type} (n : Nat) (C : wS) (code : Nat → Int32) (c : Option (Nat ⊕ α)) (t : Option (α × wS)) : Prop :=
  ∃ v T', t = some (v, T') ∧ F_R n C T' ∧ ((c = some (.inr v) ∧ T'.1 (0, 0, 0) 0 = 0) ∨ ∃ k, c = some (.inl k) ∧ T'.1 (0, 0, 0) 0 = code k)
def F_code3 (k : Nat) : Int32 := if k = 71 then 1 else if k = 67 then 2 else 3
theorem F_taken {n : Nat} {C T : wS} (h : F_R n C T) {x : Int32} : F_ok n C F_code3 (f536 C x) (f1813 T x) := by
  have e := h.2.2.1
  have hmn := h.1.1.2.2.2.2.1
  have m24 := h.1.2.1.2.1
  by_cases c0 : C.1 (0, 0, 0) 20 = 0
  · have d0 : T.1 (0, 0, 0) 20 = 0 := by rw [← e.1]; exact c0
    refine ⟨0, _, ?_, F_code h (v := 1), Or.inr ⟨71, ?_, ?_⟩⟩
    · simp [f1813, F_none, d0]
    · simp [f536, F_can, c0]
    · simp [sz_1, F_code3]
  · have d0 : ¬ T.1 (0, 0, 0) 20 = 0 := by rw [← e.1]; exact c0
    by_cases cx : 0 ≤ x ∧ x < C.1 (0, 0, 0) 4
    · have c1 : 0 ≤ x ∧ x ≤ C.1 (0, 0, 0) 4 - 1 := by clear e h; grind
      have c2 : 0 ≤ x ∧ x < 24 := by clear e h; grind
      have c3 : ¬ x < 0 := by clear e h; grind
      have c4 : x < T.1 (0, 0, 0) 3 := by rw [← hmn]; exact cx.2
      have hk := e.2.2 (e.2.1.resolve_left c0) x cx.1 cx.2
      refine ⟨C.1 (22, 0, 0) x, _, ?_, F_code h (v := 0), Or.inl ⟨?_, ?_⟩⟩
      · simp [f1813, F_none, d0, c3, sz_1, c4, f1813_4, c2, sz_sz, hk]
      · simp [f536, F_can, c0, F_in64, c1, F_there, c2]
      · simp [sz_1]
    · have c1 : ¬ (0 ≤ x ∧ x ≤ C.1 (0, 0, 0) 4 - 1) := by clear e h; grind
      refine ⟨0, _, ?_, F_code h (v := 2), Or.inr ⟨67, ?_, ?_⟩⟩
      · by_cases c3 : x < 0
        · simp [f1813, F_none, d0, c3, f1813_4, sz_sz]
        · have c4 : ¬ x < T.1 (0, 0, 0) 3 := by rw [← hmn]; clear e h; grind
          simp [f1813, F_none, d0, c3, sz_1, c4, f1813_4, sz_sz]
      · simp [f536, F_can, c0, F_in64, c1, F_there]
      · simp [sz_1, F_code3]
theorem F_stop {n : Nat} {C T : wS} (h : F_R n C T) {x : Int32} : F_ok n C (fun _ => 1) (f545 C x) (f1823 T x) := by
  have hs := h.2.2.2.2.2.2.2.2.2
  by_cases cx : 0 ≤ x ∧ x ≤ 2
  · have c2 : 0 ≤ x ∧ x < 3 := by clear h hs; grind
    have c3 : ¬ x < 0 := by clear h hs; grind
    refine ⟨C.1 (44, 0, 0) x, _, ?_, F_code h (v := 0), Or.inl ⟨?_, ?_⟩⟩
    · simp [f1823, c3, cx.2, f1823_3, c2, hs]
    · simp [f545, F_in2, cx, F_there, c2]
    · simp [sz_1]
  · refine ⟨0, _, ?_, F_code h (v := 1), Or.inr ⟨67, ?_, ?_⟩⟩
    · by_cases c3 : x < 0
      · simp [f1823, c3, f1823_3]
      · have c4 : ¬ x ≤ 2 := by clear h hs; grind
        simp [f1823, c3, c4, f1823_3]
    · simp [f545, F_in2, cx, F_there]
    · simp [sz_1]
theorem F_worth {n : Nat} {C T : wS} (h : F_R n C T) {x : Int32} : F_ok n C F_code3 (f519 C x) (f1815 T x) := by
  have e := h.2.2.1
  have tab := h.1.2.2.2 0 0 (by decide) (by decide) (by decide) (by decide)
  have z0 : (61 * 0 + 0 : Int32) = 0 := by decide
  rw [z0] at tab
  by_cases c0 : C.1 (0, 0, 0) 20 = 0
  · have d0 : T.1 (0, 0, 0) 20 = 0 := by rw [← e.1]; exact c0
    refine ⟨0, _, ?_, F_code h (v := 1), Or.inr ⟨71, ?_, ?_⟩⟩
    · simp [f1815, F_none, d0]
    · simp [f519, F_can, c0]
    · simp [sz_1, F_code3]
  · have d0 : ¬ T.1 (0, 0, 0) 20 = 0 := by rw [← e.1]; exact c0
    by_cases cx : 0 ≤ x ∧ x ≤ 2
    · have c3 : ¬ x < 0 := by clear e h tab; grind
      by_cases x0 : x = 0
      · refine ⟨C.2 (3, 0, 0) 0, _, ?_, F_code h (v := 0), Or.inl ⟨?_, ?_⟩⟩
        · subst x0; simp [f1815, F_none, d0, f1815_4, sz_1, sz_2, tab.1, sz_sz]
        · unfold f519; rw [F_in2]; simp [F_can, c0, cx, F_there]; simp [x0]
        · simp [sz_1]
      · by_cases x1 : x = 1
        · refine ⟨(C.1 (3, 0, 0) 1).toInt64, _, ?_, F_code h (v := 0), Or.inl ⟨?_, ?_⟩⟩
          · subst x1; simp [f1815, F_none, d0, f1815_4, sz_1, sz_2, tab.2.1, sz_sz]
          · unfold f519; rw [F_in2]; simp [F_can, c0, cx, F_there]; simp [x1]
          · simp [sz_1]
        · refine ⟨(C.1 (3, 0, 0) 2).toInt64, _, ?_, F_code h (v := 0), Or.inl ⟨?_, ?_⟩⟩
          · simp [f1815, F_none, d0, c3, cx.2, f1815_4, x0, x1, sz_1, sz_2, tab.2.2, sz_sz]
          · simp [f519, F_can, c0, F_in2, cx, F_there, x0, x1]
          · simp [sz_1]
    · refine ⟨0, _, ?_, F_code h (v := 2), Or.inr ⟨67, ?_, ?_⟩⟩
      · by_cases c3 : x < 0
        · simp [f1815, F_none, d0, c3, f1815_4, sz_sz]
        · have c4 : ¬ x ≤ 2 := by clear e h tab; grind
          simp [f1815, F_none, d0, c3, c4, f1815_4, sz_sz]
      · simp [f519, F_can, c0, F_in2, cx, F_there]
      · simp [sz_1, F_code3]
