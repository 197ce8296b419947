/-! ===== flat objects: an object of class c at a, its arrays at a + 1, a + 2, .. (the reference's parts) ===== -/
/-- its state: scalars by field number; arrays by field number -/
abbrev tw_S : Type := (Nat → Int) × (Nat → Nat → Int)
/-- its shape: class, its fields, its arrays (field number, type, length) in the order in which they are made -/
abbrev tw_C : Type := Nat × (Nat → tw_S → List Value) × List (Nat × FieldType × Nat)
def tw_con (t : FieldType) (g : Nat → Int) : (Nat → Int32) ⊕ (Nat → Int64) ⊕ (Nat → UInt32) ⊕ (Nat → UInt64) ⊕ (Nat → Option Nat) := if t = .long then .inr (.inl (fun i => Int64.ofInt (g i))) else .inl (fun i => Int32.ofInt (g i))
def tw_cell (C : tw_C) (a : Nat) (σ : tw_S) : Nat → pm_E
  | 0 => .inr (C.1, C.2.1 a σ)
  | m + 1 => match C.2.2[m]? with
    | some (f, t, n) => .inl (t, n, tw_con t (σ.2 f))
    | none => pm_none
def tw_put (C : tw_C) (h : pm_H) (a : Nat) (σ : tw_S) : pm_H := (h.1, h.2.1, fun q => if a ≤ q ∧ q < a + (C.2.2.length + 1) then tw_cell C a σ (q - a) else h.2.2 q)
def tw_ss (σ : tw_S) (k : Nat) (v : Int) : tw_S := (va_up σ.1 k v, σ.2)
def tw_sa (σ : tw_S) (f i : Nat) (v : Int) : tw_S := (σ.1, va_up σ.2 f (va_up (σ.2 f) i v))
theorem tw_ss_1 {σ : tw_S} {k j : Nat} {v : Int} : (tw_ss σ k v).1 j = if j = k then v else σ.1 j := rfl
theorem tw_ss_2 {σ : tw_S} {k : Nat} {v : Int} : (tw_ss σ k v).2 = σ.2 := rfl
theorem tw_sa_1 {σ : tw_S} {f i : Nat} {v : Int} : (tw_sa σ f i v).1 = σ.1 := rfl
theorem tw_sa_2 {σ : tw_S} {f i g j : Nat} {v : Int} : (tw_sa σ f i v).2 g j = if g = f ∧ j = i then v else σ.2 g j := by
  by_cases hg : g = f
  · subst hg
    by_cases hj : j = i
    · simp [tw_sa, va_up, hj]
    · simp [tw_sa, va_up, hj]
  · simp [tw_sa, va_up, hg]
theorem tw_at0 {C : tw_C} {h : pm_H} {a : Nat} {σ : tw_S} : (tw_put C h a σ).2.2 a = .inr (C.1, C.2.1 a σ) := by
  simp [tw_put, tw_cell]
theorem tw_at {C : tw_C} {h : pm_H} {a m f n : Nat} {t : FieldType} {σ : tw_S} (hm : C.2.2[m]? = some (f, t, n)) : (tw_put C h a σ).2.2 (a + (m + 1)) = .inl (t, n, tw_con t (σ.2 f)) := by
  have hl : m < C.2.2.length := (List.getElem?_eq_some_iff.mp hm).1
  have e : a + (m + 1) - a = m + 1 := by omega
  simp only [tw_put]
  rw [if_pos ⟨by omega, by omega⟩, e]
  simp only [tw_cell, hm]
theorem tw_up0 {C : tw_C} {h : pm_H} {a : Nat} {σ σ' : tw_S} (h2 : σ'.2 = σ.2) : pm_up (tw_put C h a σ) a (.inr (C.1, C.2.1 a σ')) = tw_put C h a σ' := by
  unfold pm_up tw_put
  refine congrArg _ (congrArg _ (funext fun q => ?_))
  by_cases hq : q = a
  · subst hq
    simp [va_up, tw_cell]
  · simp only [va_up, if_neg hq]
    by_cases hr : a ≤ q ∧ q < a + (C.2.2.length + 1)
    · rw [if_pos hr, if_pos hr]
      obtain ⟨m, hm⟩ : ∃ m, q - a = m + 1 := ⟨q - a - 1, by omega⟩
      rw [hm]
      simp only [tw_cell, h2]
    · rw [if_neg hr, if_neg hr]
theorem tw_up {C : tw_C} {h : pm_H} {a m f n i : Nat} {t : FieldType} {σ : tw_S} {v : Int} (hm : C.2.2[m]? = some (f, t, n)) (hu : ∀ m' f' t' n', C.2.2[m']? = some (f', t', n') → f' = f → m' = m) (h0 : C.2.1 a (tw_sa σ f i v) = C.2.1 a σ) {e : pm_E} (he : e = .inl (t, n, tw_con t (va_up (σ.2 f) i v))) : pm_up (tw_put C h a σ) (a + (m + 1)) e = tw_put C h a (tw_sa σ f i v) := by
  subst he
  have hl : m < C.2.2.length := (List.getElem?_eq_some_iff.mp hm).1
  unfold pm_up tw_put
  refine congrArg _ (congrArg _ (funext fun q => ?_))
  by_cases hq : q = a + (m + 1)
  · subst hq
    have e : a + (m + 1) - a = m + 1 := by omega
    rw [if_pos ⟨by omega, by omega⟩, e]
    simp only [va_up, if_true, tw_cell, hm, tw_sa]
  · simp only [va_up, if_neg hq]
    by_cases hr : a ≤ q ∧ q < a + (C.2.2.length + 1)
    · rw [if_pos hr, if_pos hr]
      rcases Nat.eq_zero_or_pos (q - a) with hz | hz
      · rw [hz]; simp only [tw_cell, h0]
      · obtain ⟨m', hm'⟩ : ∃ m', q - a = m' + 1 := ⟨q - a - 1, by omega⟩
        rw [hm']
        simp only [tw_cell]
        split
        · rename_i f' t' n' e'
          have hne : f' ≠ f := fun z => by
            have := hu m' f' t' n' e' z
            omega
          simp only [tw_sa, va_up, if_neg hne]
        · rfl
    · rw [if_neg hr, if_neg hr]
theorem tw_con_i {t : FieldType} (ht : ¬ t = .long) (g : Nat → Int) : tw_con t g = .inl (fun i => Int32.ofInt (g i)) := if_neg ht
theorem tw_con_l (g : Nat → Int) : tw_con .long g = .inr (.inl (fun i => Int64.ofInt (g i))) := if_pos rfl
/-- reading -/
theorem tw_gf {C : tw_C} {T : pm_T} {h : pm_H} {a c k : Nat} {σ : tw_S} {v : Value} (hc : T.2.2.1 C.1 c = true) (hk : (C.2.1 a σ)[k]? = some v) : pm_gf T (tw_put C h a σ) a c k = some v := by
  unfold pm_gf
  rw [tw_at0]
  simp only [if_pos hc, hk]
theorem tw_pf {C : tw_C} {T : pm_T} {h : pm_H} {a c k t : Nat} {σ σ' : tw_S} {v : Value} (hc : T.2.2.1 C.1 c = true) (hk : k < (C.2.1 a σ).length) (ht : pm_ok t v = true) (hs : (C.2.1 a σ).set k v = C.2.1 a σ') (h2 : σ'.2 = σ.2) : pm_pf T (tw_put C h a σ) a c k t v = some (tw_put C h a σ') := by
  unfold pm_pf
  rw [tw_at0]
  simp only
  rw [if_pos ⟨hc, hk, ht⟩, hs, tw_up0 h2]
theorem tw_rd {C : tw_C} {p : FieldType → Bool} {h : pm_H} {a m f n : Nat} {t : FieldType} {σ : tw_S} {z : Int} (hm : C.2.2[m]? = some (f, t, n)) (hp : p t = true) (ht : ¬ t = .long) (hz : 0 ≤ z) (hn : z < n) (hn2 : n ≤ 2147483647) : pm_rd p (tw_put C h a σ) (a + (m + 1)) (Int32.ofInt z) = some (Int32.ofInt (σ.2 f z.toNat)) := by
  unfold pm_rd
  rw [tw_at hm, tw_con_i ht]
  simp only [nu_i (z := z) (by omega) (by omega)]
  rw [if_pos ⟨hp, hz, hn⟩]
theorem tw_rdL {C : tw_C} {h : pm_H} {a m f n : Nat} {σ : tw_S} {z : Int} (hm : C.2.2[m]? = some (f, .long, n)) (hz : 0 ≤ z) (hn : z < n) (hn2 : n ≤ 2147483647) : pm_rdL (tw_put C h a σ) (a + (m + 1)) (Int32.ofInt z) = some (Int64.ofInt (σ.2 f z.toNat)) := by
  unfold pm_rdL
  rw [tw_at hm, tw_con_l]
  simp only [nu_i (z := z) (by omega) (by omega)]
  rw [if_pos ⟨trivial, hz, hn⟩]
theorem tw_wr {C : tw_C} {p : FieldType → Bool} {h : pm_H} {a m f n : Nat} {t : FieldType} {σ : tw_S} {z v : Int} (hm : C.2.2[m]? = some (f, t, n)) (hu : ∀ m' f' t' n', C.2.2[m']? = some (f', t', n') → f' = f → m' = m) (h0 : C.2.1 a (tw_sa σ f z.toNat v) = C.2.1 a σ) (hp : p t = true) (ht : ¬ t = .long) (hv : vp_nar t (Int32.ofInt v) = Int32.ofInt v) (hz : 0 ≤ z) (hn : z < n) (hn2 : n ≤ 2147483647) : pm_wr p (tw_put C h a σ) (a + (m + 1)) (Int32.ofInt z) (Int32.ofInt v) = some (tw_put C h a (tw_sa σ f z.toNat v)) := by
  unfold pm_wr
  rw [tw_at hm, tw_con_i ht]
  simp only [nu_i (z := z) (by omega) (by omega)]
  rw [if_pos ⟨hp, hz, hn⟩, hv]
  refine congrArg some (tw_up hm hu h0 ?_)
  rw [tw_con_i ht]
  refine congrArg Sum.inl (congrArg _ (congrArg _ (congrArg Sum.inl (funext fun j => ?_))))
  by_cases hj : j = z.toNat
  · simp [upd, va_up, hj]
  · simp [upd, va_up, hj]
theorem tw_wrL {C : tw_C} {h : pm_H} {a m f n : Nat} {σ : tw_S} {z v : Int} (hm : C.2.2[m]? = some (f, .long, n)) (hu : ∀ m' f' t' n', C.2.2[m']? = some (f', t', n') → f' = f → m' = m) (h0 : C.2.1 a (tw_sa σ f z.toNat v) = C.2.1 a σ) (hz : 0 ≤ z) (hn : z < n) (hn2 : n ≤ 2147483647) : pm_wrL (tw_put C h a σ) (a + (m + 1)) (Int32.ofInt z) (Int64.ofInt v) = some (tw_put C h a (tw_sa σ f z.toNat v)) := by
  unfold pm_wrL
  rw [tw_at hm, tw_con_l]
  simp only [nu_i (z := z) (by omega) (by omega)]
  rw [if_pos ⟨trivial, hz, hn⟩]
  refine congrArg some (tw_up hm hu h0 ?_)
  rw [tw_con_l]
  refine congrArg Sum.inl (congrArg _ (congrArg _ (congrArg Sum.inr (congrArg Sum.inl (funext fun j => ?_)))))
  by_cases hj : j = z.toNat
  · simp [vp_updL, va_up, hj]
  · simp [vp_updL, va_up, hj]
theorem tw_nd {l : List (Nat × FieldType × Nat)} (hd : (l.map (fun q => q.1)).Nodup) {m m' f n n' : Nat} {t t' : FieldType} (h1 : l[m]? = some (f, t, n)) (h2 : l[m']? = some (f, t', n')) : m = m' := by
  have e1 : (l.map (fun q => q.1))[m]? = some f := by rw [List.getElem?_map, h1]; rfl
  have e2 : (l.map (fun q => q.1))[m']? = some f := by rw [List.getElem?_map, h2]; rfl
  have l1 : m < (l.map (fun q => q.1)).length := (List.getElem?_eq_some_iff.mp e1).1
  exact (List.getElem?_inj l1 hd).mp (e1.trans e2.symm)
theorem nu_narz {v : Int} (hv : v = 0 ∨ v = 1) : vp_nar .boolean (Int32.ofInt v) = Int32.ofInt v := by
  rcases hv with rfl | rfl <;> decide +kernel
theorem nu_narb {v : Int} (hv : -128 ≤ v ∧ v ≤ 127) : vp_nar .byte (Int32.ofInt v) = Int32.ofInt v := by
  have h : ∀ n : Fin 256, vp_nar .byte (Int32.ofInt ((n.val : Int) - 128)) = Int32.ofInt ((n.val : Int) - 128) := by decide +kernel
  have := h ⟨(v + 128).toNat, by omega⟩
  rw [show (((v + 128).toNat : Nat) : Int) - 128 = v by omega] at this
  exact this
theorem pm_rc0 {T : pm_T} {c : Nat} {as : List Value} {h : pm_H} (hc : c = 0) : pm_rc T c as h = true := by
  subst hc
  unfold pm_rc
  split <;> rfl
theorem pm_rc1 {T : pm_T} {c b a : Nat} {as : List Value} {h : pm_H} (h1 : pm_cls h a = some b) (h2 : T.2.2.1 b c = true) : pm_rc T c (.ref a :: as) h = true := by
  unfold pm_rc
  simp only [h1, h2, Bool.or_true]
theorem pm_cal {P : pm_P} {d k : Nat} {as ls : List Value} {h : pm_H} {r : List Instr} (h1 : pm_rc P.1 (P.2 k).2.2.1 as h = true) (h2 : (P.2 k).1 0 = r) (h3 : pm_entry (P.2 k).2.2.2 as = ls) (h4 : ls.length = (P.2 k).2.2.2) : pm_call P (d + 1) k as h = pm_ev P (pm_call P d) k 0 r ls [] h := by
  have h5 : (pm_ent as).length ≤ (P.2 k).2.2.2 := by
    rw [← h4, ← h3]
    unfold pm_entry
    rw [List.length_append]
    exact Nat.le_add_right _ _
  show (if _ then _ else _) = _
  rw [if_pos ⟨h1, h5⟩, pm_go_eq, h2, h3]
theorem pm_prog_1 : pm_prog.1 = pm_tab := rfl
