/-! ===== LEVEL 3, 1: worlds by keys: a cell of a world has a key (two numbers); A says where it lies, D which keys there are, M what is in them ===== -/
abbrev wK : Type := Nat × Int32 × Int32
def wu {β : Type} (f : wK → β) (a : wK) (b : β) : wK → β := fun x => if x = a then b else f x
theorem wu_self {β : Type} (f : wK → β) (a : wK) (b : β) : wu f a b a = b := if_pos rfl
theorem wu_ne {β : Type} (f : wK → β) {a x : wK} (b : β) (h : x ≠ a) : wu f a b x = f x := if_neg h
noncomputable def wp_put (A : wK → Nat) (D : wK → Prop) (M : wK → pm_E) (h : pm_H) : pm_H := (h.1, h.2.1, fun q => @dite _ (∃ k, D k ∧ A k = q) (Classical.propDecidable _) (fun hq => M (Classical.choose hq)) (fun _ => h.2.2 q))
/-- the keys' cells are apart, and lie below n -/
def wp_ok (A : wK → Nat) (D : wK → Prop) (n : Nat) : Prop := (∀ k k', D k → D k' → A k = A k' → k = k') ∧ ∀ k, D k → A k < n
section
variable {A A' : wK → Nat} {D D' : wK → Prop} {M M' : wK → pm_E} {h : pm_H} {k : wK} {n q : Nat} {e : pm_E}
theorem wp_dne {a : wK} (hk : ¬ D k) (ha : D a) : a ≠ k := fun e => hk (by rw [← e]; exact ha)
theorem wp_1 : (wp_put A D M h).1 = h.1 := rfl
theorem wp_21 : (wp_put A D M h).2.1 = h.2.1 := rfl
theorem wp_at (hA : wp_ok A D n) (hk : D k) : (wp_put A D M h).2.2 (A k) = M k := by
  have hx : ∃ k', D k' ∧ A k' = A k := ⟨k, hk, rfl⟩
  show (@dite _ (∃ k', D k' ∧ A k' = A k) (Classical.propDecidable _) (fun hq => M (Classical.choose hq)) (fun _ => h.2.2 (A k))) = M k
  rw [dif_pos hx]
  have hs := Classical.choose_spec hx
  rw [hA.1 _ _ hs.1 hk hs.2]
theorem wp_out (hq : ∀ k, D k → A k ≠ q) : (wp_put A D M h).2.2 q = h.2.2 q := by
  show (@dite _ (∃ k', D k' ∧ A k' = q) (Classical.propDecidable _) (fun hq => M (Classical.choose hq)) (fun _ => h.2.2 q)) = h.2.2 q
  rw [dif_neg (fun ⟨k, h1, h2⟩ => hq k h1 h2)]
theorem wp_ext {c1 c2 : Nat} {f g : Nat → pm_E} (h : ∀ q, f q = g q) : ((c1, c2, f) : pm_H) = (c1, c2, g) := congrArg _ (congrArg _ (funext h))
theorem wp_up (hA : wp_ok A D n) (hk : D k) (hM : ∀ k', D k' → M' k' = if k' = k then e else M k') : pm_up (wp_put A D M h) (A k) e = wp_put A D M' h := by
  refine wp_ext fun q => ?_
  by_cases hq : q = A k
  · subst hq
    rw [va_up_self]
    have := wp_at (M := M') (h := h) hA hk
    rw [hM k hk, if_pos rfl] at this
    exact this.symm
  · rw [va_up_ne _ _ hq]
    by_cases hx : ∃ k', D k' ∧ A k' = q
    · obtain ⟨k', h1, rfl⟩ := hx
      have a1 := wp_at (M := M') (h := h) hA h1
      have a2 := wp_at (M := M) (h := h) hA h1
      have hne : k' ≠ k := fun e => hq (by rw [e])
      rw [hM k' h1, if_neg hne] at a1
      exact a2.trans a1.symm
    · have a1 := wp_out (A := A) (D := D) (M := M') (h := h) (q := q) (fun k h1 h2 => hx ⟨k, h1, h2⟩)
      have a2 := wp_out (A := A) (D := D) (M := M) (h := h) (q := q) (fun k h1 h2 => hx ⟨k, h1, h2⟩)
      exact a2.trans a1.symm
theorem wp_self (hA : wp_ok A D n) (hh : ∀ k, D k → h.2.2 (A k) = M k) : wp_put A D M h = h := by
  refine wp_ext (f := (wp_put A D M h).2.2) (g := h.2.2) fun q => ?_
  by_cases hx : ∃ k', D k' ∧ A k' = q
  · obtain ⟨k', h1, rfl⟩ := hx
    rw [wp_at hA h1, hh k' h1]
  · exact wp_out (fun k h1 h2 => hx ⟨k, h1, h2⟩)
theorem wp_cong (hA : wp_ok A D n) (hA' : wp_ok A' D' n) (hD : ∀ k, D k ↔ D' k) (hAA : ∀ k, D k → A k = A' k) (hM : ∀ k, D k → M k = M' k) : wp_put A D M h = wp_put A' D' M' h := by
  refine wp_ext (f := (wp_put A D M h).2.2) (g := (wp_put A' D' M' h).2.2) fun q => ?_
  by_cases hx : ∃ k', D k' ∧ A k' = q
  · obtain ⟨k', h1, rfl⟩ := hx
    rw [wp_at hA h1, hAA k' h1, wp_at hA' ((hD k').mp h1), hM k' h1]
  · rw [wp_out (fun k h1 h2 => hx ⟨k, h1, h2⟩), wp_out (fun k h1 h2 => hx ⟨k, (hD k).mpr h1, by rw [hAA k ((hD k).mpr h1)]; exact h2⟩)]
/-- a cell that nobody will look at again -/
theorem wp_junk (hA : wp_ok A D h.1) {m : Nat} : pm_new (wp_put A D M h) m e = wp_put A D M (pm_new h m e) := by
  refine wp_ext (f := (pm_new (wp_put A D M h) m e).2.2) (g := (wp_put A D M (pm_new h m e)).2.2) fun q => ?_
  show va_up (wp_put A D M h).2.2 h.1 e q = _
  by_cases hx : ∃ k', D k' ∧ A k' = q
  · obtain ⟨k', h1, rfl⟩ := hx
    rw [wp_at (h := pm_new h m e) hA h1, va_up_ne _ _ (by have := hA.2 k' h1; omega), wp_at hA h1]
  · rw [wp_out (h := pm_new h m e) (fun k h1 h2 => hx ⟨k, h1, h2⟩)]
    show va_up (wp_put A D M h).2.2 h.1 e q = va_up h.2.2 h.1 e q
    by_cases hq : q = h.1
    · subst hq; rw [va_up_self, va_up_self]
    · rw [va_up_ne _ _ hq, va_up_ne _ _ hq, wp_out (fun k h1 h2 => hx ⟨k, h1, h2⟩)]
def wp_cnt (h : pm_H) (m : Nat) : pm_H := (h.1 + 1, h.2.1 + m, h.2.2)
/-- a new key -/
theorem wp_new (hA : wp_ok A D h.1) (hk : ¬ D k) {m : Nat} (hM : M' k = e) (hM2 : ∀ k', D k' → M' k' = M k') : pm_new (wp_put A D M h) m e = wp_put (wu A k h.1) (fun k' => k' = k ∨ D k') M' (wp_cnt h m) := by
  have hA2 : wp_ok (wu A k h.1) (fun k' => k' = k ∨ D k') (h.1 + 1) := by
    refine ⟨fun a b ha hb hab => ?_, fun a ha => ?_⟩
    · rcases ha with rfl | ha <;> rcases hb with rfl | hb
      · rfl
      · rw [wu_self, wu_ne _ _ (wp_dne hk hb)] at hab
        have := hA.2 b hb; omega
      · rw [wu_self, wu_ne _ _ (wp_dne hk ha)] at hab
        have := hA.2 a ha; omega
      · rw [wu_ne _ _ (wp_dne hk ha), wu_ne _ _ (wp_dne hk hb)] at hab
        exact hA.1 a b ha hb hab
    · rcases ha with rfl | ha
      · rw [wu_self]; omega
      · rw [wu_ne _ _ (wp_dne hk ha)]
        have := hA.2 a ha; omega
  refine wp_ext (f := (pm_new (wp_put A D M h) m e).2.2) (g := (wp_put (wu A k h.1) (fun k' => k' = k ∨ D k') M' (wp_cnt h m)).2.2) fun q => ?_
  show va_up (wp_put A D M h).2.2 h.1 e q = _
  by_cases hq : q = h.1
  · subst hq
    rw [va_up_self]
    have := wp_at (M := M') (h := wp_cnt h m) hA2 (k := k) (Or.inl rfl)
    rw [wu_self, hM] at this
    exact this.symm
  · rw [va_up_ne _ _ hq]
    by_cases hx : ∃ k', D k' ∧ A k' = q
    · obtain ⟨k', h1, rfl⟩ := hx
      have hne : k' ≠ k := wp_dne hk h1
      have := wp_at (M := M') (h := wp_cnt h m) hA2 (k := k') (Or.inr h1)
      rw [wu_ne _ _ hne, hM2 k' h1] at this
      rw [wp_at hA h1]; exact this.symm
    · rw [wp_out (fun k h1 h2 => hx ⟨k, h1, h2⟩), wp_out (fun k' h1 h2 => ?_)]
      · rfl
      · rcases h1 with rfl | h1
        · rw [wu_self] at h2; exact hq h2.symm
        · rw [wu_ne _ _ (wp_dne hk h1)] at h2
          exact hx ⟨k', h1, h2⟩
theorem wp_ok_le {m : Nat} (hA : wp_ok A D n) (hm : n ≤ m) : wp_ok A D m := ⟨hA.1, fun k hk => Nat.lt_of_lt_of_le (hA.2 k hk) hm⟩
theorem wp_ok_new (hA : wp_ok A D n) (hk : ¬ D k) : wp_ok (wu A k n) (fun k' => k' = k ∨ D k') (n + 1) := by
  refine ⟨fun a b ha hb hab => ?_, fun a ha => ?_⟩
  · rcases ha with rfl | ha <;> rcases hb with rfl | hb
    · rfl
    · rw [wu_self, wu_ne _ _ (wp_dne hk hb)] at hab
      have := hA.2 b hb; omega
    · rw [wu_self, wu_ne _ _ (wp_dne hk ha)] at hab
      have := hA.2 a ha; omega
    · rw [wu_ne _ _ (wp_dne hk ha), wu_ne _ _ (wp_dne hk hb)] at hab
      exact hA.1 a b ha hb hab
  · rcases ha with rfl | ha
    · rw [wu_self]; omega
    · rw [wu_ne _ _ (wp_dne hk ha)]
      have := hA.2 a ha; omega
/-! reading and writing -/
theorem wp_cls {c0 : Nat} {fs : List Value} (hA : wp_ok A D n) (hk : D k) (hm : M k = .inr (c0, fs)) : pm_cls (wp_put A D M h) (A k) = some c0 := by
  unfold pm_cls; rw [wp_at hA hk, hm]
theorem wp_gf {T : pm_T} {c0 c i : Nat} {fs : List Value} {v : Value} (hA : wp_ok A D n) (hk : D k) (hm : M k = .inr (c0, fs)) (hc : T.2.2.1 c0 c = true) (hi : fs[i]? = some v) : pm_gf T (wp_put A D M h) (A k) c i = some v := by
  unfold pm_gf
  rw [wp_at hA hk, hm]
  simp only [if_pos hc, hi]
theorem wp_pf {T : pm_T} {c0 c i t : Nat} {fs : List Value} {v : Value} (hA : wp_ok A D n) (hk : D k) (hm : M k = .inr (c0, fs)) (hc : T.2.2.1 c0 c = true) (hi : i < fs.length) (ht : pm_ok t v = true) (hM : ∀ k', D k' → M' k' = if k' = k then .inr (c0, fs.set i v) else M k') : pm_pf T (wp_put A D M h) (A k) c i t v = some (wp_put A D M' h) := by
  unfold pm_pf
  rw [wp_at hA hk, hm]
  simp only
  rw [if_pos ⟨hc, hi, ht⟩, wp_up hA hk hM]
theorem wp_rd {p : FieldType → Bool} {t : FieldType} {m : Nat} {g : Nat → Int} {z : Int} (hA : wp_ok A D n) (hk : D k) (hm : M k = .inl (t, m, tw_con t g)) (hp : p t = true) (ht : ¬ t = .long) (hz : 0 ≤ z) (hn : z < m) (hn2 : m ≤ 2147483647) : pm_rd p (wp_put A D M h) (A k) (Int32.ofInt z) = some (Int32.ofInt (g z.toNat)) := by
  unfold pm_rd
  rw [wp_at hA hk, hm, tw_con_i ht]
  simp only [nu_i (z := z) (by omega) (by omega)]
  rw [if_pos ⟨hp, hz, hn⟩]
theorem wp_rdL {m : Nat} {g : Nat → Int} {z : Int} (hA : wp_ok A D n) (hk : D k) (hm : M k = .inl (.long, m, tw_con .long g)) (hz : 0 ≤ z) (hn : z < m) (hn2 : m ≤ 2147483647) : pm_rdL (wp_put A D M h) (A k) (Int32.ofInt z) = some (Int64.ofInt (g z.toNat)) := by
  unfold pm_rdL
  rw [wp_at hA hk, hm, tw_con_l]
  simp only [nu_i (z := z) (by omega) (by omega)]
  rw [if_pos ⟨trivial, hz, hn⟩]
theorem wp_wr {p : FieldType → Bool} {t : FieldType} {m : Nat} {g : Nat → Int} {z v : Int} (hA : wp_ok A D n) (hk : D k) (hm : M k = .inl (t, m, tw_con t g)) (hp : p t = true) (ht : ¬ t = .long) (hv : vp_nar t (Int32.ofInt v) = Int32.ofInt v) (hz : 0 ≤ z) (hn : z < m) (hn2 : m ≤ 2147483647) (hM : ∀ k', D k' → M' k' = if k' = k then .inl (t, m, tw_con t (va_up g z.toNat v)) else M k') : pm_wr p (wp_put A D M h) (A k) (Int32.ofInt z) (Int32.ofInt v) = some (wp_put A D M' h) := by
  unfold pm_wr
  rw [wp_at hA hk, hm, tw_con_i ht]
  simp only [nu_i (z := z) (by omega) (by omega)]
  rw [if_pos ⟨hp, hz, hn⟩, hv]
  refine congrArg some (wp_up hA hk (fun k' h1 => ?_))
  rw [hM k' h1, tw_con_i ht]
  by_cases hq : k' = k
  · rw [if_pos hq, if_pos hq]
    refine congrArg Sum.inl (congrArg _ (congrArg _ (congrArg Sum.inl (funext fun j => ?_))))
    by_cases hj : j = z.toNat
    · simp [upd, va_up, hj]
    · simp [upd, va_up, hj]
  · rw [if_neg hq, if_neg hq]
theorem wp_wrL {m : Nat} {g : Nat → Int} {z v : Int} (hA : wp_ok A D n) (hk : D k) (hm : M k = .inl (.long, m, tw_con .long g)) (hz : 0 ≤ z) (hn : z < m) (hn2 : m ≤ 2147483647) (hM : ∀ k', D k' → M' k' = if k' = k then .inl (.long, m, tw_con .long (va_up g z.toNat v)) else M k') : pm_wrL (wp_put A D M h) (A k) (Int32.ofInt z) (Int64.ofInt v) = some (wp_put A D M' h) := by
  unfold pm_wrL
  rw [wp_at hA hk, hm, tw_con_l]
  simp only [nu_i (z := z) (by omega) (by omega)]
  rw [if_pos ⟨trivial, hz, hn⟩]
  refine congrArg some (wp_up hA hk (fun k' h1 => ?_))
  rw [hM k' h1, tw_con_l]
  by_cases hq : k' = k
  · rw [if_pos hq, if_pos hq]
    refine congrArg Sum.inl (congrArg _ (congrArg _ (congrArg Sum.inr (congrArg Sum.inl (funext fun j => ?_)))))
    by_cases hj : j = z.toNat
    · simp [vp_updL, va_up, hj]
    · simp [vp_updL, va_up, hj]
  · rw [if_neg hq, if_neg hq]
theorem wp_rdR {t : FieldType} {m : Nat} {f : Nat → Option Nat} {z : Int} (hA : wp_ok A D n) (hk : D k) (hm : M k = .inl (t, m, .inr (.inr (.inr (.inr f))))) (ht : t.isReference = true) (hz : 0 ≤ z) (hn : z < m) (hn2 : m ≤ 2147483647) : pm_rdR (wp_put A D M h) (A k) (Int32.ofInt z) = some (f z.toNat) := by
  unfold pm_rdR
  rw [wp_at hA hk, hm]
  simp only [nu_i (z := z) (by omega) (by omega)]
  rw [if_pos ⟨ht, hz, hn⟩]
theorem wp_wrR {T : pm_T} {t : FieldType} {m : Nat} {f : Nat → Option Nat} {z : Int} {v : Option Nat} (hA : wp_ok A D n) (hk : D k) (hm : M k = .inl (t, m, .inr (.inr (.inr (.inr f))))) (ht : t.isReference = true) (hv : ∀ b, v = some b → T.2.2.2.2.2.2 t ((wp_put A D M h).2.2 b) = true) (hz : 0 ≤ z) (hn : z < m) (hn2 : m ≤ 2147483647) (hM : ∀ k', D k' → M' k' = if k' = k then .inl (t, m, .inr (.inr (.inr (.inr (va_up f z.toNat v))))) else M k') : pm_wrR T (wp_put A D M h) (A k) (Int32.ofInt z) v = some (wp_put A D M' h) := by
  unfold pm_wrR
  rw [wp_at hA hk, hm]
  simp only [nu_i (z := z) (by omega) (by omega)]
  rw [if_pos ⟨ht, hz, hn, hv⟩, wp_up hA hk hM]
theorem wp_len {t : FieldType} {m : Nat} {x : (Nat → Int32) ⊕ (Nat → Int64) ⊕ (Nat → UInt32) ⊕ (Nat → UInt64) ⊕ (Nat → Option Nat)} (hA : wp_ok A D n) (hk : D k) (hm : M k = .inl (t, m, x)) (ht : ¬ t = .object "S") : pm_len (wp_put A D M h) (A k) = some m := by
  unfold pm_len
  rw [wp_at hA hk, hm]
  simp only [if_neg ht]
end
