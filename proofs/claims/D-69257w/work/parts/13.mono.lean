/-! ===== counts only grow ===== -/
def pm_le (h g : pm_H) : Prop := h.1 ≤ g.1 ∧ h.2.1 ≤ g.2.1
theorem pm_le_rf (h : pm_H) : pm_le h h := ⟨Nat.le_refl _, Nat.le_refl _⟩
theorem pm_le_tr {a b c : pm_H} (h1 : pm_le a b) (h2 : pm_le b c) : pm_le a c := ⟨Nat.le_trans h1.1 h2.1, Nat.le_trans h1.2 h2.2⟩
theorem pm_le_up {h g : pm_H} {a : Nat} {e : pm_E} (k : pm_le (pm_up h a e) g) : pm_le h g := k
theorem pm_le_new {h g : pm_H} {n : Nat} {e : pm_E} (k : pm_le (pm_new h n e) g) : pm_le h g := ⟨Nat.le_trans (Nat.le_succ _) k.1, Nat.le_trans (Nat.le_add_right _ _) k.2⟩
theorem pm_le_rows {t : FieldType} {n : Nat} : ∀ (k : Nat) (h : pm_H), pm_le h (pm_rows t n k h)
  | 0, h => pm_le_rf h
  | k + 1, h => pm_le_new (pm_le_rows k _)
theorem pm_le_multi2 {t : FieldType} {n m : Nat} {h : pm_H} : pm_le h (pm_multi2 t n m h) := pm_le_new (pm_le_rows _ _)
theorem pm_le_planes {t : FieldType} {n m : Nat} : ∀ (k : Nat) (h : pm_H), pm_le h (pm_planes t n m k h)
  | 0, h => pm_le_rf h
  | k + 1, h => pm_le_tr pm_le_multi2 (pm_le_planes k _)
theorem pm_le_multi3 {t : FieldType} {l n m : Nat} {h : pm_H} : pm_le h (pm_multi3 t l n m h) := pm_le_new (pm_le_planes _ _)
def pm_leN (h : pm_H) (x : pm_N) : Prop := match x with
  | .inl (some (_, g)) => pm_le h g
  | .inl none => True
  | .inr (.inl (_, _, _, g)) => pm_le h g
  | .inr (.inr (_, _, g)) => pm_le h g
theorem pm_leN_tr {h g : pm_H} {x : pm_N} (h1 : pm_le h g) (h2 : pm_leN g x) : pm_leN h x := by
  rcases x with (_ | ⟨o, q⟩) | ⟨_, _, _, q⟩ | ⟨_, _, q⟩
  · trivial
  · exact pm_le_tr h1 h2
  · exact pm_le_tr h1 h2
  · exact pm_le_tr h1 h2
theorem pm_le_wr {p : FieldType → Bool} {h g : pm_H} {a : Nat} {i x : Int32} (e : pm_wr p h a i x = some g) : pm_le h g := by
  unfold pm_wr at e
  split at e
  · split at e
    · cases e; exact pm_le_rf _
    · cases e
  · cases e
theorem pm_le_wrL {h g : pm_H} {a : Nat} {i : Int32} {x : Int64} (e : pm_wrL h a i x = some g) : pm_le h g := by
  unfold pm_wrL at e
  split at e
  · split at e
    · cases e; exact pm_le_rf _
    · cases e
  · cases e
theorem pm_le_wrR {T : pm_T} {h g : pm_H} {a : Nat} {i : Int32} {x : Option Nat} (e : pm_wrR T h a i x = some g) : pm_le h g := by
  unfold pm_wrR at e
  split at e
  · split at e
    · cases e; exact pm_le_rf _
    · cases e
  · cases e
theorem pm_le_pf {T : pm_T} {h g : pm_H} {a c k t : Nat} {v : Value} (e : pm_pf T h a c k t v = some g) : pm_le h g := by
  unfold pm_pf at e
  split at e
  · split at e
    · cases e; exact pm_le_rf _
    · cases e
  · cases e
theorem pm_le_cpy {h g : pm_H} {a b : Nat} {i j k : Int32} (e : pm_cpy h a i b j k = some g) : pm_le h g := by
  unfold pm_cpy at e
  split at e
  · split at e
    · cases e; exact pm_le_rf _
    · cases e
  · cases e
theorem pm_le_copyOf {h g : pm_H} {a : Nat} {n : Int32} (e : pm_copyOf h a n = some g) : pm_le h g := by
  unfold pm_copyOf at e
  split at e
  · split at e
    · cases e; exact pm_le_new (pm_le_rf _)
    · cases e
  · cases e
theorem pm_leN_o {α : Type} {h : pm_H} {x : Option α} {f : α → pm_N} (hf : ∀ a, x = some a → pm_leN h (f a)) : pm_leN h (pm_o x f) := by
  cases x with
  | none => trivial
  | some a => exact hf a rfl
set_option maxHeartbeats 4000000 in
theorem pm_st_le {T : pm_T} {cl : pm_C} (hc : ∀ k as h o g, cl k as h = some (o, g) → pm_le h g) {i : Instr} {K : pm_K} (hK : ∀ ls st h, pm_leN h (K ls st h)) (ls st : List Value) (h : pm_H) : pm_leN h (pm_st T cl i K ls st h) := by
  have haft : ∀ (x : pm_R) (ls rest : List Value), (∀ o g, x = some (o, g) → pm_le h g) → pm_leN h (pm_aft x ls rest K) := by
    intro x ls rest hx
    unfold pm_aft
    split
    · exact pm_leN_tr (hx _ _ rfl) (hK _ _ _)
    · exact hx _ _ rfl
    · trivial
  cases i <;> simp only [pm_st] <;> (repeat' split) <;> first
    | trivial
    | exact hK _ _ _
    | exact pm_le_rf h
    | exact pm_leN_tr (pm_le_new (pm_le_rf _)) (hK _ _ _)
    | exact pm_leN_tr pm_le_multi2 (hK _ _ _)
    | exact pm_leN_tr pm_le_multi3 (hK _ _ _)
    | exact pm_leN_o (fun _ _ => hK _ _ _)
    | exact pm_leN_o (fun _ e => pm_leN_tr (pm_le_wr e) (hK _ _ _))
    | exact pm_leN_o (fun _ e => pm_leN_tr (pm_le_wrL e) (hK _ _ _))
    | exact pm_leN_o (fun _ e => pm_leN_tr (pm_le_wrR e) (hK _ _ _))
    | exact pm_leN_o (fun _ e => pm_leN_tr (pm_le_pf e) (hK _ _ _))
    | exact pm_leN_o (fun _ e => pm_leN_tr (pm_le_cpy e) (hK _ _ _))
    | exact pm_leN_o (fun _ e => pm_leN_tr (pm_le_copyOf e) (hK _ _ _))
    | exact haft _ _ _ (fun _ _ e => hc _ _ _ _ _ e)
theorem pm_s_le {T : pm_T} {cl : pm_C} (hc : ∀ k as h o g, cl k as h = some (o, g) → pm_le h g) : ∀ (r : List Instr) (ls st : List Value) (h : pm_H), pm_leN h (pm_s T cl r ls st h)
  | [], _, _, _ => trivial
  | _ :: r, ls, st, h => pm_st_le hc (pm_s_le hc r) ls st h
theorem pm_int_le {jp : Nat → List Value → List Value → pm_H → pm_R} (hj : ∀ j ls st h o g, jp j ls st h = some (o, g) → pm_le h g) {hs : List (List Nat × Nat × Nat)} {h : pm_H} {x : pm_N} (hx : pm_leN h x) {o : Outcome} {g : pm_H} (e : pm_int jp hs x = some (o, g)) : pm_le h g := by
  rcases x with (_ | ⟨o', q⟩) | ⟨_, _, _, q⟩ | ⟨_, a, q⟩
  · cases e
  · cases e; exact hx
  · exact pm_le_tr hx (hj _ _ _ _ _ _ e)
  · simp only [pm_int] at e
    split at e
    · exact pm_le_tr hx (hj _ _ _ _ _ _ e)
    · cases e; exact hx
theorem pm_X_leq {P : pm_P} {cl : pm_C} (hc : ∀ k as h o g, cl k as h = some (o, g) → pm_le h g) (k : Nat) : ∀ n j ls st h o g, pm_X P cl k n j ls st h = some (o, g) → pm_le h g := by
  intro n
  induction n with
  | zero => intro j ls st h o g e; simp [pm_X] at e
  | succ n ih => intro j ls st h o g e; exact pm_int_le ih (pm_s_le hc _ _ _ _) e
theorem pm_call_le {P : pm_P} : ∀ d k as h o g, pm_call P d k as h = some (o, g) → pm_le h g := by
  intro d
  induction d with
  | zero => intro k as h o g e; cases e
  | succ d ih =>
    intro k as h o g e
    simp only [pm_call] at e
    split at e
    · obtain ⟨n, e⟩ := pm_go_some.mp e
      exact pm_X_leq ih k n _ _ _ _ _ _ e
    · cases e
/-! what is thrown is of one of three classes -/
def pm_ex (c : Nat) : Prop := c = 67 ∨ c = 70 ∨ c = 71
def pm_exN (x : pm_N) : Prop := match x with
  | .inl (some (.threw c, _)) => pm_ex c
  | .inr (.inr (_, c, _)) => pm_ex c
  | _ => True
theorem pm_exN_o {α : Type} {x : Option α} {f : α → pm_N} (hf : ∀ a, pm_exN (f a)) : pm_exN (pm_o x f) := by
  unfold pm_o
  split
  · exact hf _
  · trivial
theorem pm_st_ex {T : pm_T} {cl : pm_C} (hc : ∀ k as h c g, cl k as h = some (.threw c, g) → pm_ex c) {i : Instr} {K : pm_K} (hK : ∀ ls st h, pm_exN (K ls st h)) (ls st : List Value) (h : pm_H) : pm_exN (pm_st T cl i K ls st h) := by
  have haft : ∀ (x : pm_R) (ls rest : List Value), (∀ c g, x = some (.threw c, g) → pm_ex c) → pm_exN (pm_aft x ls rest K) := by
    intro x ls rest hx
    unfold pm_aft
    split
    · exact hK _ _ _
    · exact hx _ _ rfl
    · trivial
  cases i <;> simp only [pm_st] <;> (repeat' split) <;> first
    | trivial
    | exact hK _ _ _
    | assumption
    | exact pm_exN_o (fun _ => hK _ _ _)
    | exact haft _ _ _ (fun _ _ e => hc _ _ _ _ _ e)
theorem pm_s_ex {T : pm_T} {cl : pm_C} (hc : ∀ k as h c g, cl k as h = some (.threw c, g) → pm_ex c) : ∀ (r : List Instr) (ls st : List Value) (h : pm_H), pm_exN (pm_s T cl r ls st h)
  | [], _, _, _ => trivial
  | _ :: r, ls, st, h => pm_st_ex hc (fun ls st h => pm_s_ex hc r ls st h) ls st h
theorem pm_X_ex {P : pm_P} {cl : pm_C} (hc : ∀ k as h c g, cl k as h = some (.threw c, g) → pm_ex c) (k : Nat) : ∀ n j ls st h c g, pm_X P cl k n j ls st h = some (.threw c, g) → pm_ex c := by
  intro n
  induction n with
  | zero => intro j ls st h c g e; cases e
  | succ n ih =>
    intro j ls st h c g e
    have e : pm_int (pm_X P cl k n) ((P.2 k).2.1 j) (pm_s P.1 cl ((P.2 k).1 j) ls st h) = some (.threw c, g) := e
    have hx := pm_s_ex (T := P.1) hc ((P.2 k).1 j) ls st h
    generalize pm_s P.1 cl ((P.2 k).1 j) ls st h = x at e hx
    rcases x with r | ⟨j2, ls2, st2, g2⟩ | ⟨ls2, c2, g2⟩
    · have e : r = some (.threw c, g) := e
      subst e
      exact hx
    · exact ih _ _ _ _ _ _ e
    · simp only [pm_int] at e
      split at e
      · exact ih _ _ _ _ _ _ e
      · cases e; exact hx
theorem pm_call_ex {P : pm_P} : ∀ d k as h c g, pm_call P d k as h = some (.threw c, g) → pm_ex c := by
  intro d
  induction d with
  | zero => intro k as h c g e; cases e
  | succ d ih =>
    intro k as h c g e
    simp only [pm_call] at e
    split at e
    · obtain ⟨n, e⟩ := pm_go_some.mp e
      exact pm_X_ex ih k n _ _ _ _ _ _ e
    · cases e
