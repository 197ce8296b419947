/-! ===== LEVEL 3: worlds whose numbers are 32- and 64-bit numbers ===== -/
/-- numbers by key and place: ints, longs -/
abbrev wS : Type := (wK → Int32 → Int32) × (wK → Int32 → Int64)
def sz (S : wS) (k : wK) (i v : Int32) : wS := (fun k' j => if k' = k ∧ j = i then v else S.1 k' j, S.2)
def sl (S : wS) (k : wK) (i : Int32) (v : Int64) : wS := (S.1, fun k' j => if k' = k ∧ j = i then v else S.2 k' j)
section
variable {S : wS} {k k' : wK} {i j v : Int32} {u : Int64}
theorem sz_1 : (sz S k i v).1 k' j = if k' = k ∧ j = i then v else S.1 k' j := rfl
theorem sz_2 : (sz S k i v).2 = S.2 := rfl
theorem sl_1 : (sl S k i u).1 = S.1 := rfl
theorem sl_2 : (sl S k i u).2 k' j = if k' = k ∧ j = i then u else S.2 k' j := rfl
end
/-- a reference by its number in a family; below 0: null -/
def wr (A : wK → Nat) (f : Nat) (z : Int32) : Value := if z < 0 then .null else .ref (A (f, z, 0))
def we (A : wK → Nat) (f : Nat) (z : Int32) : Option Nat := if z < 0 then none else some (A (f, z, 0))
/-- a field: (0, _) an int, (1, _) a long, (2, k) a reference to the cell of key k, (3, _) null, (4, (f, _)) a reference into family f by its number -/
abbrev wF : Type := Nat × wK
/-- an object (class, fields); an array of numbers (type, length); an array of references (type, length, what they name) -/
abbrev wD : Type := (Nat × List wF) ⊕ (FieldType × Nat) ⊕ (FieldType × Nat × (Nat ⊕ (Int32 → Option wK)))
def wv (A : wK → Nat) (S : wS) (k : wK) (i : Nat) (f : wF) : Value := if f.1 = 0 then .int (S.1 k (Int32.ofNat i)) else if f.1 = 1 then .long (S.2 k (Int32.ofNat i)) else if f.1 = 2 then .ref (A f.2) else if f.1 = 4 then wr A f.2.1 (S.1 k (Int32.ofNat i)) else .null
theorem wv_cong {A : wK → Nat} {S S' : wS} {k : wK} {i : Nat} {f : wF} (h1 : S.1 k (Int32.ofNat i) = S'.1 k (Int32.ofNat i)) (h2 : S.2 k (Int32.ofNat i) = S'.2 k (Int32.ofNat i)) : wv A S k i f = wv A S' k i f := by
  unfold wv; rw [h1, h2]
def wvs (A : wK → Nat) (S : wS) (k : wK) : Nat → List wF → List Value
  | _, [] => []
  | i, f :: l => wv A S k i f :: wvs A S k (i + 1) l
def wcon (t : FieldType) (n : Nat) (S : wS) (k : wK) : (Nat → Int32) ⊕ (Nat → Int64) ⊕ (Nat → UInt32) ⊕ (Nat → UInt64) ⊕ (Nat → Option Nat) := if t = .long then .inr (.inl (fun j => if j < n then S.2 k (Int32.ofNat j) else 0)) else .inl (fun j => if j < n then S.1 k (Int32.ofNat j) else 0)
def wc (A : wK → Nat) (S : wS) (k : wK) : wD → pm_E
  | .inl (c, fs) => .inr (c, wvs A S k 0 fs)
  | .inr (.inl (t, n)) => .inl (t, n, wcon t n S k)
  | .inr (.inr (t, n, .inl f)) => .inl (t, n, .inr (.inr (.inr (.inr (fun j => if j < n then we A f (S.1 k (Int32.ofNat j)) else none)))))
  | .inr (.inr (t, n, .inr r)) => .inl (t, n, .inr (.inr (.inr (.inr (fun j => if j < n then (r (Int32.ofNat j)).map A else none)))))
def wM (A : wK → Nat) (d : wK → Option wD) (S : wS) (k : wK) : pm_E := match d k with
  | some x => wc A S k x
  | none => pm_none
noncomputable def wput (A : wK → Nat) (d : wK → Option wD) (S : wS) (h : pm_H) : pm_H := wp_put A (fun k => d k ≠ none) (wM A d S) h
def wok (A : wK → Nat) (d : wK → Option wD) (n : Nat) : Prop := wp_ok A (fun k => d k ≠ none) n
theorem wi_nat {n : Nat} (hn : n ≤ 2147483647) : (Int32.ofNat n).toInt = n := by
  rw [Int32.toInt_ofNat']
  exact Int.bmod_eq_of_le (by omega) (by simp; omega)
theorem wi_in {i : Int32} {n : Nat} (hn : n ≤ 2147483647) : (0 ≤ i.toInt ∧ i.toInt < n) ↔ (0 ≤ i ∧ i < Int32.ofNat n) := by
  rw [Int32.le_iff_toInt_le, Int32.lt_iff_toInt_lt, wi_nat hn]; exact Iff.rfl
theorem wi_back {i : Int32} (h : 0 ≤ i.toInt) : Int32.ofNat i.toInt.toNat = i := by
  apply Int32.toInt_inj.mp
  have h2 := Int32.toInt_lt i
  rw [wi_nat (by omega)]; omega
theorem wi_inj {a b : Nat} (ha : a ≤ 2147483647) (hb : b ≤ 2147483647) (h : Int32.ofNat a = Int32.ofNat b) : a = b := by
  have := congrArg Int32.toInt h
  rw [wi_nat ha, wi_nat hb] at this; omega
theorem wvs_at {A : wK → Nat} {S : wS} {k : wK} : ∀ (fs : List wF) (s i : Nat) (f : wF), fs[i]? = some f → (wvs A S k s fs)[i]? = some (wv A S k (s + i) f)
  | [], _, i, _, h => by simp at h
  | f0 :: l, s, 0, f, h => by simp at h; subst h; rfl
  | f0 :: l, s, i + 1, f, h => by
    have := wvs_at (A := A) (S := S) (k := k) l (s + 1) i f (by simpa using h)
    rw [show s + 1 + i = s + (i + 1) by omega] at this
    exact this
theorem wvs_len {A : wK → Nat} {S : wS} {k : wK} : ∀ (fs : List wF) (s : Nat), (wvs A S k s fs).length = fs.length
  | [], _ => rfl
  | _ :: l, s => congrArg (· + 1) (wvs_len l (s + 1))
theorem wvs_cong {A : wK → Nat} {S S' : wS} {k : wK} : ∀ (fs : List wF) (s : Nat), (∀ i, i < fs.length → S.1 k (Int32.ofNat (s + i)) = S'.1 k (Int32.ofNat (s + i)) ∧ S.2 k (Int32.ofNat (s + i)) = S'.2 k (Int32.ofNat (s + i))) → wvs A S k s fs = wvs A S' k s fs
  | [], _, _ => rfl
  | f0 :: l, s, h => by
    have h0 := h 0 (by simp)
    have h1 := wvs_cong (A := A) (S := S) (S' := S') (k := k) l (s + 1) (fun i hi => by
      have := h (i + 1) (by simp; omega)
      rw [show s + (i + 1) = s + 1 + i by omega] at this
      exact this)
    show wv A S k s f0 :: _ = wv A S' k s f0 :: _
    rw [h1]
    exact congrArg (· :: _) (wv_cong h0.1 h0.2)
theorem wvs_set {A : wK → Nat} {S S' : wS} {k : wK} : ∀ (fs : List wF) (s i : Nat) (f : wF), fs[i]? = some f → (∀ j, j < fs.length → j ≠ i → S.1 k (Int32.ofNat (s + j)) = S'.1 k (Int32.ofNat (s + j)) ∧ S.2 k (Int32.ofNat (s + j)) = S'.2 k (Int32.ofNat (s + j))) → (wvs A S k s fs).set i (wv A S' k (s + i) f) = wvs A S' k s fs
  | [], _, i, _, h, _ => by simp at h
  | f0 :: l, s, 0, f, h, hs => by
    simp at h; subst h
    show wv A S' k (s + 0) f0 :: wvs A S k (s + 1) l = wv A S' k s f0 :: wvs A S' k (s + 1) l
    rw [wvs_cong (S := S) (S' := S') l (s + 1) (fun j hj => by
      have := hs (j + 1) (by simp; omega) (by omega)
      rw [show s + (j + 1) = s + 1 + j by omega] at this; exact this)]
    rfl
  | f0 :: l, s, i + 1, f, h, hs => by
    have := wvs_set (A := A) (S := S) (S' := S') (k := k) l (s + 1) i f (by simpa using h) (fun j hj hji => by
      have := hs (j + 1) (by simp; omega) (by omega)
      rw [show s + (j + 1) = s + 1 + j by omega] at this; exact this)
    rw [show s + 1 + i = s + (i + 1) by omega] at this
    show wv A S k s f0 :: _ = wv A S' k s f0 :: _
    have h0 : wv A S k s f0 = wv A S' k s f0 := by
      have e := hs 0 (by simp) (by omega)
      exact wv_cong e.1 e.2
    rw [h0]
    exact congrArg (_ :: ·) this
section
variable {A : wK → Nat} {d : wK → Option wD} {S S' : wS} {h : pm_H} {m : Nat} {k : wK}
theorem wM_at {x : wD} (hd : d k = some x) : wM A d S k = wc A S k x := by unfold wM; rw [hd]
/-- a cell depends on its own rows alone -/
theorem wc_cong {x : wD} (h1 : S.1 k = S'.1 k) (h2 : S.2 k = S'.2 k) : wc A S k x = wc A S' k x := by
  rcases x with ⟨c, fs⟩ | ⟨t, n⟩ | ⟨t, n, f | r⟩
  · show Sum.inr _ = Sum.inr _
    rw [wvs_cong (S := S) (S' := S') fs 0 (fun i _ => by rw [h1, h2]; exact ⟨rfl, rfl⟩)]
  · show Sum.inl _ = Sum.inl _
    unfold wcon; rw [h1, h2]
  · show Sum.inl (t, n, Sum.inr (Sum.inr (Sum.inr (Sum.inr _)))) = Sum.inl (t, n, Sum.inr (Sum.inr (Sum.inr (Sum.inr _))))
    rw [h1]
  · rfl
theorem wM_ne {x : wD} (hd : d k = some x) {e : pm_E} (he : wc A S' k x = e) (hS : ∀ k', k' ≠ k → S.1 k' = S'.1 k' ∧ S.2 k' = S'.2 k') : ∀ k', d k' ≠ none → wM A d S' k' = if k' = k then e else wM A d S k' := by
  intro k' _
  by_cases q : k' = k
  · subst q
    rw [if_pos rfl, wM_at hd, he]
  · rw [if_neg q]
    unfold wM
    cases d k' with
    | none => rfl
    | some y => exact (wc_cong (hS k' q).1 (hS k' q).2).symm
theorem sz_ne {i v : Int32} {k' : wK} (q : k' ≠ k) : S.1 k' = (sz S k i v).1 k' ∧ S.2 k' = (sz S k i v).2 k' := ⟨funext fun j => (if_neg (fun e => q e.1)).symm, rfl⟩
theorem sl_ne {i : Int32} {v : Int64} {k' : wK} (q : k' ≠ k) : S.1 k' = (sl S k i v).1 k' ∧ S.2 k' = (sl S k i v).2 k' := ⟨rfl, funext fun j => (if_neg (fun e => q e.1)).symm⟩
theorem w_some {x : wD} (hd : d k = some x) : d k ≠ none := by rw [hd]; exact fun e => by cases e
theorem w_cls {c0 : Nat} {fs : List wF} (hA : wok A d m) (hd : d k = some (.inl (c0, fs))) : pm_cls (wput A d S h) (A k) = some c0 := wp_cls hA (w_some hd) (wM_at hd)
theorem w_g {T : pm_T} {c0 c i : Nat} {fs : List wF} {f : wF} (hA : wok A d m) (hd : d k = some (.inl (c0, fs))) (hc : T.2.2.1 c0 c = true) (hi : fs[i]? = some f) : pm_gf T (wput A d S h) (A k) c i = some (wv A S k i f) := by
  have := wvs_at (A := A) (S := S) (k := k) fs 0 i f hi
  rw [Nat.zero_add] at this
  exact wp_gf hA (w_some hd) (wM_at hd) hc this
theorem w_p0 {T : pm_T} {c0 c i t : Nat} {fs : List wF} {q : wK} {v : Int32} (hA : wok A d m) (hd : d k = some (.inl (c0, fs))) (hc : T.2.2.1 c0 c = true) (hi : fs[i]? = some (0, q)) (hl : fs.length ≤ 1000) : pm_pf T (wput A d S h) (A k) c i t (.int v) = if pm_ok t (.int v) = true then some (wput A d (sz S k (Int32.ofNat i) v) h) else none := by
  have hil : i < fs.length := (List.getElem?_eq_some_iff.mp hi).1
  by_cases ht : pm_ok t (.int v) = true
  · rw [if_pos ht]
    refine wp_pf hA (w_some hd) (wM_at hd) hc (by rw [wvs_len]; exact hil) ht (wM_ne hd ?_ (fun k' q => sz_ne q))
    have := wvs_set (A := A) (S := S) (S' := sz S k (Int32.ofNat i) v) (k := k) fs 0 i (0, q) hi (fun j hj hji => by
      rw [Nat.zero_add, sz_1, sz_2, if_neg (fun e => hji (wi_inj (by omega) (by omega) e.2))]; exact ⟨rfl, rfl⟩)
    rw [Nat.zero_add] at this
    show Sum.inr _ = Sum.inr _
    rw [← this]
    show Sum.inr (c0, (wvs A S k 0 fs).set i (Value.int ((sz S k (Int32.ofNat i) v).1 k (Int32.ofNat i)))) = _
    rw [sz_1, if_pos ⟨rfl, rfl⟩]
  · rw [if_neg ht]
    unfold pm_pf
    rw [show (wput A d S h).2.2 (A k) = _ from wp_at hA (w_some hd), wM_at hd]
    exact if_neg (fun e => ht e.2.2)
theorem w_p1 {T : pm_T} {c0 c i : Nat} {fs : List wF} {q : wK} {v : Int64} (hA : wok A d m) (hd : d k = some (.inl (c0, fs))) (hc : T.2.2.1 c0 c = true) (hi : fs[i]? = some (1, q)) (hl : fs.length ≤ 1000) : pm_pf T (wput A d S h) (A k) c i 1 (.long v) = some (wput A d (sl S k (Int32.ofNat i) v) h) := by
  have hil : i < fs.length := (List.getElem?_eq_some_iff.mp hi).1
  refine wp_pf hA (w_some hd) (wM_at hd) hc (by rw [wvs_len]; exact hil) rfl (wM_ne hd ?_ (fun k' q => sl_ne q))
  have := wvs_set (A := A) (S := S) (S' := sl S k (Int32.ofNat i) v) (k := k) fs 0 i (1, q) hi (fun j hj hji => by
    rw [Nat.zero_add, sl_1, sl_2, if_neg (fun e => hji (wi_inj (by omega) (by omega) e.2))]; exact ⟨rfl, rfl⟩)
  rw [Nat.zero_add] at this
  show Sum.inr _ = Sum.inr _
  rw [← this]
  show Sum.inr (c0, (wvs A S k 0 fs).set i (Value.long ((sl S k (Int32.ofNat i) v).2 k (Int32.ofNat i)))) = _
  rw [sl_2, if_pos ⟨rfl, rfl⟩]
theorem w_rd {p : FieldType → Bool} {t : FieldType} {n : Nat} {i : Int32} (hA : wok A d m) (hd : d k = some (.inr (.inl (t, n)))) (hp : p t = true) (ht : ¬ t = .long) (hn : n ≤ 2147483647) : pm_rd p (wput A d S h) (A k) i = if 0 ≤ i ∧ i < Int32.ofNat n then some (S.1 k i) else none := by
  unfold pm_rd
  rw [show (wput A d S h).2.2 (A k) = _ from wp_at hA (w_some hd), wM_at hd]
  show (match (Sum.inl (t, n, wcon t n S k) : pm_E) with | .inl (t, n, .inl f) => _ | _ => _) = _
  unfold wcon; rw [if_neg ht]
  show (if p t = true ∧ 0 ≤ i.toInt ∧ i.toInt < n then some (if i.toInt.toNat < n then S.1 k (Int32.ofNat i.toInt.toNat) else 0) else none) = _
  by_cases q : 0 ≤ i.toInt ∧ i.toInt < n
  · rw [if_pos ⟨hp, q⟩, if_pos ((wi_in hn).mp q), if_pos (by omega), wi_back q.1]
  · rw [if_neg (fun e => q e.2), if_neg (fun e => q ((wi_in hn).mpr e))]
theorem w_rdL {n : Nat} {i : Int32} (hA : wok A d m) (hd : d k = some (.inr (.inl (.long, n)))) (hn : n ≤ 2147483647) : pm_rdL (wput A d S h) (A k) i = if 0 ≤ i ∧ i < Int32.ofNat n then some (S.2 k i) else none := by
  unfold pm_rdL
  rw [show (wput A d S h).2.2 (A k) = _ from wp_at hA (w_some hd), wM_at hd]
  show (if FieldType.long = FieldType.long ∧ 0 ≤ i.toInt ∧ i.toInt < n then some (if i.toInt.toNat < n then S.2 k (Int32.ofNat i.toInt.toNat) else 0) else none) = _
  by_cases q : 0 ≤ i.toInt ∧ i.toInt < n
  · rw [if_pos ⟨rfl, q⟩, if_pos ((wi_in hn).mp q), if_pos (by omega), wi_back q.1]
  · rw [if_neg (fun e => q e.2), if_neg (fun e => q ((wi_in hn).mpr e))]
theorem w_wr {p : FieldType → Bool} {t : FieldType} {n : Nat} {i v : Int32} (hA : wok A d m) (hd : d k = some (.inr (.inl (t, n)))) (hp : p t = true) (ht : ¬ t = .long) (hn : n ≤ 2147483647) : pm_wr p (wput A d S h) (A k) i v = if 0 ≤ i ∧ i < Int32.ofNat n then some (wput A d (sz S k i (vp_nar t v)) h) else none := by
  have hc : (wput A d S h).2.2 (A k) = .inl (t, n, .inl (fun j => if j < n then S.1 k (Int32.ofNat j) else 0)) := by
    rw [show (wput A d S h).2.2 (A k) = _ from wp_at hA (w_some hd), wM_at hd]
    show Sum.inl (t, n, wcon t n S k) = _
    unfold wcon; rw [if_neg ht]
  unfold pm_wr
  rw [hc]
  show (if p t = true ∧ 0 ≤ i.toInt ∧ i.toInt < n then some _ else none) = _
  by_cases q : 0 ≤ i.toInt ∧ i.toInt < n
  · rw [if_pos ⟨hp, q⟩, if_pos ((wi_in hn).mp q)]
    refine congrArg some (wp_up hA (w_some hd) (wM_ne hd ?_ (fun k' q => sz_ne q)))
    show Sum.inl (t, n, wcon t n _ k) = _
    unfold wcon; rw [if_neg ht]
    refine congrArg Sum.inl (congrArg _ (congrArg _ (congrArg Sum.inl (funext fun j => ?_))))
    rw [sz_1]
    by_cases hj : j = i.toInt.toNat
    · subst hj
      rw [if_pos (by omega), if_pos ⟨rfl, wi_back q.1⟩]
      simp [upd]
    · by_cases hjn : j < n
      · rw [if_pos hjn, if_neg (fun e => hj (by
          have h2 := Int32.toInt_lt i
          refine wi_inj (by omega) (by omega) ?_
          rw [wi_back q.1]; exact e.2))]
        show _ = (if j = i.toInt.toNat then _ else _); rw [if_neg hj]; simp [hjn]
      · rw [if_neg hjn]; show _ = (if j = i.toInt.toNat then _ else _); rw [if_neg hj]; simp [hjn]
  · rw [if_neg (fun e => q e.2), if_neg (fun e => q ((wi_in hn).mpr e))]
theorem w_wrL {n : Nat} {i : Int32} {v : Int64} (hA : wok A d m) (hd : d k = some (.inr (.inl (.long, n)))) (hn : n ≤ 2147483647) : pm_wrL (wput A d S h) (A k) i v = if 0 ≤ i ∧ i < Int32.ofNat n then some (wput A d (sl S k i v) h) else none := by
  have hc : (wput A d S h).2.2 (A k) = .inl (.long, n, .inr (.inl (fun j => if j < n then S.2 k (Int32.ofNat j) else 0))) := by
    rw [show (wput A d S h).2.2 (A k) = _ from wp_at hA (w_some hd), wM_at hd]; rfl
  unfold pm_wrL
  rw [hc]
  show (if FieldType.long = FieldType.long ∧ 0 ≤ i.toInt ∧ i.toInt < n then some _ else none) = _
  by_cases q : 0 ≤ i.toInt ∧ i.toInt < n
  · rw [if_pos ⟨rfl, q⟩, if_pos ((wi_in hn).mp q)]
    refine congrArg some (wp_up hA (w_some hd) (wM_ne hd ?_ (fun k' q => sl_ne q)))
    show Sum.inl (FieldType.long, n, _) = Sum.inl (FieldType.long, n, _)
    refine congrArg Sum.inl (congrArg _ (congrArg _ (congrArg Sum.inr (congrArg Sum.inl (funext fun j => ?_)))))
    rw [sl_2]
    by_cases hj : j = i.toInt.toNat
    · subst hj
      rw [if_pos (by omega), if_pos ⟨rfl, wi_back q.1⟩]
      simp [vp_updL]
    · by_cases hjn : j < n
      · rw [if_pos hjn, if_neg (fun e => hj (by
          have h2 := Int32.toInt_lt i
          refine wi_inj (by omega) (by omega) ?_
          rw [wi_back q.1]; exact e.2))]
        show _ = (if j = i.toInt.toNat then _ else _); rw [if_neg hj]; simp [hjn]
      · rw [if_neg hjn]; show _ = (if j = i.toInt.toNat then _ else _); rw [if_neg hj]; simp [hjn]
  · rw [if_neg (fun e => q e.2), if_neg (fun e => q ((wi_in hn).mpr e))]
theorem w_rdR {t : FieldType} {n : Nat} {r : Int32 → Option wK} {i : Int32} (hA : wok A d m) (hd : d k = some (.inr (.inr (t, n, .inr r)))) (ht : t.isReference = true) (hn : n ≤ 2147483647) : pm_rdR (wput A d S h) (A k) i = if 0 ≤ i ∧ i < Int32.ofNat n then some ((r i).map A) else none := by
  unfold pm_rdR
  rw [show (wput A d S h).2.2 (A k) = _ from wp_at hA (w_some hd), wM_at hd]
  show (if t.isReference = true ∧ 0 ≤ i.toInt ∧ i.toInt < n then some (if i.toInt.toNat < n then (r (Int32.ofNat i.toInt.toNat)).map A else none) else none) = _
  by_cases q : 0 ≤ i.toInt ∧ i.toInt < n
  · rw [if_pos ⟨ht, q⟩, if_pos ((wi_in hn).mp q), if_pos (by omega), wi_back q.1]
  · rw [if_neg (fun e => q e.2), if_neg (fun e => q ((wi_in hn).mpr e))]
theorem w_rdE {t : FieldType} {n f : Nat} {i : Int32} (hA : wok A d m) (hd : d k = some (.inr (.inr (t, n, .inl f)))) (ht : t.isReference = true) (hn : n ≤ 2147483647) : pm_rdR (wput A d S h) (A k) i = if 0 ≤ i ∧ i < Int32.ofNat n then some (we A f (S.1 k i)) else none := by
  unfold pm_rdR
  rw [show (wput A d S h).2.2 (A k) = _ from wp_at hA (w_some hd), wM_at hd]
  show (if t.isReference = true ∧ 0 ≤ i.toInt ∧ i.toInt < n then some (if i.toInt.toNat < n then we A f (S.1 k (Int32.ofNat i.toInt.toNat)) else none) else none) = _
  by_cases q : 0 ≤ i.toInt ∧ i.toInt < n
  · rw [if_pos ⟨ht, q⟩, if_pos ((wi_in hn).mp q), if_pos (by omega), wi_back q.1]
  · rw [if_neg (fun e => q e.2), if_neg (fun e => q ((wi_in hn).mpr e))]
theorem w_wrE {T : pm_T} {t : FieldType} {n f : Nat} {i z : Int32} {v : Option Nat} (hA : wok A d m) (hd : d k = some (.inr (.inr (t, n, .inl f)))) (ht : t.isReference = true) (hn : n ≤ 2147483647) (hv : v = we A f z) (hT : ∀ b, v = some b → T.2.2.2.2.2.2 t ((wput A d S h).2.2 b) = true) (hi : 0 ≤ i ∧ i < Int32.ofNat n) : pm_wrR T (wput A d S h) (A k) i v = some (wput A d (sz S k i z) h) := by
  subst hv
  have q := (wi_in hn).mpr hi
  have hc : (wput A d S h).2.2 (A k) = .inl (t, n, .inr (.inr (.inr (.inr (fun j => if j < n then we A f (S.1 k (Int32.ofNat j)) else none))))) := by
    rw [show (wput A d S h).2.2 (A k) = _ from wp_at hA (w_some hd), wM_at hd]; rfl
  unfold pm_wrR
  rw [hc]
  show (if t.isReference = true ∧ 0 ≤ i.toInt ∧ i.toInt < n ∧ _ then some _ else none) = _
  rw [if_pos ⟨ht, q.1, q.2, hT⟩]
  refine congrArg some (wp_up hA (w_some hd) (wM_ne hd ?_ (fun k' q => sz_ne q)))
  show Sum.inl (t, n, Sum.inr (Sum.inr (Sum.inr (Sum.inr _)))) = Sum.inl (t, n, Sum.inr (Sum.inr (Sum.inr (Sum.inr _))))
  refine congrArg Sum.inl (congrArg _ (congrArg _ (congrArg Sum.inr (congrArg Sum.inr (congrArg Sum.inr (congrArg Sum.inr (funext fun j => ?_)))))))
  rw [sz_1]
  by_cases hj : j = i.toInt.toNat
  · subst hj
    rw [if_pos (by omega), if_pos ⟨rfl, wi_back q.1⟩, va_up_self]
  · rw [va_up_ne _ _ hj]
    by_cases hjn : j < n
    · rw [if_pos hjn, if_pos hjn, if_neg (fun e => hj (by
        have h2 := Int32.toInt_lt i
        refine wi_inj (by omega) (by omega) ?_
        rw [wi_back q.1]; exact e.2))]
    · rw [if_neg hjn, if_neg hjn]
/-- a reference field that names a member of a family by its number -/
theorem w_p4 {T : pm_T} {c0 c i : Nat} {fs : List wF} {q : wK} {z : Int32} {w : Value} (hA : wok A d m) (hd : d k = some (.inl (c0, fs))) (hc : T.2.2.1 c0 c = true) (hi : fs[i]? = some (4, q)) (hl : fs.length ≤ 1000) (hw : wr A q.1 z = w) : pm_pf T (wput A d S h) (A k) c i 3 w = some (wput A d (sz S k (Int32.ofNat i) z) h) := by
  subst hw
  have hil : i < fs.length := (List.getElem?_eq_some_iff.mp hi).1
  have ht : pm_ok 3 (wr A q.1 z) = true := by unfold wr; split <;> rfl
  refine wp_pf hA (w_some hd) (wM_at hd) hc (by rw [wvs_len]; exact hil) ht (wM_ne hd ?_ (fun k' q => sz_ne q))
  have := wvs_set (A := A) (S := S) (S' := sz S k (Int32.ofNat i) z) (k := k) fs 0 i (4, q) hi (fun j hj hji => by
    rw [Nat.zero_add, sz_1, sz_2, if_neg (fun e => hji (wi_inj (by omega) (by omega) e.2))]; exact ⟨rfl, rfl⟩)
  rw [Nat.zero_add] at this
  show Sum.inr _ = Sum.inr _
  rw [← this]
  show Sum.inr (c0, (wvs A S k 0 fs).set i (wr A q.1 ((sz S k (Int32.ofNat i) z).1 k (Int32.ofNat i)))) = _
  rw [sz_1, if_pos ⟨rfl, rfl⟩]
theorem w_lenE {t : FieldType} {n f : Nat} (hA : wok A d m) (hd : d k = some (.inr (.inr (t, n, .inl f)))) (ht : ¬ t = .object "S") : pm_len (wput A d S h) (A k) = some n := wp_len hA (w_some hd) (wM_at hd) ht
/-- System.arraycopy of ints -/
def szc (S : wS) (kd : wK) (j : Int32) (ks : wK) (i n : Int32) : wS := (fun k q => if k = kd ∧ j ≤ q ∧ q < j + n then S.1 ks (q - j + i) else S.1 k q, S.2)
theorem w_len {t : FieldType} {n : Nat} (hA : wok A d m) (hd : d k = some (.inr (.inl (t, n)))) (ht : ¬ t = .object "S") : pm_len (wput A d S h) (A k) = some n := wp_len hA (w_some hd) (wM_at hd) ht
theorem w_lenR {t : FieldType} {n : Nat} {r : Int32 → Option wK} (hA : wok A d m) (hd : d k = some (.inr (.inr (t, n, .inr r)))) (ht : ¬ t = .object "S") : pm_len (wput A d S h) (A k) = some n := wp_len hA (w_some hd) (wM_at hd) ht
theorem w_junk {n : Nat} {e : pm_E} (hA : wok A d h.1) : pm_new (wput A d S h) n e = wput A d S (pm_new h n e) := wp_junk hA
theorem w_1 : (wput A d S h).1 = h.1 := rfl
theorem w_21 : (wput A d S h).2.1 = h.2.1 := rfl
end
/-! small laws for the runs -/
theorem lc_0 {x y : Int64} : (lg_cmp x y = 0) = (x = y) := by
  unfold lg_cmp; grind
theorem lc_lt {x y : Int64} : (lg_cmp x y < 0) = (x < y) := by
  unfold lg_cmp; grind
theorem lc_le {x y : Int64} : (lg_cmp x y ≤ 0) = (x ≤ y) := by
  unfold lg_cmp; grind
def wz (v : Int32) : Prop := v = 0 ∨ v = 1
theorem pm_ok2 {v : Int32} : (pm_ok 2 (.int v) = true) = (v = 0 ∨ v = 1) := by simp [pm_ok]
theorem pm_ok0 {v : Int32} : (pm_ok 0 (.int v) = true) = True := by simp [pm_ok]
theorem pe_rz {P : pm_P} {cl : pm_C} {k j : Nat} {r : List Instr} {ls : List Value} {h : pm_H} {v : Int32} (hv : v = 0 ∨ v = 1) : pm_ev P cl k j (.jsr 2 :: r) ls [.int v] h = some (.returned (some (.int v)), h) := pe_ireturn (show pm_ok 2 (.int v) = true by rw [pm_ok2]; exact hv)
theorem pe_ri {P : pm_P} {cl : pm_C} {k j : Nat} {r : List Instr} {ls : List Value} {h : pm_H} {x : Int32} : pm_ev P cl k j (.jsr 0 :: r) ls [.int x] h = some (.returned (some (.int x)), h) := pe_ireturn rfl
theorem FU_ex : ∃ n : Nat, n = 1000000 := ⟨1000000, rfl⟩
/-- rounds enough for any loop; not to be reckoned out -/
noncomputable def FU : Nat := Classical.choose FU_ex
theorem FU_eq : FU = 1000000 := Classical.choose_spec FU_ex
/-- a loop: at most n rounds -/
def lp {α β : Type} (f : α → Option (α ⊕ β)) : Nat → α → Option β
  | 0, _ => none
  | n + 1, a => (f a).bind fun r => match r with
    | .inl a' => lp f n a'
    | .inr b => some b
theorem lp_run {α β : Type} {f : α → Option (α ⊕ β)} {go : α → Prop} {ex : β → Prop} (hb : ∀ a r, f a = some r → Sum.elim go ex r → go a) : ∀ n a b, lp f n a = some b → ex b → go a
  | 0, a, b, h, _ => by simp [lp] at h
  | n + 1, a, b, h, hx => by
    obtain ⟨r, h1, h2⟩ := Option.bind_eq_some_iff.mp (show (f a).bind _ = some b from h)
    refine hb a r h1 ?_
    cases r with
    | inl a' => exact lp_run hb n a' b h2 hx
    | inr b' => cases h2; exact hx
theorem li_ne {a b : Int32} (h : decide (a = b) = false) : (a = b) = False := eq_false (of_decide_eq_false h)
theorem sw_eq {x : Int32} {z : Int} (h : -2147483648 ≤ z ∧ z ≤ 2147483647) : (x.toInt = z) = (x = Int32.ofInt z) := by
  refine propext ⟨fun e => ?_, fun e => ?_⟩
  · subst e; simp
  · subst e; exact nu_i h.1 h.2
def wn (x : Int32) : Nat := x.toInt.toNat
theorem wn_le (x : Int32) : wn x ≤ 2147483647 := by
  have := Int32.toInt_lt x
  unfold wn; omega
theorem wn_of {L : Int32} (hL : 0 ≤ L) : Int32.ofNat (wn L) = L := wi_back (Int32.le_iff_toInt_le.mp hL)
theorem wn_in {L x : Int32} (hL : 0 ≤ L) (hx : 0 ≤ x ∧ x < L) : 0 ≤ x ∧ x < Int32.ofNat (wn L) := by rw [wn_of hL]; exact hx
theorem p_throw {P : pm_P} {cl : pm_C} {k j c : Nat} {r : List Instr} {ls st : List Value} {h : pm_H} (hn : pm_cats st ≤ 8) (hx : c = 67 ∨ c = 70 ∨ c = 71) : pm_ev P cl k j (.ret c :: .athrow :: r) ls st h = pm_thr P cl k j ls c (pm_new h 6 (.inr (c, []))) := by
  rw [pe_mkx hn, pe_athrow (c := c) ?_ hx]
  unfold pm_cls pm_new
  simp [va_up_self]
theorem wsq {s : Int32} (h1 : 1 ≤ s) (h2 : s ≤ 20) : 1 ≤ s * s ∧ s * s ≤ 400 := by
  have a1 := Int32.le_iff_toInt_le.mp h1
  have a2 := Int32.le_iff_toInt_le.mp h2
  have b1 : (1 : Int32).toInt = 1 := rfl
  have b2 : (20 : Int32).toInt = 20 := rfl
  have b3 : (400 : Int32).toInt = 400 := rfl
  have c1 : s.toInt * s.toInt ≤ 20 * 20 := Int.mul_le_mul (by omega) (by omega) (by omega) (by omega)
  have c2 : 1 * 1 ≤ s.toInt * s.toInt := Int.mul_le_mul (by omega) (by omega) (by omega) (by omega)
  have c3 : (s * s).toInt = s.toInt * s.toInt := by
    rw [Int32.toInt_mul]
    exact Int.bmod_eq_of_le (by omega) (by omega)
  constructor
  · rw [Int32.le_iff_toInt_le]; omega
  · rw [Int32.le_iff_toInt_le]; omega
theorem wr_m1 {A : wK → Nat} {f : Nat} : wr A f (-1) = .null := rfl
theorem we_m1 {A : wK → Nat} {f : Nat} : we A f (-1) = none := rfl
theorem wz_lt {z n : Int32} (h : 0 ≤ z ∧ z < n) : ¬ z < 0 := by grind
theorem wr_p {A : wK → Nat} {f : Nat} {z : Int32} (h : ¬ z < 0) : wr A f z = .ref (A (f, z, 0)) := if_neg h
theorem wr_n {A : wK → Nat} {f : Nat} {z : Int32} (h : z < 0) : wr A f z = .null := if_pos h
theorem we_p {A : wK → Nat} {f : Nat} {z : Int32} (h : ¬ z < 0) : we A f z = some (A (f, z, 0)) := if_neg h
theorem we_n {A : wK → Nat} {f : Nat} {z : Int32} (h : z < 0) : we A f z = none := if_pos h
theorem pm_kill_w {A : wK → Nat} {f : Nat} {z : Int32} : pm_kill (wr A f z) = wr A f z := by
  unfold wr; split <;> rfl
section
variable {A : wK → Nat} {d : wK → Option wD} {S S' : wS} {h : pm_H} {m : Nat} {k k' : wK}
theorem szc_ne {kd : wK} {j i n : Int32} {ks : wK} {k' : wK} (q : k' ≠ kd) : S.1 k' = (szc S kd j ks i n).1 k' ∧ S.2 k' = (szc S kd j ks i n).2 k' := ⟨funext fun j => (if_neg (fun e => q e.1)).symm, rfl⟩
theorem wi_sub {a b : Int32} (ha : 0 ≤ a) (hb : 0 ≤ b) : (a - b).toInt = a.toInt - b.toInt := by
  have h1 := Int32.le_iff_toInt_le.mp ha
  have h2 := Int32.le_iff_toInt_le.mp hb
  have h3 := Int32.toInt_lt a
  have h4 := Int32.toInt_lt b
  have h0 : (0 : Int32).toInt = 0 := rfl
  rw [Int32.toInt_sub]
  exact Int.bmod_eq_of_le (by omega) (by omega)
theorem w_cpy {n1 n2 : Nat} {p q l : Int32} (hA : wok A d m) (hs : d k = some (.inr (.inl (.int, n1)))) (hd : d k' = some (.inr (.inl (.int, n2)))) (hn1 : n1 ≤ 2147483647) (hn2 : n2 ≤ 2147483647) (hx : 0 ≤ p ∧ 0 ≤ q ∧ 0 ≤ l ∧ l ≤ Int32.ofNat n1 - p ∧ l ≤ Int32.ofNat n2 - q) : pm_cpy (wput A d S h) (A k) p (A k') q l = some (wput A d (szc S k' q k p l) h) := by
  have c1 : (wput A d S h).2.2 (A k) = .inl (.int, n1, .inl (fun j => if j < n1 then S.1 k (Int32.ofNat j) else 0)) := by
    rw [show (wput A d S h).2.2 (A k) = _ from wp_at hA (w_some hs), wM_at hs]; rfl
  have c2 : (wput A d S h).2.2 (A k') = .inl (.int, n2, .inl (fun j => if j < n2 then S.1 k' (Int32.ofNat j) else 0)) := by
    rw [show (wput A d S h).2.2 (A k') = _ from wp_at hA (w_some hd), wM_at hd]; rfl
  obtain ⟨hp, hq, hl, h1, h2⟩ := hx
  have z0 : (0 : Int32).toInt = 0 := rfl
  have ip := Int32.le_iff_toInt_le.mp hp
  have iq := Int32.le_iff_toInt_le.mp hq
  have il := Int32.le_iff_toInt_le.mp hl
  have e1 := Int32.le_iff_toInt_le.mp h1
  have e2 := Int32.le_iff_toInt_le.mp h2
  have m1 : (0 : Int32) ≤ Int32.ofNat n1 := by rw [Int32.le_iff_toInt_le, wi_nat hn1]; omega
  have m2 : (0 : Int32) ≤ Int32.ofNat n2 := by rw [Int32.le_iff_toInt_le, wi_nat hn2]; omega
  rw [wi_sub m1 hp, wi_nat hn1] at e1
  rw [wi_sub m2 hq, wi_nat hn2] at e2
  unfold pm_cpy
  rw [c1, c2]
  show (if _ then some _ else none) = _
  rw [if_pos ⟨by omega, by omega, by omega, by omega, by omega⟩]
  refine congrArg some (wp_up hA (w_some hd) (wM_ne hd ?_ (fun k' q => szc_ne q)))
  show Sum.inl (FieldType.int, n2, Sum.inl _) = Sum.inl (FieldType.int, n2, Sum.inl _)
  refine congrArg Sum.inl (congrArg _ (congrArg _ (congrArg Sum.inl (funext fun j => ?_))))
  show (if j < n2 then (if k' = k' ∧ q ≤ Int32.ofNat j ∧ Int32.ofNat j < q + l then S.1 k (Int32.ofNat j - q + p) else S.1 k' (Int32.ofNat j)) else 0) = (if q.toInt.toNat ≤ j ∧ j < q.toInt.toNat + l.toInt.toNat then (if p.toInt.toNat + (j - q.toInt.toNat) < n1 then S.1 k (Int32.ofNat (p.toInt.toNat + (j - q.toInt.toNat))) else 0) else (if j < n2 then S.1 k' (Int32.ofNat j) else 0))
  have tp := Int32.toInt_lt p
  have tq := Int32.toInt_lt q
  have tl := Int32.toInt_lt l
  by_cases hj : j < n2
  · rw [if_pos hj]
    have jt := wi_nat (n := j) (by omega)
    have ql : (q + l).toInt = q.toInt + l.toInt := by
      rw [Int32.toInt_add]; exact Int.bmod_eq_of_le (by omega) (by omega)
    by_cases c : q.toInt.toNat ≤ j ∧ j < q.toInt.toNat + l.toInt.toNat
    · have c3 : k' = k' ∧ q ≤ Int32.ofNat j ∧ Int32.ofNat j < q + l := ⟨rfl, by rw [Int32.le_iff_toInt_le, jt]; omega, by rw [Int32.lt_iff_toInt_lt, jt, ql]; omega⟩
      have c4 : p.toInt.toNat + (j - q.toInt.toNat) < n1 := by omega
      rw [if_pos c, if_pos c3, if_pos c4]
      refine congrArg _ (Int32.toInt_inj.mp ?_)
      rw [wi_nat (by omega), Int32.toInt_add, Int32.toInt_sub, jt]
      have b1 : ((j : Int) - q.toInt).bmod (2 ^ 32) = j - q.toInt := Int.bmod_eq_of_le (by omega) (by omega)
      rw [b1]
      have b2 : ((j : Int) - q.toInt + p.toInt).bmod (2 ^ 32) = j - q.toInt + p.toInt := Int.bmod_eq_of_le (by omega) (by omega)
      rw [b2]; omega
    · rw [if_neg c, if_pos hj, if_neg (fun e => c (by
        have a1 := Int32.le_iff_toInt_le.mp e.2.1
        have a2 := Int32.lt_iff_toInt_lt.mp e.2.2
        rw [jt] at a1 a2
        rw [ql] at a2
        omega))]
  · rw [if_neg hj, if_neg (by omega), if_neg hj]
end
theorem pm_ok4' {v : Int32} (h : 0 ≤ v ∧ v ≤ 65535) : pm_ok 4 (.int v) = true := by simp [pm_ok, h.1, h.2]
theorem pe_rc {P : pm_P} {cl : pm_C} {k j : Nat} {r : List Instr} {ls : List Value} {h : pm_H} {v : Int32} (hv : 0 ≤ v ∧ v ≤ 65535) : pm_ev P cl k j (.jsr 4 :: r) ls [.int v] h = some (.returned (some (.int v)), h) := pe_ireturn (show pm_ok 4 (.int v) = true from pm_ok4' hv)
theorem w_gs {cl : pm_C} {k j q : Nat} {r : List Instr} {ls st : List Value} {h : pm_H} {A : wK → Nat} (hL : A (90, 0, 0) = 1) (hq : pm_stat q = .ref 1) : pm_ev pm_prog cl k j (.getstatic q :: r) ls st h = pm_ev pm_prog cl k j r ls (.ref (A (90, 0, 0)) :: st) h := by
  rw [pe_getstatic, hL]
  show pm_ev pm_prog cl k j r ls (pm_stat q :: st) h = _
  rw [hq]
theorem w_athrow {P : pm_P} {cl : pm_C} {k j c : Nat} {r : List Instr} {ls s : List Value} {h : pm_H} {A : wK → Nat} {d : wK → Option wD} {S : wS} (hA : wok A d h.1) (hx : c = 67 ∨ c = 70 ∨ c = 71) : pm_ev P cl k j (.athrow :: r) ls (.ref h.1 :: s) (wput A d S (pm_new h 6 (.inr (c, [])))) = pm_thr P cl k j ls c (wput A d S (pm_new h 6 (.inr (c, [])))) := by
  refine pe_athrow ?_ hx
  unfold pm_cls
  rw [show (wput A d S (pm_new h 6 (.inr (c, [])))).2.2 h.1 = (pm_new h 6 (.inr (c, []))).2.2 h.1 from wp_out (fun k hk e => absurd (hA.2 k hk) (by omega))]
  unfold pm_new
  simp [va_up_self]
section
variable {A : wK → Nat} {d d' : wK → Option wD} {S S' : wS} {h : pm_H} {m : Nat} {k : wK}
theorem wM_cong (hd : ∀ k', k' ≠ k → d' k' = d k') (hS : ∀ k', k' ≠ k → S'.1 k' = S.1 k' ∧ S'.2 k' = S.2 k') {k' : wK} (q : k' ≠ k) : wM A d' S' k' = wM A d S k' := by
  unfold wM
  rw [hd k' q]
  cases d k' with
  | none => rfl
  | some y => exact wc_cong (hS k' q).1 (hS k' q).2
/-- a new cell at a key that was not there -/
theorem w_new {n : Nat} {e : pm_E} (hA : wok A d h.1) (hN : A k = h.1) (hk : d k = none) (hd : ∀ k', k' ≠ k → d' k' = d k') (hd' : d' k ≠ none) (hS : ∀ k', k' ≠ k → S'.1 k' = S.1 k' ∧ S'.2 k' = S.2 k') (he : wM A d' S' k = e) : pm_new (wput A d S h) n e = wput A d' S' (wp_cnt h n) ∧ wok A d' (h.1 + 1) := by
  have hAA : wu A k h.1 = A := funext fun x => by
    by_cases q : x = k
    · subst q; rw [wu_self, hN]
    · rw [wu_ne _ _ q]
  have hD : ∀ x, (x = k ∨ d x ≠ none) ↔ d' x ≠ none := fun x => by
    by_cases q : x = k
    · subst q; exact ⟨fun _ => hd', fun _ => Or.inl rfl⟩
    · rw [hd x q]; exact ⟨fun e => e.resolve_left q, Or.inr⟩
  have hk0 : ¬ d k ≠ none := fun e => e hk
  have a1 := wp_new (A := A) (D := fun k => d k ≠ none) (M := wM A d S) (M' := wM A d' S') (h := h) (k := k) (m := n) (e := e) hA hk0 he (fun k' h1 => wM_cong hd hS (fun e => hk0 (e ▸ h1)))
  have a2 := wp_ok_new (k := k) hA hk0
  rw [hAA] at a1 a2
  have hok : wok A d' (h.1 + 1) := ⟨fun x y hx hy => a2.1 x y ((hD x).mpr hx) ((hD y).mpr hy), fun x hx => a2.2 x ((hD x).mpr hx)⟩
  refine ⟨a1.trans ?_, hok⟩
  exact wp_cong a2 hok hD (fun _ _ => rfl) (fun _ _ => rfl)
/-- a cell gets another description -/
theorem w_chg {e : pm_E} (hA : wok A d m) (hk : d k ≠ none) (hd : ∀ k', k' ≠ k → d' k' = d k') (hd' : d' k ≠ none) (hS : ∀ k', k' ≠ k → S'.1 k' = S.1 k' ∧ S'.2 k' = S.2 k') (he : wM A d' S' k = e) : pm_up (wput A d S h) (A k) e = wput A d' S' h ∧ wok A d' m := by
  have hD : ∀ x, (d x ≠ none) ↔ d' x ≠ none := fun x => by
    by_cases q : x = k
    · subst q; exact ⟨fun _ => hd', fun _ => hk⟩
    · rw [hd x q]
  have hok : wok A d' m := ⟨fun x y hx hy => hA.1 x y ((hD x).mpr hx) ((hD y).mpr hy), fun x hx => hA.2 x ((hD x).mpr hx)⟩
  refine ⟨?_, hok⟩
  refine (wp_up (M' := wM A d' S') hA hk (fun k' h1 => ?_)).trans (wp_cong hA hok hD (fun _ _ => rfl) (fun _ _ => rfl))
  by_cases q : k' = k
  · subst q; rw [if_pos rfl, he]
  · rw [if_neg q]; exact wM_cong hd hS q
end
/-! the newest cell, before it belongs to a world -/
section
variable {H : pm_H} {n c c0 i t : Nat} {fs : List Value} {v : Value} {T : pm_T}
theorem nw_up {e e' : pm_E} : pm_up (pm_new H n e) H.1 e' = pm_new H n e' := by
  unfold pm_up pm_new
  refine congrArg _ (congrArg _ (funext fun q => ?_))
  by_cases w : q = H.1
  · subst w; rw [va_up_self, va_up_self]
  · rw [va_up_ne _ _ w, va_up_ne _ _ w]; exact va_up_ne _ _ w
theorem nw_at {e : pm_E} : (pm_new H n e).2.2 H.1 = e := va_up_self _ _ _
theorem nw_ne {e : pm_E} {a : Nat} (h : a ≠ H.1) : (pm_new H n e).2.2 a = H.2.2 a := va_up_ne _ _ h
theorem nw_pf (hc : T.2.2.1 c0 c = true) (hi : i < fs.length) (ht : pm_ok t v = true) : pm_pf T (pm_new H n (.inr (c0, fs))) H.1 c i t v = some (pm_new H n (.inr (c0, fs.set i v))) := by
  unfold pm_pf
  rw [nw_at]
  show (if _ then some _ else none) = _
  rw [if_pos ⟨hc, hi, ht⟩, nw_up]
theorem nw_cls : pm_cls (pm_new H n (.inr (c, fs))) H.1 = some c := by
  unfold pm_cls; rw [nw_at]
end
