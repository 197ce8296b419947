/-! ===== SOUNDNESS, 26: arrays of arrays ===== -/
/-- many cells at once -/
def sn_adN (ad : Nat → Nat) (n z : Nat) : Nat → Nat := fun k => if k < n then ad k else z + (k - n)
theorem sn_bulk {D : va_G} {κ : FieldType → ClassId} {A : Nat → Prop} {k8 : Nat → pm_E} {ad : Nat → Nat} {h h2 : pm_H} {H H1 H0 : Heap} {locs : List Loc} {K : Nat} (hR : sn_R D κ A k8 ad h H) (hA : ∀ q, H0.size ≤ q → A q) (hS : va_S A H0 H locs) (z1 : h2.1 = h.1 + K) (o1 : ∀ q, q < h.1 → h2.2.2 q = h.2.2 q) (o2 : ∀ q, h.1 + K ≤ q → h2.2.2 q = pm_none) (n1 : ∀ j, j < K → sn_e (h.1 + K) (h2.2.2 (h.1 + j)) ∧ sn_t (h2.2.2 (h.1 + j))) (z2 : H1.size = H.size + K) (o3 : ∀ q, q < H.size → H1[q]? = H[q]?) (n2 : ∀ j, j < K → va_at D sn_cl (H.size + j, sn_E κ (sn_adN ad h.1 H.size) (h2.2.2 (h.1 + j))) H1) : sn_R D κ A k8 (sn_adN ad h.1 H.size) h2 H1 ∧ va_S A H0 H1 locs := by
  have h8 := hR.1.1
  have hid : ∀ k, k < h.1 → sn_adN ad h.1 H.size k = ad k := fun k hk => if_pos hk
  have hnw : ∀ j, sn_adN ad h.1 H.size (h.1 + j) = H.size + j := fun j => by
    unfold sn_adN
    rw [if_neg (by omega)]; omega
  have hat : ∀ (k : Nat) (q : Nat × va_E), (sn_ws κ (sn_adN ad h.1 H.size) h2)[k]? = some q → (8 + k < h.1 ∧ (sn_ws κ ad h)[k]? = some q) ∨ ∃ j, j < K ∧ 8 + k = h.1 + j ∧ q = (H.size + j, sn_E κ (sn_adN ad h.1 H.size) (h2.2.2 (h.1 + j))) := by
    intro k q hk
    unfold sn_ws at hk
    rw [List.getElem?_map] at hk
    by_cases hkl : k < h2.1 - 8
    · rw [List.getElem?_range hkl] at hk
      simp only [Option.map_some, Option.some.injEq] at hk
      by_cases h1 : 8 + k < h.1
      · refine Or.inl ⟨h1, ?_⟩
        have := sn_ws_at (κ := κ) (ad := ad) (h := h) (a := 8 + k) (by omega) h1
        rw [show 8 + k - 8 = k by omega] at this
        rw [this, ← hk, hid _ h1, o1 _ h1, sn_E_id (n := h.1) hid (hR.1.2.1 _)]
      · refine Or.inr ⟨8 + k - h.1, by omega, by omega, ?_⟩
        have e1 : h.1 + (8 + k - h.1) = 8 + k := by omega
        rw [e1, ← hk]
        have := hnw (8 + k - h.1)
        rw [e1] at this
        rw [this]
    · rw [List.getElem?_eq_none (by simp; omega)] at hk
      cases hk
  have hlt : ∀ q ∈ sn_ws κ ad h, q.1 < H.size := fun q hq => by
    obtain ⟨i, hi⟩ := List.getElem?_of_mem hq
    exact (hR.2.1 i q hi).lt
  refine ⟨⟨⟨by omega, fun a => ?_, fun a ha => ?_, fun a ha hb => ?_⟩, fun k q hk => ?_, ⟨fun i j x y hi hj hxy => ?_, fun k q hk => ?_⟩, fun a ha => ?_⟩, ⟨by rw [z2]; exact Nat.le_trans hS.1 (Nat.le_add_right _ _), fun q hq hn => by rw [o3 q (Nat.lt_of_lt_of_le hq hS.1)]; exact hS.2.1 q hq hn, hS.2.2⟩⟩
  · rw [z1]
    by_cases h1 : a < h.1
    · rw [o1 a h1]; exact sn_e_le (Nat.le_add_right _ _) (hR.1.2.1 a)
    · by_cases h2 : a < h.1 + K
      · have := (n1 (a - h.1) (by omega)).1
        rw [show h.1 + (a - h.1) = a by omega] at this
        exact this
      · rw [o2 a (by omega)]; exact fun v hv => absurd hv List.not_mem_nil
  · exact o2 a (by omega)
  · by_cases h1 : a < h.1
    · rw [o1 a h1]; exact hR.1.2.2.2 a ha h1
    · have := (n1 (a - h.1) (by omega)).2
      rw [show h.1 + (a - h.1) = a by omega] at this
      exact this
  · rcases hat k q hk with ⟨a1, a2⟩ | ⟨j, a1, a2, rfl⟩
    · exact (hR.2.1 k q a2).kept (o3 _ (hlt q (List.mem_of_getElem? a2)))
    · exact n2 j a1
  · rcases hat i x hi with ⟨a1, a2⟩ | ⟨u, a1, a2, rfl⟩ <;> rcases hat j y hj with ⟨b1, b2⟩ | ⟨v, b1, b2, rfl⟩
    · exact hR.2.2.1.1 i j x y a2 b2 hxy
    · have := hlt x (List.mem_of_getElem? a2)
      have hxy : x.1 = H.size + v := hxy
      omega
    · have := hlt y (List.mem_of_getElem? b2)
      have hxy : H.size + u = y.1 := hxy
      omega
    · have hxy : H.size + u = H.size + v := hxy
      omega
  · rcases hat k q hk with ⟨a1, a2⟩ | ⟨j, a1, a2, rfl⟩
    · exact hR.2.2.1.2 k q a2
    · exact hA _ (Nat.le_trans hS.1 (Nat.le_add_right _ _))
  · rw [o1 a (by omega)]; exact hR.2.2.2 a ha
/-- what pm_rows, pm_multi2 make -/
theorem pm_rows_at (t : FieldType) (n : Nat) : ∀ (k : Nat) (h : pm_H), (pm_rows t n k h).1 = h.1 + k ∧ (pm_rows t n k h).2.1 = h.2.1 + k * n ∧ (∀ q, q < h.1 → (pm_rows t n k h).2.2 q = h.2.2 q) ∧ (∀ j, j < k → (pm_rows t n k h).2.2 (h.1 + j) = .inl (t, n, pm_zero t)) ∧ ∀ q, h.1 + k ≤ q → (pm_rows t n k h).2.2 q = h.2.2 q
  | 0, h => ⟨rfl, by simp [pm_rows], fun _ _ => rfl, fun j hj => absurd hj (Nat.not_lt_zero _), fun _ _ => rfl⟩
  | k + 1, h => by
    obtain ⟨a1, a2, a3, a4, a5⟩ := pm_rows_at t n k (pm_new h n (.inl (t, n, pm_zero t)))
    have e1 : (pm_new h n (.inl (t, n, pm_zero t))).1 = h.1 + 1 := rfl
    have e2 : (pm_new h n (.inl (t, n, pm_zero t))).2.1 = h.2.1 + n := rfl
    have e3 : ∀ q, q ≠ h.1 → (pm_new h n (.inl (t, n, pm_zero t))).2.2 q = h.2.2 q := fun q hq => va_up_ne _ _ hq
    rw [e1] at a1 a3 a4 a5
    rw [e2] at a2
    refine ⟨by show (pm_rows t n k _).1 = _; rw [a1]; omega, by show (pm_rows t n k _).2.1 = _; rw [a2, Nat.succ_mul]; omega, fun q hq => ?_, fun j hj => ?_, fun q hq => ?_⟩
    · exact (a3 q (by omega)).trans (e3 q (by omega))
    · rcases Nat.eq_zero_or_pos j with rfl | hp
      · exact (a3 _ (by omega)).trans (va_up_self _ _ _)
      · have := a4 (j - 1) (by omega)
        rw [show h.1 + 1 + (j - 1) = h.1 + j by omega] at this
        exact this
    · exact (a5 q (by omega)).trans (e3 q (by omega))
def pm_outer (t : FieldType) (n a : Nat) : pm_E := .inl (.array t, n, .inr (.inr (.inr (.inr (fun j => if j < n then some (a + 1 + j) else none)))))
theorem pm_multi2_at (t : FieldType) (n m : Nat) (h : pm_H) : (pm_multi2 t n m h).1 = h.1 + (1 + n) ∧ (pm_multi2 t n m h).2.1 = h.2.1 + (n + n * m) ∧ (∀ q, q < h.1 → (pm_multi2 t n m h).2.2 q = h.2.2 q) ∧ (pm_multi2 t n m h).2.2 h.1 = pm_outer t n h.1 ∧ (∀ j, j < n → (pm_multi2 t n m h).2.2 (h.1 + (1 + j)) = .inl (t, m, pm_zero t)) ∧ ∀ q, h.1 + (1 + n) ≤ q → (pm_multi2 t n m h).2.2 q = h.2.2 q := by
  obtain ⟨a1, a2, a3, a4, a5⟩ := pm_rows_at t m n (pm_new h n (pm_outer t n h.1))
  have e1 : (pm_new h n (pm_outer t n h.1)).1 = h.1 + 1 := rfl
  have e2 : (pm_new h n (pm_outer t n h.1)).2.1 = h.2.1 + n := rfl
  have e3 : ∀ q, q ≠ h.1 → (pm_new h n (pm_outer t n h.1)).2.2 q = h.2.2 q := fun q hq => va_up_ne _ _ hq
  have e4 : (pm_new h n (pm_outer t n h.1)).2.2 h.1 = pm_outer t n h.1 := va_up_self _ _ _
  rw [e1] at a1 a3 a4 a5
  rw [e2] at a2
  refine ⟨by show (pm_rows t m n (pm_new h n (pm_outer t n h.1))).1 = _; rw [a1]; omega, by show (pm_rows t m n (pm_new h n (pm_outer t n h.1))).2.1 = _; rw [a2]; omega, fun q hq => (a3 q (by omega)).trans (e3 q (by omega)), (a3 h.1 (by omega)).trans e4, fun j hj => ?_, fun q hq => (a5 q (by omega)).trans (e3 q (by omega))⟩
  have := a4 j hj
  rw [show h.1 + 1 + j = h.1 + (1 + j) by omega] at this
  exact this
theorem sn_zero_at {D : va_G} {κ : FieldType → ClassId} {ad : Nat → Nat} {H : Heap} {t : FieldType} {M q : Nat} (e : H[q]? = some { cls := κ t, slots := Array.replicate M (defaultValue t), vm := .none }) (ht : t ∈ sn_ats) : va_at D sn_cl (q, sn_E κ ad (.inl (t, M, pm_zero t))) H := by
  show H[q]? = some (vp_cell (κ t) (M, sn_A ad (pm_zero t)))
  rw [e]
  have hrep : ∀ v : Value, Array.replicate M v = Array.ofFn (n := M) fun _ => v := fun v => by
    apply Array.ext
    · simp
    · intro i h1 h2; simp
  rw [hrep]
  cases t <;> first | rfl | (exfalso; revert ht; decide)
theorem sn_outer_at {D : va_G} {κ : FieldType → ClassId} {ad : Nat → Nat} {H : Heap} {t : FieldType} {N q a : Nat} {sl : Array Value} (e : H[q]? = some { cls := κ (.array t), slots := sl, vm := .none }) (h3 : sl.size = N) (h4 : ∀ j, j < N → sl[j]? = some (.ref (ad (a + 1 + j)))) : va_at D sn_cl (q, sn_E κ ad (pm_outer t N a)) H := by
  show H[q]? = some (vp_cell (κ (.array t)) (N, .inr (.inr (.inr (.inr (fun j => (if j < N then some (a + 1 + j) else none : Option Nat).map ad))))))
  rw [e]
  refine congrArg some ?_
  have es : sl = Array.ofFn (n := N) fun j => va_rf ((if j.val < N then some (a + 1 + j.val) else none : Option Nat).map ad) := by
    apply Array.ext
    · simp [h3]
    · intro j g1 g2
      have := h4 j (by omega)
      rw [Array.getElem?_eq_getElem g1] at this
      rw [Option.some.inj this]
      simp at g2
      simp [g2, va_rf]
  rw [es]
  rfl
theorem sn_outC (c : ClassId) (N h0 : Nat) : ∀ i, Jvm.Free.Multi.outerC c N h0 i = { cls := c, slots := (Jvm.Free.Multi.outerC c N h0 i).slots, vm := .none }
  | 0 => rfl
  | i + 1 => by
    have ih := sn_outC c N h0 i
    show (Jvm.Free.Multi.outerC c N h0 i).setSlot i _ = { cls := c, slots := ((Jvm.Free.Multi.outerC c N h0 i).setSlot i _).slots, vm := .none }
    rw [ih]; rfl
/-! three dimensions -/
def mu_out (c : ClassId) (L N h0 : Nat) : Nat → Cell
  | 0 => { cls := c, slots := Array.replicate L .null, vm := .none }
  | i + 1 => (mu_out c L N h0 i).setSlot i (.ref (h0 + 1 + i * (1 + N)))
def mu_fill (s : State) (c cB cC : ClassId) (L N M : Nat) (dv : Value) : Nat → State
  | 0 => s.pushCell (mu_out c L N s.heap.size 0)
  | i + 1 => (Jvm.Free.Multi.fill (mu_fill s c cB cC L N M dv i) cB cC N M dv N).setCell s.heap.size (mu_out c L N s.heap.size (i + 1))
theorem mu_out_facts (c : ClassId) (L N h0 : Nat) : ∀ i, (mu_out c L N h0 i).cls = c ∧ (mu_out c L N h0 i).vm = .none ∧ (mu_out c L N h0 i).slots.size = L
  | 0 => ⟨rfl, rfl, by simp [mu_out]⟩
  | i + 1 => by
    obtain ⟨a, b, d⟩ := mu_out_facts c L N h0 i
    exact ⟨by simp [mu_out, Cell.setSlot, a], by simp [mu_out, Cell.setSlot, b], by simp [mu_out, Cell.setSlot, d]⟩
theorem mu_out_slot (c : ClassId) (L N h0 : Nat) : ∀ i j, j < L → (mu_out c L N h0 i).slots[j]? = some (if j < i then .ref (h0 + 1 + j * (1 + N)) else .null)
  | 0, j, h => by simp [mu_out, h]
  | i + 1, j, h => by
    have ih := mu_out_slot c L N h0 i j h
    have hs := (mu_out_facts c L N h0 i).2.2
    show ((mu_out c L N h0 i).setSlot i (.ref (h0 + 1 + i * (1 + N)))).slots[j]? = _
    simp only [Cell.setSlot, Array.getElem?_setIfInBounds]
    by_cases e : i = j
    · subst e; simp [hs, h]
    · rw [if_neg e, ih]
      by_cases hj : j < i
      · rw [if_pos hj, if_pos (by omega)]
      · rw [if_neg hj, if_neg (by omega)]
theorem mu_facts (s : State) (c cB cC : ClassId) (L N M : Nat) (dv : Value) : ∀ i, (mu_fill s c cB cC L N M dv i).heap.size = s.heap.size + 1 + i * (1 + N) ∧ (mu_fill s c cB cC L N M dv i).heap[s.heap.size]? = some (mu_out c L N s.heap.size i) ∧ (mu_fill s c cB cC L N M dv i).vm = s.vm ∧ (mu_fill s c cB cC L N M dv i).slotsUsed = s.slotsUsed + L + i * (N + N * M)
  | 0 => ⟨by simp [mu_fill], by simp [mu_fill], rfl, by simp [mu_fill, mu_out]⟩
  | i + 1 => by
    obtain ⟨a, b, d, u⟩ := mu_facts s c cB cC L N M dv i
    obtain ⟨a2, b2, d2, u2⟩ := Jvm.Free.Multi.fill_facts (mu_fill s c cB cC L N M dv i) cB cC N M dv N
    have hlt : s.heap.size < (mu_fill s c cB cC L N M dv i).heap.size := by rw [a]; omega
    have hb' : (Jvm.Free.Multi.fill (mu_fill s c cB cC L N M dv i) cB cC N M dv N).heap[s.heap.size]? = some (mu_out c L N s.heap.size i) := by rw [Jvm.Free.Multi.fill_old _ _ _ _ _ _ hlt]; exact b
    refine ⟨?_, State.heap_setCell_self hb', by simp [mu_fill, d2, d], ?_⟩
    · simp only [mu_fill, State.setCell]
      simp only [Array.size_setIfInBounds]
      rw [a2, a, Nat.succ_mul]; omega
    · simp only [mu_fill]
      have : (State.setCell (Jvm.Free.Multi.fill (mu_fill s c cB cC L N M dv i) cB cC N M dv N) s.heap.size (mu_out c L N s.heap.size (i + 1))).slotsUsed = (Jvm.Free.Multi.fill (mu_fill s c cB cC L N M dv i) cB cC N M dv N).slotsUsed := rfl
      rw [this, u2, u, Nat.succ_mul]; omega
theorem mu_old (s : State) (c cB cC : ClassId) (L N M : Nat) (dv : Value) {a : Addr} (ha : a < s.heap.size) : ∀ i, (mu_fill s c cB cC L N M dv i).heap[a]? = s.heap[a]?
  | 0 => State.heap_pushCell_of_lt _ _ ha
  | i + 1 => by
    have f1 := (mu_facts s c cB cC L N M dv i).1
    have hlt : a < (mu_fill s c cB cC L N M dv i).heap.size := Nat.lt_of_lt_of_le ha (by rw [f1]; omega)
    show ((Jvm.Free.Multi.fill (mu_fill s c cB cC L N M dv i) cB cC N M dv N).setCell s.heap.size _).heap[a]? = _
    rw [State.heap_setCell_other (Nat.ne_of_gt ha), Jvm.Free.Multi.fill_old _ _ _ _ _ _ hlt]
    exact mu_old s c cB cC L N M dv ha i
theorem mu_plane (s : State) (c cB cC : ClassId) (L N M : Nat) (dv : Value) : ∀ i j, j < i → (mu_fill s c cB cC L N M dv i).heap[s.heap.size + 1 + j * (1 + N)]? = some (Jvm.Free.Multi.outerC cB N (s.heap.size + 1 + j * (1 + N)) N) ∧ ∀ k, k < N → (mu_fill s c cB cC L N M dv i).heap[s.heap.size + 1 + j * (1 + N) + 1 + k]? = some (Jvm.Free.Multi.innerC cC M dv)
  | 0, _, h => absurd h (Nat.not_lt_zero _)
  | i + 1, j, h => by
    have f1 := (mu_facts s c cB cC L N M dv i).1
    have hun : ∀ q, q ≠ s.heap.size → (mu_fill s c cB cC L N M dv (i + 1)).heap[q]? = (Jvm.Free.Multi.fill (mu_fill s c cB cC L N M dv i) cB cC N M dv N).heap[q]? := fun q hq => State.heap_setCell_other (Ne.symm hq)
    rcases Nat.lt_or_ge j i with hj | hj
    · have hm : (j + 1) * (1 + N) ≤ i * (1 + N) := Nat.mul_le_mul_right _ hj
      rw [Nat.succ_mul] at hm
      obtain ⟨p1, p2⟩ := mu_plane s c cB cC L N M dv i j hj
      refine ⟨?_, fun k hk => ?_⟩
      · have hq : s.heap.size + 1 + j * (1 + N) < (mu_fill s c cB cC L N M dv i).heap.size := by rw [f1]; omega
        rw [hun _ (by omega), Jvm.Free.Multi.fill_old _ _ _ _ _ _ hq]; exact p1
      · have hq : s.heap.size + 1 + j * (1 + N) + 1 + k < (mu_fill s c cB cC L N M dv i).heap.size := by rw [f1]; omega
        rw [hun _ (by omega), Jvm.Free.Multi.fill_old _ _ _ _ _ _ hq]; exact p2 k hk
    · have e : j = i := by omega
      subst e
      refine ⟨?_, fun k hk => ?_⟩
      · rw [hun _ (by omega)]
        have := (Jvm.Free.Multi.fill_facts (mu_fill s c cB cC L N M dv j) cB cC N M dv N).2.1
        rw [f1] at this
        exact this
      · rw [hun _ (by omega)]
        have := Jvm.Free.Multi.fill_inner (mu_fill s c cB cC L N M dv j) cB cC N M dv N k hk
        rw [f1] at this
        exact this
theorem mu_setTop (s : State) (f : JFrame) (c cB cC : ClassId) (L N M : Nat) (dv : Value) : ∀ i, mu_fill (s.setTop f) c cB cC L N M dv i = (mu_fill s c cB cC L N M dv i).setTop f
  | 0 => rfl
  | i + 1 => by simp only [mu_fill, mu_setTop s f c cB cC L N M dv i, State.heap_setTop, Jvm.Free.Multi.fill_setTop, State.setCell_setTop]
theorem mu_wp {E : CtlPost} {e : Env} {d : Bool} {acts : List Action} {s : State} {c cB cC cD : ClassId} {k kB kC : Class} {t0 t1 type : FieldType} {l n m : Int32} (hk : s.vm.classes[c]? = some k) (hkind : k.kind = .array cB t0) (href : t0.isReference = true) (hkB : s.vm.classes[cB]? = some kB) (hkindB : kB.kind = .array cC t1) (href1 : t1.isReference = true) (hkC : s.vm.classes[cC]? = some kC) (hkindC : kC.kind = .array cD type) (hl : ¬ l < 0) (hn : ¬ n < 0) (hm : ¬ m < 0)
    (hl0 : ¬ l.toNatClampNeg > e.platform.arrayLengthLimit) (hh0 : ¬ l.toNatClampNeg * componentBytes t0 > e.platform.maxHeapBytes) (hl1 : ¬ n.toNatClampNeg > e.platform.arrayLengthLimit) (hh1 : ¬ n.toNatClampNeg * componentBytes t1 > e.platform.maxHeapBytes) (hl2 : ¬ m.toNatClampNeg > e.platform.arrayLengthLimit) (hh2 : ¬ m.toNatClampNeg * componentBytes type > e.platform.maxHeapBytes)
    (hdf : fits type (defaultValue type) = true) (hdd : (defaultValue type).isDefault = true)
    (hc : s.heap.size + 1 + l.toNatClampNeg * (1 + n.toNatClampNeg) ≤ e.platform.maxCells) (hs : s.slotsUsed + l.toNatClampNeg + l.toNatClampNeg * (n.toNatClampNeg + n.toNatClampNeg * m.toNatClampNeg) ≤ e.platform.maxSlots)
    {Q : Addr → Pre} (hq : ∀ d' acts', Q s.heap.size d' acts' (mu_fill s c cB cC l.toNatClampNeg n.toNatClampNeg m.toNatClampNeg (defaultValue type) l.toNatClampNeg)) : wp (Op.multianewarray.make c [l, n, m]) Q E e d acts s := by
  have hfind : ([n, m].find? (· < 0)) = none := by simp [hn, hm]
  rw [Op.multianewarray.make]
  simp only [wp_bind', W.ite, hl, if_false, wp_pure', W.theClass, hk, hkind, Option.some.injEq, exists_eq_left']
  refine Jvm.Free.Multi.wp_newArray hk hkind hl0 hh0 (Jvm.Free.Multi.refFits href _ (Or.inl rfl)) rfl (by omega) (by omega) ?_
  simp only [hfind]
  rw [ite_self, wp_bind', Std.Legacy.Range.forIn_eq_forIn_range']
  have hsz : ([:l.toNatClampNeg] : Std.Legacy.Range).size = l.toNatClampNeg := by simp [Std.Legacy.Range.size]
  rw [hsz]
  show wp (forIn (List.range' 0 l.toNatClampNeg 1) PUnit.unit _) _ E e d acts _
  refine wp_forIn_inv (fun rest s' => ∃ i, i ≤ l.toNatClampNeg ∧ rest = List.range' i (l.toNatClampNeg - i) ∧ s' = mu_fill s c cB cC l.toNatClampNeg n.toNatClampNeg m.toNatClampNeg (defaultValue type) i) _ _ ⟨0, Nat.zero_le _, rfl, rfl⟩ ?_ ?_
  · rintro x rest s' d' acts' Q' ⟨i, hi, hlx, rfl⟩ hnext
    have hlt : i < l.toNatClampNeg := by
      rcases Nat.lt_or_ge i l.toNatClampNeg with h | h
      · exact h
      · rw [show l.toNatClampNeg - i = 0 from by omega] at hlx; simp at hlx
    obtain ⟨rfl, hrest⟩ : x = i ∧ rest = List.range' (i + 1) (l.toNatClampNeg - (i + 1)) := by
      rw [show l.toNatClampNeg - i = (l.toNatClampNeg - (i + 1)) + 1 from by omega, List.range'_succ] at hlx
      exact ⟨(List.cons.inj hlx).1, (List.cons.inj hlx).2⟩
    obtain ⟨f1, f2, f3, f4⟩ := mu_facts s c cB cC l.toNatClampNeg n.toNatClampNeg m.toNatClampNeg (defaultValue type) x
    obtain ⟨o1, o2, o3⟩ := mu_out_facts c l.toNatClampNeg n.toNatClampNeg s.heap.size x
    have hmul : x * (1 + n.toNatClampNeg) + (1 + n.toNatClampNeg) ≤ l.toNatClampNeg * (1 + n.toNatClampNeg) := by
      have := Nat.mul_le_mul_right (1 + n.toNatClampNeg) (show x + 1 ≤ l.toNatClampNeg from hlt)
      rw [Nat.succ_mul] at this; exact this
    have hmul2 : x * (n.toNatClampNeg + n.toNatClampNeg * m.toNatClampNeg) + (n.toNatClampNeg + n.toNatClampNeg * m.toNatClampNeg) ≤ l.toNatClampNeg * (n.toNatClampNeg + n.toNatClampNeg * m.toNatClampNeg) := by
      have := Nat.mul_le_mul_right (n.toNatClampNeg + n.toNatClampNeg * m.toNatClampNeg) (show x + 1 ≤ l.toNatClampNeg from hlt)
      rw [Nat.succ_mul] at this; exact this
    simp only [wp_bind']
    refine Jvm.Free.Multi.wp_make2 (by rw [f3]; exact hkB) hkindB href1 (by rw [f3]; exact hkC) hkindC hn hm hl1 hh1 hl2 hh2 hdf hdd (by rw [f1]; omega) (by rw [f4]; omega) (fun d9 acts9 => ?_)
    have hlt0 : s.heap.size < (mu_fill s c cB cC l.toNatClampNeg n.toNatClampNeg m.toNatClampNeg (defaultValue type) x).heap.size := by rw [f1]; omega
    obtain ⟨g1, g2, g3, g4⟩ := Jvm.Free.Multi.fill_facts (mu_fill s c cB cC l.toNatClampNeg n.toNatClampNeg m.toNatClampNeg (defaultValue type) x) cB cC n.toNatClampNeg m.toNatClampNeg (defaultValue type) n.toNatClampNeg
    simp only [wp_bind', W.writeLoc, wp_pure']
    refine ⟨mu_out c l.toNatClampNeg n.toNatClampNeg s.heap.size x, by rw [Jvm.Free.Multi.fill_old _ _ _ _ _ _ hlt0]; exact f2, by rw [o2]; simp, by rw [o3]; exact hlt, ?_, hnext _ _ _ ⟨x + 1, hlt, hrest, ?_⟩⟩
    · rw [o1, o2]
      simp [State.fitsSlot, State.slotType?, g3, f3, hk, hkind, Jvm.Free.Multi.refFits href _ (Or.inr ⟨_, rfl⟩)]
    · rw [f1]; rfl
  · rintro s' d' acts' ⟨i, hi, hlx, rfl⟩
    have hiN : i = l.toNatClampNeg := by
      rcases Nat.lt_or_ge i l.toNatClampNeg with h | h
      · rw [show l.toNatClampNeg - i = (l.toNatClampNeg - (i + 1)) + 1 from by omega, List.range'_succ] at hlx; cases hlx
      · omega
    subst hiN
    simp only [wp_pure']
    exact hq _ _
section
variable {p : Program} {l : Launch} {e : Env} {R : Room} {s : State} {m : MethodId} {args : Array Value} {below : List Frame} {meth : Method} {c : Code} {T : State} {locs : List Loc} {cells slots : Nat}
theorem mu_stand (X : Stand p l e R s m args below meth c T locs cells slots) (cA cB cC : ClassId) (L N M : Nat) (dv : Value) : ∀ i, ∃ J : List Loc, (∀ x ∈ J, T.heap.size ≤ x.base) ∧ Stand p l e R s m args below meth c (mu_fill T cA cB cC L N M dv i) (locs ++ J) (cells + 1 + i * (1 + N)) (slots + L + i * (N + N * M))
  | 0 => by
    have h := X.pushed (mu_out cA L N T.heap.size 0)
    rw [(mu_out_facts cA L N T.heap.size 0).2.2] at h
    exact ⟨[], ⟨fun x hx => absurd hx List.not_mem_nil, by simpa [mu_fill] using h⟩⟩
  | i + 1 => by
    obtain ⟨J, hJ, Xi⟩ := mu_stand X cA cB cC L N M dv i
    obtain ⟨f1, f2, f3, f4⟩ := mu_facts T cA cB cC L N M dv i
    have hlt : T.heap.size < (mu_fill T cA cB cC L N M dv i).heap.size := by rw [f1]; omega
    have X2 := Xi.filled cB cC N M dv N
    have hcell : (Jvm.Free.Multi.fill (mu_fill T cA cB cC L N M dv i) cB cC N M dv N).heap[T.heap.size]? = some (mu_out cA L N T.heap.size i) := by rw [Jvm.Free.Multi.fill_old _ _ _ _ _ _ hlt]; exact f2
    have X3 := X2.stored hcell i (.ref (T.heap.size + 1 + i * (1 + N)))
    refine ⟨(J ++ (List.range N).map fun j => ⟨(mu_fill T cA cB cC L N M dv i).heap.size, j⟩) ++ [⟨T.heap.size, i⟩], fun x hx => ?_, ?_⟩
    · rcases List.mem_append.mp hx with hx | hx
      · rcases List.mem_append.mp hx with hx | hx
        · exact hJ x hx
        · obtain ⟨j, -, rfl⟩ := List.mem_map.mp hx
          exact Nat.le_of_lt hlt
      · rw [List.mem_singleton.mp hx]; exact Nat.le_refl _
    · rw [show cells + 1 + (i + 1) * (1 + N) = cells + 1 + i * (1 + N) + 1 + N by rw [Nat.succ_mul]; omega, show slots + L + (i + 1) * (N + N * M) = slots + L + i * (N + N * M) + N + N * M by rw [Nat.succ_mul]; omega, ← List.append_assoc, ← List.append_assoc]
      exact X3
theorem mu_new3 (X : Stand p l e R s m args below meth c T locs cells slots) (hexec : p.tables.exec = Jvm.exec) {own : String} {index : Nat} {ty : FieldType}
    (hown : s.vm.findClass own = some m.cls) (hclink : (Cond.classLink own index ("[" ++ (FieldType.array (.array ty)).toString)).before args s = true)
    (hover2 : (Cond.arrayOver (.array (.array ty))).before args s = true) (hover : (Cond.arrayOver (.array ty)).before args s = true) (harr : (Cond.arrayClass ty).before args s = true)
    {g : JFrame} (hg : g.method = m) (hdg : decode c.code g.pc = .ok (.multianewarray index 3, 4)) {k0 n k : Int32} {rest : List Value} (hstack : g.stack = .int k :: .int n :: .int k0 :: rest)
    (hk0 : ¬ k0 < 0) (hn : ¬ n < 0) (hk : ¬ k < 0) (hb0 : k0.toNatClampNeg * 4 ≤ 536870912) (hb1 : n.toNatClampNeg * 4 ≤ 536870912) (hb2 : k.toNatClampNeg * componentBytes ty ≤ 536870912) (hb3 : k.toNatClampNeg ≤ 536870912)
    (hdf : fits ty (defaultValue ty) = true) (hdd : (defaultValue ty).isDefault = true)
    (hcells : cells + (1 + k0.toNatClampNeg * (1 + n.toNatClampNeg)) ≤ R.cells) (hslots : slots + (k0.toNatClampNeg + k0.toNatClampNeg * (n.toNatClampNeg + n.toNatClampNeg * k.toNatClampNeg)) ≤ R.slots) :
    ∃ (vm₁ : Vm) (cA cB cC : ClassId), s.WarmedH vm₁ ∧ s.vm.findClass ("[" ++ (FieldType.array (.array ty)).toString) = some cA ∧ s.vm.findClass (FieldType.array (.array ty)).toString = some cB ∧ s.vm.findClass (FieldType.array ty).toString = some cC ∧
      Stand p l e R s m args below meth c (mu_fill (T.setVm vm₁) cA cB cC k0.toNatClampNeg n.toNatClampNeg k.toNatClampNeg (defaultValue ty) k0.toNatClampNeg) locs (cells + 1 + k0.toNatClampNeg * (1 + n.toNatClampNeg)) (slots + k0.toNatClampNeg + k0.toNatClampNeg * (n.toNatClampNeg + n.toNatClampNeg * k.toNatClampNeg)) ∧
      ∀ target, Steps p.tables e below ((mu_fill (T.setVm vm₁) cA cB cC k0.toNatClampNeg n.toNatClampNeg k.toNatClampNeg (defaultValue ty) k0.toNatClampNeg).setTop { g with pc := g.pc + 4, stack := .ref T.heap.size :: rest }) target →
        Steps p.tables e below (T.setTop g) target := by
  subst hg
  have hpl : e.platform.magicAccessors = ({} : Platform).magicAccessors := by rw [X.admits.platform]
  obtain ⟨compA, cA, kA, hcompA, hkA, hkindA, hnameA⟩ := Cond.arrayOver_specA hover2
  obtain ⟨compB, cB, kB, hcompB, hkB, hkindB, hnameB⟩ := Cond.arrayOver_specA hover
  obtain ⟨cC, kC, cD, hcompC, hkC, hkindC⟩ := Cond.arrayClass_spec harr
  have eA : compA = cB := Option.some.inj (hcompA.symm.trans hnameB)
  subst eA
  have eB : compB = cC := Option.some.inj (hcompB.symm.trans hcompC)
  subst eB
  obtain ⟨c0, hfc0, hcl⟩ := Cond.classLink_spec hown hclink e.platform hpl
  cases hnameA.symm.trans hfc0
  obtain ⟨hg₁, hwarm₁, hready₁⟩ := State.classEntry (e := e) X.warmed hcl
  generalize T.vm.noted g.method.cls index (.cls cA) = vm₁ at hg₁ hwarm₁ hready₁
  have hal : s.vm.Alike vm₁ := hwarm₁.alike
  obtain ⟨kA₁, hkA₁, heA⟩ := hal.2.2 _ _ hkA
  obtain ⟨kB₁, hkB₁, heB⟩ := hal.2.2 _ _ hkB
  obtain ⟨kC₁, hkC₁, heC⟩ := hal.2.2 _ _ hkC
  have hkindA₁ : kA₁.kind = .array compA (.array (.array ty)) := by rw [heA]; exact hkindA
  have hkindB₁ : kB₁.kind = .array compB (.array ty) := by rw [heB]; exact hkindB
  have hkindC₁ : kC₁.kind = .array cD ty := by rw [heC]; exact hkindC
  have X₁ := X.noted hwarm₁
  obtain ⟨hr1, hr2⟩ := X.roomAbove hcells hslots
  obtain ⟨J, hJ, XJ⟩ := mu_stand X₁ cA compA compB k0.toNatClampNeg n.toNatClampNeg k.toNatClampNeg (defaultValue ty) k0.toNatClampNeg
  have XF := XJ.dropFresh (fun x hx => Nat.le_trans X₁.heapGrown (hJ x hx))
  refine ⟨vm₁, cA, compA, compB, hwarm₁, hnameA, hcompA, hcompB, XF, fun target hrest => ?_⟩
  have hl0 : ¬ k0.toNatClampNeg > e.platform.arrayLengthLimit := by rw [Launch.admits_arrayLengthLimit X.admits]; omega
  have hh0 : ¬ k0.toNatClampNeg * componentBytes (.array (.array ty)) > e.platform.maxHeapBytes := by
    rw [Launch.admits_maxHeapBytes X.admits]; show ¬ k0.toNatClampNeg * 4 > 536870912; omega
  have hl1 : ¬ n.toNatClampNeg > e.platform.arrayLengthLimit := by rw [Launch.admits_arrayLengthLimit X.admits]; omega
  have hh1 : ¬ n.toNatClampNeg * componentBytes (.array ty) > e.platform.maxHeapBytes := by
    rw [Launch.admits_maxHeapBytes X.admits]; show ¬ n.toNatClampNeg * 4 > 536870912; omega
  have hl2 : ¬ k.toNatClampNeg > e.platform.arrayLengthLimit := by rw [Launch.admits_arrayLengthLimit X.admits]; omega
  have hh2 : ¬ k.toNatClampNeg * componentBytes ty > e.platform.maxHeapBytes := by rw [Launch.admits_maxHeapBytes X.admits]; omega
  jvm_step X.here [hexec, hdg]
  simp only [Op.multianewarray.sem, wp_bind', W.resolveClassAt_links (State.method?_setTop g X.here.top) hg₁]
  rw [W.popN, if_neg (by decide)]
  refine ⟨g, State.topJava?_setTop' (s := T.setVm vm₁) g X.here.top, [.int k0, .int n, .int k], rest, rfl, hstack, ?_⟩
  simp only [List.mapM_cons, List.mapM_nil, wp_bind', wp_pure']
  refine mu_wp (k := kA₁) (kB := kB₁) (kC := kC₁) (cB := compA) (cC := compB) (cD := cD) (t0 := .array (.array ty)) (t1 := .array ty) (type := ty) hkA₁ hkindA₁ rfl hkB₁ hkindB₁ rfl hkC₁ hkindC₁ hk0 hn hk hl0 hh0 hl1 hh1 hl2 hh2 hdf hdd (by show T.heap.size + 1 + _ ≤ _; omega) (by show T.slotsUsed + _ + _ ≤ _; omega) (fun d' acts' => ?_)
  have eS : ((T.setTop g).setVm vm₁).setTop { g with stack := rest } = (T.setVm vm₁).setTop { g with stack := rest } := by
    show ((T.setVm vm₁).setTop g).setTop _ = _
    rw [State.setTop_setTop]
  rw [eS, mu_setTop]
  simp only [wp_bind', W.mark, W.pushRef, State.topJava?_setTop' _ XF.here.top, Option.some.injEq, exists_eq_left', State.setTop_setTop, State.heap_setTop]
  intro acts
  simp [jvm, XF.here.top]
  exact hrest
end
section
variable {p : Program} {l : Launch} {e : Env} {R : Room} {s : State} {m : MethodId} {args : Array Value} {below : List Frame} {meth : Method} {c : Code} {Q : State → Prop} {D : va_G} {κ : FieldType → ClassId} {A : Nat → Prop} {k8 : Nat → pm_E} {a8 : Nat → Nat} {nL : Nat} {ad0 : Nat → Nat} {h0 : pm_H} {cc : ByteArray} {own : String} {pc : Nat} {ls st : List Value} {h : pm_H} {L : Nat} {xs : Nat → Int32}
theorem sn_cA2 (hK : va_K D sn_cl (sn_tys κ) s) {t : FieldType} (ht : t ∈ sn_ats) {cA : ClassId} (h : s.vm.findClass ("[" ++ t.toString) = some cA) : cA = κ t := by
  obtain ⟨t0, h0⟩ := sn_ty_at (κ := κ) ht
  have h2 := (hK.2 t0 _ h0).2
  cases t with
  | object C =>
    obtain ⟨_, _, _, _, _, q⟩ := h2
    exact Option.some.inj (h.symm.trans q)
  | _ => exact Option.some.inj (h.symm.trans h2)
/-- many cells at once: what follows -/
theorem sn_bulkW {ad : Nat → Nat} {H : Heap} {locs : List Loc} {la : Array Slot} {cells slots K sl : Nat} {h2 : pm_H} {T1 : State} {pc2 : Nat} (hA : ∀ q, s.heap.size ≤ q → A q) (hR : sn_R D κ A k8 ad h H) (h8 : ∀ k, k < 8 → ad k = a8 k) (hE : ∀ k, k < h0.1 → ad k = ad0 k) (hS : va_S A s.heap H locs) (hF : sn_F nL h.1 ad ls la) (hs : sn_S h.1 st) (c1 : cells + h0.1 = h.1) (c2 : slots + h0.2.1 = h.2.1) (hK0 : 0 < K) (z1 : h2.1 = h.1 + K) (z3 : h2.2.1 = h.2.1 + sl) (o1 : ∀ q, q < h.1 → h2.2.2 q = h.2.2 q) (o2 : ∀ q, h.1 + K ≤ q → h2.2.2 q = pm_none) (n1 : ∀ j, j < K → sn_e (h.1 + K) (h2.2.2 (h.1 + j)) ∧ sn_t (h2.2.2 (h.1 + j))) (z2 : T1.heap.size = H.size + K) (o3 : ∀ q, q < H.size → T1.heap[q]? = H[q]?) (n2 : ∀ j, j < K → va_at D sn_cl (H.size + j, sn_E κ (sn_adN ad h.1 H.size) (h2.2.2 (h.1 + j))) T1.heap) (X1 : Stand p l e R s m args below meth c T1 locs (cells + K) (slots + sl)) (kk : sn_G p l e R s m args below meth c Q D κ A k8 a8 nL ad0 h0 pc2 ls (.ref h.1 :: st) h2) : ∃ t2, Steps p.tables e below (T1.setTop (F0 m pc2 la (.ref H.size :: st.map (sn_V ad)))) t2 ∧ Q t2 := by
  obtain ⟨hR1, hS1⟩ := sn_bulk hR hA hS z1 o1 o2 n1 z2 o3 n2
  have hid : ∀ k, k < h.1 → sn_adN ad h.1 H.size k = ad k := fun k hk => if_pos hk
  have h8' := hR.1.1
  obtain ⟨t2, a1, b1⟩ := kk (sn_adN ad h.1 H.size) T1.heap locs la (cells + K) (slots + sl) hR1 (fun k hk => by rw [hid k (by omega)]; exact h8 k hk) (fun k hk => by rw [hid k (by omega)]; exact hE k hk) hS1 (sn_F_le (by omega) (sn_F_id hid hF)) (sn_S_cons (sn_v_r (by omega)) (sn_S_le (by omega) hs)) (by omega) (by omega) T1 rfl X1
  refine ⟨t2, ?_, b1⟩
  have es : (.ref h.1 :: st).map (sn_V (sn_adN ad h.1 H.size)) = .ref H.size :: st.map (sn_V ad) := by
    rw [List.map_cons, sn_map_id hid hs]
    show Value.ref (sn_adN ad h.1 H.size h.1) :: _ = _
    unfold sn_adN
    rw [if_neg (by omega), Nat.sub_self]; rfl
  rw [es] at a1
  exact a1
theorem sn_zc {q : Int32} (hq : 0 ≤ q.toInt) : ¬ q < 0 := fun r => by
  have r2 := Int32.lt_iff_toInt_lt.mp r
  rw [show (0 : Int32).toInt = 0 from rfl] at r2
  omega
theorem sn_cb8 (t : FieldType) : componentBytes t ≤ 8 := by cases t <;> first | decide | exact Nat.le_of_ble_eq_true rfl
theorem sg_multi2 {n k : Int32} {ix : Nat} {t : FieldType} (S : CallFix p m c cc nL s args lw_all own) (hK : va_K D sn_cl (sn_tys κ) s) (hA : ∀ q, s.heap.size ≤ q → A q) (hl : Cond.classLink own ix ("[" ++ (FieldType.array t).toString) ∈ lw_all) (ho : va_Nw (.arrayOver (.array t)) s) (hc : Cond.arrayClass t ∈ lw_all) (ht1 : FieldType.array t ∈ sn_ats) (ht : t ∈ sn_ats) (hn : 0 ≤ n.toInt ∧ n.toInt ≤ 1000) (hk : 0 ≤ k.toInt ∧ k.toInt ≤ 1000) (hr : (pm_multi2 t n.toInt.toNat k.toInt.toNat h).1 ≤ h0.1 + R.cells ∧ (pm_multi2 t n.toInt.toNat k.toInt.toNat h).2.1 ≤ h0.2.1 + R.slots) (d : decode cc pc = .ok (.multianewarray ix 2, 4)) (kk : sn_G p l e R s m args below meth c Q D κ A k8 a8 nL ad0 h0 (pc + 4) ls (.ref h.1 :: st) (pm_multi2 t n.toInt.toNat k.toInt.toNat h)) : sn_G p l e R s m args below meth c Q D κ A k8 a8 nL ad0 h0 pc ls (.int k :: .int n :: st) h := by
  intro ad H locs la cells slots hR h8 hE hS hF hs c1 c2
  intro T hT X
  obtain ⟨p1, p2, p3, p4, p5, p6⟩ := pm_multi2_at t n.toInt.toNat k.toInt.toNat h
  rw [p1, p2] at hr
  have hb8 := sn_cb8 t
  have hbm : k.toInt.toNat * componentBytes t ≤ 1000 * 8 := Nat.mul_le_mul (by omega) hb8
  obtain ⟨vm₁, cA, comp, hW, hfA, hfC, -, -, X1, step⟩ := X.multianewarray2F S.1 S.2.2.2.1 (S.2.2.2.2 _ hl) (show (Cond.arrayOver _).before args s = true from ho) (S.2.2.2.2 _ hc) (g := F0 m pc la (.int k :: .int n :: st.map (sn_V ad))) rfl (by rw [S.2.1]; exact d) (n := n) (k := k) (rest := st.map (sn_V ad)) rfl (sn_zc hn.1) (sn_zc hk.1) (by show n.toInt.toNat * 4 ≤ _; omega) (by show k.toInt.toNat * componentBytes t ≤ _; omega) (by show k.toInt.toNat ≤ _; omega) (by cases t <;> rfl) (by cases t <;> rfl) (by show cells + (1 + n.toInt.toNat) ≤ _; omega) (by show slots + (n.toInt.toNat + n.toInt.toNat * k.toInt.toNat) ≤ _; omega)
  have hcA : cA = κ (.array t) := sn_cA2 hK ht1 hfA
  have hcC : comp = κ t := sn_cA2 hK ht hfC
  subst hcA hcC
  have hH : (T.setVm vm₁).heap = H := hT
  obtain ⟨f1, f2, f3, f4⟩ := Jvm.Free.Multi.fill_facts (T.setVm vm₁) (κ (.array t)) (κ t) n.toInt.toNat k.toInt.toNat (defaultValue t) n.toInt.toNat
  have f5 := fun (a : Nat) (ha : a < (T.setVm vm₁).heap.size) => Jvm.Free.Multi.fill_old (T.setVm vm₁) (κ (.array t)) (κ t) n.toInt.toNat k.toInt.toNat (defaultValue t) (a := a) ha n.toInt.toNat
  have f6 := Jvm.Free.Multi.fill_inner (T.setVm vm₁) (κ (.array t)) (κ t) n.toInt.toNat k.toInt.toNat (defaultValue t) n.toInt.toNat
  rw [hH] at f1 f2 f5 f6
  have hnew : ∀ j, sn_adN ad h.1 H.size (h.1 + 1 + j) = H.size + 1 + j := fun j => by
    unfold sn_adN
    rw [if_neg (by omega)]; omega
  have key := sn_bulkW (T1 := Jvm.Free.Multi.fill (T.setVm vm₁) (κ (.array t)) (κ t) n.toInt.toNat k.toInt.toNat (defaultValue t) n.toInt.toNat) (K := 1 + n.toInt.toNat) (sl := n.toInt.toNat + n.toInt.toNat * k.toInt.toNat) (h2 := pm_multi2 t n.toInt.toNat k.toInt.toNat h) hA hR h8 hE hS hF (sn_S_tl (sn_S_tl hs)) c1 c2 (by omega) p1 p2 p3 (fun q hq => (p6 q hq).trans (hR.1.2.2.1 q (by omega))) (fun j hj => ?_) (by rw [f1]; omega) f5 (fun j hj => ?_) ?_ kk
  · obtain ⟨t2, a1, b1⟩ := key
    refine ⟨t2, step t2 ?_, b1⟩
    rw [hT]
    exact a1
  · rcases Nat.eq_zero_or_pos j with rfl | hj0
    · rw [Nat.add_zero, p4]
      refine ⟨fun i q hq => ?_, ht1⟩
      dsimp only at hq
      by_cases hi : i < n.toInt.toNat
      · rw [if_pos hi] at hq; cases hq; omega
      · rw [if_neg hi] at hq; cases hq
    · have := p5 (j - 1) (by omega)
      rw [show h.1 + (1 + (j - 1)) = h.1 + j by omega] at this
      rw [this]
      refine ⟨?_, ht⟩
      cases t <;> first | trivial | (intro i q hq; cases hq)
  · rcases Nat.eq_zero_or_pos j with rfl | hj0
    · rw [Nat.add_zero, Nat.add_zero, p4]
      obtain ⟨g1, g2, g3⟩ := Jvm.Free.Multi.outerC_facts (κ (.array t)) n.toInt.toNat H.size n.toInt.toNat
      rw [sn_outC] at f2
      refine sn_outer_at f2 g3 (fun i hi => ?_)
      rw [Jvm.Free.Multi.outerC_slot _ _ _ _ _ hi, if_pos hi, hnew]
    · have := p5 (j - 1) (by omega)
      rw [show h.1 + (1 + (j - 1)) = h.1 + j by omega] at this
      rw [this]
      refine sn_zero_at ?_ ht
      have := f6 (j - 1) (by omega)
      rw [show H.size + 1 + (j - 1) = H.size + j by omega] at this
      exact this
  · have e1 : cells + (1 + n.toInt.toNat) = cells + 1 + n.toInt.toNat := by omega
    have e2 : slots + (n.toInt.toNat + n.toInt.toNat * k.toInt.toNat) = slots + n.toInt.toNat + n.toInt.toNat * k.toInt.toNat := by omega
    rw [e1, e2]
    exact X1
end
theorem pm_planes_at (t : FieldType) (n m : Nat) : ∀ (k : Nat) (h : pm_H), (pm_planes t n m k h).1 = h.1 + k * (1 + n) ∧ (pm_planes t n m k h).2.1 = h.2.1 + k * (n + n * m) ∧ (∀ q, q < h.1 → (pm_planes t n m k h).2.2 q = h.2.2 q) ∧ (∀ j, j < k → (pm_planes t n m k h).2.2 (h.1 + j * (1 + n)) = pm_outer t n (h.1 + j * (1 + n)) ∧ ∀ i, i < n → (pm_planes t n m k h).2.2 (h.1 + j * (1 + n) + (1 + i)) = .inl (t, m, pm_zero t)) ∧ ∀ q, h.1 + k * (1 + n) ≤ q → (pm_planes t n m k h).2.2 q = h.2.2 q
  | 0, h => ⟨by simp [pm_planes], by simp [pm_planes], fun _ _ => rfl, fun j hj => absurd hj (Nat.not_lt_zero _), fun _ _ => rfl⟩
  | k + 1, h => by
    obtain ⟨b1, b2, b3, b4, b5, b6⟩ := pm_multi2_at t n m h
    obtain ⟨a1, a2, a3, a4, a5⟩ := pm_planes_at t n m k (pm_multi2 t n m h)
    rw [b1] at a1 a3 a4 a5
    rw [b2] at a2
    have hm : (k + 1) * (1 + n) = k * (1 + n) + (1 + n) := Nat.succ_mul _ _
    refine ⟨by show (pm_planes t n m k _).1 = _; rw [a1, hm]; omega, by show (pm_planes t n m k _).2.1 = _; rw [a2, Nat.succ_mul]; omega, fun q hq => (a3 q (by omega)).trans (b3 q hq), fun j hj => ?_, fun q hq => (a5 q (by omega)).trans (b6 q (by omega))⟩
    rcases Nat.eq_zero_or_pos j with rfl | hp
    · refine ⟨?_, fun i hi => ?_⟩
      · rw [Nat.zero_mul, Nat.add_zero]
        exact (a3 _ (by omega)).trans b4
      · rw [Nat.zero_mul, Nat.add_zero]
        exact (a3 _ (by omega)).trans (b5 i hi)
    · obtain ⟨c1, c2⟩ := a4 (j - 1) (by omega)
      have e : h.1 + (1 + n) + (j - 1) * (1 + n) = h.1 + j * (1 + n) := by
        have : j * (1 + n) = (j - 1) * (1 + n) + (1 + n) := by
          rw [← Nat.succ_mul, show (j - 1).succ = j by omega]
        omega
      rw [e] at c1 c2
      exact ⟨c1, c2⟩
def pm_outer3 (t : FieldType) (l n a : Nat) : pm_E := .inl (.array (.array t), l, .inr (.inr (.inr (.inr (fun j => if j < l then some (a + 1 + j * (n + 1)) else none)))))
theorem pm_multi3_at (t : FieldType) (l n m : Nat) (h : pm_H) : (pm_multi3 t l n m h).1 = h.1 + (1 + l * (1 + n)) ∧ (pm_multi3 t l n m h).2.1 = h.2.1 + (l + l * (n + n * m)) ∧ (∀ q, q < h.1 → (pm_multi3 t l n m h).2.2 q = h.2.2 q) ∧ (pm_multi3 t l n m h).2.2 h.1 = pm_outer3 t l n h.1 ∧ (∀ j, j < l → (pm_multi3 t l n m h).2.2 (h.1 + 1 + j * (1 + n)) = pm_outer t n (h.1 + 1 + j * (1 + n)) ∧ ∀ i, i < n → (pm_multi3 t l n m h).2.2 (h.1 + 1 + j * (1 + n) + (1 + i)) = .inl (t, m, pm_zero t)) ∧ ∀ q, h.1 + (1 + l * (1 + n)) ≤ q → (pm_multi3 t l n m h).2.2 q = h.2.2 q := by
  obtain ⟨a1, a2, a3, a4, a5⟩ := pm_planes_at t n m l (pm_new h l (pm_outer3 t l n h.1))
  have e1 : (pm_new h l (pm_outer3 t l n h.1)).1 = h.1 + 1 := rfl
  have e2 : (pm_new h l (pm_outer3 t l n h.1)).2.1 = h.2.1 + l := rfl
  have e3 : ∀ q, q ≠ h.1 → (pm_new h l (pm_outer3 t l n h.1)).2.2 q = h.2.2 q := fun q hq => va_up_ne _ _ hq
  have e4 : (pm_new h l (pm_outer3 t l n h.1)).2.2 h.1 = pm_outer3 t l n h.1 := va_up_self _ _ _
  rw [e1] at a1 a3 a4 a5
  rw [e2] at a2
  exact ⟨by show (pm_planes t n m l (pm_new h l (pm_outer3 t l n h.1))).1 = _; rw [a1]; omega, by show (pm_planes t n m l (pm_new h l (pm_outer3 t l n h.1))).2.1 = _; rw [a2]; omega, fun q hq => (a3 q (by omega)).trans (e3 q (by omega)), (a3 h.1 (by omega)).trans e4, a4, fun q hq => (a5 q (by omega)).trans (e3 q (by omega))⟩
theorem sn_outer3_at {D : va_G} {κ : FieldType → ClassId} {ad : Nat → Nat} {H : Heap} {t : FieldType} {L N q a : Nat} {sl : Array Value} (e : H[q]? = some { cls := κ (.array (.array t)), slots := sl, vm := .none }) (h3 : sl.size = L) (h4 : ∀ j, j < L → sl[j]? = some (.ref (ad (a + 1 + j * (N + 1))))) : va_at D sn_cl (q, sn_E κ ad (pm_outer3 t L N a)) H := by
  show H[q]? = some (vp_cell (κ (.array (.array t))) (L, .inr (.inr (.inr (.inr (fun j => (if j < L then some (a + 1 + j * (N + 1)) else none : Option Nat).map ad))))))
  rw [e]
  refine congrArg some ?_
  have es : sl = Array.ofFn (n := L) fun j => va_rf ((if j.val < L then some (a + 1 + j.val * (N + 1)) else none : Option Nat).map ad) := by
    apply Array.ext
    · simp [h3]
    · intro j g1 g2
      have := h4 j (by omega)
      rw [Array.getElem?_eq_getElem g1] at this
      rw [Option.some.inj this]
      simp at g2
      simp [g2, va_rf]
  rw [es]
  rfl
theorem mu_outC (c : ClassId) (L N h0 : Nat) : ∀ i, mu_out c L N h0 i = { cls := c, slots := (mu_out c L N h0 i).slots, vm := .none }
  | 0 => rfl
  | i + 1 => by
    have ih := mu_outC c L N h0 i
    show (mu_out c L N h0 i).setSlot i _ = { cls := c, slots := ((mu_out c L N h0 i).setSlot i _).slots, vm := .none }
    rw [ih]; rfl
section
variable {p : Program} {l : Launch} {e : Env} {R : Room} {s : State} {m : MethodId} {args : Array Value} {below : List Frame} {meth : Method} {c : Code} {Q : State → Prop} {D : va_G} {κ : FieldType → ClassId} {A : Nat → Prop} {k8 : Nat → pm_E} {a8 : Nat → Nat} {nL : Nat} {ad0 : Nat → Nat} {h0 : pm_H} {cc : ByteArray} {own : String} {pc : Nat} {ls st : List Value} {h : pm_H} {L : Nat} {xs : Nat → Int32} {TX : State → Heap → Prop} {jp : Nat → List Value → List Value → pm_H → pm_R} {hs : List (List Nat × Nat × Nat)} {K : pm_K} {cl : pm_C} {d0 : Nat} {o : Outcome} {h' : pm_H}
theorem sg_multi3 {k0 n k : Int32} {ix : Nat} {t : FieldType} (S : CallFix p m c cc nL s args lw_all own) (hK : va_K D sn_cl (sn_tys κ) s) (hA : ∀ q, s.heap.size ≤ q → A q) (hl : Cond.classLink own ix ("[" ++ (FieldType.array (.array t)).toString) ∈ lw_all) (ho2 : va_Nw (.arrayOver (.array (.array t))) s) (ho : va_Nw (.arrayOver (.array t)) s) (hc : Cond.arrayClass t ∈ lw_all) (ht2 : FieldType.array (.array t) ∈ sn_ats) (ht1 : FieldType.array t ∈ sn_ats) (ht : t ∈ sn_ats) (hk0 : 0 ≤ k0.toInt ∧ k0.toInt ≤ 100) (hn : 0 ≤ n.toInt ∧ n.toInt ≤ 100) (hk : 0 ≤ k.toInt ∧ k.toInt ≤ 100) (hr : (pm_multi3 t k0.toInt.toNat n.toInt.toNat k.toInt.toNat h).1 ≤ h0.1 + R.cells ∧ (pm_multi3 t k0.toInt.toNat n.toInt.toNat k.toInt.toNat h).2.1 ≤ h0.2.1 + R.slots) (d : decode cc pc = .ok (.multianewarray ix 3, 4)) (kk : sn_G p l e R s m args below meth c Q D κ A k8 a8 nL ad0 h0 (pc + 4) ls (.ref h.1 :: st) (pm_multi3 t k0.toInt.toNat n.toInt.toNat k.toInt.toNat h)) : sn_G p l e R s m args below meth c Q D κ A k8 a8 nL ad0 h0 pc ls (.int k :: .int n :: .int k0 :: st) h := by
  intro ad H locs la cells slots hR h8 hE hS hF hs9 c1 c2
  intro T hT X
  obtain ⟨p1, p2, p3, p4, p5, p6⟩ := pm_multi3_at t k0.toInt.toNat n.toInt.toNat k.toInt.toNat h
  rw [p1, p2] at hr
  have hb8 := sn_cb8 t
  have hbm : k.toInt.toNat * componentBytes t ≤ 100 * 8 := Nat.mul_le_mul (by omega) hb8
  obtain ⟨vm₁, cA, cB, cC, hW, hfA, hfB, hfC, X1, step⟩ := mu_new3 X S.1 S.2.2.2.1 (S.2.2.2.2 _ hl) (show (Cond.arrayOver _).before args s = true from ho2) (show (Cond.arrayOver _).before args s = true from ho) (S.2.2.2.2 _ hc) (g := F0 m pc la (.int k :: .int n :: .int k0 :: st.map (sn_V ad))) rfl (by rw [S.2.1]; exact d) (k0 := k0) (n := n) (k := k) (rest := st.map (sn_V ad)) rfl (sn_zc hk0.1) (sn_zc hn.1) (sn_zc hk.1) (by show k0.toInt.toNat * 4 ≤ _; omega) (by show n.toInt.toNat * 4 ≤ _; omega) (by show k.toInt.toNat * componentBytes t ≤ _; omega) (by show k.toInt.toNat ≤ _; omega) (by cases t <;> rfl) (by cases t <;> rfl) (by show cells + (1 + k0.toInt.toNat * (1 + n.toInt.toNat)) ≤ _; omega) (by show slots + (k0.toInt.toNat + k0.toInt.toNat * (n.toInt.toNat + n.toInt.toNat * k.toInt.toNat)) ≤ _; omega)
  have hcA : cA = κ (.array (.array t)) := sn_cA2 hK ht2 hfA
  have hcB : cB = κ (.array t) := sn_cA2 hK ht1 hfB
  have hcC : cC = κ t := sn_cA2 hK ht hfC
  subst hcA hcB hcC
  have hH : (T.setVm vm₁).heap = H := hT
  obtain ⟨f1, f2, f3, f4⟩ := mu_facts (T.setVm vm₁) (κ (.array (.array t))) (κ (.array t)) (κ t) k0.toInt.toNat n.toInt.toNat k.toInt.toNat (defaultValue t) k0.toInt.toNat
  have f5 := fun (a : Nat) (ha : a < (T.setVm vm₁).heap.size) => mu_old (T.setVm vm₁) (κ (.array (.array t))) (κ (.array t)) (κ t) k0.toInt.toNat n.toInt.toNat k.toInt.toNat (defaultValue t) (a := a) ha k0.toInt.toNat
  have f6 := mu_plane (T.setVm vm₁) (κ (.array (.array t))) (κ (.array t)) (κ t) k0.toInt.toNat n.toInt.toNat k.toInt.toNat (defaultValue t) k0.toInt.toNat
  rw [hH] at f1 f2 f5 f6
  have hnew : ∀ j, sn_adN ad h.1 H.size (h.1 + j) = H.size + j := fun j => by
    unfold sn_adN
    rw [if_neg (by omega)]; omega
  have hsplit : ∀ j, j < 1 + k0.toInt.toNat * (1 + n.toInt.toNat) → j = 0 ∨ ∃ a, a < k0.toInt.toNat ∧ (j = 1 + a * (1 + n.toInt.toNat) ∨ ∃ b, b < n.toInt.toNat ∧ j = 1 + a * (1 + n.toInt.toNat) + (1 + b)) := by
    intro j hj
    rcases Nat.eq_zero_or_pos j with h0 | h0
    · exact Or.inl h0
    · refine Or.inr ⟨(j - 1) / (1 + n.toInt.toNat), ?_, ?_⟩
      · exact (Nat.div_lt_iff_lt_mul (by omega)).mpr (by omega)
      · have hd := Nat.div_add_mod (j - 1) (1 + n.toInt.toNat)
        have hml := Nat.mod_lt (j - 1) (show 0 < 1 + n.toInt.toNat by omega)
        rw [Nat.mul_comm] at hd
        rcases Nat.eq_zero_or_pos ((j - 1) % (1 + n.toInt.toNat)) with h1 | h1
        · exact Or.inl (by omega)
        · exact Or.inr ⟨(j - 1) % (1 + n.toInt.toNat) - 1, by omega, by omega⟩
  have key := sn_bulkW (T1 := mu_fill (T.setVm vm₁) (κ (.array (.array t))) (κ (.array t)) (κ t) k0.toInt.toNat n.toInt.toNat k.toInt.toNat (defaultValue t) k0.toInt.toNat) (K := 1 + k0.toInt.toNat * (1 + n.toInt.toNat)) (sl := k0.toInt.toNat + k0.toInt.toNat * (n.toInt.toNat + n.toInt.toNat * k.toInt.toNat)) (h2 := pm_multi3 t k0.toInt.toNat n.toInt.toNat k.toInt.toNat h) hA hR h8 hE hS hF (sn_S_tl (sn_S_tl (sn_S_tl hs9))) c1 c2 (by omega) p1 p2 p3 (fun q hq => (p6 q hq).trans (hR.1.2.2.1 q (by omega))) (fun j hj => ?_) (by rw [f1]; omega) f5 (fun j hj => ?_) ?_ kk
  · obtain ⟨t2, a1, b1⟩ := key
    refine ⟨t2, step t2 ?_, b1⟩
    rw [hT]
    exact a1
  · rcases hsplit j hj with rfl | ⟨a, ha, rfl | ⟨b, hb, rfl⟩⟩
    · rw [Nat.add_zero, p4]
      refine ⟨fun i q hq => ?_, ht2⟩
      dsimp only at hq
      by_cases hi : i < k0.toInt.toNat
      · rw [if_pos hi] at hq; cases hq
        have := Nat.mul_le_mul_right (1 + n.toInt.toNat) (show i + 1 ≤ k0.toInt.toNat from hi)
        rw [Nat.succ_mul] at this
        rw [Nat.add_comm n.toInt.toNat 1]
        omega
      · rw [if_neg hi] at hq; cases hq
    · have hm := Nat.mul_le_mul_right (1 + n.toInt.toNat) (show a + 1 ≤ k0.toInt.toNat from ha)
      rw [Nat.succ_mul] at hm
      have := (p5 a ha).1
      rw [show h.1 + 1 + a * (1 + n.toInt.toNat) = h.1 + (1 + a * (1 + n.toInt.toNat)) by omega] at this
      rw [this]
      refine ⟨fun i q hq => ?_, ht1⟩
      dsimp only at hq
      by_cases hi : i < n.toInt.toNat
      · rw [if_pos hi] at hq; cases hq; omega
      · rw [if_neg hi] at hq; cases hq
    · have := (p5 a ha).2 b hb
      rw [show h.1 + 1 + a * (1 + n.toInt.toNat) + (1 + b) = h.1 + (1 + a * (1 + n.toInt.toNat) + (1 + b)) by omega] at this
      rw [this]
      refine ⟨?_, ht⟩
      cases t <;> first | trivial | (intro i q hq; cases hq)
  · rcases hsplit j hj with rfl | ⟨a, ha, rfl | ⟨b, hb, rfl⟩⟩
    · rw [Nat.add_zero, Nat.add_zero, p4]
      obtain ⟨g1, g2, g3⟩ := mu_out_facts (κ (.array (.array t))) k0.toInt.toNat n.toInt.toNat H.size k0.toInt.toNat
      rw [mu_outC] at f2
      refine sn_outer3_at f2 g3 (fun i hi => ?_)
      rw [mu_out_slot _ _ _ _ _ _ hi, if_pos hi, show h.1 + 1 + i * (n.toInt.toNat + 1) = h.1 + (1 + i * (n.toInt.toNat + 1)) by omega, hnew, Nat.add_comm n.toInt.toNat 1]
      exact congrArg some (congrArg Value.ref (show (_ : Nat) = _ by omega))
    · have := (p5 a ha).1
      rw [show h.1 + 1 + a * (1 + n.toInt.toNat) = h.1 + (1 + a * (1 + n.toInt.toNat)) by omega] at this
      rw [this]
      obtain ⟨g1, g2, g3⟩ := Jvm.Free.Multi.outerC_facts (κ (.array t)) n.toInt.toNat (H.size + 1 + a * (1 + n.toInt.toNat)) n.toInt.toNat
      have f7 := (f6 a ha).1
      rw [show H.size + 1 + a * (1 + n.toInt.toNat) = H.size + (1 + a * (1 + n.toInt.toNat)) by omega] at f7 g1 g2 g3
      rw [sn_outC] at f7
      refine sn_outer_at f7 g3 (fun i hi => ?_)
      rw [Jvm.Free.Multi.outerC_slot _ _ _ _ _ hi, if_pos hi, show h.1 + (1 + a * (1 + n.toInt.toNat)) + 1 + i = h.1 + (1 + a * (1 + n.toInt.toNat) + 1 + i) by omega, hnew]
      exact congrArg some (congrArg Value.ref (show (_ : Nat) = _ by omega))
    · have := (p5 a ha).2 b hb
      rw [show h.1 + 1 + a * (1 + n.toInt.toNat) + (1 + b) = h.1 + (1 + a * (1 + n.toInt.toNat) + (1 + b)) by omega] at this
      rw [this]
      refine sn_zero_at ?_ ht
      have f7 := (f6 a ha).2 b hb
      rw [show H.size + 1 + a * (1 + n.toInt.toNat) + 1 + b = H.size + (1 + a * (1 + n.toInt.toNat) + (1 + b)) by omega] at f7
      exact f7
  · have e1 : cells + (1 + k0.toInt.toNat * (1 + n.toInt.toNat)) = cells + 1 + k0.toInt.toNat * (1 + n.toInt.toNat) := by omega
    have e2 : slots + (k0.toInt.toNat + k0.toInt.toNat * (n.toInt.toNat + n.toInt.toNat * k.toInt.toNat)) = slots + k0.toInt.toNat + k0.toInt.toNat * (n.toInt.toNat + n.toInt.toNat * k.toInt.toNat) := by omega
    rw [e1, e2]
    exact X1
theorem st_multi {lk : lk_T} {x v w : Nat} (S : CallFix p m c cc nL s args lw_all own) (T : lk_sem own lk) (hEnv : sn_Env TX D κ A a8 L xs s) (hk : ∀ ls st g, pm_le h0 g → pm_int jp hs (K ls st g) = some (o, h') → pm_le g h' ∧ sn_G p l e R s m args below meth c Q D κ A k8 a8 nL ad0 h0 (pc + 4) ls st g) (hle : pm_le h0 h) (hroom : h'.1 ≤ h0.1 + R.cells ∧ h'.2.1 ≤ h0.2.1 + R.slots) (hlk : lk_get (32 * x + (9 + 6 * w)) lk.1 = some v) (d : decode cc pc = .ok (.multianewarray x w, 4)) (hrun : pm_int jp hs (pm_st pm_tab cl (.multianewarray v w) K ls st h) = some (o, h')) : sn_G p l e R s m args below meth c Q D κ A k8 a8 nL ad0 h0 pc ls st h := by
  unfold pm_st at hrun
  dsimp only at hrun
  split at hrun
  · rename_i k n s0
    split at hrun
    · rename_i hb
      obtain ⟨q1, q2, q3, q4, q5⟩ := lk_at T (kind := 21) (by decide) hlk
      obtain ⟨b1, b2, -, -, -, -⟩ := pm_multi2_at (pm_aty v) n.toInt.toNat k.toInt.toNat h
      obtain ⟨hg1, kk⟩ := hk _ _ _ (pm_le_tr hle ⟨by show h.1 ≤ (pm_multi2 (pm_aty v) n.toInt.toNat k.toInt.toNat h).1; omega, by show h.2.1 ≤ (pm_multi2 (pm_aty v) n.toInt.toNat k.toInt.toNat h).2.1; omega⟩) hrun
      exact sg_multi2 S hEnv.1 hEnv.2.2.2.2.2.2.2.2.1 q1 (hEnv.2.2.2.1 _ q2 rfl) q3 q4 q5 ⟨hb.2.2.1, hb.2.2.2⟩ ⟨hb.1, hb.2.1⟩ ⟨Nat.le_trans hg1.1 hroom.1, Nat.le_trans hg1.2 hroom.2⟩ d kk
    · cases (show (none : pm_R) = some (o, h') from hrun)
  · rename_i k n k0 s0
    split at hrun
    · rename_i hb
      obtain ⟨q1, q2, q3, q4, q5, q6, q7⟩ := lk_at T (kind := 27) (by decide) hlk
      obtain ⟨b1, b2, -, -, -, -⟩ := pm_multi3_at (pm_aty v) k0.toInt.toNat n.toInt.toNat k.toInt.toNat h
      obtain ⟨hg1, kk⟩ := hk _ _ _ (pm_le_tr hle ⟨by show h.1 ≤ (pm_multi3 (pm_aty v) k0.toInt.toNat n.toInt.toNat k.toInt.toNat h).1; omega, by show h.2.1 ≤ (pm_multi3 (pm_aty v) k0.toInt.toNat n.toInt.toNat k.toInt.toNat h).2.1; omega⟩) hrun
      exact sg_multi3 S hEnv.1 hEnv.2.2.2.2.2.2.2.2.1 q1 (hEnv.2.2.2.1 _ q2 rfl) (hEnv.2.2.2.1 _ q3 rfl) q4 q5 q6 q7 ⟨hb.2.2.2.2.1, hb.2.2.2.2.2⟩ ⟨hb.2.2.1, hb.2.2.2.1⟩ ⟨hb.1, hb.2.1⟩ ⟨Nat.le_trans hg1.1 hroom.1, Nat.le_trans hg1.2 hroom.2⟩ d kk
    · cases (show (none : pm_R) = some (o, h') from hrun)
  · cases (show (none : pm_R) = some (o, h') from hrun)
end
