/-! ===== SOUNDNESS, 3: steps on the heap ===== -/
def sn_tys (κ : FieldType → ClassId) : List (ClassId × FieldType) := sn_ats.map fun t => (κ t, t)
theorem sn_ty_at {κ : FieldType → ClassId} {t : FieldType} (h : t ∈ sn_ats) : ∃ t0 : Nat, (sn_tys κ)[t0]? = some (κ t, t) := by
  obtain ⟨i, hi⟩ := List.getElem?_of_mem h
  exact ⟨i, by unfold sn_tys; rw [List.getElem?_map, hi]; rfl⟩
theorem sn_ws_at {κ : FieldType → ClassId} {ad : Nat → Nat} {h : pm_H} {a : Nat} (h1 : 8 ≤ a) (h2 : a < h.1) : (sn_ws κ ad h)[a - 8]? = some (ad a, sn_E κ ad (h.2.2 a)) := by
  unfold sn_ws
  rw [List.getElem?_map, List.getElem?_range (by omega)]
  have e : 8 + (a - 8) = a := by omega
  simp only [Option.map_some, e]
theorem sn_ws_up {κ : FieldType → ClassId} {ad : Nat → Nat} {h : pm_H} {a : Nat} {e : pm_E} (h1 : 8 ≤ a) (h2 : a < h.1) : sn_ws κ ad (pm_up h a e) = (sn_ws κ ad h).set (a - 8) (ad a, sn_E κ ad e) := by
  refine List.ext_getElem? fun i => ?_
  unfold sn_ws pm_up
  simp only
  by_cases hi : i < h.1 - 8
  · rw [List.getElem?_map, List.getElem?_range hi, List.getElem?_set]
    by_cases hia : a - 8 = i
    · subst hia
      have e8 : 8 + (a - 8) = a := by omega
      simp [e8, va_up, hi]
    · rw [if_neg hia, List.getElem?_map, List.getElem?_range hi]
      have : ¬ 8 + i = a := by omega
      simp [va_up, this]
  · rw [List.getElem?_eq_none (by simp; omega), List.getElem?_eq_none (by simp; omega)]
theorem sn_A_id {ad ad' : Nat → Nat} {n : Nat} (he : ∀ k, k < n → ad' k = ad k) {t : FieldType} {m : Nat} {x} (hx : sn_e n (.inl (t, m, x))) : sn_A ad' x = sn_A ad x := by
  rcases x with f | f | f | f | f
  · rfl
  · rfl
  · rfl
  · rfl
  · unfold sn_A
    refine congrArg _ (congrArg _ (congrArg _ (congrArg _ (funext fun i => ?_))))
    cases hf : f i with
    | none => rfl
    | some k => simp [he k (hx i k hf)]
theorem sn_V_id {ad ad' : Nat → Nat} {n : Nat} (he : ∀ k, k < n → ad' k = ad k) {v : Value} (hv : sn_v n v) : sn_V ad' v = sn_V ad v := by
  cases v <;> first | rfl | (exact congrArg Value.ref (he _ (hv _ rfl)))
theorem sn_map_id {ad ad' : Nat → Nat} {n : Nat} (he : ∀ k, k < n → ad' k = ad k) {st : List Value} (hv : sn_S n st) : st.map (sn_V ad') = st.map (sn_V ad) := List.map_congr_left fun v hm => sn_V_id he (hv v hm)
theorem sn_E_id {κ : FieldType → ClassId} {ad ad' : Nat → Nat} {n : Nat} (he : ∀ k, k < n → ad' k = ad k) {e : pm_E} (hv : sn_e n e) : sn_E κ ad' e = sn_E κ ad e := by
  rcases e with ⟨t, m, x⟩ | ⟨c, fs⟩
  · show Sum.inl (κ t, m, sn_A ad' x) = Sum.inl (κ t, m, sn_A ad x)
    rw [sn_A_id he hv]
  · show Sum.inr (c, fs.map (sn_V ad')) = Sum.inr (c, fs.map (sn_V ad))
    rw [sn_map_id he hv]
theorem sn_F_id {nL n : Nat} {ad ad' : Nat → Nat} (he : ∀ k, k < n → ad' k = ad k) {ls : List Value} {la : Array Slot} (h : sn_F nL n ad ls la) : sn_F nL n ad' ls la :=
  ⟨h.1, h.2.1, h.2.2.1, fun j v hj hne => by rw [sn_V_id he (h.2.2.2.2 v (List.mem_of_getElem? hj))]; exact h.2.2.2.1 j v hj hne, h.2.2.2.2⟩
theorem sn_F_le {nL n n' : Nat} {ad : Nat → Nat} (hn : n ≤ n') {ls : List Value} {la : Array Slot} (h : sn_F nL n ad ls la) : sn_F nL n' ad ls la :=
  ⟨h.1, h.2.1, h.2.2.1, h.2.2.2.1, fun v hv => sn_v_le hn (h.2.2.2.2 v hv)⟩
theorem sn_e_le {n m : Nat} (h : n ≤ m) {e : pm_E} (he : sn_e n e) : sn_e m e := by
  rcases e with ⟨t, k, f | f | f | f | f⟩ | ⟨c, fs⟩
  · trivial
  · trivial
  · trivial
  · trivial
  · exact fun i k e => Nat.lt_of_lt_of_le (he i k e) h
  · exact fun v hv => sn_v_le h (he v hv)
theorem sn_ws_new {κ : FieldType → ClassId} {ad : Nat → Nat} {h : pm_H} {n q : Nat} {e : pm_E} (hh : sn_h h) : sn_ws κ (va_up ad h.1 q) (pm_new h n e) = sn_ws κ ad h ++ [(q, sn_E κ (va_up ad h.1 q) e)] := by
  have h8 := hh.1
  have he : ∀ k, k < h.1 → va_up ad h.1 q k = ad k := fun k hk => va_up_ne ad q (by omega)
  unfold sn_ws pm_new
  simp only
  rw [show h.1 + 1 - 8 = (h.1 - 8) + 1 by omega, List.range_succ, List.map_append]
  refine congr (congrArg _ (List.map_congr_left fun i hi => ?_)) ?_
  · have hi := List.mem_range.mp hi
    have hne : 8 + i ≠ h.1 := by omega
    rw [he _ (by omega), va_up_ne _ _ hne, sn_E_id he (hh.2.1 _)]
  · simp only [List.map_cons, List.map_nil, show 8 + (h.1 - 8) = h.1 by omega, va_up_self]
theorem sn_h_up {h : pm_H} {a : Nat} {e : pm_E} (hh : sn_h h) (ha : a < h.1) (he : sn_e h.1 e) (ht : 8 ≤ a → sn_t e) : sn_h (pm_up h a e) := by
  refine ⟨hh.1, fun b => ?_, fun b hb => ?_, fun b h8 hb => ?_⟩
  · show sn_e h.1 (va_up h.2.2 a e b)
    by_cases hq : b = a
    · subst hq; rw [va_up_self]; exact he
    · rw [va_up_ne _ _ hq]; exact hh.2.1 b
  · show va_up h.2.2 a e b = pm_none
    have hb : h.1 ≤ b := hb
    rw [va_up_ne _ _ (by omega)]; exact hh.2.2.1 b hb
  · show sn_t (va_up h.2.2 a e b)
    by_cases hq : b = a
    · subst hq; rw [va_up_self]; exact ht h8
    · rw [va_up_ne _ _ hq]; exact hh.2.2.2 b h8 hb
theorem sn_h_new {h : pm_H} {n : Nat} {e : pm_E} (hh : sn_h h) (he : sn_e (h.1 + 1) e) (ht : sn_t e) : sn_h (pm_new h n e) := by
  have h8 := hh.1
  refine ⟨by show 8 ≤ h.1 + 1; omega, fun b => ?_, fun b hb => ?_, fun b h8 hb => ?_⟩
  · show sn_e (h.1 + 1) (va_up h.2.2 h.1 e b)
    by_cases hq : b = h.1
    · subst hq; rw [va_up_self]; exact he
    · rw [va_up_ne _ _ hq]; exact sn_e_le (Nat.le_succ _) (hh.2.1 b)
  · show va_up h.2.2 h.1 e b = pm_none
    have hb : h.1 + 1 ≤ b := hb
    rw [va_up_ne _ _ (by omega)]; exact hh.2.2.1 b (by omega)
  · show sn_t (va_up h.2.2 h.1 e b)
    by_cases hq : b = h.1
    · subst hq; rw [va_up_self]; exact ht
    · rw [va_up_ne _ _ hq]
      have hb : b < h.1 + 1 := hb
      exact hh.2.2.2 b h8 (by omega)
/-- a cell that holds something lies below the heap's end -/
theorem sn_lt {h : pm_H} (hh : sn_h h) {a : Nat} {t : FieldType} {x : vp_A} (e : h.2.2 a = .inl (t, x)) : a < h.1 := by
  rcases Nat.lt_or_ge a h.1 with q | q
  · exact q
  · rw [hh.2.2.1 a q] at e; cases e
theorem sn_ltr {h : pm_H} (hh : sn_h h) {a c : Nat} {fs : List Value} (hc : c < 90) (e : h.2.2 a = .inr (c, fs)) : a < h.1 := by
  rcases Nat.lt_or_ge a h.1 with q | q
  · exact q
  · rw [hh.2.2.1 a q] at e
    cases e
    omega
theorem sn_cl_i {i : Int32} : i.toNatClampNeg = i.toInt.toNat := rfl
/-- what was there before the law began: the script, the letters, the empty array, the texts -/
def sn_let (j : Nat) : Int32 := ([110, 115, 98, 100] : List Int32).getD j 0
def sn_K8 (k8 : Nat → pm_E) (L : Nat) (xs : Nat → Int32) : Prop := k8 0 = .inl (.object "I", L, .inl xs) ∧ k8 1 = .inl (.object "C", 4, .inl sn_let) ∧ k8 2 = .inl (.object "Z", 0, .inr (.inr (.inr (.inr (fun _ => none))))) ∧ ∀ j, 3 ≤ j → j < 8 → ∃ n f, k8 j = .inl (.object "S", n, .inl f)
def sn_C8 (a8 : Nat → Nat) (L : Nat) (xs : Nat → Int32) (A : Nat → Prop) (s : State) : Prop := (va_X (a8 0) L xs s s.heap ∧ a8 0 < s.heap.size ∧ ¬ A (a8 0)) ∧ va_T .char (a8 1) 4 (fun j => .int (sn_let j)) A s s.heap ∧ va_T (.object "java/lang/Object") (a8 2) 0 (fun _ => .null) A s s.heap
section
variable {p : Program} {l : Launch} {e : Env} {R : Room} {s : State} {m : MethodId} {args : Array Value} {below : List Frame} {meth : Method} {c : Code} {Q : State → Prop} {D : va_G} {κ : FieldType → ClassId} {A : Nat → Prop} {k8 : Nat → pm_E} {a8 : Nat → Nat} {nL : Nat} {ad0 : Nat → Nat} {h0 : pm_H} {cc : ByteArray} {own : String} {pc : Nat} {ls st : List Value} {h : pm_H} {L : Nat} {xs : Nat → Int32}
set_option maxHeartbeats 1000000 in
theorem sg_iaload {a : Nat} {i x : Int32} (S : CallFix p m c cc nL s args lw_all own) (hK : va_K D sn_cl (sn_tys κ) s) (h8k : sn_K8 k8 L xs) (hC : sn_C8 a8 L xs A s) (hv : pm_rd pm_isI h a i = some x) (d : decode cc pc = .ok (.iaload, 1)) (k : sn_G p l e R s m args below meth c Q D κ A k8 a8 nL ad0 h0 (pc + 1) ls (.int x :: st) h) : sn_G p l e R s m args below meth c Q D κ A k8 a8 nL ad0 h0 pc ls (.int i :: .ref a :: st) h := by
  intro ad H locs la cells slots hR h8 hE hS hF hs c1 c2
  have kk := k ad H locs la cells slots hR h8 hE hS hF (sn_S_cons sn_v_i (sn_S_tl (sn_S_tl hs))) c1 c2
  unfold pm_rd at hv
  split at hv
  · rename_i t n f he
    split at hv
    · rename_i hc
      obtain ⟨hp, hi⟩ := hc
      have hin : vp_in i n := pm_in_vp.mp hi
      cases hv
      have hlt := sn_lt hR.1 he
      rcases Nat.lt_or_ge a 8 with ha | ha
      · rw [hR.2.2.2 a ha] at he
        rcases (show a = 0 ∨ a = 1 ∨ a = 2 ∨ (3 ≤ a) by omega) with rfl | rfl | rfl | h3
        · rw [h8k.1] at he; cases he
          have q : va_X (ad 0) L xs s s.heap := by rw [h8 0 ha]; exact hC.1.1
          exact va_sld S.1 S.2.1 q (by rw [h8 0 ha]; exact hC.1.2.1) (by rw [h8 0 ha]; exact hC.1.2.2) hS hin d kk
        · rw [h8k.2.1] at he; cases he
          exact absurd hp (by decide)
        · rw [h8k.2.2.1] at he; cases he
        · obtain ⟨n', f', e'⟩ := h8k.2.2.2 a h3 ha
          rw [e'] at he; cases he
          exact absurd hp (by decide)
      · have ht : t ∈ sn_ats := by have := hR.1.2.2.2 a ha hlt; rw [he] at this; exact this
        obtain ⟨t0, ht0⟩ := sn_ty_at (κ := κ) ht
        have hw := sn_ws_at (κ := κ) (ad := ad) ha hlt
        rw [he] at hw
        have ht2 : t = .int := by
          rcases (show t = .int ∨ t = .object "I" by simpa [pm_isI] using hp) with q | q
          · exact q
          · subst q; exact absurd ht (by decide)
        subst ht2
        exact va_iald S.1 S.2.1 hK hR.2.1 (a - 8) t0 hw ht0 hin d kk
    · cases hv
  · cases hv
set_option maxHeartbeats 1000000 in
theorem sg_caload {a : Nat} {i x : Int32} (S : CallFix p m c cc nL s args lw_all own) (hK : va_K D sn_cl (sn_tys κ) s) (h8k : sn_K8 k8 L xs) (hC : sn_C8 a8 L xs A s) (hv : pm_rd pm_isC h a i = some x) (d : decode cc pc = .ok (.caload, 1)) (k : sn_G p l e R s m args below meth c Q D κ A k8 a8 nL ad0 h0 (pc + 1) ls (.int x :: st) h) : sn_G p l e R s m args below meth c Q D κ A k8 a8 nL ad0 h0 pc ls (.int i :: .ref a :: st) h := by
  intro ad H locs la cells slots hR h8 hE hS hF hs c1 c2
  have kk := k ad H locs la cells slots hR h8 hE hS hF (sn_S_cons sn_v_i (sn_S_tl (sn_S_tl hs))) c1 c2
  unfold pm_rd at hv
  split at hv
  · rename_i t n f he
    split at hv
    · rename_i hc
      obtain ⟨hp, hi⟩ := hc
      have hin : vp_in i n := pm_in_vp.mp hi
      cases hv
      have hlt := sn_lt hR.1 he
      rcases Nat.lt_or_ge a 8 with ha | ha
      · rw [hR.2.2.2 a ha] at he
        rcases (show a = 0 ∨ a = 1 ∨ a = 2 ∨ (3 ≤ a) by omega) with rfl | rfl | rfl | h3
        · rw [h8k.1] at he; cases he
          exact absurd hp (by decide)
        · rw [h8k.2.1] at he; cases he
          have q : va_T .char (ad 1) 4 (fun j => .int (sn_let j)) A s s.heap := by rw [h8 1 ha]; exact hC.2.1
          exact va_tc S.1 S.2.1 q hS hin rfl d kk
        · rw [h8k.2.2.1] at he; cases he
        · obtain ⟨n', f', e'⟩ := h8k.2.2.2 a h3 ha
          rw [e'] at he; cases he
          exact absurd hp (by decide)
      · have ht : t ∈ sn_ats := by have := hR.1.2.2.2 a ha hlt; rw [he] at this; exact this
        obtain ⟨t0, ht0⟩ := sn_ty_at (κ := κ) ht
        have hw := sn_ws_at (κ := κ) (ad := ad) ha hlt
        rw [he] at hw
        have ht2 : t = .char := by
          rcases (show t = .char ∨ t = .object "C" by simpa [pm_isC] using hp) with q | q
          · exact q
          · subst q; exact absurd ht (by decide)
        subst ht2
        exact va_cald S.1 S.2.1 hK hR.2.1 (a - 8) t0 hw ht0 hin d kk
    · cases hv
  · cases hv
set_option maxHeartbeats 1000000 in
theorem sg_saload {a : Nat} {i x : Int32} (S : CallFix p m c cc nL s args lw_all own) (hK : va_K D sn_cl (sn_tys κ) s) (h8k : sn_K8 k8 L xs) (hC : sn_C8 a8 L xs A s) (hv : pm_rd pm_isS h a i = some x) (d : decode cc pc = .ok (.saload, 1)) (k : sn_G p l e R s m args below meth c Q D κ A k8 a8 nL ad0 h0 (pc + 1) ls (.int x :: st) h) : sn_G p l e R s m args below meth c Q D κ A k8 a8 nL ad0 h0 pc ls (.int i :: .ref a :: st) h := by
  intro ad H locs la cells slots hR h8 hE hS hF hs c1 c2
  have kk := k ad H locs la cells slots hR h8 hE hS hF (sn_S_cons sn_v_i (sn_S_tl (sn_S_tl hs))) c1 c2
  unfold pm_rd at hv
  split at hv
  · rename_i t n f he
    split at hv
    · rename_i hc
      obtain ⟨hp, hi⟩ := hc
      have hin : vp_in i n := pm_in_vp.mp hi
      cases hv
      have hlt := sn_lt hR.1 he
      rcases Nat.lt_or_ge a 8 with ha | ha
      · rw [hR.2.2.2 a ha] at he
        rcases (show a = 0 ∨ a = 1 ∨ a = 2 ∨ (3 ≤ a) by omega) with rfl | rfl | rfl | h3
        · rw [h8k.1] at he; cases he
          exact absurd hp (by decide)
        · rw [h8k.2.1] at he; cases he
          exact absurd hp (by decide)
        · rw [h8k.2.2.1] at he; cases he
        · obtain ⟨n', f', e'⟩ := h8k.2.2.2 a h3 ha
          rw [e'] at he; cases he
          exact absurd hp (by decide)
      · have ht : t ∈ sn_ats := by have := hR.1.2.2.2 a ha hlt; rw [he] at this; exact this
        obtain ⟨t0, ht0⟩ := sn_ty_at (κ := κ) ht
        have hw := sn_ws_at (κ := κ) (ad := ad) ha hlt
        rw [he] at hw
        have ht2 : t = .short := by simpa [pm_isS] using hp
        subst ht2
        exact va_sald S.1 S.2.1 hK hR.2.1 (a - 8) t0 hw ht0 hin d kk
    · cases hv
  · cases hv
set_option maxHeartbeats 1000000 in
theorem sg_baload {a : Nat} {i x : Int32} (S : CallFix p m c cc nL s args lw_all own) (hK : va_K D sn_cl (sn_tys κ) s) (h8k : sn_K8 k8 L xs) (hC : sn_C8 a8 L xs A s) (hv : pm_rd pm_isB h a i = some x) (d : decode cc pc = .ok (.baload, 1)) (k : sn_G p l e R s m args below meth c Q D κ A k8 a8 nL ad0 h0 (pc + 1) ls (.int x :: st) h) : sn_G p l e R s m args below meth c Q D κ A k8 a8 nL ad0 h0 pc ls (.int i :: .ref a :: st) h := by
  intro ad H locs la cells slots hR h8 hE hS hF hs c1 c2
  have kk := k ad H locs la cells slots hR h8 hE hS hF (sn_S_cons sn_v_i (sn_S_tl (sn_S_tl hs))) c1 c2
  unfold pm_rd at hv
  split at hv
  · rename_i t n f he
    split at hv
    · rename_i hc
      obtain ⟨hp, hi⟩ := hc
      have hin : vp_in i n := pm_in_vp.mp hi
      cases hv
      have hlt := sn_lt hR.1 he
      rcases Nat.lt_or_ge a 8 with ha | ha
      · rw [hR.2.2.2 a ha] at he
        rcases (show a = 0 ∨ a = 1 ∨ a = 2 ∨ (3 ≤ a) by omega) with rfl | rfl | rfl | h3
        · rw [h8k.1] at he; cases he
          exact absurd hp (by decide)
        · rw [h8k.2.1] at he; cases he
          exact absurd hp (by decide)
        · rw [h8k.2.2.1] at he; cases he
        · obtain ⟨n', f', e'⟩ := h8k.2.2.2 a h3 ha
          rw [e'] at he; cases he
          exact absurd hp (by decide)
      · have ht : t ∈ sn_ats := by have := hR.1.2.2.2 a ha hlt; rw [he] at this; exact this
        obtain ⟨t0, ht0⟩ := sn_ty_at (κ := κ) ht
        have hw := sn_ws_at (κ := κ) (ad := ad) ha hlt
        rw [he] at hw
        rcases (show (t = .byte ∨ t = .boolean) ∨ t = .object "B" by simpa [pm_isB] using hp) with (q | q) | q
        · subst q
          exact va_bald S.1 S.2.1 hK hR.2.1 (a - 8) t0 hw ht0 hin d kk
        · subst q
          exact va_zald S.1 S.2.1 hK hR.2.1 (a - 8) t0 hw ht0 hin d kk
        · subst q; exact absurd ht (by decide)
    · cases hv
  · cases hv
end
