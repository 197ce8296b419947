/-! ===== SOUNDNESS, 6: what makes cells ===== -/
theorem sn_repl (n : Nat) (v : Value) : Array.replicate n v = Array.ofFn (n := n) fun _ => v := by
  refine Array.ext (by simp) (fun i h1 h2 => by simp)
theorem sn_push {D : va_G} {κ : FieldType → ClassId} {A : Nat → Prop} {k8 : Nat → pm_E} {ad : Nat → Nat} {h : pm_H} {H H1 H0 : Heap} {locs : List Loc} {e : va_E} (hR : sn_R D κ A k8 ad h H) (hA : ∀ q, H0.size ≤ q → A q) (hS : va_S A H0 H locs) (h1 : H1.size = H.size + 1) (h2 : ∀ q, q < H.size → H1[q]? = H[q]?) (he : va_at D sn_cl (H.size, e) H1) : va_P D sn_cl (sn_ws κ ad h ++ [(H.size, e)]) H1 ∧ va_D A (sn_ws κ ad h ++ [(H.size, e)]) ∧ va_S A H0 H1 locs := by
  have hlt : ∀ q ∈ sn_ws κ ad h, q.1 < H.size := fun q hq => by
    obtain ⟨i, hi⟩ := List.getElem?_of_mem hq
    exact (hR.2.1 i q hi).lt
  refine ⟨fun k q hk => ?_, ⟨fun i j x y hi hj hxy => ?_, fun k q hk => ?_⟩, ⟨by rw [h1]; exact Nat.le_succ_of_le hS.1, fun q hq hn => by rw [h2 q (Nat.lt_of_lt_of_le hq hS.1)]; exact hS.2.1 q hq hn, hS.2.2⟩⟩
  · rcases List.mem_append.mp (List.mem_of_getElem? hk) with hm | hm
    · obtain ⟨i, hi⟩ := List.getElem?_of_mem hm
      exact (hR.2.1 i q hi).kept (h2 _ (hlt q hm))
    · rw [List.mem_singleton.mp hm]; exact he
  · have len : ∀ (i : Nat) (x : Nat × va_E), (sn_ws κ ad h ++ [(H.size, e)])[i]? = some x → (i < (sn_ws κ ad h).length ∧ (sn_ws κ ad h)[i]? = some x) ∨ (i = (sn_ws κ ad h).length ∧ x.1 = H.size) := by
      intro i x hx
      rcases Nat.lt_or_ge i (sn_ws κ ad h).length with q | q
      · rw [List.getElem?_append_left q] at hx; exact Or.inl ⟨q, hx⟩
      · rw [List.getElem?_append_right q] at hx
        rcases Nat.eq_zero_or_pos (i - (sn_ws κ ad h).length) with z | z
        · rw [z] at hx; simp at hx; exact Or.inr ⟨by omega, by rw [← hx]⟩
        · rw [List.getElem?_eq_none (by simp; omega)] at hx; cases hx
    rcases len i x hi with ⟨a1, a2⟩ | ⟨a1, a2⟩ <;> rcases len j y hj with ⟨b1, b2⟩ | ⟨b1, b2⟩
    · exact hR.2.2.1.1 i j x y a2 b2 hxy
    · have := hlt x (List.mem_of_getElem? a2); omega
    · have := hlt y (List.mem_of_getElem? b2); omega
    · omega
  · rcases List.mem_append.mp (List.mem_of_getElem? hk) with hm | hm
    · obtain ⟨i, hi⟩ := List.getElem?_of_mem hm
      exact hR.2.2.1.2 i q hi
    · rw [List.mem_singleton.mp hm]; exact hA _ hS.1
section
variable {p : Program} {l : Launch} {e : Env} {R : Room} {s : State} {m : MethodId} {args : Array Value} {below : List Frame} {meth : Method} {c : Code} {Q : State → Prop} {D : va_G} {κ : FieldType → ClassId} {A : Nat → Prop} {k8 : Nat → pm_E} {a8 : Nat → Nat} {nL : Nat} {ad0 : Nat → Nat} {h0 : pm_H} {cc : ByteArray} {own : String} {pc : Nat} {ls st : List Value} {h : pm_H} {L : Nat} {xs : Nat → Int32}
theorem sn_made {ad : Nat → Nat} {H1 : Heap} {locs : List Loc} {la : Array Slot} {cells slots n q : Nat} {e1 : pm_E} {pc2 : Nat} {H : Heap} (hR : sn_R D κ A k8 ad h H) (h8 : ∀ k, k < 8 → ad k = a8 k) (hE : ∀ k, k < h0.1 → ad k = ad0 k) (hF : sn_F nL h.1 ad ls la) (hs : sn_S h.1 st) (c1 : cells + h0.1 = h.1) (c2 : slots + h0.2.1 = h.2.1)
    (he : sn_e (h.1 + 1) e1) (ht : sn_t e1) (hP1 : va_P D sn_cl (sn_ws κ ad h ++ [(q, sn_E κ (va_up ad h.1 q) e1)]) H1) (hD1 : va_D A (sn_ws κ ad h ++ [(q, sn_E κ (va_up ad h.1 q) e1)])) (hS1 : va_S A s.heap H1 locs) (k : sn_G p l e R s m args below meth c Q D κ A k8 a8 nL ad0 h0 pc2 ls (.ref h.1 :: st) (pm_new h n e1)) :
    W p l e R s m args below meth c H1 locs (cells + 1) (slots + n) Q (F0 m pc2 la (.ref q :: st.map (sn_V ad))) := by
  have h8' := hR.1.1
  have hid : ∀ k, k < h.1 → va_up ad h.1 q k = ad k := fun k hk => va_up_ne ad q (by omega)
  have hw : sn_ws κ (va_up ad h.1 q) (pm_new h n e1) = _ := sn_ws_new (κ := κ) (ad := ad) (n := n) (q := q) (e := e1) hR.1
  have kk := k (va_up ad h.1 q) H1 locs la (cells + 1) (slots + n) ⟨sn_h_new hR.1 he ht, by rw [hw]; exact hP1, by rw [hw]; exact hD1, fun a ha => by show va_up h.2.2 h.1 e1 a = _; rw [va_up_ne _ _ (by omega)]; exact hR.2.2.2 a ha⟩
    (fun k hk => by rw [hid k (by omega)]; exact h8 k hk) (fun k hk => by rw [hid k (by omega)]; exact hE k hk) hS1 (sn_F_id hid hF |> sn_F_le (Nat.le_succ _)) (sn_S_cons (sn_v_r (Nat.lt_succ_self _)) (sn_S_le (Nat.le_succ _) hs)) (by show cells + 1 + h0.1 = h.1 + 1; omega) (by show slots + n + h0.2.1 = h.2.1 + n; omega)
  have es : (.ref h.1 :: st).map (sn_V (va_up ad h.1 q)) = .ref q :: st.map (sn_V ad) := by
    rw [List.map_cons, sn_map_id hid hs]
    show Value.ref (va_up ad h.1 q h.1) :: _ = _
    rw [va_up_self]
  rw [es] at kk
  exact kk
theorem sg_new {i c0 : Nat} (S : CallFix p m c cc nL s args lw_all own) (hK : va_K D sn_cl (sn_tys κ) s) (hA : ∀ q, s.heap.size ≤ q → A q) (hc : c0 < 90) (hN : 0 < sn_N c0 ∨ pm_dfl c0 = [])
    (hl : Cond.classLink own i (sn_nm c0) ∈ lw_all) (hi : Cond.instantiable (sn_nm c0) (sn_N c0) ∈ lw_all) (hj : Cond.initialized (sn_nm c0) ∈ lw_all) (hr : h.1 + 1 ≤ h0.1 + R.cells ∧ h.2.1 + (pm_dfl c0).length ≤ h0.2.1 + R.slots) (d : decode cc pc = .ok (.new i, 3)) (k : sn_G p l e R s m args below meth c Q D κ A k8 a8 nL ad0 h0 (pc + 3) ls (.ref h.1 :: st) (pm_new h (pm_dfl c0).length (.inr (c0, pm_dfl c0)))) (h00 : sn_N c0 = (pm_dfl c0).length) : sn_G p l e R s m args below meth c Q D κ A k8 a8 nL ad0 h0 pc ls st h := by
  intro ad H locs la cells slots hR h8 hE hS hF hs c1 c2
  refine va_new (ci := c0) (fs := pm_dfl c0) (N := sn_N c0) S.1 S.2.1 S.2.2.2.2 (sn_in c0 hc) (sn_ty c0) (sn_tyok c0 hc) S.2.2.2.1 (S.2.2.2.2 _ hl) (S.2.2.2.2 _ hi) (S.2.2.2.2 _ hj) hK hR.2.1 hR.2.2.1 hS hA (sn_cl_at hc) (sn_dfl_ok c0 hc) (by omega) (by omega) d (fun q H1 hP1 hD1 hS1 => ?_)
  have ee : sn_E κ (va_up ad h.1 q) (.inr (c0, pm_dfl c0)) = .inr (c0, pm_dfl c0) := by
    show Sum.inr (c0, (pm_dfl c0).map _) = _
    rw [sn_dfl_map]
  rw [h00]
  exact sn_made (e1 := .inr (c0, pm_dfl c0)) hR h8 hE hF hs c1 c2 (fun v hv kk e => absurd e (sn_dfl_nr c0 v hv kk)) ⟨hc, h00.symm⟩ (by rw [ee]; exact hP1) (by rw [ee]; exact hD1) hS1 k
theorem sn_cA (hK : va_K D sn_cl (sn_tys κ) s) {t : FieldType} (ht : t ∈ sn_ats) (hp : ∀ C, t ≠ .object C) {cA : ClassId} (h : s.vm.findClass ("[" ++ t.toString) = some cA) : cA = κ t := by
  obtain ⟨t0, h0⟩ := sn_ty_at (κ := κ) ht
  have h2 := (hK.2 t0 _ h0).2
  cases t with
  | object C => exact absurd rfl (hp C)
  | _ => exact Option.some.inj (h.symm.trans h2)
theorem sg_newarray {n : Int32} {at0 : ArrayType} (S : CallFix p m c cc nL s args lw_all own) (hK : va_K D sn_cl (sn_tys κ) s) (hA : ∀ q, s.heap.size ≤ q → A q) (ht : newarray.typeOf at0 ∈ sn_ats) (hw : Cond.arrayClass (newarray.typeOf at0) ∈ lw_all) (hn : 0 ≤ n.toInt ∧ n.toInt ≤ 1000000) (hr : h.1 + 1 ≤ h0.1 + R.cells ∧ h.2.1 + n.toInt.toNat ≤ h0.2.1 + R.slots) (d : decode cc pc = .ok (.newarray at0, 2))
    (k : sn_G p l e R s m args below meth c Q D κ A k8 a8 nL ad0 h0 (pc + 2) ls (.ref h.1 :: st) (pm_new h n.toInt.toNat (.inl (newarray.typeOf at0, n.toInt.toNat, pm_zero (newarray.typeOf at0))))) : sn_G p l e R s m args below meth c Q D κ A k8 a8 nL ad0 h0 pc ls (.int n :: st) h := by
  intro ad H locs la cells slots hR h8 hE hS hF hs c1 c2
  have hb : n.toInt.toNat * componentBytes (newarray.typeOf at0) ≤ 536870912 := by
    have : componentBytes (newarray.typeOf at0) ≤ 8 := by cases at0 <;> decide
    have h1 : n.toInt.toNat ≤ 1000000 := by omega
    have := Nat.mul_le_mul h1 this
    omega
  refine va_newaK S.1 S.2.1 (S.2.2.2.2 _ hw) rfl d rfl (N := n.toInt.toNat) (by rw [Int32.lt_iff_toInt_lt]; simp; omega) rfl hb (by omega) (by omega) (h := H.size) rfl (fun H' cA e1 e2 e3 e4 e5 => ?_)
  have hcA : cA = κ (newarray.typeOf at0) := sn_cA hK ht (by cases at0 <;> (intro C z; cases z)) e5
  subst hcA
  have hcell : ∀ ad' : Nat → Nat, va_at D sn_cl (H.size, sn_E κ ad' (.inl (newarray.typeOf at0, n.toInt.toNat, pm_zero (newarray.typeOf at0)))) H' := by
    intro ad'
    show H'[H.size]? = some (vp_cell (κ (newarray.typeOf at0)) (n.toInt.toNat, sn_A ad' (pm_zero (newarray.typeOf at0))))
    rw [e1]
    cases at0 <;> rfl
  obtain ⟨hP1, hD1, hS1⟩ := sn_push hR hA hS e2 e3 (hcell (va_up ad h.1 H.size))
  refine sn_made (e1 := .inl (newarray.typeOf at0, n.toInt.toNat, pm_zero (newarray.typeOf at0))) hR h8 hE hF (sn_S_tl hs) c1 c2 ?_ ht hP1 hD1 hS1 k
  cases at0 <;> trivial
theorem sg_anewarray {n : Int32} {i : Nat} {C : String} (S : CallFix p m c cc nL s args lw_all own) (hK : va_K D sn_cl (sn_tys κ) s) (hA : ∀ q, s.heap.size ≤ q → A q) (ht : FieldType.object C ∈ sn_ats) (hl : Cond.classLink own i C ∈ lw_all) (hw : va_AO C s) (hn : 0 ≤ n.toInt ∧ n.toInt ≤ 1000000) (hr : h.1 + 1 ≤ h0.1 + R.cells ∧ h.2.1 + n.toInt.toNat ≤ h0.2.1 + R.slots) (d : decode cc pc = .ok (.anewarray i, 3))
    (k : sn_G p l e R s m args below meth c Q D κ A k8 a8 nL ad0 h0 (pc + 3) ls (.ref h.1 :: st) (pm_new h n.toInt.toNat (.inl (.object C, n.toInt.toNat, pm_zero (.object C))))) : sn_G p l e R s m args below meth c Q D κ A k8 a8 nL ad0 h0 pc ls (.int n :: st) h := by
  intro ad H locs la cells slots hR h8 hE hS hF hs c1 c2
  refine W.anew S.1 S.2.1 S.2.2.2.1 (S.2.2.2.2 _ hl) (va_AO.use hw) rfl d rfl (by rw [Int32.lt_iff_toInt_lt]; simp; omega) (by show n.toInt.toNat * 4 ≤ _; omega) (by omega) (by show slots + n.toInt.toNat ≤ _; omega) (fun cA kA comp e1 e2 e3 e4 => ?_)
  have hcA : cA = κ (.object C) := by
    obtain ⟨t0, h0⟩ := sn_ty_at (κ := κ) ht
    obtain ⟨_, _, _, _, _, q⟩ := (hK.2 t0 _ h0).2
    exact Option.some.inj (e1.symm.trans q)
  subst hcA
  have hcell : ∀ ad' : Nat → Nat, va_at D sn_cl (H.size, sn_E κ ad' (.inl (.object C, n.toInt.toNat, pm_zero (.object C)))) (H.push { cls := κ (.object C), slots := Array.replicate n.toNatClampNeg .null, vm := .none }) := by
    intro ad'
    show (H.push _)[H.size]? = some (arrV (κ (.object C)) n.toInt.toNat (fun _ => .null))
    rw [Array.getElem?_push_size]
    rw [show Array.replicate n.toNatClampNeg Value.null = Array.ofFn (n := n.toInt.toNat) fun _ => Value.null from sn_repl _ _]
    rfl
  obtain ⟨hP1, hD1, hS1⟩ := sn_push (H1 := H.push { cls := κ (.object C), slots := Array.replicate n.toNatClampNeg .null, vm := .none }) hR hA hS (by simp) (fun q hq => by rw [Array.getElem?_push, if_neg (by omega)]) (hcell (va_up ad h.1 H.size))
  exact sn_made (e1 := .inl (.object C, n.toInt.toNat, pm_zero (.object C))) hR h8 hE hF (sn_S_tl hs) c1 c2 (show ∀ (i k : Nat), (none : Option Nat) = some k → k < h.1 + 1 from fun i k e => by cases e) ht hP1 hD1 hS1 k
theorem sg_anewarrayA {n : Int32} {i : Nat} {t : FieldType} (S : CallFix p m c cc nL s args lw_all own) (hK : va_K D sn_cl (sn_tys κ) s) (hA : ∀ q, s.heap.size ≤ q → A q) (ht : FieldType.array t ∈ sn_ats) (hl : Cond.classLink own i (FieldType.array t).toString ∈ lw_all) (hw : va_Nw (.arrayOver (.array t)) s) (hn : 0 ≤ n.toInt ∧ n.toInt ≤ 1000000) (hr : h.1 + 1 ≤ h0.1 + R.cells ∧ h.2.1 + n.toInt.toNat ≤ h0.2.1 + R.slots) (d : decode cc pc = .ok (.anewarray i, 3))
    (k : sn_G p l e R s m args below meth c Q D κ A k8 a8 nL ad0 h0 (pc + 3) ls (.ref h.1 :: st) (pm_new h n.toInt.toNat (.inl (.array t, n.toInt.toNat, pm_zero (.array t))))) : sn_G p l e R s m args below meth c Q D κ A k8 a8 nL ad0 h0 pc ls (.int n :: st) h := by
  intro ad H locs la cells slots hR h8 hE hS hF hs c1 c2
  refine W.anewA S.1 S.2.1 S.2.2.2.1 (S.2.2.2.2 _ hl) hw rfl d rfl (by rw [Int32.lt_iff_toInt_lt]; simp; omega) (by show n.toInt.toNat * 4 ≤ _; omega) (by omega) (by show slots + n.toInt.toNat ≤ _; omega) (fun cA kA comp e1 e2 e3 e4 => ?_)
  have hcA : cA = κ (.array t) := sn_cA hK ht (by intro C z; cases z) e1
  subst hcA
  have hcell : ∀ ad' : Nat → Nat, va_at D sn_cl (H.size, sn_E κ ad' (.inl (.array t, n.toInt.toNat, pm_zero (.array t)))) (H.push { cls := κ (.array t), slots := Array.replicate n.toNatClampNeg .null, vm := .none }) := by
    intro ad'
    show (H.push _)[H.size]? = some (arrV (κ (.array t)) n.toInt.toNat (fun _ => .null))
    rw [Array.getElem?_push_size]
    rw [show Array.replicate n.toNatClampNeg Value.null = Array.ofFn (n := n.toInt.toNat) fun _ => Value.null from sn_repl _ _]
    rfl
  obtain ⟨hP1, hD1, hS1⟩ := sn_push (H1 := H.push { cls := κ (.array t), slots := Array.replicate n.toNatClampNeg .null, vm := .none }) hR hA hS (by simp) (fun q hq => by rw [Array.getElem?_push, if_neg (by omega)]) (hcell (va_up ad h.1 H.size))
  exact sn_made (e1 := .inl (.array t, n.toInt.toNat, pm_zero (.array t))) hR h8 hE hF (sn_S_tl hs) c1 c2 (show ∀ (i k : Nat), (none : Option Nat) = some k → k < h.1 + 1 from fun i k e => by cases e) ht hP1 hD1 hS1 k
end
