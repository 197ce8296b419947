/-! ===== SOUNDNESS, 4: more steps on the heap ===== -/
section
variable {p : Program} {l : Launch} {e : Env} {R : Room} {s : State} {m : MethodId} {args : Array Value} {below : List Frame} {meth : Method} {c : Code} {Q : State → Prop} {D : va_G} {κ : FieldType → ClassId} {A : Nat → Prop} {k8 : Nat → pm_E} {a8 : Nat → Nat} {nL : Nat} {ad0 : Nat → Nat} {h0 : pm_H} {cc : ByteArray} {own : String} {pc : Nat} {ls st : List Value} {h : pm_H} {L : Nat} {xs : Nat → Int32}
theorem sg_laload {a : Nat} {i : Int32} {x : Int64} (S : CallFix p m c cc nL s args lw_all own) (hK : va_K D sn_cl (sn_tys κ) s) (h8k : sn_K8 k8 L xs) (hv : pm_rdL h a i = some x) (d : decode cc pc = .ok (.laload, 1)) (k : sn_G p l e R s m args below meth c Q D κ A k8 a8 nL ad0 h0 (pc + 1) ls (.long x :: st) h) : sn_G p l e R s m args below meth c Q D κ A k8 a8 nL ad0 h0 pc ls (.int i :: .ref a :: st) h := by
  intro ad H locs la cells slots hR h8 hE hS hF hs c1 c2
  have kk := k ad H locs la cells slots hR h8 hE hS hF (sn_S_cons sn_v_l (sn_S_tl (sn_S_tl hs))) c1 c2
  unfold pm_rdL at hv
  split at hv
  · rename_i t n f he
    split at hv
    · rename_i hc
      obtain ⟨hp, hi⟩ := hc
      have hin : vp_in i n := pm_in_vp.mp hi
      cases hv
      subst hp
      have hlt := sn_lt hR.1 he
      rcases Nat.lt_or_ge a 8 with ha | ha
      · rw [hR.2.2.2 a ha] at he
        rcases (show a = 0 ∨ a = 1 ∨ a = 2 ∨ (3 ≤ a) by omega) with rfl | rfl | rfl | h3
        · rw [h8k.1] at he; cases he
        · rw [h8k.2.1] at he; cases he
        · rw [h8k.2.2.1] at he; cases he
        · obtain ⟨n', f', e'⟩ := h8k.2.2.2 a h3 ha
          rw [e'] at he; cases he
      · obtain ⟨t0, ht0⟩ := sn_ty_at (κ := κ) (t := .long) (by decide)
        have hw := sn_ws_at (κ := κ) (ad := ad) ha hlt
        rw [he] at hw
        exact va_lald S.1 S.2.1 hK hR.2.1 (a - 8) t0 hw ht0 hin d kk
    · cases hv
  · cases hv
theorem sg_aaload {a : Nat} {i : Int32} {x : Option Nat} (S : CallFix p m c cc nL s args lw_all own) (hK : va_K D sn_cl (sn_tys κ) s) (h8k : sn_K8 k8 L xs) (hv : pm_rdR h a i = some x) (d : decode cc pc = .ok (.aaload, 1)) (k : sn_G p l e R s m args below meth c Q D κ A k8 a8 nL ad0 h0 (pc + 1) ls (va_rf x :: st) h) : sn_G p l e R s m args below meth c Q D κ A k8 a8 nL ad0 h0 pc ls (.int i :: .ref a :: st) h := by
  intro ad H locs la cells slots hR h8 hE hS hF hs c1 c2
  unfold pm_rdR at hv
  split at hv
  · rename_i t n f he
    split at hv
    · rename_i hc
      obtain ⟨hp, hi⟩ := hc
      have hin : vp_in i n := pm_in_vp.mp hi
      cases hv
      have hlt := sn_lt hR.1 he
      have hwf : sn_v h.1 (va_rf (f i.toInt.toNat)) := by
        intro q eq
        have := hR.1.2.1 a
        rw [he] at this
        cases hf : f i.toInt.toNat with
        | none => rw [hf] at eq; cases eq
        | some z => rw [hf] at eq; cases eq; exact this _ _ hf
      have kk := k ad H locs la cells slots hR h8 hE hS hF (sn_S_cons hwf (sn_S_tl (sn_S_tl hs))) c1 c2
      have hlt2 : i.toNatClampNeg < n := Nat.not_le.mp fun q => hin (Or.inr q)
      rcases Nat.lt_or_ge a 8 with ha | ha
      · rw [hR.2.2.2 a ha] at he
        rcases (show a = 0 ∨ a = 1 ∨ a = 2 ∨ (3 ≤ a) by omega) with rfl | rfl | rfl | h3
        · rw [h8k.1] at he; cases he
        · rw [h8k.2.1] at he; cases he
        · rw [h8k.2.2.1] at he; cases he
          exact absurd hlt2 (Nat.not_lt_zero _)
        · obtain ⟨n', f', e'⟩ := h8k.2.2.2 a h3 ha
          rw [e'] at he; cases he
      · have ht : t ∈ sn_ats := by have := hR.1.2.2.2 a ha hlt; rw [he] at this; exact this
        obtain ⟨t0, ht0⟩ := sn_ty_at (κ := κ) ht
        have hw := sn_ws_at (κ := κ) (ad := ad) ha hlt
        rw [he] at hw
        have ev : sn_V ad (va_rf (f i.toInt.toNat)) = va_rf ((f i.toNatClampNeg).map ad) := by
          show _ = va_rf ((f i.toInt.toNat).map ad)
          cases f i.toInt.toNat <;> rfl
        refine W.aald (v := va_rf ((f i.toNatClampNeg).map ad)) (ty := t) S.1 S.2.1 (hR.2.1 (a - 8) _ hw) ((hK.2 t0 _ ht0).1 n (fun j => va_rf ((f j).map ad))) hp (fun q => by cases q) (by show ¬ (i < 0 ∨ (arrV _ _ _).slots.size ≤ _); rw [arrV_size]; exact hin) (by show (arrV _ _ _).slots[_]? = _; rw [arrV_read _ _ hlt2]) rfl rfl d ?_
        rw [← ev]
        exact kk
    · cases hv
  · cases hv
theorem sg_arraylength {a n : Nat} (S : CallFix p m c cc nL s args lw_all own) (hK : va_K D sn_cl (sn_tys κ) s) (h8k : sn_K8 k8 L xs) (hC : sn_C8 a8 L xs A s) (hv : pm_len h a = some n) (d : decode cc pc = .ok (.arraylength, 1)) (k : sn_G p l e R s m args below meth c Q D κ A k8 a8 nL ad0 h0 (pc + 1) ls (.int (Int32.ofNat n) :: st) h) : sn_G p l e R s m args below meth c Q D κ A k8 a8 nL ad0 h0 pc ls (.ref a :: st) h := by
  intro ad H locs la cells slots hR h8 hE hS hF hs c1 c2
  have kk := k ad H locs la cells slots hR h8 hE hS hF (sn_S_cons sn_v_i (sn_S_tl hs)) c1 c2
  unfold pm_len at hv
  split at hv
  · rename_i t n' x he
    split at hv
    · cases hv
    · rename_i htS
      cases hv
      have hlt := sn_lt hR.1 he
      rcases Nat.lt_or_ge a 8 with ha | ha
      · rw [hR.2.2.2 a ha] at he
        rcases (show a = 0 ∨ a = 1 ∨ a = 2 ∨ 3 ≤ a by omega) with rfl | rfl | rfl | h3
        · rw [h8k.1] at he; cases he
          have q : va_X (ad 0) L xs s s.heap := by rw [h8 0 ha]; exact hC.1.1
          exact va_slen S.1 S.2.1 q (by rw [h8 0 ha]; exact hC.1.2.1) (by rw [h8 0 ha]; exact hC.1.2.2) hS d kk
        · rw [h8k.2.1] at he; cases he
          have q : va_T .char (ad 1) 4 (fun j => .int (sn_let j)) A s s.heap := by rw [h8 1 ha]; exact hC.2.1
          exact va_tlen S.1 S.2.1 q hS rfl d kk
        · rw [h8k.2.2.1] at he; cases he
          have q : va_T (.object "java/lang/Object") (ad 2) 0 (fun _ => .null) A s s.heap := by rw [h8 2 ha]; exact hC.2.2
          exact va_tlen S.1 S.2.1 q hS rfl d kk
        · obtain ⟨n', f', e'⟩ := h8k.2.2.2 a h3 ha
          rw [e'] at he; cases he; exact absurd rfl htS
      · have ht : t ∈ sn_ats := by have := hR.1.2.2.2 a ha hlt; rw [he] at this; exact this
        obtain ⟨t0, ht0⟩ := sn_ty_at (κ := κ) ht
        have hw := sn_ws_at (κ := κ) (ad := ad) ha hlt
        rw [he] at hw
        exact va_alen S.1 S.2.1 hK hR.2.1 (a - 8) t0 hw ht0 rfl d kk
  · cases hv
theorem sg_iastore {a : Nat} {i : Int32} {x : Int32} {h' : pm_H} (S : CallFix p m c cc nL s args lw_all own) (hK : va_K D sn_cl (sn_tys κ) s) (h8k : sn_K8 k8 L xs) (hv : pm_wr pm_wI h a i x = some h') (d : decode cc pc = .ok (.iastore, 1)) (k : sn_G p l e R s m args below meth c Q D κ A k8 a8 nL ad0 h0 (pc + 1) ls st h') : sn_G p l e R s m args below meth c Q D κ A k8 a8 nL ad0 h0 pc ls (.int x :: .int i :: .ref a :: st) h := by
  intro ad H locs la cells slots hR h8 hE hS hF hs c1 c2
  have hs3 := sn_S_tl (sn_S_tl (sn_S_tl hs))
  unfold pm_wr at hv
  split at hv
  · rename_i t n f he
    split at hv
    · rename_i hc
      obtain ⟨hp, hi⟩ := hc
      have hin : vp_in i n := pm_in_vp.mp hi
      have hlt := sn_lt hR.1 he
      rcases Nat.lt_or_ge a 8 with ha | ha
      · rw [hR.2.2.2 a ha] at he
        rcases (show a = 0 ∨ a = 1 ∨ a = 2 ∨ (3 ≤ a) by omega) with rfl | rfl | rfl | h3
        · rw [h8k.1] at he; cases he; exact absurd hp (by decide)
        · rw [h8k.2.1] at he; cases he; exact absurd hp (by decide)
        · rw [h8k.2.2.1] at he; cases he
        · obtain ⟨n', f', e'⟩ := h8k.2.2.2 a h3 ha
          rw [e'] at he; cases he; exact absurd hp (by decide)
      · have ht : t ∈ sn_ats := by have := hR.1.2.2.2 a ha hlt; rw [he] at this; exact this
        obtain ⟨t0, ht0⟩ := sn_ty_at (κ := κ) ht
        have hw := sn_ws_at (κ := κ) (ad := ad) ha hlt
        rw [he] at hw
        · have hp2 : t = .int := by simpa [pm_wI] using hp
          subst hp2
          cases hv
          refine va_iast S.1 S.2.1 hK hR.2.1 hR.2.2.1 hS (a - 8) t0 hw ht0 hin d (fun H1 locs1 hP1 hD1 hS1 => ?_)
          refine k ad H1 locs1 la cells slots ⟨sn_h_up hR.1 hlt (by first | trivial | exact True.intro) (fun _ => ht), ?_, ?_, fun b hb => ?_⟩ h8 hE hS1 hF hs3 c1 c2
          · rw [sn_ws_up ha hlt]; exact hP1
          · rw [sn_ws_up ha hlt]; exact hD1
          · show va_up h.2.2 a _ b = _
            rw [va_up_ne _ _ (by omega)]; exact hR.2.2.2 b hb
    · cases hv
  · cases hv
theorem sg_castore {a : Nat} {i : Int32} {x : Int32} {h' : pm_H} (S : CallFix p m c cc nL s args lw_all own) (hK : va_K D sn_cl (sn_tys κ) s) (h8k : sn_K8 k8 L xs) (hv : pm_wr pm_wC h a i x = some h') (d : decode cc pc = .ok (.castore, 1)) (k : sn_G p l e R s m args below meth c Q D κ A k8 a8 nL ad0 h0 (pc + 1) ls st h') : sn_G p l e R s m args below meth c Q D κ A k8 a8 nL ad0 h0 pc ls (.int x :: .int i :: .ref a :: st) h := by
  intro ad H locs la cells slots hR h8 hE hS hF hs c1 c2
  have hs3 := sn_S_tl (sn_S_tl (sn_S_tl hs))
  unfold pm_wr at hv
  split at hv
  · rename_i t n f he
    split at hv
    · rename_i hc
      obtain ⟨hp, hi⟩ := hc
      have hin : vp_in i n := pm_in_vp.mp hi
      have hlt := sn_lt hR.1 he
      rcases Nat.lt_or_ge a 8 with ha | ha
      · rw [hR.2.2.2 a ha] at he
        rcases (show a = 0 ∨ a = 1 ∨ a = 2 ∨ (3 ≤ a) by omega) with rfl | rfl | rfl | h3
        · rw [h8k.1] at he; cases he; exact absurd hp (by decide)
        · rw [h8k.2.1] at he; cases he; exact absurd hp (by decide)
        · rw [h8k.2.2.1] at he; cases he
        · obtain ⟨n', f', e'⟩ := h8k.2.2.2 a h3 ha
          rw [e'] at he; cases he; exact absurd hp (by decide)
      · have ht : t ∈ sn_ats := by have := hR.1.2.2.2 a ha hlt; rw [he] at this; exact this
        obtain ⟨t0, ht0⟩ := sn_ty_at (κ := κ) ht
        have hw := sn_ws_at (κ := κ) (ad := ad) ha hlt
        rw [he] at hw
        · have hp2 : t = .char := by simpa [pm_wC] using hp
          subst hp2
          cases hv
          refine va_cast S.1 S.2.1 hK hR.2.1 hR.2.2.1 hS (a - 8) t0 hw ht0 hin d (fun H1 locs1 hP1 hD1 hS1 => ?_)
          refine k ad H1 locs1 la cells slots ⟨sn_h_up hR.1 hlt (by first | trivial | exact True.intro) (fun _ => ht), ?_, ?_, fun b hb => ?_⟩ h8 hE hS1 hF hs3 c1 c2
          · rw [sn_ws_up ha hlt]; exact hP1
          · rw [sn_ws_up ha hlt]; exact hD1
          · show va_up h.2.2 a _ b = _
            rw [va_up_ne _ _ (by omega)]; exact hR.2.2.2 b hb
    · cases hv
  · cases hv
theorem sg_sastore {a : Nat} {i : Int32} {x : Int32} {h' : pm_H} (S : CallFix p m c cc nL s args lw_all own) (hK : va_K D sn_cl (sn_tys κ) s) (h8k : sn_K8 k8 L xs) (hv : pm_wr pm_isS h a i x = some h') (d : decode cc pc = .ok (.sastore, 1)) (k : sn_G p l e R s m args below meth c Q D κ A k8 a8 nL ad0 h0 (pc + 1) ls st h') : sn_G p l e R s m args below meth c Q D κ A k8 a8 nL ad0 h0 pc ls (.int x :: .int i :: .ref a :: st) h := by
  intro ad H locs la cells slots hR h8 hE hS hF hs c1 c2
  have hs3 := sn_S_tl (sn_S_tl (sn_S_tl hs))
  unfold pm_wr at hv
  split at hv
  · rename_i t n f he
    split at hv
    · rename_i hc
      obtain ⟨hp, hi⟩ := hc
      have hin : vp_in i n := pm_in_vp.mp hi
      have hlt := sn_lt hR.1 he
      rcases Nat.lt_or_ge a 8 with ha | ha
      · rw [hR.2.2.2 a ha] at he
        rcases (show a = 0 ∨ a = 1 ∨ a = 2 ∨ (3 ≤ a) by omega) with rfl | rfl | rfl | h3
        · rw [h8k.1] at he; cases he; exact absurd hp (by decide)
        · rw [h8k.2.1] at he; cases he; exact absurd hp (by decide)
        · rw [h8k.2.2.1] at he; cases he
        · obtain ⟨n', f', e'⟩ := h8k.2.2.2 a h3 ha
          rw [e'] at he; cases he; exact absurd hp (by decide)
      · have ht : t ∈ sn_ats := by have := hR.1.2.2.2 a ha hlt; rw [he] at this; exact this
        obtain ⟨t0, ht0⟩ := sn_ty_at (κ := κ) ht
        have hw := sn_ws_at (κ := κ) (ad := ad) ha hlt
        rw [he] at hw
        · have hp2 : t = .short := by simpa [pm_isS] using hp
          subst hp2
          cases hv
          refine va_sast S.1 S.2.1 hK hR.2.1 hR.2.2.1 hS (a - 8) t0 hw ht0 hin d (fun H1 locs1 hP1 hD1 hS1 => ?_)
          refine k ad H1 locs1 la cells slots ⟨sn_h_up hR.1 hlt (by first | trivial | exact True.intro) (fun _ => ht), ?_, ?_, fun b hb => ?_⟩ h8 hE hS1 hF hs3 c1 c2
          · rw [sn_ws_up ha hlt]; exact hP1
          · rw [sn_ws_up ha hlt]; exact hD1
          · show va_up h.2.2 a _ b = _
            rw [va_up_ne _ _ (by omega)]; exact hR.2.2.2 b hb
    · cases hv
  · cases hv
theorem sg_bastore {a : Nat} {i : Int32} {x : Int32} {h' : pm_H} (S : CallFix p m c cc nL s args lw_all own) (hK : va_K D sn_cl (sn_tys κ) s) (h8k : sn_K8 k8 L xs) (hv : pm_wr pm_wB h a i x = some h') (d : decode cc pc = .ok (.bastore, 1)) (k : sn_G p l e R s m args below meth c Q D κ A k8 a8 nL ad0 h0 (pc + 1) ls st h') : sn_G p l e R s m args below meth c Q D κ A k8 a8 nL ad0 h0 pc ls (.int x :: .int i :: .ref a :: st) h := by
  intro ad H locs la cells slots hR h8 hE hS hF hs c1 c2
  have hs3 := sn_S_tl (sn_S_tl (sn_S_tl hs))
  unfold pm_wr at hv
  split at hv
  · rename_i t n f he
    split at hv
    · rename_i hc
      obtain ⟨hp, hi⟩ := hc
      have hin : vp_in i n := pm_in_vp.mp hi
      have hlt := sn_lt hR.1 he
      rcases Nat.lt_or_ge a 8 with ha | ha
      · rw [hR.2.2.2 a ha] at he
        rcases (show a = 0 ∨ a = 1 ∨ a = 2 ∨ (3 ≤ a) by omega) with rfl | rfl | rfl | h3
        · rw [h8k.1] at he; cases he; exact absurd hp (by decide)
        · rw [h8k.2.1] at he; cases he; exact absurd hp (by decide)
        · rw [h8k.2.2.1] at he; cases he
        · obtain ⟨n', f', e'⟩ := h8k.2.2.2 a h3 ha
          rw [e'] at he; cases he; exact absurd hp (by decide)
      · have ht : t ∈ sn_ats := by have := hR.1.2.2.2 a ha hlt; rw [he] at this; exact this
        obtain ⟨t0, ht0⟩ := sn_ty_at (κ := κ) ht
        have hw := sn_ws_at (κ := κ) (ad := ad) ha hlt
        rw [he] at hw
        rcases (show t = .byte ∨ t = .boolean by simpa [pm_wB] using hp) with hp2 | hp2
        · subst hp2
          cases hv
          refine va_bast S.1 S.2.1 hK hR.2.1 hR.2.2.1 hS (a - 8) t0 hw ht0 hin d (fun H1 locs1 hP1 hD1 hS1 => ?_)
          refine k ad H1 locs1 la cells slots ⟨sn_h_up hR.1 hlt (by first | trivial | exact True.intro) (fun _ => ht), ?_, ?_, fun b hb => ?_⟩ h8 hE hS1 hF hs3 c1 c2
          · rw [sn_ws_up ha hlt]; exact hP1
          · rw [sn_ws_up ha hlt]; exact hD1
          · show va_up h.2.2 a _ b = _
            rw [va_up_ne _ _ (by omega)]; exact hR.2.2.2 b hb
        · subst hp2
          cases hv
          refine va_zast S.1 S.2.1 hK hR.2.1 hR.2.2.1 hS (a - 8) t0 hw ht0 hin d (fun H1 locs1 hP1 hD1 hS1 => ?_)
          refine k ad H1 locs1 la cells slots ⟨sn_h_up hR.1 hlt (by first | trivial | exact True.intro) (fun _ => ht), ?_, ?_, fun b hb => ?_⟩ h8 hE hS1 hF hs3 c1 c2
          · rw [sn_ws_up ha hlt]; exact hP1
          · rw [sn_ws_up ha hlt]; exact hD1
          · show va_up h.2.2 a _ b = _
            rw [va_up_ne _ _ (by omega)]; exact hR.2.2.2 b hb
    · cases hv
  · cases hv
theorem sg_lastore {a : Nat} {i : Int32} {x : Int64} {h' : pm_H} (S : CallFix p m c cc nL s args lw_all own) (hK : va_K D sn_cl (sn_tys κ) s) (h8k : sn_K8 k8 L xs) (hv : pm_wrL h a i x = some h') (d : decode cc pc = .ok (.lastore, 1)) (k : sn_G p l e R s m args below meth c Q D κ A k8 a8 nL ad0 h0 (pc + 1) ls st h') : sn_G p l e R s m args below meth c Q D κ A k8 a8 nL ad0 h0 pc ls (.long x :: .int i :: .ref a :: st) h := by
  intro ad H locs la cells slots hR h8 hE hS hF hs c1 c2
  have hs3 := sn_S_tl (sn_S_tl (sn_S_tl hs))
  unfold pm_wrL at hv
  split at hv
  · rename_i t n f he
    split at hv
    · rename_i hc
      obtain ⟨hp, hi⟩ := hc
      have hin : vp_in i n := pm_in_vp.mp hi
      have hlt := sn_lt hR.1 he
      rcases Nat.lt_or_ge a 8 with ha | ha
      · rw [hR.2.2.2 a ha] at he
        rcases (show a = 0 ∨ a = 1 ∨ a = 2 ∨ (3 ≤ a) by omega) with rfl | rfl | rfl | h3
        · rw [h8k.1] at he; cases he
        · rw [h8k.2.1] at he; cases he
        · rw [h8k.2.2.1] at he; cases he
        · obtain ⟨n', f', e'⟩ := h8k.2.2.2 a h3 ha
          rw [e'] at he; cases he
      · have ht : t ∈ sn_ats := by have := hR.1.2.2.2 a ha hlt; rw [he] at this; exact this
        obtain ⟨t0, ht0⟩ := sn_ty_at (κ := κ) ht
        have hw := sn_ws_at (κ := κ) (ad := ad) ha hlt
        rw [he] at hw
        · have hp2 : t = .long := hp
          subst hp2
          cases hv
          refine va_last S.1 S.2.1 hK hR.2.1 hR.2.2.1 hS (a - 8) t0 hw ht0 hin d (fun H1 locs1 hP1 hD1 hS1 => ?_)
          refine k ad H1 locs1 la cells slots ⟨sn_h_up hR.1 hlt (by first | trivial | exact True.intro) (fun _ => ht), ?_, ?_, fun b hb => ?_⟩ h8 hE hS1 hF hs3 c1 c2
          · rw [sn_ws_up ha hlt]; exact hP1
          · rw [sn_ws_up ha hlt]; exact hD1
          · show va_up h.2.2 a _ b = _
            rw [va_up_ne _ _ (by omega)]; exact hR.2.2.2 b hb
    · cases hv
  · cases hv
end
