/-! ===== SOUNDNESS, 10: the other kinds of calls; a method's ends ===== -/
section
variable {p : Program} {l : Launch} {e : Env} {R : Room} {s : State} {m : MethodId} {args : Array Value} {below : List Frame} {meth : Method} {c : Code} {Q : State → Prop} {D : va_G} {κ : FieldType → ClassId} {A : Nat → Prop} {k8 : Nat → pm_E} {a8 : Nat → Nat} {nL : Nat} {ad0 : Nat → Nat} {h0 : pm_H} {cc : ByteArray} {own : String} {pc : Nat} {ls st : List Value} {h : pm_H} {L : Nat} {xs : Nat → Int32} {TX : State → Heap → Prop}
theorem sg_callI {as rest : List Value} {a : Nat} {h' : pm_H} {o : Outcome} {y : MethodName} {bytes : ByteArray} {maxL index d0 : Nat} (hTX : sn_TXok TX A) (hEnv : sn_Env TX D κ A a8 L xs s) (S : CallFix p m c cc nL s args lw_all own) (hM : ∀ ad, sn_Met l y (Cond.code y bytes maxL none) d0 TX D κ A k8 a8 L xs ad (.ref a :: as) h h' o)
    (cw : CallB R s args own index y bytes maxL none (Cond.code y bytes maxL none :: lw_all) (sn_rm d0 h h') (h'.1 - h.1) (h'.2.1 - h.2.1) as.length ∧ y.name = "<init>" ∧ (Cond.instanceMethod y).before args s = true) (hle : h0.1 ≤ h.1 ∧ h.1 ≤ h'.1 ∧ h0.2.1 ≤ h.2.1 ∧ h.2.1 ≤ h'.2.1) (hcat : pm_cats rest ≤ 8) (hroom : h'.1 ≤ h0.1 + R.cells ∧ h'.2.1 ≤ h0.2.1 + R.slots) (d : decode cc pc = .ok (.invokespecial index, 3))
    (kr : ∀ v, o = .returned v → sn_G p l e R s m args below meth c Q D κ A k8 a8 nL ad0 h0 (pc + 3) ls (v.toList ++ rest) h') (kx : ∀ c0, o = .threw c0 → sn_Gx p l e R s m args below meth c Q D κ A k8 a8 nL ad0 h0 pc ls c0 h') : sn_G p l e R s m args below meth c Q D κ A k8 a8 nL ad0 h0 pc ls (as.reverse ++ .ref a :: rest) h := by
  refine sg_run (aa := #[]) hle (fun hs v hv => hs v (List.mem_append_right _ (List.mem_cons_of_mem _ hv))) (fun ad H locs la cells slots hR h8 hE hS hF hs c1 c2 => ?_) kr kx
  have has : sn_S h.1 (.ref a :: as) := fun v hv => by
    rcases List.mem_cons.mp hv with rfl | q
    · exact hs _ (List.mem_append_right _ List.mem_cons_self)
    · exact hs v (List.mem_append_left _ (List.mem_reverse.mpr q))
  refine ⟨_, vx_runI (As := as.map (sn_V ad)) (b := ad a) S (hM ad) cw ⟨sn_blind hTX, fun U hU hW => sn_pre hTX hEnv hR h8 hS has hU hW⟩ rfl (by simp) hF.2.1 (by simp [List.map_append, List.map_reverse, sn_V]) ?_ d ⟨by omega, by omega⟩⟩
  rw [sn_cats]; show 2 * 0 + _ ≤ 8; omega
theorem sg_callIN {as rest : List Value} {a : Nat} {h' : pm_H} {o : Outcome} {y : MethodName} {bytes : ByteArray} {maxL index d0 : Nat} {host : String} (hTX : sn_TXok TX A) (hEnv : sn_Env TX D κ A a8 L xs s) (S : CallFix p m c cc nL s args lw_all own) (hM : ∀ ad, sn_Met l y (Cond.code y bytes maxL none) d0 TX D κ A k8 a8 L xs ad (.ref a :: as) h h' o)
    (cw : va_CN R s args own index y host bytes maxL none (Cond.code y bytes maxL none :: lw_all) (sn_rm d0 h h') (h'.1 - h.1) (h'.2.1 - h.2.1) as.length ∧ y.name = "<init>" ∧ (Cond.instanceMethod y).before args s = true) (hle : h0.1 ≤ h.1 ∧ h.1 ≤ h'.1 ∧ h0.2.1 ≤ h.2.1 ∧ h.2.1 ≤ h'.2.1) (hcat : pm_cats rest ≤ 8) (hroom : h'.1 ≤ h0.1 + R.cells ∧ h'.2.1 ≤ h0.2.1 + R.slots) (d : decode cc pc = .ok (.invokespecial index, 3))
    (kr : ∀ v, o = .returned v → sn_G p l e R s m args below meth c Q D κ A k8 a8 nL ad0 h0 (pc + 3) ls (v.toList ++ rest) h') (kx : ∀ c0, o = .threw c0 → sn_Gx p l e R s m args below meth c Q D κ A k8 a8 nL ad0 h0 pc ls c0 h') : sn_G p l e R s m args below meth c Q D κ A k8 a8 nL ad0 h0 pc ls (as.reverse ++ .ref a :: rest) h := by
  refine sg_run (aa := #[]) hle (fun hs v hv => hs v (List.mem_append_right _ (List.mem_cons_of_mem _ hv))) (fun ad H locs la cells slots hR h8 hE hS hF hs c1 c2 => ?_) kr kx
  have has : sn_S h.1 (.ref a :: as) := fun v hv => by
    rcases List.mem_cons.mp hv with rfl | q
    · exact hs _ (List.mem_append_right _ List.mem_cons_self)
    · exact hs v (List.mem_append_left _ (List.mem_reverse.mpr q))
  refine ⟨_, vx_runIN (As := as.map (sn_V ad)) (b := ad a) S (hM ad) cw ⟨sn_blind hTX, fun U hU hW => sn_pre hTX hEnv hR h8 hS has hU hW⟩ rfl (by simp) hF.2.1 (by simp [List.map_append, List.map_reverse, sn_V]) ?_ d ⟨by omega, by omega⟩⟩
  rw [sn_cats]; show 2 * 0 + _ ≤ 8; omega
theorem sg_callVN {as rest : List Value} {a c0 : Nat} {h' : pm_H} {o : Outcome} {y : MethodName} {bytes : ByteArray} {maxL index d0 : Nat} {ret : Option FieldType} {host : String} (hTX : sn_TXok TX A) (hEnv : sn_Env TX D κ A a8 L xs s) (S : CallFix p m c cc nL s args lw_all own) (h8k : sn_K8 k8 L xs) (h1 : pm_cls h a = some c0) (hc0 : c0 < 90) (hM : ∀ ad, sn_Met l y (Cond.code y bytes maxL ret) d0 TX D κ A k8 a8 L xs ad (.ref a :: as) h h' o)
    (cw : va_CN R s args own index y host bytes maxL ret (Cond.code y bytes maxL ret :: lw_all) (sn_rm d0 h h') (h'.1 - h.1) (h'.2.1 - h.2.1) as.length ∧ (Cond.instanceMethod y).before args s = true ∧ (Cond.selects (sn_nm c0) y y).before args s = true) (hle : h0.1 ≤ h.1 ∧ h.1 ≤ h'.1 ∧ h0.2.1 ≤ h.2.1 ∧ h.2.1 ≤ h'.2.1) (hcat : pm_cats rest ≤ 8) (hroom : h'.1 ≤ h0.1 + R.cells ∧ h'.2.1 ≤ h0.2.1 + R.slots) (d : decode cc pc = .ok (.invokevirtual index, 3))
    (kr : ∀ v, o = .returned v → sn_G p l e R s m args below meth c Q D κ A k8 a8 nL ad0 h0 (pc + 3) ls (v.toList ++ rest) h') (kx : ∀ c0, o = .threw c0 → sn_Gx p l e R s m args below meth c Q D κ A k8 a8 nL ad0 h0 pc ls c0 h') : sn_G p l e R s m args below meth c Q D κ A k8 a8 nL ad0 h0 pc ls (as.reverse ++ .ref a :: rest) h := by
  refine sg_run (aa := #[]) hle (fun hs v hv => hs v (List.mem_append_right _ (List.mem_cons_of_mem _ hv))) (fun ad H locs la cells slots hR h8 hE hS hF hs c1 c2 => ?_) kr kx
  have has : sn_S h.1 (.ref a :: as) := fun v hv => by
    rcases List.mem_cons.mp hv with rfl | q
    · exact hs _ (List.mem_append_right _ List.mem_cons_self)
    · exact hs v (List.mem_append_left _ (List.mem_reverse.mpr q))
  obtain ⟨cell, q1, q2, q3⟩ := sn_obj hEnv.1 h8k hR h1 hc0
  refine ⟨_, vx_runVN (As := as.map (sn_V ad)) (b := ad a) S (hM ad) cw ⟨sn_blind hTX, ⟨cell, q1, by rw [q2]; rfl, q3⟩, fun U hU hW => sn_pre hTX hEnv hR h8 hS has hU hW⟩ rfl (by simp) hF.2.1 (by simp [List.map_append, List.map_reverse, sn_V]) ?_ d ⟨by omega, by omega⟩⟩
  rw [sn_cats]; show 2 * 0 + _ ≤ 8; omega
theorem sg_callSN {as rest : List Value} {h' : pm_H} {o : Outcome} {y : MethodName} {bytes : ByteArray} {maxL index d0 : Nat} {ret : Option FieldType} {host : String} (hTX : sn_TXok TX A) (hEnv : sn_Env TX D κ A a8 L xs s) (S : CallFix p m c cc nL s args lw_all own) (hM : ∀ ad, sn_Met l y (Cond.code y bytes maxL ret) d0 TX D κ A k8 a8 L xs ad as h h' o)
    (cw : va_CN R s args own index y host bytes maxL ret (Cond.code y bytes maxL ret :: lw_all) (sn_rm d0 h h') (h'.1 - h.1) (h'.2.1 - h.2.1) as.length ∧ (Cond.static y).before args s = true ∧ True) (hle : h0.1 ≤ h.1 ∧ h.1 ≤ h'.1 ∧ h0.2.1 ≤ h.2.1 ∧ h.2.1 ≤ h'.2.1) (hcat : pm_cats rest ≤ 8) (hroom : h'.1 ≤ h0.1 + R.cells ∧ h'.2.1 ≤ h0.2.1 + R.slots) (d : decode cc pc = .ok (.invokestatic index, 3))
    (kr : ∀ v, o = .returned v → sn_G p l e R s m args below meth c Q D κ A k8 a8 nL ad0 h0 (pc + 3) ls (v.toList ++ rest) h') (kx : ∀ c0, o = .threw c0 → sn_Gx p l e R s m args below meth c Q D κ A k8 a8 nL ad0 h0 pc ls c0 h') : sn_G p l e R s m args below meth c Q D κ A k8 a8 nL ad0 h0 pc ls (as.reverse ++ rest) h := by
  refine sg_run (aa := #[]) hle (fun hs v hv => hs v (List.mem_append_right _ hv)) (fun ad H locs la cells slots hR h8 hE hS hF hs c1 c2 => ?_) kr kx
  have has : sn_S h.1 as := fun v hv => hs v (List.mem_append_left _ (List.mem_reverse.mpr hv))
  refine ⟨_, vx_runSN S (hM ad) cw ⟨sn_blind hTX, fun U hU hW => sn_pre hTX hEnv hR h8 hS has hU hW⟩ rfl (by simp) hF.2.1 (by simp [List.map_append, List.map_reverse]) ?_ d ⟨by omega, by omega⟩⟩
  rw [sn_cats]; show 2 * 0 + _ ≤ 8; omega
theorem sg_callVX {as rest : List Value} {a c0 : Nat} {h' : pm_H} {o : Outcome} {y : MethodName} {bytes : ByteArray} {maxL index d0 : Nat} {ret : Option FieldType} {hh : List (Nat × Nat × Nat × Nat)} (hTX : sn_TXok TX A) (hEnv : sn_Env TX D κ A a8 L xs s) (S : CallFix p m c cc nL s args lw_all own) (h8k : sn_K8 k8 L xs) (h1 : pm_cls h a = some c0) (hc0 : c0 < 90) (hM : ∀ ad, sn_Met l y (Cond.codeWith y bytes maxL ret hh) d0 TX D κ A k8 a8 L xs ad (.ref a :: as) h h' o)
    (cw : vx_CVW R s args own (sn_nm c0) index y bytes maxL ret hh (Cond.codeWith y bytes maxL ret hh :: lw_all) (sn_rm d0 h h') (h'.1 - h.1) (h'.2.1 - h.2.1) as.length) (hle : h0.1 ≤ h.1 ∧ h.1 ≤ h'.1 ∧ h0.2.1 ≤ h.2.1 ∧ h.2.1 ≤ h'.2.1) (hcat : pm_cats rest ≤ 8) (hroom : h'.1 ≤ h0.1 + R.cells ∧ h'.2.1 ≤ h0.2.1 + R.slots) (d : decode cc pc = .ok (.invokevirtual index, 3))
    (kr : ∀ v, o = .returned v → sn_G p l e R s m args below meth c Q D κ A k8 a8 nL ad0 h0 (pc + 3) ls (v.toList ++ rest) h') (kx : ∀ c0, o = .threw c0 → sn_Gx p l e R s m args below meth c Q D κ A k8 a8 nL ad0 h0 pc ls c0 h') : sn_G p l e R s m args below meth c Q D κ A k8 a8 nL ad0 h0 pc ls (as.reverse ++ .ref a :: rest) h := by
  refine sg_run (aa := #[]) hle (fun hs v hv => hs v (List.mem_append_right _ (List.mem_cons_of_mem _ hv))) (fun ad H locs la cells slots hR h8 hE hS hF hs c1 c2 => ?_) kr kx
  have has : sn_S h.1 (.ref a :: as) := fun v hv => by
    rcases List.mem_cons.mp hv with rfl | q
    · exact hs _ (List.mem_append_right _ List.mem_cons_self)
    · exact hs v (List.mem_append_left _ (List.mem_reverse.mpr q))
  obtain ⟨cell, q1, q2, q3⟩ := sn_obj hEnv.1 h8k hR h1 hc0
  refine ⟨_, vx_runVX (As := as.map (sn_V ad)) (b := ad a) S (hM ad) cw ⟨sn_blind hTX, ⟨cell, q1, by rw [q2]; rfl, q3⟩, fun U hU hW => sn_pre hTX hEnv hR h8 hS has hU hW⟩ rfl (by simp) hF.2.1 (by simp [List.map_append, List.map_reverse, sn_V]) ?_ d ⟨by omega, by omega⟩⟩
  rw [sn_cats]; show 2 * 0 + _ ≤ 8; omega
theorem sg_callSX {as rest : List Value} {h' : pm_H} {o : Outcome} {y : MethodName} {bytes : ByteArray} {maxL index d0 : Nat} {ret : Option FieldType} {hh : List (Nat × Nat × Nat × Nat)} (hTX : sn_TXok TX A) (hEnv : sn_Env TX D κ A a8 L xs s) (S : CallFix p m c cc nL s args lw_all own) (hM : ∀ ad, sn_Met l y (Cond.codeWith y bytes maxL ret hh) d0 TX D κ A k8 a8 L xs ad as h h' o)
    (cw : vx_CSW R s args own index y bytes maxL ret hh (Cond.codeWith y bytes maxL ret hh :: lw_all) (sn_rm d0 h h') (h'.1 - h.1) (h'.2.1 - h.2.1) as.length) (hle : h0.1 ≤ h.1 ∧ h.1 ≤ h'.1 ∧ h0.2.1 ≤ h.2.1 ∧ h.2.1 ≤ h'.2.1) (hcat : pm_cats rest ≤ 8) (hroom : h'.1 ≤ h0.1 + R.cells ∧ h'.2.1 ≤ h0.2.1 + R.slots) (d : decode cc pc = .ok (.invokestatic index, 3))
    (kr : ∀ v, o = .returned v → sn_G p l e R s m args below meth c Q D κ A k8 a8 nL ad0 h0 (pc + 3) ls (v.toList ++ rest) h') (kx : ∀ c0, o = .threw c0 → sn_Gx p l e R s m args below meth c Q D κ A k8 a8 nL ad0 h0 pc ls c0 h') : sn_G p l e R s m args below meth c Q D κ A k8 a8 nL ad0 h0 pc ls (as.reverse ++ rest) h := by
  refine sg_run (aa := #[]) hle (fun hs v hv => hs v (List.mem_append_right _ hv)) (fun ad H locs la cells slots hR h8 hE hS hF hs c1 c2 => ?_) kr kx
  have has : sn_S h.1 as := fun v hv => hs v (List.mem_append_left _ (List.mem_reverse.mpr hv))
  refine ⟨_, vx_runSX S (hM ad) cw ⟨sn_blind hTX, fun U hU hW => sn_pre hTX hEnv hR h8 hS has hU hW⟩ rfl (by simp) hF.2.1 (by simp [List.map_append, List.map_reverse]) ?_ d ⟨by omega, by omega⟩⟩
  rw [sn_cats]; show 2 * 0 + _ ≤ 8; omega
theorem sg_callU {as rest : List Value} {a c0 : Nat} {h' : pm_H} {o : Outcome} {y : MethodName} {bytes : ByteArray} {maxL index d0 : Nat} {ret : Option FieldType} {x : MethodName} {owner : String} (hTX : sn_TXok TX A) (hEnv : sn_Env TX D κ A a8 L xs s) (S : CallFix p m c cc nL s args lw_all own) (h8k : sn_K8 k8 L xs) (h1 : pm_cls h a = some c0) (hc0 : c0 < 90) (hM : ∀ ad, sn_Met l y (Cond.code y bytes maxL ret) d0 TX D κ A k8 a8 L xs ad (.ref a :: as) h h' o)
    (cw : va_CU R s args own (sn_nm c0) owner index x y bytes maxL ret (Cond.code y bytes maxL ret :: lw_all) (sn_rm d0 h h') (h'.1 - h.1) (h'.2.1 - h.2.1) as.length) (hle : h0.1 ≤ h.1 ∧ h.1 ≤ h'.1 ∧ h0.2.1 ≤ h.2.1 ∧ h.2.1 ≤ h'.2.1) (hcat : pm_cats rest ≤ 8) (hroom : h'.1 ≤ h0.1 + R.cells ∧ h'.2.1 ≤ h0.2.1 + R.slots) (d : decode cc pc = .ok (.invokevirtual index, 3))
    (kr : ∀ v, o = .returned v → sn_G p l e R s m args below meth c Q D κ A k8 a8 nL ad0 h0 (pc + 3) ls (v.toList ++ rest) h') (kx : ∀ c0, o = .threw c0 → sn_Gx p l e R s m args below meth c Q D κ A k8 a8 nL ad0 h0 pc ls c0 h') : sn_G p l e R s m args below meth c Q D κ A k8 a8 nL ad0 h0 pc ls (as.reverse ++ .ref a :: rest) h := by
  refine sg_run (aa := #[]) hle (fun hs v hv => hs v (List.mem_append_right _ (List.mem_cons_of_mem _ hv))) (fun ad H locs la cells slots hR h8 hE hS hF hs c1 c2 => ?_) kr kx
  have has : sn_S h.1 (.ref a :: as) := fun v hv => by
    rcases List.mem_cons.mp hv with rfl | q
    · exact hs _ (List.mem_append_right _ List.mem_cons_self)
    · exact hs v (List.mem_append_left _ (List.mem_reverse.mpr q))
  obtain ⟨cell, q1, q2, q3⟩ := sn_obj hEnv.1 h8k hR h1 hc0
  refine ⟨_, vx_runU (As := as.map (sn_V ad)) (b := ad a) S (hM ad) cw ⟨sn_blind hTX, ⟨cell, q1, by rw [q2]; rfl, q3⟩, fun U hU hW => sn_pre hTX hEnv hR h8 hS has hU hW⟩ rfl (by simp) hF.2.1 (by simp [List.map_append, List.map_reverse, sn_V]) ?_ d ⟨by omega, by omega⟩⟩
  rw [sn_cats]; show 2 * 0 + _ ≤ 8; omega
end
section
variable {p : Program} {l : Launch} {e : Env} {R : Room} {s : State} {m : MethodId} {args : Array Value} {below : List Frame} {meth : Method} {c : Code} {D : va_G} {κ : FieldType → ClassId} {A : Nat → Prop} {k8 : Nat → pm_E} {a8 : Nat → Nat} {nL : Nat} {ad0 : Nat → Nat} {h0 : pm_H} {cc : ByteArray} {own : String} {pc : Nat} {ls st : List Value} {h : pm_H} {L : Nat} {xs : Nat → Int32} {TX : State → Heap → Prop}
theorem sg_zret {x : Int32} {ty : FieldType} {o : Outcome} (S : CallFix p m c cc nL s args lw_all own) (hlocks : meth.locks = false) (hr : meth.sig.returnType = some ty) (hn : narrow ty (.int x) = .int x) (ho : o = .returned (some (.int x))) (d : decode cc pc = .ok (.ireturn, 1)) : sn_G p l e R s m args below meth c (vx_MQ below (sn_Qc D κ A k8 ad0 h0 h o) (sn_XC D κ A k8 ad0 h0 h o) args s (h.1 - h0.1) (h.2.1 - h0.2.1) A) D κ A k8 a8 nL ad0 h0 pc ls [.int x] h := by
  intro ad H locs la cells slots hR h8 hE hS hF hs c1 c2
  have e1 : h.1 - h0.1 = cells := by omega
  have e2 : h.2.1 - h0.2.1 = slots := by omega
  rw [e1, e2]
  refine vx_ret (W.zret S.1 S.2.1 hr hn (fun t ht hW => ⟨ad, (some (.int x)), ho, rfl, hE, by rw [ht]; exact hR, fun w e => by cases e; exact sn_v_i, hS.F ht⟩) (fun q hq => hS.2.2 q hq) d hlocks)
theorem sg_lret {x : Int64} {o : Outcome} (S : CallFix p m c cc nL s args lw_all own) (hlocks : meth.locks = false) (hr : meth.sig.returnType = some .long) (ho : o = .returned (some (.long x))) (d : decode cc pc = .ok (.lreturn, 1)) : sn_G p l e R s m args below meth c (vx_MQ below (sn_Qc D κ A k8 ad0 h0 h o) (sn_XC D κ A k8 ad0 h0 h o) args s (h.1 - h0.1) (h.2.1 - h0.2.1) A) D κ A k8 a8 nL ad0 h0 pc ls [.long x] h := by
  intro ad H locs la cells slots hR h8 hE hS hF hs c1 c2
  have e1 : h.1 - h0.1 = cells := by omega
  have e2 : h.2.1 - h0.2.1 = slots := by omega
  rw [e1, e2]
  refine vx_ret (W.lret S.1 S.2.1 hr (fun t ht hW => ⟨ad, (some (.long x)), ho, rfl, hE, by rw [ht]; exact hR, fun w e => by cases e; exact sn_v_l, hS.F ht⟩) (fun q hq => hS.2.2 q hq) d hlocks)
theorem sg_aret {a : Nat} {rt : FieldType} {o : Outcome} (S : CallFix p m c cc nL s args lw_all own) (hlocks : meth.locks = false) (hr : meth.sig.returnType = some rt) (hrt : (∃ n, rt = .object n) ∨ ∃ t, rt = .array t) (ho : o = .returned (some (.ref a))) (d : decode cc pc = .ok (.areturn, 1)) : sn_G p l e R s m args below meth c (vx_MQ below (sn_Qc D κ A k8 ad0 h0 h o) (sn_XC D κ A k8 ad0 h0 h o) args s (h.1 - h0.1) (h.2.1 - h0.2.1) A) D κ A k8 a8 nL ad0 h0 pc ls [.ref a] h := by
  intro ad H locs la cells slots hR h8 hE hS hF hs c1 c2
  have e1 : h.1 - h0.1 = cells := by omega
  have e2 : h.2.1 - h0.2.1 = slots := by omega
  rw [e1, e2]
  refine vx_ret (W.aret (v := .ref (ad a)) S.1 S.2.1 hr hrt (Or.inr ⟨_, rfl⟩) (fun t ht hW => ⟨ad, (some (.ref a)), ho, rfl, hE, by rw [ht]; exact hR, fun w e => by cases e; exact sn_S_hd hs, hS.F ht⟩) (fun q hq => hS.2.2 q hq) d hlocks)
theorem sg_aretN {rt : FieldType} {o : Outcome} (S : CallFix p m c cc nL s args lw_all own) (hlocks : meth.locks = false) (hr : meth.sig.returnType = some rt) (hrt : (∃ n, rt = .object n) ∨ ∃ t, rt = .array t) (ho : o = .returned (some .null)) (d : decode cc pc = .ok (.areturn, 1)) : sn_G p l e R s m args below meth c (vx_MQ below (sn_Qc D κ A k8 ad0 h0 h o) (sn_XC D κ A k8 ad0 h0 h o) args s (h.1 - h0.1) (h.2.1 - h0.2.1) A) D κ A k8 a8 nL ad0 h0 pc ls [.null] h := by
  intro ad H locs la cells slots hR h8 hE hS hF hs c1 c2
  have e1 : h.1 - h0.1 = cells := by omega
  have e2 : h.2.1 - h0.2.1 = slots := by omega
  rw [e1, e2]
  refine vx_ret (W.aret (v := .null) S.1 S.2.1 hr hrt (Or.inl rfl) (fun t ht hW => ⟨ad, (some .null), ho, rfl, hE, by rw [ht]; exact hR, fun w e => by cases e; exact sn_v_n, hS.F ht⟩) (fun q hq => hS.2.2 q hq) d hlocks)
theorem sg_vret {o : Outcome} (S : CallFix p m c cc nL s args lw_all own) (hlocks : meth.locks = false) (hr : meth.sig.returnType = none) (ho : o = .returned none) (d : decode cc pc = .ok (.return_, 1)) : sn_G p l e R s m args below meth c (vx_MQ below (sn_Qc D κ A k8 ad0 h0 h o) (sn_XC D κ A k8 ad0 h0 h o) args s (h.1 - h0.1) (h.2.1 - h0.2.1) A) D κ A k8 a8 nL ad0 h0 pc ls [] h := by
  intro ad H locs la cells slots hR h8 hE hS hF hs c1 c2
  have e1 : h.1 - h0.1 = cells := by omega
  have e2 : h.2.1 - h0.2.1 = slots := by omega
  rw [e1, e2]
  refine vx_ret (W.vret S.1 S.2.1 hr (fun t ht hW => ⟨ad, none, ho, rfl, hE, by rw [ht]; exact hR, fun w e => (by cases e), hS.F ht⟩) (fun q hq => hS.2.2 q hq) d hlocks)
theorem sg_out {o : Outcome} {c0 : Nat} (hlocks : meth.locks = false) (hout : ∀ x ∈ c.exceptionTable.toList, covers x pc = false) (ho : o = .threw c0) : sn_Gx p l e R s m args below meth c (vx_MQ below (sn_Qc D κ A k8 ad0 h0 h o) (sn_XC D κ A k8 ad0 h0 h o) args s (h.1 - h0.1) (h.2.1 - h0.2.1) A) D κ A k8 a8 nL ad0 h0 pc ls c0 h := by
  intro ad H locs la cells slots rest q ce hR h8 hE hS hF c1 c2 q1 q2 q3
  have e1 : h.1 - h0.1 = cells := by omega
  have e2 : h.2.1 - h0.2.1 = slots := by omega
  rw [e1, e2]
  exact vx_out (E := sn_nm c0) hout hlocks q1 q2 q3 (fun t ht hW => ⟨ad, c0, ho, rfl, hE, by rw [ht]; exact hR, hS.F ht⟩) (fun z hz => hS.2.2 z hz) (Nat.le_refl _) (Nat.le_refl _)
end
section
variable {p : Program} {l : Launch} {e : Env} {R : Room} {s : State} {m : MethodId} {args : Array Value} {below : List Frame} {meth : Method} {c : Code} {Q : State → Prop} {D : va_G} {κ : FieldType → ClassId} {A : Nat → Prop} {k8 : Nat → pm_E} {a8 : Nat → Nat} {nL : Nat} {ad0 : Nat → Nat} {h0 : pm_H} {cc : ByteArray} {own : String} {pc : Nat} {ls st : List Value} {h : pm_H} {L : Nat} {xs : Nat → Int32} {TX : State → Heap → Prop}
theorem sn_F_setj {nL n : Nat} {ad : Nat → Nat} {ls : List Value} {la la' : Array Slot} {i : Nat} {v : Value} (h : sn_F nL n ad ls la) (h' : lv_has la' nL ((i, v) :: (sn_lv ad ls).filter (fun q => !(q.1 == i) && !(q.1 + 1 == i && q.2.category == 2)))) : sn_F nL n ad (pm_set1 ls i pm_junk) la' := by
  refine ⟨by rw [sn_set1_len]; exact h.1, h'.1, h'.2.1, fun j u hj hne => ?_, sn_set1_wf h.2.2.2.2 sn_v_j⟩
  rcases sn_set1_at ls i j pm_junk u hj with ⟨rfl, rfl⟩ | ⟨a, b, q⟩ | ⟨a, w, q, rfl⟩
  · exact absurd rfl hne
  · refine h'.2.2 (j, sn_V ad u) (List.mem_cons_of_mem _ (List.mem_filter.mpr ⟨sn_lv_in q hne, ?_⟩))
    simp [a, b]
  · obtain ⟨k1, k2⟩ := sn_kill_n hne
    rw [k2]
    refine h'.2.2 (j, sn_V ad w) (List.mem_cons_of_mem _ (List.mem_filter.mpr ⟨sn_lv_in q (by rw [← k2]; exact hne), ?_⟩))
    have hji : ¬ j = i := by omega
    simp [hji, sn_V_cat, k1]
theorem sg_catch {c0 i len : Nat} {ig : Instr} {pre suf : List ExceptionTableEntry} {x : ExceptionTableEntry} (S : CallFix p m c cc nL s args lw_all own) (hEnv : sn_Env TX D κ A a8 L xs s) (hsplit : c.exceptionTable.toList = pre ++ x :: suf) (hc : c0 ∈ sn_exs)
    (hpass : ∀ z ∈ pre, covers z pc = false ∨ (z.catchType ≠ 0 ∧ ∃ b ∈ sn_exs, c0 ≠ b ∧ Cond.classLink own z.catchType (sn_nm b) ∈ lw_all)) (hx : covers x pc = true) (hx0 : x.catchType ≠ 0) (hlink : Cond.classLink own x.catchType (sn_nm c0) ∈ lw_all) (hcast : Cond.castable (sn_nm c0) (sn_nm c0) ∈ lw_tbl)
    (hi : i < ls.length) (hig : (ig = .astore i ∧ len = 2) ∨ ∃ j : Fin 4, (j : Nat) = i ∧ ig = .astore_n j ∧ len = 1) (d : decode cc x.handlerPc = .ok (ig, len)) (k : sn_G p l e R s m args below meth c Q D κ A k8 a8 nL ad0 h0 (x.handlerPc + len) (pm_set1 ls i pm_junk) [] h) : sn_Gx p l e R s m args below meth c Q D κ A k8 a8 nL ad0 h0 pc ls c0 h := by
  intro ad H locs la cells slots rest q ce hR h8 hE hS hF c1 c2 q1 q2 q3
  refine vx_catch S.2.2.2.1 pre x suf hsplit (fun z hz => ?_) hx hx0 (S.2.2.2.2 _ hlink) ((hEnv.2.2.2.1 _ hcast rfl).use rfl) q1 q2 q3 ?_
  · rcases hpass z hz with q | ⟨a, b, hb, hn, hl⟩
    · exact Or.inl q
    · exact Or.inr ⟨a, sn_nm b, S.2.2.2.2 _ hl, hEnv.2.2.2.2.2.2.2.2.2.1 c0 hc b hb hn⟩
  · rcases hig with ⟨rfl, rfl⟩ | ⟨j, hj, rfl, rfl⟩
    · exact lv_astore S.1 S.2.1 d (sn_lv_has hF) (by rw [← hF.1]; exact hi) rfl (fun la' h' => k ad H locs la' cells slots hR h8 hE hS (sn_F_setj hF h') sn_S_nil c1 c2)
    · exact lv_astore_n S.1 S.2.1 d hj (sn_lv_has hF) (by rw [← hF.1]; exact hi) rfl (fun la' h' => k ad H locs la' cells slots hR h8 hE hS (sn_F_setj hF h') sn_S_nil c1 c2)
end
