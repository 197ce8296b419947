/-! ===== SOUNDNESS, 24: Arrays.copyOf of an Object[] ===== -/
def cp_O : FieldType := .object "java/lang/Object"
theorem sn_oinj {o1 o2 : String} {x1 x2 : vp_A} (h : (Sum.inl (FieldType.object o1, x1) : pm_E) = .inl (.object o2, x2)) : o1 = o2 := by
  injection h with e1
  injection e1 with e2
  injection e2
theorem va_cpy_map {f g : Nat → Option Nat} {ad : Nat → Nat} {i j n : Nat} : va_cpy (fun z => (f z).map ad) (fun z => (g z).map ad) i j n = fun z => (va_cpy f g i j n z).map ad := by
  funext z
  unfold va_cpy
  split <;> rfl
section
variable {p : Program} {l : Launch} {e : Env} {R : Room} {s : State} {m : MethodId} {args : Array Value} {below : List Frame} {meth : Method} {c : Code} {Q : State → Prop} {D : va_G} {κ : FieldType → ClassId} {A : Nat → Prop} {k8 : Nat → pm_E} {a8 : Nat → Nat} {nL : Nat} {ad0 : Nat → Nat} {h0 : pm_H} {cc : ByteArray} {own : String} {pc : Nat} {ls st : List Value} {h : pm_H} {L : Nat} {xs : Nat → Int32} {TX : State → Heap → Prop}
theorem sg_copyR {a b m1 n1 : Nat} {k : Int32} {f g : Nat → Option Nat} {ix : Nat} (S : CallFix p m c cc nL s args lw_all own) (hK : va_K D sn_cl (sn_tys κ) s) (hAs : sn_As D κ s) (h8k : sn_K8 k8 L xs) (hlink : Cond.methodLink own ix arraycopyName ∈ lw_all) (hcp : Cond.native arraycopyName ∈ lw_all ∧ Cond.static arraycopyName ∈ lw_all ∧ Cond.initialized "java/lang/System" ∈ lw_all) (hcat : pm_cats st ≤ 8) (hf : 1 ≤ R.frames) (hlo : 200 ≤ R.locals) (ea : h.2.2 a = .inl (.object "java/lang/Object", m1, .inr (.inr (.inr (.inr f))))) (eb : h.2.2 b = .inl (.object "java/lang/Object", n1, .inr (.inr (.inr (.inr g))))) (g3 : 0 ≤ k.toInt) (g4 : k.toInt ≤ m1) (g5 : k.toInt ≤ n1) (hel : ∀ j, j < m1 → ∀ y, f j = some y → (pm_cls h y).isSome = true) (d : decode cc pc = .ok (.invokestatic ix, 3)) (kk : sn_G p l e R s m args below meth c Q D κ A k8 a8 nL ad0 h0 (pc + 3) ls st (pm_up h b (.inl (.object "java/lang/Object", n1, .inr (.inr (.inr (.inr (va_cpy f g 0 0 k.toInt.toNat)))))))) : sn_G p l e R s m args below meth c Q D κ A k8 a8 nL ad0 h0 pc ls (.int k :: .int 0 :: .ref b :: .int 0 :: .ref a :: st) h := by
  intro ad H locs la cells slots hR h8 hE hS hF hs c1 c2
  have hs5 := sn_S_tl (sn_S_tl (sn_S_tl (sn_S_tl (sn_S_tl hs))))
  have hbig : ∀ (z q : Nat) (f : Nat → Option Nat), h.2.2 z = .inl (.object "java/lang/Object", q, .inr (.inr (.inr (.inr f)))) → 8 ≤ z := by
    intro z q f ez
    refine Nat.le_of_not_lt fun hz => ?_
    rw [hR.2.2.2 z hz] at ez
    rcases (show z = 0 ∨ z = 1 ∨ z = 2 ∨ 3 ≤ z by omega) with rfl | rfl | rfl | h3
    · rw [h8k.1] at ez; exact absurd (sn_oinj ez) (by decide)
    · rw [h8k.2.1] at ez; exact absurd (sn_oinj ez) (by decide)
    · rw [h8k.2.2.1] at ez; exact absurd (sn_oinj ez) (by decide)
    · obtain ⟨_, _, e'⟩ := h8k.2.2.2 z h3 hz
      rw [e'] at ez; exact absurd (sn_oinj ez) (by decide)
  have ha := hbig _ _ _ ea
  have hb := hbig _ _ _ eb
  have la1 := sn_lt hR.1 ea
  have lb1 := sn_lt hR.1 eb
  have hti : (FieldType.object "java/lang/Object") ∈ sn_ats := by simp [sn_ats]
  obtain ⟨t0, ht0⟩ := sn_ty_at (κ := κ) hti
  have wa := sn_ws_at (κ := κ) (ad := ad) ha la1
  have wb := sn_ws_at (κ := κ) (ad := ad) hb lb1
  rw [ea] at wa
  rw [eb] at wb
  have z0 : ∀ {q : Int32}, 0 ≤ q.toInt → ¬ q < 0 := fun {q} hq r => by
    have r2 := Int32.lt_iff_toInt_lt.mp r
    rw [show (0 : Int32).toInt = 0 from rfl] at r2
    omega
  have hwf := hR.1.2.1 a
  rw [ea] at hwf
  refine va_copyM S.1 S.2.1 (by rw [S.2.2.1]; exact hF.2.1.symm) S.2.2.2.1 (S.2.2.2.2 _ hlink) (S.2.2.2.2 _ hcp.1) (S.2.2.2.2 _ hcp.2.1) (S.2.2.2.2 _ hcp.2.2) hK hR.2.1 hR.2.2.1 hS (a - 8) (b - 8) t0 t0 wa wb ht0 ht0 (z0 (Int.le_refl _)) (z0 (Int.le_refl _)) (z0 g3) (by show (0 : Int32).toInt.toNat + k.toInt.toNat ≤ m1; rw [show (0 : Int32).toInt.toNat = 0 from rfl]; omega) (by show (0 : Int32).toInt.toNat + k.toInt.toNat ≤ n1; rw [show (0 : Int32).toInt.toNat = 0 from rfl]; omega) (fun i hi y hy => ?_) hf ?_ d (fun H1 locs1 hP1 hD1 hS1 => ?_)
  · have hi2 : i < k.toInt.toNat := hi
    have hy : (f ((0 : Int32).toNatClampNeg + i)).map ad = some y := hy
    rw [show (0 : Int32).toNatClampNeg + i = i by simp] at hy
    cases hfi : f i with
    | none => rw [hfi] at hy; cases hy
    | some z =>
      rw [hfi] at hy
      cases hy
      have hz := hwf i z hfi
      obtain ⟨c0, hc0⟩ := Option.isSome_iff_exists.mp (hel i (by omega) z hfi)
      have hcell := hc0
      unfold pm_cls at hcell
      split at hcell
      · rename_i c1' fs he
        cases hcell
        have h90 := sn_c90 h8k hR hc0 hz
        obtain ⟨cell, q1, q2, q3⟩ := sn_obj hK h8k hR hc0 h90
        have h8z : 8 ≤ z := by
          refine Nat.le_of_not_lt fun hz8 => ?_
          rw [hR.2.2.2 z hz8] at he
          rcases (show z = 0 ∨ z = 1 ∨ z = 2 ∨ 3 ≤ z by omega) with rfl | rfl | rfl | h3
          · rw [h8k.1] at he; cases he
          · rw [h8k.2.1] at he; cases he
          · rw [h8k.2.2.1] at he; cases he
          · obtain ⟨_, _, e'⟩ := h8k.2.2.2 z h3 hz8
            rw [e'] at he; cases he
        have hst := hR.1.2.2.2 z h8z hz
        obtain ⟨kA, comp, kc, kv, r1, r2, r3, r4, r5⟩ := hAs _ hti (h.2.2 z) (by rw [he]; simp [pm_asg]) hst
        have ecl : sn_ci D κ (h.2.2 z) = cell.cls := by
          rw [he]
          have := (hK.1 c0 _ (sn_cl_at h90)).2.1
          exact Option.some.inj (this.symm.trans q3)
        rw [ecl] at r4 r5
        refine ⟨cell, q1, by rw [q2]; rfl, ⟨kv, r4⟩, fun comp' hcomp => ?_⟩
        obtain ⟨kA', comp2, k1, k2, k3, -⟩ := (hK.2 t0 _ ht0).2
        have e1 : kA' = kA := Option.some.inj (k1.symm.trans r1)
        subst e1
        rw [r2] at k2
        cases k2
        rw [hcomp] at k3
        cases k3
        exact r5
      · cases hcell
  · rw [sn_cats]
    have : nativeFrameWords "java/lang/System" "arraycopy" 5 + 11 ≤ 192 := by decide
    omega
  · have ec : va_cpy (fun z => (f z).map ad) (fun z => (g z).map ad) (0 : Int32).toNatClampNeg (0 : Int32).toNatClampNeg k.toNatClampNeg = fun z => (va_cpy f g 0 0 k.toInt.toNat z).map ad := va_cpy_map
    rw [ec] at hP1 hD1
    refine kk ad H1 locs1 la cells slots ⟨sn_h_up hR.1 lb1 ?_ (fun _ => hti), ?_, ?_, fun z hz => ?_⟩ h8 hE hS1 hF hs5 c1 c2
    · have hwg := hR.1.2.1 b
      rw [eb] at hwg
      intro i q hq
      unfold va_cpy at hq
      split at hq
      · exact hwf _ _ hq
      · exact hwg _ _ hq
    · rw [sn_ws_up hb lb1]; exact hP1
    · rw [sn_ws_up hb lb1]; exact hD1
    · show va_up h.2.2 b _ z = _
      rw [va_up_ne _ _ (by omega)]; exact hR.2.2.2 z hz
end
section
variable {p : Program} {l : Launch} {e : Env} {R : Room} {s : State} {m : MethodId} {args : Array Value} {below : List Frame} {meth : Method} {c : Code} {Q : State → Prop} {D : va_G} {κ : FieldType → ClassId} {A : Nat → Prop} {k8 : Nat → pm_E} {a8 : Nat → Nat} {nL : Nat} {ad0 : Nat → Nat} {h0 : pm_H} {cc : ByteArray} {own : String} {pc : Nat} {ls st : List Value} {h : pm_H} {L : Nat} {xs : Nat → Int32} {TX : State → Heap → Prop}
/-- behind a call, from any stack -/
theorem sg_run1 {ad : Nat → Nat} {H : Heap} {locs : List Loc} {la : Array Slot} {cells slots : Nat} {st0 : List Value} {rest : List Value} {h' : pm_H} {o : Outcome} {aa : Array Value} (hle : h0.1 ≤ h.1 ∧ h.1 ≤ h'.1 ∧ h0.2.1 ≤ h.2.1 ∧ h.2.1 ≤ h'.2.1) (hR : sn_R D κ A k8 ad h H) (h8 : ∀ k, k < 8 → ad k = a8 k) (hE : ∀ k, k < h0.1 → ad k = ad0 k) (hS : va_S A s.heap H locs) (hF : sn_F nL h.1 ad ls la) (hrs : sn_S h.1 rest) (c1 : cells + h0.1 = h.1) (c2 : slots + h0.2.1 = h.2.1)
    (hr : vx_Run p l e R s m args below meth c H locs cells slots (h'.1 - h.1) (h'.2.1 - h.2.1) (F0 m pc la st0) (rest.map (sn_V ad)) (sn_Qc D κ A k8 ad h h' o aa) (sn_XC D κ A k8 ad h h' o) A)
    (kr : ∀ v, o = .returned v → sn_G p l e R s m args below meth c Q D κ A k8 a8 nL ad0 h0 (pc + 3) ls (v.toList ++ rest) h') (kx : ∀ c0, o = .threw c0 → sn_Gx p l e R s m args below meth c Q D κ A k8 a8 nL ad0 h0 pc ls c0 h') : W p l e R s m args below meth c H locs cells slots Q (F0 m pc la st0) := by
  intro T hT X
  rcases hr T hT X with ⟨v, st0, t, T', L', e0, X', hL, e1, e2, ⟨ad', v', ho, hv, hid, hR', hw, hFr⟩, hg⟩ | ⟨q, st0, t, T', L', E, ce, e0, X', hL, e1, e2, ⟨ad', c0, ho, hEn, hid, hR', hFr⟩, hce, hcv, hcl, hst⟩
  · obtain ⟨k1, k2, k3⟩ := vx_keep e0 e1 hS (fun _ _ q => q) (fun _ q => q) hL hFr
    have hv2 : v = v'.map (sn_V ad') := by cases hv; rfl
    have hF' := sn_F_le hle.2.1 (sn_F_id hid hF)
    have hst' : sn_S h'.1 (v'.toList ++ rest) := by
      intro w hw2
      rcases List.mem_append.mp hw2 with q | q
      · exact hw w (by cases v' with
          | none => cases q
          | some z => rcases List.mem_cons.mp q with rfl | q2
                      · rfl
                      · cases q2)
      · exact sn_v_le hle.2.1 (hrs w q)
    obtain ⟨t2, a1, b1⟩ := kr v' ho ad' T'.heap (locs ++ L') la (cells + (h'.1 - h.1)) (slots + (h'.2.1 - h.2.1)) (by rw [e1]; exact hR') (fun k hk => by rw [hid k (by have := hR.1.1; omega)]; exact h8 k hk) (fun k hk => by rw [hid k (by omega)]; exact hE k hk) k3 hF' hst' (by omega) (by omega) T' rfl X'
    refine ⟨t2, hg t2 ?_, b1⟩
    have es : v.toList ++ rest.map (sn_V ad) = (v'.toList ++ rest).map (sn_V ad') := by
      rw [List.map_append, hv2, sn_map_id hid hrs]
      cases v' <;> rfl
    show Steps p.tables e below (T'.setTop (F0 m (pc + 3) la (v.toList ++ rest.map (sn_V ad)))) t2
    rw [es]
    exact a1
  · obtain ⟨k1, k2, k3⟩ := vx_keep e0 e1 hS (fun _ _ q => q) (fun _ q => q) hL hFr
    have hF' := sn_F_le hle.2.1 (sn_F_id hid hF)
    obtain ⟨t2, a1, b1⟩ := kx c0 ho ad' T'.heap (locs ++ L') la (cells + (h'.1 - h.1)) (slots + (h'.2.1 - h.2.1)) (rest.map (sn_V ad)) q ce (by rw [e1]; exact hR') (fun k hk => by rw [hid k (by have := hR.1.1; omega)]; exact h8 k hk) (fun k hk => by rw [hid k (by omega)]; exact hE k hk) k3 hF' (by omega) (by omega) (by rw [e1]; exact hce) hcv (by rw [← hEn]; exact hcl) T' rfl X'
    exact ⟨t2, hst.trans a1, b1⟩
theorem sg_mmin {x y : Int32} {ix : Nat} (S : CallFix p m c cc nL s args lw_all own) (hlink : Cond.methodLink own ix Lib.Math.min.name ∈ lw_all) (hf : 1 ≤ R.frames) (hlo : 100 ≤ R.locals) (hcat : pm_cats st ≤ 8) (hroom : h.1 ≤ h0.1 + R.cells ∧ h.2.1 ≤ h0.2.1 + R.slots) (d : decode cc pc = .ok (.invokestatic ix, 3)) (k : sn_G p l e R s m args below meth c Q D κ A k8 a8 nL ad0 h0 (pc + 3) ls (.int (if y < x then y else x) :: st) h) : sn_G p l e R s m args below meth c Q D κ A k8 a8 nL ad0 h0 pc ls (.int y :: .int x :: st) h := by
  intro ad H locs la cells slots hR h8 hE hS hF hs c1 c2
  refine va_mmin S.1 S.2.1 (by rw [S.2.2.1]; exact hF.2.1.symm) S.2.2.2.1 (S.2.2.2.2 _ hlink) (S.2.2.2.2 _ (lw_g (lw_at lw_m1 96 rfl) rfl)) (S.2.2.2.2 _ (lw_g (lw_at lw_m1 3 rfl) rfl)) (S.2.2.2.2 _ (lw_g (lw_at lw_m1 97 rfl) rfl)) hf ?_ (by omega) (by omega) d (k ad H locs la cells slots hR h8 hE hS hF (sn_S_cons sn_v_i (sn_S_tl (sn_S_tl hs))) c1 c2)
  rw [sn_cats]; omega
end
def cp_Pc (TX : State → Heap → Prop) (D : va_G) (κ : FieldType → ClassId) (A : Nat → Prop) (k8 : Nat → pm_E) (a8 : Nat → Nat) (L : Nat) (xs : Nat → Int32) (ad : Nat → Nat) (a mi : Nat) (n : Int32) (h : pm_H) : Array Value → State → Prop := fun v U =>
  v = #[.ref (ad a), .int n, .ref mi] ∧ sn_Env TX D κ A a8 L xs U ∧ sn_R D κ A k8 ad h U.heap ∧ (∀ k, k < 8 → ad k = a8 k) ∧ a < h.1 ∧ va_Mi "[Ljava/lang/Object;" mi U
section
variable {l : Launch} {D : va_G} {κ : FieldType → ClassId} {A : Nat → Prop} {k8 : Nat → pm_E} {a8 : Nat → Nat} {h : pm_H} {L : Nat} {xs : Nat → Int32} {TX : State → Heap → Prop} {ad : Nat → Nat}
theorem cp_blind {a mi : Nat} {n : Int32} (hTX : sn_TXok TX A) : FrameBlind (cp_Pc TX D κ A k8 a8 L xs ad a mi n h) := by
  intro v U g mk hp
  exact ⟨hp.1, sn_Env_moved (u := U) (U := U.calling g mk v) hTX (State.WarmedH.refl U) (Nat.le_refl _) (fun _ _ _ => rfl) hp.2.1, hp.2.2.1, hp.2.2.2.1, hp.2.2.2.2.1, hp.2.2.2.2.2⟩
theorem pm_up_new {n : Nat} {e1 e2 : pm_E} : pm_up (pm_new h n e1) h.1 e2 = pm_new h n e2 := by
  unfold pm_up pm_new
  refine congrArg _ (congrArg _ (funext fun q => ?_))
  unfold va_up
  by_cases hq : q = h.1 <;> simp [hq]
theorem cp_met3 {a mi : Nat} {n : Int32} {h' : pm_H} (hTX : sn_TXok TX A) (h8k : sn_K8 k8 L xs) (hc : pm_copyOf h a n = some h') : vx_Met l ⟨"java/util/Arrays", "copyOf", "([Ljava/lang/Object;ILjava/lang/Class;)[Ljava/lang/Object;"⟩ (Cond.code ⟨"java/util/Arrays", "copyOf", "([Ljava/lang/Object;ILjava/lang/Class;)[Ljava/lang/Object;"⟩ prog_83_method_120_code 4 (some (.array (.object "java/lang/Object"))) :: lw_all) { frames := 8, cells := h'.1 - h.1, slots := h'.2.1 - h.2.1, locals := 260 } (cp_Pc TX D κ A k8 a8 L xs ad a mi n h) (sn_Qc D κ A k8 ad h h' (.returned (some (.ref h.1)))) (sn_XC D κ A k8 ad h h' (.returned (some (.ref h.1)))) (h'.1 - h.1) (h'.2.1 - h.2.1) A := by
  refine vx_ofW (cc := prog_83_method_120_code) (maxL := 4) (ret := (some (.array (.object "java/lang/Object")))) (by decide) rfl ?_
  intro p e s m args below meth c s₁ B hml ht hP
  obtain ⟨rfl, hEnv, hR, h8, hlt, hMi⟩ := hP
  have hx := B.exec
  have hb := B.bytes
  have hr := B.returns
  have hlk := B.notSynchronized
  have hown := findClass_of_methodNamed B.named
  have hts0 := atoms_spec (ws := Cond.code ⟨"java/util/Arrays", "copyOf", "([Ljava/lang/Object;ILjava/lang/Class;)[Ljava/lang/Object;"⟩ prog_83_method_120_code 4 (some (.array (.object "java/lang/Object"))) :: lw_all) B.pre
  have hts : ∀ w ∈ lw_all, w.before _ s = true := fun w h => hts0 w (List.mem_cons_of_mem _ h)
  have S : CallFix p m c prog_83_method_120_code 4 s #[.ref (ad a), .int n, .ref mi] lw_all "java/util/Arrays" := ⟨hx, hb, hml, hown, hts⟩
  unfold pm_copyOf at hc
  split at hc
  case h_2 => cases hc
  rename_i o1 m1 f ea
  split at hc
  case isFalse => cases hc
  rename_i hcc
  obtain ⟨rfl, hn0, hn1, hm1, hall⟩ := hcc
  cases hc
  have d0 : decode prog_83_method_120_code 0 = .ok (.aload_n 2, 1) := by decide +kernel
  have d1 : decode prog_83_method_120_code 1 = .ok (.ldc 110, 2) := by decide +kernel
  have d3 : decode prog_83_method_120_code 3 = .ok (.if_acmp .ne 10, 3) := by decide +kernel
  have d6 : decode prog_83_method_120_code 6 = .ok (.iload_n 1, 1) := by decide +kernel
  have d7 : decode prog_83_method_120_code 7 = .ok (.anewarray 2, 3) := by decide +kernel
  have d10 : decode prog_83_method_120_code 10 = .ok (.goto 14, 3) := by decide +kernel
  have d24 : decode prog_83_method_120_code 24 = .ok (.astore_n 3, 1) := by decide +kernel
  have d25 : decode prog_83_method_120_code 25 = .ok (.aload_n 0, 1) := by decide +kernel
  have d26 : decode prog_83_method_120_code 26 = .ok (.iconst 0, 1) := by decide +kernel
  have d27 : decode prog_83_method_120_code 27 = .ok (.aload_n 3, 1) := by decide +kernel
  have d28 : decode prog_83_method_120_code 28 = .ok (.iconst 0, 1) := by decide +kernel
  have d29 : decode prog_83_method_120_code 29 = .ok (.aload_n 0, 1) := by decide +kernel
  have d30 : decode prog_83_method_120_code 30 = .ok (.arraylength, 1) := by decide +kernel
  have d31 : decode prog_83_method_120_code 31 = .ok (.iload_n 1, 1) := by decide +kernel
  have d32 : decode prog_83_method_120_code 32 = .ok (.invokestatic 304, 3) := by decide +kernel
  have d35 : decode prog_83_method_120_code 35 = .ok (.invokestatic 150, 3) := by decide +kernel
  have d38 : decode prog_83_method_120_code 38 = .ok (.aload_n 3, 1) := by decide +kernel
  have d39 : decode prog_83_method_120_code 39 = .ok (.areturn, 1) := by decide +kernel
  have hm31 : m1 < 2147483648 := by omega
  have key : sn_G p l e { frames := 8, cells := h.1 + 1 - h.1, slots := h.2.1 + n.toInt.toNat - h.2.1, locals := 260 } s m #[.ref (ad a), .int n, .ref mi] below meth c (vx_MQ below (sn_Qc D κ A k8 ad h (pm_new h n.toInt.toNat (.inl (.object "java/lang/Object", n.toInt.toNat, .inr (.inr (.inr (.inr (fun j => if j < m1 ∧ j < n.toInt.toNat then f j else none))))))) (.returned (some (.ref h.1)))) (sn_XC D κ A k8 ad h (pm_new h n.toInt.toNat (.inl (.object "java/lang/Object", n.toInt.toNat, .inr (.inr (.inr (.inr (fun j => if j < m1 ∧ j < n.toInt.toNat then f j else none))))))) (.returned (some (.ref h.1)))) #[.ref (ad a), .int n, .ref mi] s (h.1 + 1 - h.1) (h.2.1 + n.toInt.toNat - h.2.1) A) D κ A k8 a8 4 ad h 6 [.ref a, .int n, pm_junk, pm_junk] [] h := by
    refine sg_iload_n S (i := 1) rfl rfl d6 ?_
    refine sg_anewarray (C := "java/lang/Object") S hEnv.1 hEnv.2.2.2.2.2.2.2.2.1 (by simp [sn_ats]) (lw_g (lw_at lw_m7 171 rfl) rfl) (hEnv.2.2.2.1 _ (lw_at lw_m7 170 rfl) rfl) ⟨hn0, hn1⟩ ⟨by show h.1 + 1 ≤ h.1 + (h.1 + 1 - h.1); omega, by show h.2.1 + _ ≤ h.2.1 + (h.2.1 + _ - h.2.1); omega⟩ d7 ?_
    refine sg_goto S d10 (t := 24) rfl ?_
    refine sg_astore_n S (i := 3) rfl (Nat.le_of_ble_eq_true rfl) d24 ?_
    have e0 : pm_set1 [.ref a, .int n, pm_junk, pm_junk] 3 (.ref h.1) = [.ref a, .int n, pm_junk, .ref h.1] := rfl
    rw [e0]
    have ea1 : (pm_new h n.toInt.toNat (.inl (.object "java/lang/Object", n.toInt.toNat, pm_zero (.object "java/lang/Object")))).2.2 a = .inl (.object "java/lang/Object", m1, .inr (.inr (.inr (.inr f)))) := by
      show va_up h.2.2 h.1 _ a = _
      rw [va_up_ne _ _ (by omega)]; exact ea
    have eb1 : (pm_new h n.toInt.toNat (.inl (.object "java/lang/Object", n.toInt.toNat, pm_zero (.object "java/lang/Object")))).2.2 h.1 = .inl (.object "java/lang/Object", n.toInt.toNat, .inr (.inr (.inr (.inr (fun _ => none))))) := by
      show va_up h.2.2 h.1 _ h.1 = _
      rw [va_up_self]; rfl
    refine sg_aload_n S (i := 0) rfl rfl d25 ?_
    refine sg_iconst S d26 ?_
    refine sg_aload_n S (i := 3) rfl rfl d27 ?_
    refine sg_iconst S d28 ?_
    refine sg_aload_n S (i := 0) rfl rfl d29 ?_
    refine sg_arraylength (n := m1) S hEnv.1 h8k hEnv.2.1 (by unfold pm_len; rw [ea1]; rfl) d30 ?_
    refine sg_iload_n S (i := 1) rfl rfl d31 ?_
    refine sg_mmin S (lw_g (lw_at lw_m7 172 rfl) rfl) (by show 1 ≤ 8; omega) (by show 100 ≤ 260; omega) (Nat.le_of_ble_eq_true rfl) ⟨by show h.1 + 1 ≤ h.1 + (h.1 + 1 - h.1); omega, by show h.2.1 + _ ≤ h.2.1 + (h.2.1 + _ - h.2.1); omega⟩ d32 ?_
    have hcnt : ∀ k : Int32, k = (if n < Int32.ofNat m1 then n else Int32.ofNat m1) → 0 ≤ k.toInt ∧ k.toInt ≤ m1 ∧ k.toInt ≤ n.toInt.toNat ∧ k.toInt.toNat = min m1 n.toInt.toNat := by
      intro k hk
      have hm : (Int32.ofNat m1).toInt = m1 := by rw [nu_nat, nu_i (by omega) (by omega)]
      by_cases hq : n < Int32.ofNat m1
      · rw [if_pos hq] at hk
        subst hk
        rw [Int32.lt_iff_toInt_lt, hm] at hq
        omega
      · rw [if_neg hq] at hk
        subst hk
        rw [Int32.lt_iff_toInt_lt, hm] at hq
        rw [hm]
        omega
    generalize hk9 : (if n < Int32.ofNat m1 then n else Int32.ofNat m1) = k9
    obtain ⟨q1, q2, q3, q4⟩ := hcnt k9 hk9.symm
    refine sg_copyR S hEnv.1 hEnv.2.2.1 h8k (lw_g (lw_at lw_m7 173 rfl) rfl) ⟨(lw_g (lw_at lw_m7 175 rfl) rfl), (lw_g (lw_at lw_m7 174 rfl) rfl), (lw_g (lw_at lw_m1 51 rfl) rfl)⟩ (Nat.le_of_ble_eq_true rfl) (by show 1 ≤ 8; omega) (by show 200 ≤ 260; omega) ea1 eb1 q1 q2 q3 (fun j hj y hy => ?_) d35 ?_
    · have := List.all_eq_true.mp hall j (List.mem_range.mpr hj)
      rw [hy] at this
      have hyl : y < h.1 := by
        have hwf := hR.1.2.1 a
        rw [ea] at hwf
        exact hwf j y hy
      have e9 : pm_cls (pm_new h n.toInt.toNat (.inl (.object "java/lang/Object", n.toInt.toNat, pm_zero (.object "java/lang/Object")))) y = pm_cls h y := by
        have e10 : (pm_new h n.toInt.toNat (.inl (.object "java/lang/Object", n.toInt.toNat, pm_zero (.object "java/lang/Object")))).2.2 y = h.2.2 y := va_up_ne _ _ (by omega)
        unfold pm_cls
        rw [e10]
      rw [e9]; exact this
    · rw [pm_up_new]
      have eF : va_cpy f (fun _ => none) 0 0 k9.toInt.toNat = fun j => if j < m1 ∧ j < n.toInt.toNat then f j else none := by
        funext j
        unfold va_cpy
        by_cases hj : j < m1 ∧ j < n.toInt.toNat
        · rw [if_pos hj, if_pos ⟨Nat.zero_le _, by omega⟩]; simp
        · rw [if_neg hj, if_neg (by omega)]
      rw [eF]
      refine sg_aload_n S (i := 3) rfl rfl d38 ?_
      exact sg_aret S hlk hr (Or.inr ⟨_, rfl⟩) rfl d39
  have hl := lv_entry ([.ref (ad a), .int n, .ref mi]) (n := 4) (Nat.le_of_ble_eq_true rfl)
  show W _ _ _ _ _ _ _ _ _ _ _ _ _ _ _ (entryFrame m ([.ref (ad a), .int n, .ref mi] : List Value).toArray 4)
  rw [lg_entry_eq]
  generalize (lg_sl ([.ref (ad a), .int n, .ref mi]) ++ List.replicate (4 - (lg_sl ([.ref (ad a), .int n, .ref mi])).length) Slot.unset).toArray = la at hl ⊢
  have hl : lv_has la 4 [(0, .ref (ad a)), (1, .int n), (2, .ref mi)] := hl
  refine lv_aload_n hx hb d0 rfl (lv_at hl 2 rfl) ?_
  refine va_ldcM hx hb hown (hts _ (lw_g (lw_at lw_m7 169 rfl) rfl)) hMi d1 ?_
  refine lv_acmp_ne hx hb (rx := some mi) (ry := some mi) d3 (tgt := 13) rfl (fun q => absurd rfl q) (fun _ => ?_)
  refine key ad s.heap [] la 0 0 hR h8 (fun _ _ => rfl) va_S.rf ⟨rfl, hl.1, hl.2.1, fun j v hj hne => ?_, fun v hv => ?_⟩ sn_S_nil (Nat.zero_add _) (Nat.zero_add _)
  · match j, hj with
    | 0, hj => cases hj; exact lv_at hl 0 rfl
    | 1, hj => cases hj; exact lv_at hl 1 rfl
    | 2, hj => cases hj; exact absurd rfl hne
    | 3, hj => cases hj; exact absurd rfl hne
    | j + 4, hj => cases hj
  · rcases List.mem_cons.mp hv with rfl | hv
    · exact sn_v_r hlt
    · rcases List.mem_cons.mp hv with rfl | hv
      · exact sn_v_i
      · rcases List.mem_cons.mp hv with rfl | hv
        · exact sn_v_j
        · rcases List.mem_cons.mp hv with rfl | hv
          · exact sn_v_j
          · cases hv
end
section
variable {l : Launch} {D : va_G} {κ : FieldType → ClassId} {A : Nat → Prop} {k8 : Nat → pm_E} {a8 : Nat → Nat} {h : pm_H} {L : Nat} {xs : Nat → Int32} {TX : State → Heap → Prop} {ad : Nat → Nat}
theorem pm_copyOf_at {a : Nat} {n : Int32} {h' : pm_H} (hc : pm_copyOf h a n = some h') : ∃ m1 f, h.2.2 a = .inl (.object "java/lang/Object", m1, .inr (.inr (.inr (.inr f)))) := by
  unfold pm_copyOf at hc
  split at hc
  · rename_i o1 m1 f ea
    split at hc
    · rename_i hcc
      exact ⟨m1, f, by rw [ea, hcc.1]⟩
    · cases hc
  · cases hc
theorem cp_met2 {a dd : Nat} {n : Int32} {h' : pm_H} (hTX : sn_TXok TX A) (h8k : sn_K8 k8 L xs) (hTXm : ∀ U, TX U U.heap → ∃ mi, va_Mi "[Ljava/lang/Object;" mi U) (hc : pm_copyOf h a n = some h') : sn_Met l ⟨"java/util/Arrays", "copyOf", "([Ljava/lang/Object;I)[Ljava/lang/Object;"⟩ (Cond.code ⟨"java/util/Arrays", "copyOf", "([Ljava/lang/Object;I)[Ljava/lang/Object;"⟩ prog_83_method_119_code 2 (some (.array (.object "java/lang/Object")))) dd TX D κ A k8 a8 L xs ad [.ref a, .int n] h h' (.returned (some (.ref h.1))) := by
  refine vx_ofW (cc := prog_83_method_119_code) (maxL := 2) (ret := (some (.array (.object "java/lang/Object")))) (by decide) rfl ?_
  intro p e s m args below meth c s₁ B hml ht hP
  obtain ⟨rfl, hEnv, hR, h8, has⟩ := hP
  have hx := B.exec
  have hb := B.bytes
  have hr := B.returns
  have hlk := B.notSynchronized
  have hown := findClass_of_methodNamed B.named
  have hts0 := atoms_spec (ws := Cond.code ⟨"java/util/Arrays", "copyOf", "([Ljava/lang/Object;I)[Ljava/lang/Object;"⟩ prog_83_method_119_code 2 (some (.array (.object "java/lang/Object"))) :: lw_all) B.pre
  have hts : ∀ w ∈ lw_all, w.before _ s = true := fun w h => hts0 w (List.mem_cons_of_mem _ h)
  have S : CallFix p m c prog_83_method_119_code 2 s _ lw_all "java/util/Arrays" := ⟨hx, hb, hml, hown, hts⟩
  obtain ⟨mi, hMi⟩ := hTXm s hEnv.2.2.2.2.2.2.2.2.2.2
  obtain ⟨m1, f, ea⟩ := pm_copyOf_at hc
  have hlt : a < h.1 := sn_lt hR.1 ea
  have hle := pm_le_copyOf hc
  have ha8 : 8 ≤ a := by
    refine Nat.le_of_not_lt fun hz => ?_
    rw [hR.2.2.2 a hz] at ea
    rcases (show a = 0 ∨ a = 1 ∨ a = 2 ∨ 3 ≤ a by omega) with rfl | rfl | rfl | h3
    · rw [h8k.1] at ea; exact absurd (sn_oinj ea) (by decide)
    · rw [h8k.2.1] at ea; exact absurd (sn_oinj ea) (by decide)
    · rw [h8k.2.2.1] at ea; exact absurd (sn_oinj ea) (by decide)
    · obtain ⟨_, _, e'⟩ := h8k.2.2.2 a h3 hz
      rw [e'] at ea; exact absurd (sn_oinj ea) (by decide)
  have hw := sn_ws_at (κ := κ) (ad := ad) ha8 hlt
  rw [ea] at hw
  have hcell : s.heap[ad a]? = some (vp_cell (κ (.object "java/lang/Object")) (m1, .inr (.inr (.inr (.inr (fun i => (f i).map ad)))))) := hR.2.1 (a - 8) _ hw
  have hti : (FieldType.object "java/lang/Object") ∈ sn_ats := by simp [sn_ats]
  obtain ⟨t0, ht0⟩ := sn_ty_at (κ := κ) hti
  have hnm : s.vm.findClass "[Ljava/lang/Object;" = some (κ (.object "java/lang/Object")) := va_nmO (hEnv.1.2 t0 _ ht0).2 (by decide)
  have d0 : decode prog_83_method_119_code 0 = .ok (.aload_n 0, 1) := by decide +kernel
  have d1 : decode prog_83_method_119_code 1 = .ok (.iload_n 1, 1) := by decide +kernel
  have d2 : decode prog_83_method_119_code 2 = .ok (.aload_n 0, 1) := by decide +kernel
  have d3 : decode prog_83_method_119_code 3 = .ok (.invokevirtual 86, 3) := by decide +kernel
  have d6 : decode prog_83_method_119_code 6 = .ok (.invokestatic 300, 3) := by decide +kernel
  have d9 : decode prog_83_method_119_code 9 = .ok (.areturn, 1) := by decide +kernel
  have hl := lv_entry ([.ref (ad a), .int n]) (n := 2) (Nat.le_of_ble_eq_true rfl)
  show W _ _ _ _ _ _ _ _ _ _ _ _ _ _ _ (entryFrame m ([.ref (ad a), .int n] : List Value).toArray 2)
  rw [lg_entry_eq]
  generalize (lg_sl ([.ref (ad a), .int n]) ++ List.replicate (2 - (lg_sl ([.ref (ad a), .int n])).length) Slot.unset).toArray = la at hl ⊢
  have hl : lv_has la 2 [(0, .ref (ad a)), (1, .int n)] := hl
  have hF : sn_F 2 h.1 ad [.ref a, .int n] la := by
    refine ⟨rfl, hl.1, hl.2.1, fun j v hj hne => ?_, has⟩
    match j, hj with
    | 0, hj => cases hj; exact lv_at hl 0 rfl
    | 1, hj => cases hj; exact lv_at hl 1 rfl
    | j + 2, hj => cases hj
  refine lv_aload_n hx hb d0 rfl (lv_at hl 0 rfl) ?_
  refine lv_iload_n hx hb d1 rfl (lv_at hl 1 rfl) ?_
  refine lv_aload_n hx hb d2 rfl (lv_at hl 0 rfl) ?_
  refine va_getC hx hb (by rw [hml]; exact hl.1.symm) hown (hts _ (lw_g (lw_at lw_m7 100 rfl) rfl)) ((hEnv.2.2.2.1 _ (lw_at lw_m28 115 rfl) rfl).use rfl) (hts _ (lw_g (lw_at lw_m28 114 rfl) rfl)) (hts _ (lw_g (lw_at lw_m7 101 rfl) rfl)) (hts _ (lw_g (lw_at lw_m7 165 rfl) rfl)) hMi ⟨_, hcell, rfl, hnm⟩ (by show 1 ≤ 20 + dd; omega) (by show _ + 14 ≤ 400 + 48 * dd; have : (([.int n, .ref (ad a)] : List Value).map fun v => v.category).sum = 2 := rfl; omega) d3 ?_
  refine sg_run1 (h := h) (ls := [.ref a, .int n]) (rest := []) (aa := #[.ref (ad a), .int n, .ref mi]) ⟨Nat.le_refl _, hle.1, Nat.le_refl _, hle.2⟩ hR h8 (fun _ _ => rfl) va_S.rf hF sn_S_nil (Nat.zero_add _) (Nat.zero_add _) (vx_runS (As := [.ref (ad a), .int n, .ref mi]) S (cp_met3 hTX h8k hc) (va_cwS 3 hts (lw_S (lw_g (lw_at lw_m7 166 rfl) rfl) (lw_g (lw_at lw_m7 167 rfl) rfl) (lw_g (lw_at lw_m1 56 rfl) rfl) (lw_g (lw_at lw_m7 168 rfl) rfl)) rfl rfl rfl ⟨by decide, by decide, by decide +kernel⟩ ⟨by show 8 + 1 ≤ 20 + dd; omega, by show 8 + (4 + 11) + 260 ≤ 400 + 48 * dd; omega⟩) ⟨cp_blind hTX, fun U hU hW => ⟨rfl, sn_Env_moved hTX hW (by rw [hU]; exact Nat.le_refl _) (fun a _ _ => by rw [hU]) hEnv, by rw [hU]; exact hR, h8, hlt, va_Mi.moved hW.alike hMi⟩⟩ rfl rfl hl.1 rfl (Nat.le_of_ble_eq_true rfl) d6 ⟨?_, ?_⟩) (fun v e => ?_) (fun c0 e => by cases e)
  · show 0 + (h'.1 - h.1) ≤ h'.1 - h.1; omega
  · show 0 + (h'.2.1 - h.2.1) ≤ h'.2.1 - h.2.1; omega
  · cases e
    exact sg_aret S hlk hr (Or.inr ⟨_, rfl⟩) rfl d9
end
section
variable {p : Program} {l : Launch} {e : Env} {R : Room} {s : State} {m : MethodId} {args : Array Value} {below : List Frame} {meth : Method} {c : Code} {Q : State → Prop} {D : va_G} {κ : FieldType → ClassId} {A : Nat → Prop} {k8 : Nat → pm_E} {a8 : Nat → Nat} {nL : Nat} {ad0 : Nat → Nat} {h0 : pm_H} {cc : ByteArray} {own : String} {pc : Nat} {ls st : List Value} {h : pm_H} {L : Nat} {xs : Nat → Int32} {TX : State → Heap → Prop} {jp : Nat → List Value → List Value → pm_H → pm_R} {hs : List (List Nat × Nat × Nat)} {K : pm_K} {cl : pm_C} {d0 : Nat} {o : Outcome} {h' : pm_H}
theorem st_copyOf {x : Nat} (S : CallFix p m c cc nL s args lw_all own) (hTX : sn_TXok TX A) (hTXm : ∀ U, TX U U.heap → ∃ mi, va_Mi "[Ljava/lang/Object;" mi U) (hEnv : sn_Env TX D κ A a8 L xs s) (h8k : sn_K8 k8 L xs) (hR : 21 + d0 ≤ R.frames ∧ 448 + 48 * d0 ≤ R.locals) (hk : ∀ ls st g, pm_le h0 g → pm_int jp hs (K ls st g) = some (o, h') → pm_le g h' ∧ sn_G p l e R s m args below meth c Q D κ A k8 a8 nL ad0 h0 (pc + 3) ls st g) (hle : pm_le h0 h) (hroom : h'.1 ≤ h0.1 + R.cells ∧ h'.2.1 ≤ h0.2.1 + R.slots) (hlk : Cond.methodLink own x ⟨"java/util/Arrays", "copyOf", "([Ljava/lang/Object;I)[Ljava/lang/Object;"⟩ ∈ lw_all) (d : decode cc pc = .ok (.invokestatic x, 3)) (hrun : pm_int jp hs (pm_st pm_tab cl .monitorexit K ls st h) = some (o, h')) : sn_G p l e R s m args below meth c Q D κ A k8 a8 nL ad0 h0 pc ls st h := by
  unfold pm_st at hrun
  dsimp only at hrun
  split at hrun
  case h_2 => cases (show (none : pm_R) = some (o, h') from hrun)
  rename_i n a s0
  split at hrun
  case isFalse => cases (show (none : pm_R) = some (o, h') from hrun)
  rename_i hcat
  cases hc : pm_copyOf h a n with
  | none => rw [hc] at hrun; cases (show (none : pm_R) = some (o, h') from hrun)
  | some g1 =>
    rw [hc] at hrun
    have hrun : pm_int jp hs (K ls (.ref h.1 :: s0) g1) = some (o, h') := hrun
    have hg := pm_le_copyOf hc
    obtain ⟨hg1, kk⟩ := hk _ _ _ (pm_le_tr hle hg) hrun
    refine sg_callS (as := [.ref a, .int n]) (rest := s0) (o := .returned (some (.ref h.1))) (d0 := d0) hTX hEnv S (fun ad => cp_met2 hTX h8k hTXm hc) (va_cwS 2 S.2.2.2.2 (lw_S hlk (lw_g (lw_at lw_m7 98 rfl) rfl) (lw_g (lw_at lw_m1 56 rfl) rfl) (lw_g (lw_at lw_m7 99 rfl) rfl)) rfl rfl rfl ⟨by decide, by decide, by decide +kernel⟩ ⟨by show 20 + d0 + 1 ≤ R.frames; omega, by show 8 + (2 + 11) + (400 + 48 * d0) ≤ R.locals; omega⟩) ⟨hle.1, hg.1, hle.2, hg.2⟩ hcat ⟨Nat.le_trans hg1.1 hroom.1, Nat.le_trans hg1.2 hroom.2⟩ d (fun v e => ?_) (fun c0 e => by cases e)
    cases e
    exact kk
end
