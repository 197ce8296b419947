/-! ===== SOUNDNESS, 19: a method's throws and returns ===== -/
theorem pm_hd_in {c0 t i : Nat} : ∀ {hs : List (List Nat × Nat × Nat)}, pm_hd c0 hs = some (t, i) → ∃ cs, (cs, t, i) ∈ hs
  | [], h => by cases h
  | (cs, q) :: l, h => by
    unfold pm_hd at h
    split at h
    · cases h; exact ⟨cs, List.mem_cons_self⟩
    · obtain ⟨cs', h'⟩ := pm_hd_in h
      exact ⟨cs', List.mem_cons_of_mem _ h'⟩
section
variable {p : Program} {l : Launch} {e : Env} {R : Room} {s : State} {m : MethodId} {args : Array Value} {below : List Frame} {meth : Method} {c : Code} {D : va_G} {κ : FieldType → ClassId} {A : Nat → Prop} {k8 : Nat → pm_E} {a8 : Nat → Nat} {nL : Nat} {ad0 : Nat → Nat} {h0 : pm_H} {cc : ByteArray} {own : String} {pc : Nat} {ls st : List Value} {h : pm_H} {L : Nat} {xs : Nat → Int32} {TX : State → Heap → Prop} {lk : lk_T} {B : List Nat} {rt : Nat} {ini : Bool} {jp : Nat → List Value → List Value → pm_H → pm_R} {K : pm_K} {cl : pm_C} {o : Outcome} {h' : pm_H}
theorem sn_thr {hh : List (Nat × Nat × Nat × Nat)} {hs0 : List (List Nat × Nat × Nat)} {bs : List Nat} (S : CallFix p m c cc nL s args lw_all own) (T : lk_sem own lk) (hEnv : sn_Env TX D κ A a8 L xs s) (hlocks : meth.locks = false) (ht : c.exceptionTable.toList = tableOf hh) (hbs : cc.data.toList.map UInt8.toNat = bs) (hxx : hx lk B bs pc hh = some hs0) (hloc : ∀ q ∈ hs0, q.2.2 < nL) (hex : ∀ c0 g, o = .threw c0 → h' = g → c0 ∈ sn_exs) (hcx : ∀ v ∈ sn_exs, Cond.castable (sn_nm v) (sn_nm v) ∈ lw_tbl)
    (hj : ∀ t ls st g, pm_le h0 g → jp t ls st g = some (o, h') → t < B.length ∧ t < 99999 ∧ sn_G p l e R s m args below meth c (vx_MQ below (sn_Qc D κ A k8 ad0 h0 h' o) (sn_XC D κ A k8 ad0 h0 h' o) args s (h'.1 - h0.1) (h'.2.1 - h0.2.1) A) D κ A k8 a8 nL ad0 h0 (B.getD t 99998) ls st g) (hjp : ∀ j ls st h o g, jp j ls st h = some (o, g) → pm_le h g) {c0 : Nat} {g : pm_H} (hle : pm_le h0 g) (hrun : pm_int jp hs0 (.inr (.inr (ls, c0, g))) = some (o, h')) : pm_le g h' ∧ sn_Gx p l e R s m args below meth c (vx_MQ below (sn_Qc D κ A k8 ad0 h0 h' o) (sn_XC D κ A k8 ad0 h0 h' o) args s (h'.1 - h0.1) (h'.2.1 - h0.2.1) A) D κ A k8 a8 nL ad0 h0 pc ls c0 g := by
  obtain ⟨r1, r2⟩ := sn_hx (c0 := c0) T hh hs0 hxx
  have hrun : (match pm_hd c0 hs0 with | some (t, i) => jp t (pm_set1 ls i pm_junk) [] g | none => some (.threw c0, g)) = some (o, h') := hrun
  cases hp : pm_hd c0 hs0 with
  | some q =>
    obtain ⟨t, i⟩ := q
    rw [hp] at hrun
    have hrun : jp t (pm_set1 ls i pm_junk) [] g = some (o, h') := hrun
    refine ⟨hjp _ _ _ _ _ _ hrun, ?_⟩
    obtain ⟨pre, x, suf, ig, len, e1, e2, e3, e4, e5, e6, e7, e8, e9⟩ := r2 t i hp
    obtain ⟨q1, q2⟩ := sn_hJ hj e9.symm hle hrun
    have q1 : x.handlerPc + len = B.getD t 99998 := by exact_mod_cast q1
    rw [← q1] at q2
    obtain ⟨cs, hin⟩ := pm_hd_in hp
    intro ad H locs la cells slots rest q ce hR h8 hE hS hF c1 c2 a1 a2 a3
    refine sg_catch (pre := pre) (x := x) (suf := suf) (ig := ig) S hEnv (by rw [ht]; exact e1) e5 (fun z hz => ?_) e3 e4 e6 (hcx c0 e5) (by rw [hF.1]; exact hloc _ hin) e7 (sd_ok ?_ e8) q2 ad H locs la cells slots rest q ce hR h8 hE hS hF c1 c2 a1 a2 a3
    · exact e2 z hz
    · rw [← hbs, ← List.map_drop]
  | none =>
    rw [hp] at hrun
    cases hrun
    refine ⟨pm_le_rf _, ?_⟩
    have hpass := r1 hp
    intro ad H locs la cells slots rest q ce hR h8 hE hS hF c1 c2 a1 a2 a3
    have z1 : h'.1 - h0.1 = cells := by omega
    have z2 : h'.2.1 - h0.2.1 = slots := by omega
    rw [z1, z2]
    by_cases hc0 : c0 ∈ sn_exs
    · exact vx_outP (own := own) (E := sn_nm c0) S.2.2.2.1 hlocks (fun z hz => by
        rw [ht] at hz
        rcases hpass z hz with w | ⟨w1, b, w2, w3, w4⟩
        · exact Or.inl w
        · exact Or.inr ⟨w1, sn_nm b, S.2.2.2.2 _ w4, hEnv.2.2.2.2.2.2.2.2.2.1 c0 hc0 b w2 w3⟩) a1 a2 a3 (fun t ht hW => ⟨ad, c0, rfl, rfl, hE, by rw [ht]; exact hR, hS.F ht⟩) (fun z hz => hS.2.2 z hz) (Nat.le_refl _) (Nat.le_refl _)
    · exact absurd (hex c0 _ rfl rfl) hc0
theorem sn_ret {ret : Option FieldType} (S : CallFix p m c cc nL s args lw_all own) (hlocks : meth.locks = false) (hr : meth.sig.returnType = ret) (hrt : ∀ ty, ret = some ty → sn_dg ty = rt) (hrn : ret = none → rt = 9) (hle : pm_le h0 h) {i : Instr} {hs : List (List Nat × Nat × Nat)} (hi : i = .ireturn ∨ i = .lreturn ∨ i = .areturn ∨ i = .return_) (d : decode cc pc = .ok (i, 1)) (hrun : pm_int jp hs (pm_st pm_tab cl (tr lk B rt ini pc i) K ls st h) = some (o, h')) : sn_G p l e R s m args below meth c (vx_MQ below (sn_Qc D κ A k8 ad0 h0 h' o) (sn_XC D κ A k8 ad0 h0 h' o) args s (h'.1 - h0.1) (h'.2.1 - h0.2.1) A) D κ A k8 a8 nL ad0 h0 pc ls st h := by
  rcases hi with rfl | rfl | rfl | rfl
  · have hrun : pm_int jp hs (pm_st pm_tab cl (.jsr (rt : Int)) K ls st h) = some (o, h') := hrun
    unfold pm_st at hrun
    dsimp only at hrun
    split at hrun
    · split at hrun
      · rename_i hok
        cases hrun
        cases hret : ret with
        | none =>
          have := hrn hret
          subst this
          exact absurd hok (by simp [pm_ok])
        | some ty =>
          have e := hrt ty hret
          subst e
          exact sg_zret S hlocks (hr.trans hret) (sn_okfit (ad := fun q => q) hok).1 rfl d
      · cases (show (none : pm_R) = some (o, h') from hrun)
    · cases (show (none : pm_R) = some (o, h') from hrun)
  · unfold tr at hrun
    dsimp only at hrun
    unfold tr_b at hrun
    split at hrun
    · rename_i hb
      have hb := Nat.eq_of_beq_eq_true hb
      unfold pm_st at hrun
      dsimp only at hrun
      split at hrun
      · cases hrun
        cases hret : ret with
        | none => have := hrn hret; omega
        | some ty =>
          have e := hrt ty hret
          rw [hb] at e
          have et : ty = .long := by cases ty <;> first | rfl | (revert e; decide) | (simp [sn_dg] at e)
          subst et
          exact sg_lret S hlocks (hr.trans hret) rfl d
      · cases (show (none : pm_R) = some (o, h') from hrun)
    · cases (show (none : pm_R) = some (o, h') from hrun)
  · unfold tr at hrun
    dsimp only at hrun
    unfold tr_b at hrun
    split at hrun
    · rename_i hb
      have hb := Nat.eq_of_beq_eq_true hb
      unfold pm_st at hrun
      dsimp only at hrun
      cases hret : ret with
      | none => have := hrn hret; omega
      | some ty =>
        have e := hrt ty hret
        rw [hb] at e
        have et : (∃ n, ty = .object n) ∨ ∃ t, ty = .array t := by cases ty <;> first | exact Or.inl ⟨_, rfl⟩ | exact Or.inr ⟨_, rfl⟩ | (revert e; decide) | (simp [sn_dg] at e)
        split at hrun
        · cases hrun
          exact sg_aret S hlocks (hr.trans hret) et rfl d
        · cases hrun
          exact sg_aretN S hlocks (hr.trans hret) et rfl d
        · cases (show (none : pm_R) = some (o, h') from hrun)
    · cases (show (none : pm_R) = some (o, h') from hrun)
  · unfold tr at hrun
    dsimp only at hrun
    unfold tr_b at hrun
    split at hrun
    · rename_i hb
      have hb := Nat.eq_of_beq_eq_true hb
      unfold pm_st at hrun
      dsimp only at hrun
      split at hrun
      · cases hrun
        cases hret : ret with
        | none => exact sg_vret S hlocks (hr.trans hret) rfl d
        | some ty =>
          have e := hrt ty hret
          rw [hb] at e
          exact absurd e (by cases ty <;> simp [sn_dg])
      · cases (show (none : pm_R) = some (o, h') from hrun)
    · cases (show (none : pm_R) = some (o, h') from hrun)
end
