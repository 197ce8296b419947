/-! ===== SOUNDNESS, 22: calls by the object's class ===== -/
/-- the named method of a call by the object's class -/
def sn_vmX (q : Nat) : MethodName := match q with | 0 => ⟨"TimberHouse$LathePieces$Way", "radius", "(I)I"⟩ | _ => ⟨"TimberHouse$RouterPaths$Statement", "drive", "(LTimberHouse$RouterPaths$Machine;)V"⟩
def sn_vmok (q : Nat) : Prop := Cond.sameMethod (sn_vmX q).cls (sn_vmX q).cls (sn_vmX q).name (sn_vmX q).desc ∈ lw_all ∧ Cond.declares (sn_vmX q) ∈ lw_tbl ∧ ((sn_vmX q).cls ≠ "java/lang/invoke/MethodHandle" ∧ (sn_vmX q).cls ≠ "java/lang/invoke/VarHandle" ∧ (parseMethodDescriptor (sn_vmX q).desc).map (fun d => d.parameters.length) = some 1) ∧ (∀ c, (pm_prog.2 (pm_vm q c)).2.2.1 ≠ 0) ∧ ∀ c, pm_sub c (pm_prog.2 (pm_vm q c)).2.2.1 = true → c < 90 ∧ sn_gd (pm_vm q c) ∧ sn_kd (pm_vm q c) = 3 ∧ (sn_b (pm_vm q c)).2.2.2 = [] ∧ Cond.selects (sn_nm c) (sn_vmX q) (sn_y (pm_vm q c)) ∈ lw_all
section
variable {p : Program} {l : Launch} {e : Env} {R : Room} {s : State} {m : MethodId} {args : Array Value} {below : List Frame} {meth : Method} {c : Code} {Q : State → Prop} {D : va_G} {κ : FieldType → ClassId} {A : Nat → Prop} {k8 : Nat → pm_E} {a8 : Nat → Nat} {nL : Nat} {ad0 : Nat → Nat} {h0 : pm_H} {cc : ByteArray} {own : String} {pc : Nat} {ls st : List Value} {h : pm_H} {L : Nat} {xs : Nat → Int32} {TX : State → Heap → Prop} {jp : Nat → List Value → List Value → pm_H → pm_R} {hs : List (List Nat × Nat × Nat)} {K : pm_K} {cl : pm_C} {d0 : Nat} {o : Outcome} {h' : pm_H}
theorem st_callD {x v q : Nat} (S : CallFix p m c cc nL s args lw_all own) (hTX : sn_TXok TX A) (hEnv : sn_Env TX D κ A a8 L xs s) (h8k : sn_K8 k8 L xs) (hIH : sn_IH l TX D κ A k8 a8 L xs cl d0) (hR : 21 + d0 ≤ R.frames ∧ 448 + 48 * d0 ≤ R.locals) (hthr : ∀ ls c0 g, pm_le h0 g → pm_int jp hs (.inr (.inr (ls, c0, g))) = some (o, h') → pm_le g h' ∧ sn_Gx p l e R s m args below meth c Q D κ A k8 a8 nL ad0 h0 pc ls c0 g) (hk : ∀ ls st g, pm_le h0 g → pm_int jp hs (K ls st g) = some (o, h') → pm_le g h' ∧ sn_G p l e R s m args below meth c Q D κ A k8 a8 nL ad0 h0 (pc + 3) ls st g) (hle : pm_le h0 h) (hroom : h'.1 ≤ h0.1 + R.cells ∧ h'.2.1 ≤ h0.2.1 + R.slots) (hlk : Cond.methodLink own x (sn_vmX q) ∈ lw_all) (hv : v = 16 * q + 2) (hok : sn_vmok q) (d : decode cc pc = .ok (.invokevirtual x, 3)) (hrun : pm_int jp hs (pm_st pm_tab cl (.invokedynamic v) K ls st h) = some (o, h')) : sn_G p l e R s m args below meth c Q D κ A k8 a8 nL ad0 h0 pc ls st h := by
  have e1 : v / 16 = q := by omega
  have e2 : v % 16 = 2 := by omega
  unfold pm_st at hrun
  dsimp only at hrun
  rw [e1, e2] at hrun
  split at hrun
  case h_2 => cases (show (none : pm_R) = some (o, h') from hrun)
  rename_i a ha
  split at hrun
  case h_2 => cases (show (none : pm_R) = some (o, h') from hrun)
  rename_i c0 hc0
  split at hrun
  case isFalse => cases (show (none : pm_R) = some (o, h') from hrun)
  rename_i hn
  have hrun : pm_int jp hs (pm_aft (cl (pm_vm q c0) (st.take 2).reverse h) ls (st.drop 2) K) = some (o, h') := hrun
  cases hcl : cl (pm_vm q c0) (st.take 2).reverse h with
  | none => rw [hcl] at hrun; cases (show (none : pm_R) = some (o, h') from hrun)
  | some r =>
    obtain ⟨o1, g1⟩ := r
    rw [hcl] at hrun
    obtain ⟨hg, hrc, hM⟩ := hIH _ _ _ _ _ hcl
    have hlen : (st.take 2).reverse.length = 2 := by rw [List.length_reverse, List.length_take]; omega
    have hst : st = ((st.take 2).reverse).reverse ++ st.drop 2 := by rw [List.reverse_reverse, List.take_append_drop]
    have hg1 : pm_le g1 h' := by
      cases o1 with
      | returned w => exact (hk _ _ _ (pm_le_tr hle hg) hrun).1
      | threw c0 => exact (hthr _ _ _ (pm_le_tr hle hg) hrun).1
    have kr : ∀ w, o1 = .returned w → sn_G p l e R s m args below meth c Q D κ A k8 a8 nL ad0 h0 (pc + 3) ls (w.toList ++ st.drop 2) g1 := by
      intro w e; subst e
      exact (hk _ _ _ (pm_le_tr hle hg) hrun).2
    have kx : ∀ c0, o1 = .threw c0 → sn_Gx p l e R s m args below meth c Q D κ A k8 a8 nL ad0 h0 pc ls c0 g1 := by
      intro c0 e; subst e
      exact (hthr _ _ _ (pm_le_tr hle hg) hrun).2
    have hle4 : h0.1 ≤ h.1 ∧ h.1 ≤ g1.1 ∧ h0.2.1 ≤ h.2.1 ∧ h.2.1 ≤ g1.2.1 := ⟨hle.1, hg.1, hle.2, hg.2⟩
    have hroom1 : g1.1 ≤ h0.1 + R.cells ∧ g1.2.1 ≤ h0.2.1 + R.slots := ⟨Nat.le_trans hg1.1 hroom.1, Nat.le_trans hg1.2 hroom.2⟩
    obtain ⟨w1, w2, w3, w4, w5⟩ := hok
    rw [hst]
    generalize has : (st.take 2).reverse = as at hM hrc hlen hst hcl ha ⊢
    have hcc := w4 c0
    match as, ha with
    | .ref b :: as', ha =>
      have eb : b = a := by
        simp only [List.head?_cons, Option.some.injEq, Value.ref.injEq] at ha
        exact ha
      subst eb
      have hsub : pm_sub c0 (pm_prog.2 (pm_vm q c0)).2.2.1 = true := by
        unfold pm_rc at hrc
        dsimp only at hrc
        rw [hc0] at hrc
        rcases Bool.or_eq_true _ _ ▸ hrc with r | r
        · exact absurd (by simpa using r) hcc
        · exact r
      obtain ⟨u1, u2, u3, u4, u5⟩ := w5 c0 hsub
      have hkf := u2.2.2.1
      rw [u3] at hkf
      have hw := u2.1
      rw [sn_w0 u4] at hw hM
      have hRR : (sn_rm d0 h g1).frames + 1 ≤ R.frames ∧ 8 + ((sn_b (pm_vm q c0)).2.1 + 11) + (sn_rm d0 h g1).locals ≤ R.locals := by
        have hb20 := u2.2.2.2.2.2.1
        show 20 + d0 + 1 ≤ R.frames ∧ 8 + ((sn_b (pm_vm q c0)).2.1 + 11) + (400 + 48 * d0) ≤ R.locals
        omega
      have hl1 : as'.length = 1 := by
        simp only [List.length_cons] at hlen
        omega
      rw [List.reverse_cons, List.append_assoc]
      refine sg_callU (x := sn_vmX q) (owner := (sn_vmX q).cls) hTX hEnv S h8k hc0 u1 hM (va_cwA _ S.2.2.2.2 (lw_app ?_ (lw_meth hw)) rfl rfl rfl (hEnv.2.2.2.1 _ w2 rfl) (by rw [hl1]; exact w3) hRR) hle4 hn.2 hroom1 d kr kx
      intro w hw9
      simp only [List.mem_cons, List.not_mem_nil, or_false] at hw9
      rcases hw9 with e | e | e | e | e <;> subst e
      · exact hlk
      · exact w1
      · exact u5
      · exact hkf.1
      · exact u2.2.1
    | .int _ :: _, ha => simp at ha
    | .long _ :: _, ha => simp at ha
    | .float _ :: _, ha => simp at ha
    | .double _ :: _, ha => simp at ha
    | .null :: _, ha => simp at ha
    | .retAddr _ :: _, ha => simp at ha
    | [], ha => simp at ha
end
