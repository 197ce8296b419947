/-! ===== SOUNDNESS, 11: an instruction that was checked ===== -/
theorem lk_in {α : Type} {k : Nat} {v : α} : ∀ {l : List (Nat × α)}, lk_get k l = some v → (k, v) ∈ l
  | [], h => by cases h
  | (a, w) :: l, h => by
    unfold lk_get at h
    split at h
    · rename_i hb
      cases h
      rw [Nat.eq_of_beq_eq_true hb]
      exact List.mem_cons_self
    · exact List.mem_cons_of_mem _ (lk_in h)
theorem bk_ok {z : Int} : ∀ (B : List Nat) (j t : Nat), bk z B j = t → t < j + B.length → t < 99999 → j ≤ t ∧ ((B.getD (t - j) 99998 : Nat) : Int) = z
  | [], j, t, h, ht, hn => by
    have e : t = 99999 := h.symm
    omega
  | b :: B, j, t, h, ht, hn => by
    unfold bk at h
    split at h
    · rename_i hb
      subst h
      refine ⟨Nat.le_refl _, ?_⟩
      rw [Nat.sub_self]
      exact of_decide_eq_true hb
    · have := bk_ok B (j + 1) t h (by simp only [List.length_cons] at ht; omega) hn
      refine ⟨by omega, ?_⟩
      have e : t - j = (t - (j + 1)) + 1 := by omega
      rw [e, List.getD_cons_succ]
      exact this.2
theorem bk_pos {z : Int} {B : List Nat} : ∀ {j : Nat}, Nat.beq (bk z B j) 99999 = false → ∃ t : Nat, z = (t : Int) := by
  induction B with
  | nil =>
    intro j h
    rw [show bk z [] j = 99999 from rfl, Nat.beq_refl] at h
    exact Bool.noConfusion h
  | cons b B ih =>
    intro j h
    unfold bk at h
    split at h
    · rename_i hb
      exact ⟨b, (of_decide_eq_true hb).symm⟩
    · exact ih h
section
variable {p : Program} {l : Launch} {e : Env} {R : Room} {s : State} {m : MethodId} {args : Array Value} {below : List Frame} {meth : Method} {c : Code} {Q : State → Prop} {D : va_G} {κ : FieldType → ClassId} {A : Nat → Prop} {k8 : Nat → pm_E} {a8 : Nat → Nat} {nL : Nat} {ad0 : Nat → Nat} {h0 : pm_H} {cc : ByteArray} {own : String} {pc : Nat} {ls st : List Value} {h : pm_H} {L : Nat} {xs : Nat → Int32} {TX : State → Heap → Prop} {lk : lk_T} {B : List Nat} {rt : Nat} {ini : Bool} {jp : Nat → List Value → List Value → pm_H → pm_R} {hs : List (List Nat × Nat × Nat)} {K : pm_K} {cl : pm_C} {o : Outcome} {h' : pm_H}
theorem st_iadd (S : CallFix p m c cc nL s args lw_all own) (hk : ∀ ls st g, pm_le h0 g → pm_int jp hs (K ls st g) = some (o, h') → sn_G p l e R s m args below meth c Q D κ A k8 a8 nL ad0 h0 (pc + 1) ls st g) (hle : pm_le h0 h) (d : decode cc pc = .ok (.iadd, 1)) (hrun : pm_int jp hs (pm_st pm_tab cl (tr lk B rt ini pc (.iadd)) K ls st h) = some (o, h')) : sn_G p l e R s m args below meth c Q D κ A k8 a8 nL ad0 h0 pc ls st h := by
  have hrun : pm_int jp hs (pm_st pm_tab cl (.iadd) K ls st h) = some (o, h') := hrun
  unfold pm_st at hrun
  dsimp only at hrun
  split at hrun
  · exact sg_iadd S d (hk _ _ _ hle hrun)
  · cases (show (none : pm_R) = some (o, h') from hrun)
theorem st_isub (S : CallFix p m c cc nL s args lw_all own) (hk : ∀ ls st g, pm_le h0 g → pm_int jp hs (K ls st g) = some (o, h') → sn_G p l e R s m args below meth c Q D κ A k8 a8 nL ad0 h0 (pc + 1) ls st g) (hle : pm_le h0 h) (d : decode cc pc = .ok (.isub, 1)) (hrun : pm_int jp hs (pm_st pm_tab cl (tr lk B rt ini pc (.isub)) K ls st h) = some (o, h')) : sn_G p l e R s m args below meth c Q D κ A k8 a8 nL ad0 h0 pc ls st h := by
  have hrun : pm_int jp hs (pm_st pm_tab cl (.isub) K ls st h) = some (o, h') := hrun
  unfold pm_st at hrun
  dsimp only at hrun
  split at hrun
  · exact sg_isub S d (hk _ _ _ hle hrun)
  · cases (show (none : pm_R) = some (o, h') from hrun)
theorem st_imul (S : CallFix p m c cc nL s args lw_all own) (hk : ∀ ls st g, pm_le h0 g → pm_int jp hs (K ls st g) = some (o, h') → sn_G p l e R s m args below meth c Q D κ A k8 a8 nL ad0 h0 (pc + 1) ls st g) (hle : pm_le h0 h) (d : decode cc pc = .ok (.imul, 1)) (hrun : pm_int jp hs (pm_st pm_tab cl (tr lk B rt ini pc (.imul)) K ls st h) = some (o, h')) : sn_G p l e R s m args below meth c Q D κ A k8 a8 nL ad0 h0 pc ls st h := by
  have hrun : pm_int jp hs (pm_st pm_tab cl (.imul) K ls st h) = some (o, h') := hrun
  unfold pm_st at hrun
  dsimp only at hrun
  split at hrun
  · exact sg_imul S d (hk _ _ _ hle hrun)
  · cases (show (none : pm_R) = some (o, h') from hrun)
theorem st_iand (S : CallFix p m c cc nL s args lw_all own) (hk : ∀ ls st g, pm_le h0 g → pm_int jp hs (K ls st g) = some (o, h') → sn_G p l e R s m args below meth c Q D κ A k8 a8 nL ad0 h0 (pc + 1) ls st g) (hle : pm_le h0 h) (d : decode cc pc = .ok (.iand, 1)) (hrun : pm_int jp hs (pm_st pm_tab cl (tr lk B rt ini pc (.iand)) K ls st h) = some (o, h')) : sn_G p l e R s m args below meth c Q D κ A k8 a8 nL ad0 h0 pc ls st h := by
  have hrun : pm_int jp hs (pm_st pm_tab cl (.iand) K ls st h) = some (o, h') := hrun
  unfold pm_st at hrun
  dsimp only at hrun
  split at hrun
  · exact sg_iand S d (hk _ _ _ hle hrun)
  · cases (show (none : pm_R) = some (o, h') from hrun)
theorem st_ior (S : CallFix p m c cc nL s args lw_all own) (hk : ∀ ls st g, pm_le h0 g → pm_int jp hs (K ls st g) = some (o, h') → sn_G p l e R s m args below meth c Q D κ A k8 a8 nL ad0 h0 (pc + 1) ls st g) (hle : pm_le h0 h) (d : decode cc pc = .ok (.ior, 1)) (hrun : pm_int jp hs (pm_st pm_tab cl (tr lk B rt ini pc (.ior)) K ls st h) = some (o, h')) : sn_G p l e R s m args below meth c Q D κ A k8 a8 nL ad0 h0 pc ls st h := by
  have hrun : pm_int jp hs (pm_st pm_tab cl (.ior) K ls st h) = some (o, h') := hrun
  unfold pm_st at hrun
  dsimp only at hrun
  split at hrun
  · exact sg_ior S d (hk _ _ _ hle hrun)
  · cases (show (none : pm_R) = some (o, h') from hrun)
theorem st_ixor (S : CallFix p m c cc nL s args lw_all own) (hk : ∀ ls st g, pm_le h0 g → pm_int jp hs (K ls st g) = some (o, h') → sn_G p l e R s m args below meth c Q D κ A k8 a8 nL ad0 h0 (pc + 1) ls st g) (hle : pm_le h0 h) (d : decode cc pc = .ok (.ixor, 1)) (hrun : pm_int jp hs (pm_st pm_tab cl (tr lk B rt ini pc (.ixor)) K ls st h) = some (o, h')) : sn_G p l e R s m args below meth c Q D κ A k8 a8 nL ad0 h0 pc ls st h := by
  have hrun : pm_int jp hs (pm_st pm_tab cl (.ixor) K ls st h) = some (o, h') := hrun
  unfold pm_st at hrun
  dsimp only at hrun
  split at hrun
  · exact sg_ixor S d (hk _ _ _ hle hrun)
  · cases (show (none : pm_R) = some (o, h') from hrun)
theorem st_ishl (S : CallFix p m c cc nL s args lw_all own) (hk : ∀ ls st g, pm_le h0 g → pm_int jp hs (K ls st g) = some (o, h') → sn_G p l e R s m args below meth c Q D κ A k8 a8 nL ad0 h0 (pc + 1) ls st g) (hle : pm_le h0 h) (d : decode cc pc = .ok (.ishl, 1)) (hrun : pm_int jp hs (pm_st pm_tab cl (tr lk B rt ini pc (.ishl)) K ls st h) = some (o, h')) : sn_G p l e R s m args below meth c Q D κ A k8 a8 nL ad0 h0 pc ls st h := by
  have hrun : pm_int jp hs (pm_st pm_tab cl (.ishl) K ls st h) = some (o, h') := hrun
  unfold pm_st at hrun
  dsimp only at hrun
  split at hrun
  · exact sg_ishl S d (hk _ _ _ hle hrun)
  · cases (show (none : pm_R) = some (o, h') from hrun)
theorem st_ishr (S : CallFix p m c cc nL s args lw_all own) (hk : ∀ ls st g, pm_le h0 g → pm_int jp hs (K ls st g) = some (o, h') → sn_G p l e R s m args below meth c Q D κ A k8 a8 nL ad0 h0 (pc + 1) ls st g) (hle : pm_le h0 h) (d : decode cc pc = .ok (.ishr, 1)) (hrun : pm_int jp hs (pm_st pm_tab cl (tr lk B rt ini pc (.ishr)) K ls st h) = some (o, h')) : sn_G p l e R s m args below meth c Q D κ A k8 a8 nL ad0 h0 pc ls st h := by
  have hrun : pm_int jp hs (pm_st pm_tab cl (.ishr) K ls st h) = some (o, h') := hrun
  unfold pm_st at hrun
  dsimp only at hrun
  split at hrun
  · exact sg_ishr S d (hk _ _ _ hle hrun)
  · cases (show (none : pm_R) = some (o, h') from hrun)
theorem st_ladd (S : CallFix p m c cc nL s args lw_all own) (hk : ∀ ls st g, pm_le h0 g → pm_int jp hs (K ls st g) = some (o, h') → sn_G p l e R s m args below meth c Q D κ A k8 a8 nL ad0 h0 (pc + 1) ls st g) (hle : pm_le h0 h) (d : decode cc pc = .ok (.ladd, 1)) (hrun : pm_int jp hs (pm_st pm_tab cl (tr lk B rt ini pc (.ladd)) K ls st h) = some (o, h')) : sn_G p l e R s m args below meth c Q D κ A k8 a8 nL ad0 h0 pc ls st h := by
  have hrun : pm_int jp hs (pm_st pm_tab cl (.ladd) K ls st h) = some (o, h') := hrun
  unfold pm_st at hrun
  dsimp only at hrun
  split at hrun
  · exact sg_ladd S d (hk _ _ _ hle hrun)
  · cases (show (none : pm_R) = some (o, h') from hrun)
theorem st_lsub (S : CallFix p m c cc nL s args lw_all own) (hk : ∀ ls st g, pm_le h0 g → pm_int jp hs (K ls st g) = some (o, h') → sn_G p l e R s m args below meth c Q D κ A k8 a8 nL ad0 h0 (pc + 1) ls st g) (hle : pm_le h0 h) (d : decode cc pc = .ok (.lsub, 1)) (hrun : pm_int jp hs (pm_st pm_tab cl (tr lk B rt ini pc (.lsub)) K ls st h) = some (o, h')) : sn_G p l e R s m args below meth c Q D κ A k8 a8 nL ad0 h0 pc ls st h := by
  have hrun : pm_int jp hs (pm_st pm_tab cl (.lsub) K ls st h) = some (o, h') := hrun
  unfold pm_st at hrun
  dsimp only at hrun
  split at hrun
  · exact sg_lsub S d (hk _ _ _ hle hrun)
  · cases (show (none : pm_R) = some (o, h') from hrun)
theorem st_lmul (S : CallFix p m c cc nL s args lw_all own) (hk : ∀ ls st g, pm_le h0 g → pm_int jp hs (K ls st g) = some (o, h') → sn_G p l e R s m args below meth c Q D κ A k8 a8 nL ad0 h0 (pc + 1) ls st g) (hle : pm_le h0 h) (d : decode cc pc = .ok (.lmul, 1)) (hrun : pm_int jp hs (pm_st pm_tab cl (tr lk B rt ini pc (.lmul)) K ls st h) = some (o, h')) : sn_G p l e R s m args below meth c Q D κ A k8 a8 nL ad0 h0 pc ls st h := by
  have hrun : pm_int jp hs (pm_st pm_tab cl (.lmul) K ls st h) = some (o, h') := hrun
  unfold pm_st at hrun
  dsimp only at hrun
  split at hrun
  · exact sg_lmul S d (hk _ _ _ hle hrun)
  · cases (show (none : pm_R) = some (o, h') from hrun)
theorem st_land (S : CallFix p m c cc nL s args lw_all own) (hk : ∀ ls st g, pm_le h0 g → pm_int jp hs (K ls st g) = some (o, h') → sn_G p l e R s m args below meth c Q D κ A k8 a8 nL ad0 h0 (pc + 1) ls st g) (hle : pm_le h0 h) (d : decode cc pc = .ok (.land, 1)) (hrun : pm_int jp hs (pm_st pm_tab cl (tr lk B rt ini pc (.land)) K ls st h) = some (o, h')) : sn_G p l e R s m args below meth c Q D κ A k8 a8 nL ad0 h0 pc ls st h := by
  have hrun : pm_int jp hs (pm_st pm_tab cl (.land) K ls st h) = some (o, h') := hrun
  unfold pm_st at hrun
  dsimp only at hrun
  split at hrun
  · exact sg_land S d (hk _ _ _ hle hrun)
  · cases (show (none : pm_R) = some (o, h') from hrun)
theorem st_lor (S : CallFix p m c cc nL s args lw_all own) (hk : ∀ ls st g, pm_le h0 g → pm_int jp hs (K ls st g) = some (o, h') → sn_G p l e R s m args below meth c Q D κ A k8 a8 nL ad0 h0 (pc + 1) ls st g) (hle : pm_le h0 h) (d : decode cc pc = .ok (.lor, 1)) (hrun : pm_int jp hs (pm_st pm_tab cl (tr lk B rt ini pc (.lor)) K ls st h) = some (o, h')) : sn_G p l e R s m args below meth c Q D κ A k8 a8 nL ad0 h0 pc ls st h := by
  have hrun : pm_int jp hs (pm_st pm_tab cl (.lor) K ls st h) = some (o, h') := hrun
  unfold pm_st at hrun
  dsimp only at hrun
  split at hrun
  · exact sg_lor S d (hk _ _ _ hle hrun)
  · cases (show (none : pm_R) = some (o, h') from hrun)
theorem st_lxor (S : CallFix p m c cc nL s args lw_all own) (hk : ∀ ls st g, pm_le h0 g → pm_int jp hs (K ls st g) = some (o, h') → sn_G p l e R s m args below meth c Q D κ A k8 a8 nL ad0 h0 (pc + 1) ls st g) (hle : pm_le h0 h) (d : decode cc pc = .ok (.lxor, 1)) (hrun : pm_int jp hs (pm_st pm_tab cl (tr lk B rt ini pc (.lxor)) K ls st h) = some (o, h')) : sn_G p l e R s m args below meth c Q D κ A k8 a8 nL ad0 h0 pc ls st h := by
  have hrun : pm_int jp hs (pm_st pm_tab cl (.lxor) K ls st h) = some (o, h') := hrun
  unfold pm_st at hrun
  dsimp only at hrun
  split at hrun
  · exact sg_lxor S d (hk _ _ _ hle hrun)
  · cases (show (none : pm_R) = some (o, h') from hrun)
theorem st_ineg (S : CallFix p m c cc nL s args lw_all own) (hk : ∀ ls st g, pm_le h0 g → pm_int jp hs (K ls st g) = some (o, h') → sn_G p l e R s m args below meth c Q D κ A k8 a8 nL ad0 h0 (pc + 1) ls st g) (hle : pm_le h0 h) (d : decode cc pc = .ok (.ineg, 1)) (hrun : pm_int jp hs (pm_st pm_tab cl (tr lk B rt ini pc (.ineg)) K ls st h) = some (o, h')) : sn_G p l e R s m args below meth c Q D κ A k8 a8 nL ad0 h0 pc ls st h := by
  have hrun : pm_int jp hs (pm_st pm_tab cl (.ineg) K ls st h) = some (o, h') := hrun
  unfold pm_st at hrun
  dsimp only at hrun
  split at hrun
  · exact sg_ineg S d (hk _ _ _ hle hrun)
  · cases (show (none : pm_R) = some (o, h') from hrun)
theorem st_lneg (S : CallFix p m c cc nL s args lw_all own) (hk : ∀ ls st g, pm_le h0 g → pm_int jp hs (K ls st g) = some (o, h') → sn_G p l e R s m args below meth c Q D κ A k8 a8 nL ad0 h0 (pc + 1) ls st g) (hle : pm_le h0 h) (d : decode cc pc = .ok (.lneg, 1)) (hrun : pm_int jp hs (pm_st pm_tab cl (tr lk B rt ini pc (.lneg)) K ls st h) = some (o, h')) : sn_G p l e R s m args below meth c Q D κ A k8 a8 nL ad0 h0 pc ls st h := by
  have hrun : pm_int jp hs (pm_st pm_tab cl (.lneg) K ls st h) = some (o, h') := hrun
  unfold pm_st at hrun
  dsimp only at hrun
  split at hrun
  · exact sg_lneg S d (hk _ _ _ hle hrun)
  · cases (show (none : pm_R) = some (o, h') from hrun)
theorem st_lshl (S : CallFix p m c cc nL s args lw_all own) (hk : ∀ ls st g, pm_le h0 g → pm_int jp hs (K ls st g) = some (o, h') → sn_G p l e R s m args below meth c Q D κ A k8 a8 nL ad0 h0 (pc + 1) ls st g) (hle : pm_le h0 h) (d : decode cc pc = .ok (.lshl, 1)) (hrun : pm_int jp hs (pm_st pm_tab cl (tr lk B rt ini pc (.lshl)) K ls st h) = some (o, h')) : sn_G p l e R s m args below meth c Q D κ A k8 a8 nL ad0 h0 pc ls st h := by
  have hrun : pm_int jp hs (pm_st pm_tab cl (.lshl) K ls st h) = some (o, h') := hrun
  unfold pm_st at hrun
  dsimp only at hrun
  split at hrun
  · exact sg_lshl S d (hk _ _ _ hle hrun)
  · cases (show (none : pm_R) = some (o, h') from hrun)
theorem st_lushr (S : CallFix p m c cc nL s args lw_all own) (hk : ∀ ls st g, pm_le h0 g → pm_int jp hs (K ls st g) = some (o, h') → sn_G p l e R s m args below meth c Q D κ A k8 a8 nL ad0 h0 (pc + 1) ls st g) (hle : pm_le h0 h) (d : decode cc pc = .ok (.lushr, 1)) (hrun : pm_int jp hs (pm_st pm_tab cl (tr lk B rt ini pc (.lushr)) K ls st h) = some (o, h')) : sn_G p l e R s m args below meth c Q D κ A k8 a8 nL ad0 h0 pc ls st h := by
  have hrun : pm_int jp hs (pm_st pm_tab cl (.lushr) K ls st h) = some (o, h') := hrun
  unfold pm_st at hrun
  dsimp only at hrun
  split at hrun
  · exact sg_lushr S d (hk _ _ _ hle hrun)
  · cases (show (none : pm_R) = some (o, h') from hrun)
theorem st_i2l (S : CallFix p m c cc nL s args lw_all own) (hk : ∀ ls st g, pm_le h0 g → pm_int jp hs (K ls st g) = some (o, h') → sn_G p l e R s m args below meth c Q D κ A k8 a8 nL ad0 h0 (pc + 1) ls st g) (hle : pm_le h0 h) (d : decode cc pc = .ok (.i2l, 1)) (hrun : pm_int jp hs (pm_st pm_tab cl (tr lk B rt ini pc (.i2l)) K ls st h) = some (o, h')) : sn_G p l e R s m args below meth c Q D κ A k8 a8 nL ad0 h0 pc ls st h := by
  have hrun : pm_int jp hs (pm_st pm_tab cl (.i2l) K ls st h) = some (o, h') := hrun
  unfold pm_st at hrun
  dsimp only at hrun
  split at hrun
  · exact sg_i2l S d (hk _ _ _ hle hrun)
  · cases (show (none : pm_R) = some (o, h') from hrun)
theorem st_l2i (S : CallFix p m c cc nL s args lw_all own) (hk : ∀ ls st g, pm_le h0 g → pm_int jp hs (K ls st g) = some (o, h') → sn_G p l e R s m args below meth c Q D κ A k8 a8 nL ad0 h0 (pc + 1) ls st g) (hle : pm_le h0 h) (d : decode cc pc = .ok (.l2i, 1)) (hrun : pm_int jp hs (pm_st pm_tab cl (tr lk B rt ini pc (.l2i)) K ls st h) = some (o, h')) : sn_G p l e R s m args below meth c Q D κ A k8 a8 nL ad0 h0 pc ls st h := by
  have hrun : pm_int jp hs (pm_st pm_tab cl (.l2i) K ls st h) = some (o, h') := hrun
  unfold pm_st at hrun
  dsimp only at hrun
  split at hrun
  · exact sg_l2i S d (hk _ _ _ hle hrun)
  · cases (show (none : pm_R) = some (o, h') from hrun)
theorem st_i2b (S : CallFix p m c cc nL s args lw_all own) (hk : ∀ ls st g, pm_le h0 g → pm_int jp hs (K ls st g) = some (o, h') → sn_G p l e R s m args below meth c Q D κ A k8 a8 nL ad0 h0 (pc + 1) ls st g) (hle : pm_le h0 h) (d : decode cc pc = .ok (.i2b, 1)) (hrun : pm_int jp hs (pm_st pm_tab cl (tr lk B rt ini pc (.i2b)) K ls st h) = some (o, h')) : sn_G p l e R s m args below meth c Q D κ A k8 a8 nL ad0 h0 pc ls st h := by
  have hrun : pm_int jp hs (pm_st pm_tab cl (.i2b) K ls st h) = some (o, h') := hrun
  unfold pm_st at hrun
  dsimp only at hrun
  split at hrun
  · exact sg_i2b S d (hk _ _ _ hle hrun)
  · cases (show (none : pm_R) = some (o, h') from hrun)
theorem st_i2s (S : CallFix p m c cc nL s args lw_all own) (hk : ∀ ls st g, pm_le h0 g → pm_int jp hs (K ls st g) = some (o, h') → sn_G p l e R s m args below meth c Q D κ A k8 a8 nL ad0 h0 (pc + 1) ls st g) (hle : pm_le h0 h) (d : decode cc pc = .ok (.i2s, 1)) (hrun : pm_int jp hs (pm_st pm_tab cl (tr lk B rt ini pc (.i2s)) K ls st h) = some (o, h')) : sn_G p l e R s m args below meth c Q D κ A k8 a8 nL ad0 h0 pc ls st h := by
  have hrun : pm_int jp hs (pm_st pm_tab cl (.i2s) K ls st h) = some (o, h') := hrun
  unfold pm_st at hrun
  dsimp only at hrun
  split at hrun
  · exact sg_i2s S d (hk _ _ _ hle hrun)
  · cases (show (none : pm_R) = some (o, h') from hrun)
theorem st_i2c (S : CallFix p m c cc nL s args lw_all own) (hk : ∀ ls st g, pm_le h0 g → pm_int jp hs (K ls st g) = some (o, h') → sn_G p l e R s m args below meth c Q D κ A k8 a8 nL ad0 h0 (pc + 1) ls st g) (hle : pm_le h0 h) (d : decode cc pc = .ok (.i2c, 1)) (hrun : pm_int jp hs (pm_st pm_tab cl (tr lk B rt ini pc (.i2c)) K ls st h) = some (o, h')) : sn_G p l e R s m args below meth c Q D κ A k8 a8 nL ad0 h0 pc ls st h := by
  have hrun : pm_int jp hs (pm_st pm_tab cl (.i2c) K ls st h) = some (o, h') := hrun
  unfold pm_st at hrun
  dsimp only at hrun
  split at hrun
  · exact sg_i2c S d (hk _ _ _ hle hrun)
  · cases (show (none : pm_R) = some (o, h') from hrun)
theorem st_i2d (S : CallFix p m c cc nL s args lw_all own) (hk : ∀ ls st g, pm_le h0 g → pm_int jp hs (K ls st g) = some (o, h') → sn_G p l e R s m args below meth c Q D κ A k8 a8 nL ad0 h0 (pc + 1) ls st g) (hle : pm_le h0 h) (d : decode cc pc = .ok (.i2d, 1)) (hrun : pm_int jp hs (pm_st pm_tab cl (tr lk B rt ini pc (.i2d)) K ls st h) = some (o, h')) : sn_G p l e R s m args below meth c Q D κ A k8 a8 nL ad0 h0 pc ls st h := by
  have hrun : pm_int jp hs (pm_st pm_tab cl (.i2d) K ls st h) = some (o, h') := hrun
  unfold pm_st at hrun
  dsimp only at hrun
  split at hrun
  · exact sg_i2d S d (hk _ _ _ hle hrun)
  · cases (show (none : pm_R) = some (o, h') from hrun)
theorem st_lcmp (S : CallFix p m c cc nL s args lw_all own) (hk : ∀ ls st g, pm_le h0 g → pm_int jp hs (K ls st g) = some (o, h') → sn_G p l e R s m args below meth c Q D κ A k8 a8 nL ad0 h0 (pc + 1) ls st g) (hle : pm_le h0 h) (d : decode cc pc = .ok (.lcmp, 1)) (hrun : pm_int jp hs (pm_st pm_tab cl (tr lk B rt ini pc (.lcmp)) K ls st h) = some (o, h')) : sn_G p l e R s m args below meth c Q D κ A k8 a8 nL ad0 h0 pc ls st h := by
  have hrun : pm_int jp hs (pm_st pm_tab cl (.lcmp) K ls st h) = some (o, h') := hrun
  unfold pm_st at hrun
  dsimp only at hrun
  split at hrun
  · exact sg_lcmp S d (hk _ _ _ hle hrun)
  · cases (show (none : pm_R) = some (o, h') from hrun)
theorem st_dcmp {op : CmpOp} (S : CallFix p m c cc nL s args lw_all own) (hk : ∀ ls st g, pm_le h0 g → pm_int jp hs (K ls st g) = some (o, h') → sn_G p l e R s m args below meth c Q D κ A k8 a8 nL ad0 h0 (pc + 1) ls st g) (hle : pm_le h0 h) (d : decode cc pc = .ok (.dcmp op, 1)) (hrun : pm_int jp hs (pm_st pm_tab cl (tr lk B rt ini pc (.dcmp op)) K ls st h) = some (o, h')) : sn_G p l e R s m args below meth c Q D κ A k8 a8 nL ad0 h0 pc ls st h := by
  have hrun : pm_int jp hs (pm_st pm_tab cl (.dcmp op) K ls st h) = some (o, h') := hrun
  unfold pm_st at hrun
  dsimp only at hrun
  split at hrun
  · exact sg_dcmp S d (hk _ _ _ hle hrun)
  · cases (show (none : pm_R) = some (o, h') from hrun)
theorem st_idiv (S : CallFix p m c cc nL s args lw_all own) (hk : ∀ ls st g, pm_le h0 g → pm_int jp hs (K ls st g) = some (o, h') → sn_G p l e R s m args below meth c Q D κ A k8 a8 nL ad0 h0 (pc + 1) ls st g) (hle : pm_le h0 h) (d : decode cc pc = .ok (.idiv, 1)) (hrun : pm_int jp hs (pm_st pm_tab cl (tr lk B rt ini pc (.idiv)) K ls st h) = some (o, h')) : sn_G p l e R s m args below meth c Q D κ A k8 a8 nL ad0 h0 pc ls st h := by
  have hrun : pm_int jp hs (pm_st pm_tab cl (.idiv) K ls st h) = some (o, h') := hrun
  unfold pm_st at hrun
  dsimp only at hrun
  split at hrun
  · split at hrun
    · cases (show (none : pm_R) = some (o, h') from hrun)
    · rename_i hy
      exact sg_idiv S hy d (hk _ _ _ hle hrun)
  · cases (show (none : pm_R) = some (o, h') from hrun)
theorem st_irem (S : CallFix p m c cc nL s args lw_all own) (hk : ∀ ls st g, pm_le h0 g → pm_int jp hs (K ls st g) = some (o, h') → sn_G p l e R s m args below meth c Q D κ A k8 a8 nL ad0 h0 (pc + 1) ls st g) (hle : pm_le h0 h) (d : decode cc pc = .ok (.irem, 1)) (hrun : pm_int jp hs (pm_st pm_tab cl (tr lk B rt ini pc (.irem)) K ls st h) = some (o, h')) : sn_G p l e R s m args below meth c Q D κ A k8 a8 nL ad0 h0 pc ls st h := by
  have hrun : pm_int jp hs (pm_st pm_tab cl (.irem) K ls st h) = some (o, h') := hrun
  unfold pm_st at hrun
  dsimp only at hrun
  split at hrun
  · split at hrun
    · cases (show (none : pm_R) = some (o, h') from hrun)
    · rename_i hy
      exact sg_irem S hy d (hk _ _ _ hle hrun)
  · cases (show (none : pm_R) = some (o, h') from hrun)
theorem st_ldiv (S : CallFix p m c cc nL s args lw_all own) (hk : ∀ ls st g, pm_le h0 g → pm_int jp hs (K ls st g) = some (o, h') → sn_G p l e R s m args below meth c Q D κ A k8 a8 nL ad0 h0 (pc + 1) ls st g) (hle : pm_le h0 h) (d : decode cc pc = .ok (.ldiv, 1)) (hrun : pm_int jp hs (pm_st pm_tab cl (tr lk B rt ini pc (.ldiv)) K ls st h) = some (o, h')) : sn_G p l e R s m args below meth c Q D κ A k8 a8 nL ad0 h0 pc ls st h := by
  have hrun : pm_int jp hs (pm_st pm_tab cl (.ldiv) K ls st h) = some (o, h') := hrun
  unfold pm_st at hrun
  dsimp only at hrun
  split at hrun
  · split at hrun
    · cases (show (none : pm_R) = some (o, h') from hrun)
    · rename_i hy
      exact sg_ldiv S hy d (hk _ _ _ hle hrun)
  · cases (show (none : pm_R) = some (o, h') from hrun)
theorem st_lrem (S : CallFix p m c cc nL s args lw_all own) (hk : ∀ ls st g, pm_le h0 g → pm_int jp hs (K ls st g) = some (o, h') → sn_G p l e R s m args below meth c Q D κ A k8 a8 nL ad0 h0 (pc + 1) ls st g) (hle : pm_le h0 h) (d : decode cc pc = .ok (.lrem, 1)) (hrun : pm_int jp hs (pm_st pm_tab cl (tr lk B rt ini pc (.lrem)) K ls st h) = some (o, h')) : sn_G p l e R s m args below meth c Q D κ A k8 a8 nL ad0 h0 pc ls st h := by
  have hrun : pm_int jp hs (pm_st pm_tab cl (.lrem) K ls st h) = some (o, h') := hrun
  unfold pm_st at hrun
  dsimp only at hrun
  split at hrun
  · split at hrun
    · cases (show (none : pm_R) = some (o, h') from hrun)
    · rename_i hy
      exact sg_lrem S hy d (hk _ _ _ hle hrun)
  · cases (show (none : pm_R) = some (o, h') from hrun)
theorem st_ddiv (S : CallFix p m c cc nL s args lw_all own) (hk : ∀ ls st g, pm_le h0 g → pm_int jp hs (K ls st g) = some (o, h') → sn_G p l e R s m args below meth c Q D κ A k8 a8 nL ad0 h0 (pc + 1) ls st g) (hle : pm_le h0 h) (d : decode cc pc = .ok (.ddiv, 1)) (hrun : pm_int jp hs (pm_st pm_tab cl (tr lk B rt ini pc (.ddiv)) K ls st h) = some (o, h')) : sn_G p l e R s m args below meth c Q D κ A k8 a8 nL ad0 h0 pc ls st h := by
  have hrun : pm_int jp hs (pm_st pm_tab cl (.ddiv) K ls st h) = some (o, h') := hrun
  unfold pm_st at hrun
  dsimp only at hrun
  split at hrun
  · split at hrun
    · rename_i hy
      exact sg_ddiv S hy d (hk _ _ _ hle hrun)
    · cases (show (none : pm_R) = some (o, h') from hrun)
  · cases (show (none : pm_R) = some (o, h') from hrun)
theorem st_dup (S : CallFix p m c cc nL s args lw_all own) (hk : ∀ ls st g, pm_le h0 g → pm_int jp hs (K ls st g) = some (o, h') → sn_G p l e R s m args below meth c Q D κ A k8 a8 nL ad0 h0 (pc + 1) ls st g) (hle : pm_le h0 h) (d : decode cc pc = .ok (.dup, 1)) (hrun : pm_int jp hs (pm_st pm_tab cl (tr lk B rt ini pc (.dup)) K ls st h) = some (o, h')) : sn_G p l e R s m args below meth c Q D κ A k8 a8 nL ad0 h0 pc ls st h := by
  have hrun : pm_int jp hs (pm_st pm_tab cl (.dup) K ls st h) = some (o, h') := hrun
  unfold pm_st at hrun
  dsimp only at hrun
  split at hrun
  · split at hrun
    · rename_i hv
      exact sg_dup S hv d (hk _ _ _ hle hrun)
    · cases (show (none : pm_R) = some (o, h') from hrun)
  · cases (show (none : pm_R) = some (o, h') from hrun)
theorem st_pop (S : CallFix p m c cc nL s args lw_all own) (hk : ∀ ls st g, pm_le h0 g → pm_int jp hs (K ls st g) = some (o, h') → sn_G p l e R s m args below meth c Q D κ A k8 a8 nL ad0 h0 (pc + 1) ls st g) (hle : pm_le h0 h) (d : decode cc pc = .ok (.pop, 1)) (hrun : pm_int jp hs (pm_st pm_tab cl (tr lk B rt ini pc (.pop)) K ls st h) = some (o, h')) : sn_G p l e R s m args below meth c Q D κ A k8 a8 nL ad0 h0 pc ls st h := by
  have hrun : pm_int jp hs (pm_st pm_tab cl (.pop) K ls st h) = some (o, h') := hrun
  unfold pm_st at hrun
  dsimp only at hrun
  split at hrun
  · split at hrun
    · rename_i hv
      exact sg_pop S hv d (hk _ _ _ hle hrun)
    · cases (show (none : pm_R) = some (o, h') from hrun)
  · cases (show (none : pm_R) = some (o, h') from hrun)
theorem st_dup_x1 (S : CallFix p m c cc nL s args lw_all own) (hk : ∀ ls st g, pm_le h0 g → pm_int jp hs (K ls st g) = some (o, h') → sn_G p l e R s m args below meth c Q D κ A k8 a8 nL ad0 h0 (pc + 1) ls st g) (hle : pm_le h0 h) (d : decode cc pc = .ok (.dup_x1, 1)) (hrun : pm_int jp hs (pm_st pm_tab cl (tr lk B rt ini pc (.dup_x1)) K ls st h) = some (o, h')) : sn_G p l e R s m args below meth c Q D κ A k8 a8 nL ad0 h0 pc ls st h := by
  have hrun : pm_int jp hs (pm_st pm_tab cl (.dup_x1) K ls st h) = some (o, h') := hrun
  unfold pm_st at hrun
  dsimp only at hrun
  split at hrun
  · split at hrun
    · rename_i hv
      exact sg_dup_x1 S hv.1 hv.2 d (hk _ _ _ hle hrun)
    · cases (show (none : pm_R) = some (o, h') from hrun)
  · cases (show (none : pm_R) = some (o, h') from hrun)
theorem st_dup_x2 (S : CallFix p m c cc nL s args lw_all own) (hk : ∀ ls st g, pm_le h0 g → pm_int jp hs (K ls st g) = some (o, h') → sn_G p l e R s m args below meth c Q D κ A k8 a8 nL ad0 h0 (pc + 1) ls st g) (hle : pm_le h0 h) (d : decode cc pc = .ok (.dup_x2, 1)) (hrun : pm_int jp hs (pm_st pm_tab cl (tr lk B rt ini pc (.dup_x2)) K ls st h) = some (o, h')) : sn_G p l e R s m args below meth c Q D κ A k8 a8 nL ad0 h0 pc ls st h := by
  have hrun : pm_int jp hs (pm_st pm_tab cl (.dup_x2) K ls st h) = some (o, h') := hrun
  unfold pm_st at hrun
  dsimp only at hrun
  split at hrun
  · split at hrun
    · rename_i hv
      exact sg_dup_x2 S hv.1 hv.2.1 hv.2.2 d (hk _ _ _ hle hrun)
    · cases (show (none : pm_R) = some (o, h') from hrun)
  · cases (show (none : pm_R) = some (o, h') from hrun)
theorem st_dup2 (S : CallFix p m c cc nL s args lw_all own) (hk : ∀ ls st g, pm_le h0 g → pm_int jp hs (K ls st g) = some (o, h') → sn_G p l e R s m args below meth c Q D κ A k8 a8 nL ad0 h0 (pc + 1) ls st g) (hle : pm_le h0 h) (d : decode cc pc = .ok (.dup2, 1)) (hrun : pm_int jp hs (pm_st pm_tab cl (tr lk B rt ini pc (.dup2)) K ls st h) = some (o, h')) : sn_G p l e R s m args below meth c Q D κ A k8 a8 nL ad0 h0 pc ls st h := by
  have hrun : pm_int jp hs (pm_st pm_tab cl (.dup2) K ls st h) = some (o, h') := hrun
  unfold pm_st at hrun
  dsimp only at hrun
  split at hrun
  · split at hrun
    · rename_i hv
      exact sg_dup2_2 S hv d (hk _ _ _ hle hrun)
    · rename_i hv
      split at hrun
      · rename_i hw
        refine sg_dup2_11 S ?_ hw d (hk _ _ _ hle hrun)
        rename_i v w s0 _
        revert hv
        cases v <;> intro hv <;> first | rfl | exact absurd rfl hv
      · cases (show (none : pm_R) = some (o, h') from hrun)
  · split at hrun
    · rename_i hv
      exact sg_dup2_2 S hv d (hk _ _ _ hle hrun)
    · cases (show (none : pm_R) = some (o, h') from hrun)
  · cases (show (none : pm_R) = some (o, h') from hrun)
theorem st_iconst {z : Int} (S : CallFix p m c cc nL s args lw_all own) (hk : ∀ ls st g, pm_le h0 g → pm_int jp hs (K ls st g) = some (o, h') → sn_G p l e R s m args below meth c Q D κ A k8 a8 nL ad0 h0 (pc + 1) ls st g) (hle : pm_le h0 h) (d : decode cc pc = .ok (.iconst z, 1)) (hrun : pm_int jp hs (pm_st pm_tab cl (tr lk B rt ini pc (.iconst z)) K ls st h) = some (o, h')) : sn_G p l e R s m args below meth c Q D κ A k8 a8 nL ad0 h0 pc ls st h := by
  exact sg_iconst S d (hk _ _ _ hle hrun)
theorem st_aconst_null (S : CallFix p m c cc nL s args lw_all own) (hk : ∀ ls st g, pm_le h0 g → pm_int jp hs (K ls st g) = some (o, h') → sn_G p l e R s m args below meth c Q D κ A k8 a8 nL ad0 h0 (pc + 1) ls st g) (hle : pm_le h0 h) (d : decode cc pc = .ok (.aconst_null, 1)) (hrun : pm_int jp hs (pm_st pm_tab cl (tr lk B rt ini pc (.aconst_null)) K ls st h) = some (o, h')) : sn_G p l e R s m args below meth c Q D κ A k8 a8 nL ad0 h0 pc ls st h := by
  exact sg_null S d (hk _ _ _ hle hrun)
theorem st_bipush {z : Int} (S : CallFix p m c cc nL s args lw_all own) (hk : ∀ ls st g, pm_le h0 g → pm_int jp hs (K ls st g) = some (o, h') → sn_G p l e R s m args below meth c Q D κ A k8 a8 nL ad0 h0 (pc + 2) ls st g) (hle : pm_le h0 h) (d : decode cc pc = .ok (.bipush z, 2)) (hrun : pm_int jp hs (pm_st pm_tab cl (tr lk B rt ini pc (.bipush z)) K ls st h) = some (o, h')) : sn_G p l e R s m args below meth c Q D κ A k8 a8 nL ad0 h0 pc ls st h := by
  unfold tr at hrun
  dsimp only at hrun
  unfold tr_b at hrun
  split at hrun
  · rename_i hz
    simp only [Bool.and_eq_true, decide_eq_true_eq] at hz
    exact sg_bipush S hz.1 hz.2 d (hk _ _ _ hle hrun)
  · cases (show (none : pm_R) = some (o, h') from hrun)
theorem st_sipush {z : Int} (S : CallFix p m c cc nL s args lw_all own) (hk : ∀ ls st g, pm_le h0 g → pm_int jp hs (K ls st g) = some (o, h') → sn_G p l e R s m args below meth c Q D κ A k8 a8 nL ad0 h0 (pc + 3) ls st g) (hle : pm_le h0 h) (d : decode cc pc = .ok (.sipush z, 3)) (hrun : pm_int jp hs (pm_st pm_tab cl (tr lk B rt ini pc (.sipush z)) K ls st h) = some (o, h')) : sn_G p l e R s m args below meth c Q D κ A k8 a8 nL ad0 h0 pc ls st h := by
  unfold tr at hrun
  dsimp only at hrun
  unfold tr_b at hrun
  split at hrun
  · rename_i hz
    simp only [Bool.and_eq_true, decide_eq_true_eq] at hz
    exact sg_sipush S hz.1 hz.2 d (hk _ _ _ hle hrun)
  · cases (show (none : pm_R) = some (o, h') from hrun)
theorem st_lconst {z : Fin 2} (S : CallFix p m c cc nL s args lw_all own) (hk : ∀ ls st g, pm_le h0 g → pm_int jp hs (K ls st g) = some (o, h') → sn_G p l e R s m args below meth c Q D κ A k8 a8 nL ad0 h0 (pc + 1) ls st g) (hle : pm_le h0 h) (d : decode cc pc = .ok (.lconst z, 1)) (hrun : pm_int jp hs (pm_st pm_tab cl (tr lk B rt ini pc (.lconst z)) K ls st h) = some (o, h')) : sn_G p l e R s m args below meth c Q D κ A k8 a8 nL ad0 h0 pc ls st h := by
  exact sg_lconst S (by rfl) d (hk _ _ _ hle hrun)
theorem st_iload_n {z : Fin 4} (S : CallFix p m c cc nL s args lw_all own) (hk : ∀ ls st g, pm_le h0 g → pm_int jp hs (K ls st g) = some (o, h') → sn_G p l e R s m args below meth c Q D κ A k8 a8 nL ad0 h0 (pc + 1) ls st g) (hle : pm_le h0 h) (d : decode cc pc = .ok (.iload_n z, 1)) (hrun : pm_int jp hs (pm_st pm_tab cl (tr lk B rt ini pc (.iload_n z)) K ls st h) = some (o, h')) : sn_G p l e R s m args below meth c Q D κ A k8 a8 nL ad0 h0 pc ls st h := by
  have hrun : pm_int jp hs (pm_st pm_tab cl (.iload z.val) K ls st h) = some (o, h') := hrun
  unfold pm_st at hrun
  dsimp only at hrun
  split at hrun
  · rename_i hz
    exact sg_iload_n S rfl hz d (hk _ _ _ hle hrun)
  · cases (show (none : pm_R) = some (o, h') from hrun)
theorem st_iload {z : Nat} (S : CallFix p m c cc nL s args lw_all own) (hk : ∀ ls st g, pm_le h0 g → pm_int jp hs (K ls st g) = some (o, h') → sn_G p l e R s m args below meth c Q D κ A k8 a8 nL ad0 h0 (pc + 2) ls st g) (hle : pm_le h0 h) (d : decode cc pc = .ok (.iload z, 2)) (hrun : pm_int jp hs (pm_st pm_tab cl (tr lk B rt ini pc (.iload z)) K ls st h) = some (o, h')) : sn_G p l e R s m args below meth c Q D κ A k8 a8 nL ad0 h0 pc ls st h := by
  have hrun : pm_int jp hs (pm_st pm_tab cl (.iload z) K ls st h) = some (o, h') := hrun
  unfold pm_st at hrun
  dsimp only at hrun
  split at hrun
  · rename_i hz
    exact sg_iload S hz d (hk _ _ _ hle hrun)
  · cases (show (none : pm_R) = some (o, h') from hrun)
theorem st_lload_n {z : Fin 4} (S : CallFix p m c cc nL s args lw_all own) (hk : ∀ ls st g, pm_le h0 g → pm_int jp hs (K ls st g) = some (o, h') → sn_G p l e R s m args below meth c Q D κ A k8 a8 nL ad0 h0 (pc + 1) ls st g) (hle : pm_le h0 h) (d : decode cc pc = .ok (.lload_n z, 1)) (hrun : pm_int jp hs (pm_st pm_tab cl (tr lk B rt ini pc (.lload_n z)) K ls st h) = some (o, h')) : sn_G p l e R s m args below meth c Q D κ A k8 a8 nL ad0 h0 pc ls st h := by
  have hrun : pm_int jp hs (pm_st pm_tab cl (.lload z.val) K ls st h) = some (o, h') := hrun
  unfold pm_st at hrun
  dsimp only at hrun
  split at hrun
  · rename_i hz
    exact sg_lload_n S rfl hz d (hk _ _ _ hle hrun)
  · cases (show (none : pm_R) = some (o, h') from hrun)
theorem st_lload {z : Nat} (S : CallFix p m c cc nL s args lw_all own) (hk : ∀ ls st g, pm_le h0 g → pm_int jp hs (K ls st g) = some (o, h') → sn_G p l e R s m args below meth c Q D κ A k8 a8 nL ad0 h0 (pc + 2) ls st g) (hle : pm_le h0 h) (d : decode cc pc = .ok (.lload z, 2)) (hrun : pm_int jp hs (pm_st pm_tab cl (tr lk B rt ini pc (.lload z)) K ls st h) = some (o, h')) : sn_G p l e R s m args below meth c Q D κ A k8 a8 nL ad0 h0 pc ls st h := by
  have hrun : pm_int jp hs (pm_st pm_tab cl (.lload z) K ls st h) = some (o, h') := hrun
  unfold pm_st at hrun
  dsimp only at hrun
  split at hrun
  · rename_i hz
    exact sg_lload S hz d (hk _ _ _ hle hrun)
  · cases (show (none : pm_R) = some (o, h') from hrun)
theorem st_dload_n {z : Fin 4} (S : CallFix p m c cc nL s args lw_all own) (hk : ∀ ls st g, pm_le h0 g → pm_int jp hs (K ls st g) = some (o, h') → sn_G p l e R s m args below meth c Q D κ A k8 a8 nL ad0 h0 (pc + 1) ls st g) (hle : pm_le h0 h) (d : decode cc pc = .ok (.dload_n z, 1)) (hrun : pm_int jp hs (pm_st pm_tab cl (tr lk B rt ini pc (.dload_n z)) K ls st h) = some (o, h')) : sn_G p l e R s m args below meth c Q D κ A k8 a8 nL ad0 h0 pc ls st h := by
  have hrun : pm_int jp hs (pm_st pm_tab cl (.dload z.val) K ls st h) = some (o, h') := hrun
  unfold pm_st at hrun
  dsimp only at hrun
  split at hrun
  · rename_i hz
    exact sg_dload_n S rfl hz d (hk _ _ _ hle hrun)
  · cases (show (none : pm_R) = some (o, h') from hrun)
theorem st_aload_n {z : Fin 4} (S : CallFix p m c cc nL s args lw_all own) (hk : ∀ ls st g, pm_le h0 g → pm_int jp hs (K ls st g) = some (o, h') → sn_G p l e R s m args below meth c Q D κ A k8 a8 nL ad0 h0 (pc + 1) ls st g) (hle : pm_le h0 h) (d : decode cc pc = .ok (.aload_n z, 1)) (hrun : pm_int jp hs (pm_st pm_tab cl (tr lk B rt ini pc (.aload_n z)) K ls st h) = some (o, h')) : sn_G p l e R s m args below meth c Q D κ A k8 a8 nL ad0 h0 pc ls st h := by
  have hrun : pm_int jp hs (pm_st pm_tab cl (.aload z.val) K ls st h) = some (o, h') := hrun
  unfold pm_st at hrun
  dsimp only at hrun
  split at hrun
  · rename_i hz
    exact sg_aload_n S rfl hz d (hk _ _ _ hle hrun)
  · rename_i hz
    exact sg_aload_nN S rfl hz d (hk _ _ _ hle hrun)
  · cases (show (none : pm_R) = some (o, h') from hrun)
theorem st_aload {z : Nat} (S : CallFix p m c cc nL s args lw_all own) (hk : ∀ ls st g, pm_le h0 g → pm_int jp hs (K ls st g) = some (o, h') → sn_G p l e R s m args below meth c Q D κ A k8 a8 nL ad0 h0 (pc + 2) ls st g) (hle : pm_le h0 h) (d : decode cc pc = .ok (.aload z, 2)) (hrun : pm_int jp hs (pm_st pm_tab cl (tr lk B rt ini pc (.aload z)) K ls st h) = some (o, h')) : sn_G p l e R s m args below meth c Q D κ A k8 a8 nL ad0 h0 pc ls st h := by
  have hrun : pm_int jp hs (pm_st pm_tab cl (.aload z) K ls st h) = some (o, h') := hrun
  unfold pm_st at hrun
  dsimp only at hrun
  split at hrun
  · rename_i hz
    exact sg_aload S hz d (hk _ _ _ hle hrun)
  · rename_i hz
    exact sg_aloadN S hz d (hk _ _ _ hle hrun)
  · cases (show (none : pm_R) = some (o, h') from hrun)
theorem st_istore_n {z : Fin 4} (S : CallFix p m c cc nL s args lw_all own) (hk : ∀ ls st g, pm_le h0 g → pm_int jp hs (K ls st g) = some (o, h') → sn_G p l e R s m args below meth c Q D κ A k8 a8 nL ad0 h0 (pc + 1) ls st g) (hle : pm_le h0 h) (d : decode cc pc = .ok (.istore_n z, 1)) (hrun : pm_int jp hs (pm_st pm_tab cl (tr lk B rt ini pc (.istore_n z)) K ls st h) = some (o, h')) : sn_G p l e R s m args below meth c Q D κ A k8 a8 nL ad0 h0 pc ls st h := by
  have hrun : pm_int jp hs (pm_st pm_tab cl (.istore z.val) K ls st h) = some (o, h') := hrun
  unfold pm_st at hrun
  dsimp only at hrun
  split at hrun
  · split at hrun
    · rename_i hz
      exact sg_istore_n S rfl hz d (hk _ _ _ hle hrun)
    · cases (show (none : pm_R) = some (o, h') from hrun)
  · cases (show (none : pm_R) = some (o, h') from hrun)
theorem st_istore {z : Nat} (S : CallFix p m c cc nL s args lw_all own) (hk : ∀ ls st g, pm_le h0 g → pm_int jp hs (K ls st g) = some (o, h') → sn_G p l e R s m args below meth c Q D κ A k8 a8 nL ad0 h0 (pc + 2) ls st g) (hle : pm_le h0 h) (d : decode cc pc = .ok (.istore z, 2)) (hrun : pm_int jp hs (pm_st pm_tab cl (tr lk B rt ini pc (.istore z)) K ls st h) = some (o, h')) : sn_G p l e R s m args below meth c Q D κ A k8 a8 nL ad0 h0 pc ls st h := by
  have hrun : pm_int jp hs (pm_st pm_tab cl (.istore z) K ls st h) = some (o, h') := hrun
  unfold pm_st at hrun
  dsimp only at hrun
  split at hrun
  · split at hrun
    · rename_i hz
      exact sg_istore S hz d (hk _ _ _ hle hrun)
    · cases (show (none : pm_R) = some (o, h') from hrun)
  · cases (show (none : pm_R) = some (o, h') from hrun)
theorem st_lstore_n {z : Fin 4} (S : CallFix p m c cc nL s args lw_all own) (hk : ∀ ls st g, pm_le h0 g → pm_int jp hs (K ls st g) = some (o, h') → sn_G p l e R s m args below meth c Q D κ A k8 a8 nL ad0 h0 (pc + 1) ls st g) (hle : pm_le h0 h) (d : decode cc pc = .ok (.lstore_n z, 1)) (hrun : pm_int jp hs (pm_st pm_tab cl (tr lk B rt ini pc (.lstore_n z)) K ls st h) = some (o, h')) : sn_G p l e R s m args below meth c Q D κ A k8 a8 nL ad0 h0 pc ls st h := by
  have hrun : pm_int jp hs (pm_st pm_tab cl (.lstore z.val) K ls st h) = some (o, h') := hrun
  unfold pm_st at hrun
  dsimp only at hrun
  split at hrun
  · split at hrun
    · rename_i hz
      exact sg_lstore_n S rfl hz d (hk _ _ _ hle hrun)
    · cases (show (none : pm_R) = some (o, h') from hrun)
  · cases (show (none : pm_R) = some (o, h') from hrun)
theorem st_lstore {z : Nat} (S : CallFix p m c cc nL s args lw_all own) (hk : ∀ ls st g, pm_le h0 g → pm_int jp hs (K ls st g) = some (o, h') → sn_G p l e R s m args below meth c Q D κ A k8 a8 nL ad0 h0 (pc + 2) ls st g) (hle : pm_le h0 h) (d : decode cc pc = .ok (.lstore z, 2)) (hrun : pm_int jp hs (pm_st pm_tab cl (tr lk B rt ini pc (.lstore z)) K ls st h) = some (o, h')) : sn_G p l e R s m args below meth c Q D κ A k8 a8 nL ad0 h0 pc ls st h := by
  have hrun : pm_int jp hs (pm_st pm_tab cl (.lstore z) K ls st h) = some (o, h') := hrun
  unfold pm_st at hrun
  dsimp only at hrun
  split at hrun
  · split at hrun
    · rename_i hz
      exact sg_lstore S hz d (hk _ _ _ hle hrun)
    · cases (show (none : pm_R) = some (o, h') from hrun)
  · cases (show (none : pm_R) = some (o, h') from hrun)
theorem st_astore_n {z : Fin 4} (S : CallFix p m c cc nL s args lw_all own) (hk : ∀ ls st g, pm_le h0 g → pm_int jp hs (K ls st g) = some (o, h') → sn_G p l e R s m args below meth c Q D κ A k8 a8 nL ad0 h0 (pc + 1) ls st g) (hle : pm_le h0 h) (d : decode cc pc = .ok (.astore_n z, 1)) (hrun : pm_int jp hs (pm_st pm_tab cl (tr lk B rt ini pc (.astore_n z)) K ls st h) = some (o, h')) : sn_G p l e R s m args below meth c Q D κ A k8 a8 nL ad0 h0 pc ls st h := by
  have hrun : pm_int jp hs (pm_st pm_tab cl (.astore z.val) K ls st h) = some (o, h') := hrun
  unfold pm_st at hrun
  dsimp only at hrun
  split at hrun
  · split at hrun
    · rename_i hz
      exact sg_astore_n S rfl hz d (hk _ _ _ hle hrun)
    · cases (show (none : pm_R) = some (o, h') from hrun)
  · split at hrun
    · rename_i hz
      exact sg_astore_nN S rfl hz d (hk _ _ _ hle hrun)
    · cases (show (none : pm_R) = some (o, h') from hrun)
  · cases (show (none : pm_R) = some (o, h') from hrun)
theorem st_astore {z : Nat} (S : CallFix p m c cc nL s args lw_all own) (hk : ∀ ls st g, pm_le h0 g → pm_int jp hs (K ls st g) = some (o, h') → sn_G p l e R s m args below meth c Q D κ A k8 a8 nL ad0 h0 (pc + 2) ls st g) (hle : pm_le h0 h) (d : decode cc pc = .ok (.astore z, 2)) (hrun : pm_int jp hs (pm_st pm_tab cl (tr lk B rt ini pc (.astore z)) K ls st h) = some (o, h')) : sn_G p l e R s m args below meth c Q D κ A k8 a8 nL ad0 h0 pc ls st h := by
  have hrun : pm_int jp hs (pm_st pm_tab cl (.astore z) K ls st h) = some (o, h') := hrun
  unfold pm_st at hrun
  dsimp only at hrun
  split at hrun
  · split at hrun
    · rename_i hz
      exact sg_astore S hz d (hk _ _ _ hle hrun)
    · cases (show (none : pm_R) = some (o, h') from hrun)
  · split at hrun
    · rename_i hz
      exact sg_astoreN S hz d (hk _ _ _ hle hrun)
    · cases (show (none : pm_R) = some (o, h') from hrun)
  · cases (show (none : pm_R) = some (o, h') from hrun)
theorem st_iinc {z : Nat} {w : Int} (S : CallFix p m c cc nL s args lw_all own) (hk : ∀ ls st g, pm_le h0 g → pm_int jp hs (K ls st g) = some (o, h') → sn_G p l e R s m args below meth c Q D κ A k8 a8 nL ad0 h0 (pc + 3) ls st g) (hle : pm_le h0 h) (d : decode cc pc = .ok (.iinc z w, 3)) (hrun : pm_int jp hs (pm_st pm_tab cl (tr lk B rt ini pc (.iinc z w)) K ls st h) = some (o, h')) : sn_G p l e R s m args below meth c Q D κ A k8 a8 nL ad0 h0 pc ls st h := by
  have hrun : pm_int jp hs (pm_st pm_tab cl (.iinc z w) K ls st h) = some (o, h') := hrun
  unfold pm_st at hrun
  dsimp only at hrun
  split at hrun
  · rename_i hz
    exact sg_iinc S hz d (hk _ _ _ hle hrun)
  · cases (show (none : pm_R) = some (o, h') from hrun)
theorem st_iaload (S : CallFix p m c cc nL s args lw_all own) (hEnv : sn_Env TX D κ A a8 L xs s) (h8k : sn_K8 k8 L xs) (hk : ∀ ls st g, pm_le h0 g → pm_int jp hs (K ls st g) = some (o, h') → sn_G p l e R s m args below meth c Q D κ A k8 a8 nL ad0 h0 (pc + 1) ls st g) (hle : pm_le h0 h) (d : decode cc pc = .ok (.iaload, 1)) (hrun : pm_int jp hs (pm_st pm_tab cl (tr lk B rt ini pc (.iaload)) K ls st h) = some (o, h')) : sn_G p l e R s m args below meth c Q D κ A k8 a8 nL ad0 h0 pc ls st h := by
  have hrun : pm_int jp hs (pm_st pm_tab cl (.iaload) K ls st h) = some (o, h') := hrun
  unfold pm_st at hrun
  dsimp only at hrun
  split at hrun
  · unfold pm_o at hrun
    split at hrun
    · rename_i hv
      exact sg_iaload S hEnv.1 h8k hEnv.2.1 hv d (hk _ _ _ hle hrun)
    · cases (show (none : pm_R) = some (o, h') from hrun)
  · cases (show (none : pm_R) = some (o, h') from hrun)
theorem st_caload (S : CallFix p m c cc nL s args lw_all own) (hEnv : sn_Env TX D κ A a8 L xs s) (h8k : sn_K8 k8 L xs) (hk : ∀ ls st g, pm_le h0 g → pm_int jp hs (K ls st g) = some (o, h') → sn_G p l e R s m args below meth c Q D κ A k8 a8 nL ad0 h0 (pc + 1) ls st g) (hle : pm_le h0 h) (d : decode cc pc = .ok (.caload, 1)) (hrun : pm_int jp hs (pm_st pm_tab cl (tr lk B rt ini pc (.caload)) K ls st h) = some (o, h')) : sn_G p l e R s m args below meth c Q D κ A k8 a8 nL ad0 h0 pc ls st h := by
  have hrun : pm_int jp hs (pm_st pm_tab cl (.caload) K ls st h) = some (o, h') := hrun
  unfold pm_st at hrun
  dsimp only at hrun
  split at hrun
  · unfold pm_o at hrun
    split at hrun
    · rename_i hv
      exact sg_caload S hEnv.1 h8k hEnv.2.1 hv d (hk _ _ _ hle hrun)
    · cases (show (none : pm_R) = some (o, h') from hrun)
  · cases (show (none : pm_R) = some (o, h') from hrun)
theorem st_saload (S : CallFix p m c cc nL s args lw_all own) (hEnv : sn_Env TX D κ A a8 L xs s) (h8k : sn_K8 k8 L xs) (hk : ∀ ls st g, pm_le h0 g → pm_int jp hs (K ls st g) = some (o, h') → sn_G p l e R s m args below meth c Q D κ A k8 a8 nL ad0 h0 (pc + 1) ls st g) (hle : pm_le h0 h) (d : decode cc pc = .ok (.saload, 1)) (hrun : pm_int jp hs (pm_st pm_tab cl (tr lk B rt ini pc (.saload)) K ls st h) = some (o, h')) : sn_G p l e R s m args below meth c Q D κ A k8 a8 nL ad0 h0 pc ls st h := by
  have hrun : pm_int jp hs (pm_st pm_tab cl (.saload) K ls st h) = some (o, h') := hrun
  unfold pm_st at hrun
  dsimp only at hrun
  split at hrun
  · unfold pm_o at hrun
    split at hrun
    · rename_i hv
      exact sg_saload S hEnv.1 h8k hEnv.2.1 hv d (hk _ _ _ hle hrun)
    · cases (show (none : pm_R) = some (o, h') from hrun)
  · cases (show (none : pm_R) = some (o, h') from hrun)
theorem st_baload (S : CallFix p m c cc nL s args lw_all own) (hEnv : sn_Env TX D κ A a8 L xs s) (h8k : sn_K8 k8 L xs) (hk : ∀ ls st g, pm_le h0 g → pm_int jp hs (K ls st g) = some (o, h') → sn_G p l e R s m args below meth c Q D κ A k8 a8 nL ad0 h0 (pc + 1) ls st g) (hle : pm_le h0 h) (d : decode cc pc = .ok (.baload, 1)) (hrun : pm_int jp hs (pm_st pm_tab cl (tr lk B rt ini pc (.baload)) K ls st h) = some (o, h')) : sn_G p l e R s m args below meth c Q D κ A k8 a8 nL ad0 h0 pc ls st h := by
  have hrun : pm_int jp hs (pm_st pm_tab cl (.baload) K ls st h) = some (o, h') := hrun
  unfold pm_st at hrun
  dsimp only at hrun
  split at hrun
  · unfold pm_o at hrun
    split at hrun
    · rename_i hv
      exact sg_baload S hEnv.1 h8k hEnv.2.1 hv d (hk _ _ _ hle hrun)
    · cases (show (none : pm_R) = some (o, h') from hrun)
  · cases (show (none : pm_R) = some (o, h') from hrun)
theorem st_laload (S : CallFix p m c cc nL s args lw_all own) (hEnv : sn_Env TX D κ A a8 L xs s) (h8k : sn_K8 k8 L xs) (hk : ∀ ls st g, pm_le h0 g → pm_int jp hs (K ls st g) = some (o, h') → sn_G p l e R s m args below meth c Q D κ A k8 a8 nL ad0 h0 (pc + 1) ls st g) (hle : pm_le h0 h) (d : decode cc pc = .ok (.laload, 1)) (hrun : pm_int jp hs (pm_st pm_tab cl (tr lk B rt ini pc (.laload)) K ls st h) = some (o, h')) : sn_G p l e R s m args below meth c Q D κ A k8 a8 nL ad0 h0 pc ls st h := by
  have hrun : pm_int jp hs (pm_st pm_tab cl (.laload) K ls st h) = some (o, h') := hrun
  unfold pm_st at hrun
  dsimp only at hrun
  split at hrun
  · unfold pm_o at hrun
    split at hrun
    · rename_i hv
      exact sg_laload S hEnv.1 h8k hv d (hk _ _ _ hle hrun)
    · cases (show (none : pm_R) = some (o, h') from hrun)
  · cases (show (none : pm_R) = some (o, h') from hrun)
theorem st_aaload (S : CallFix p m c cc nL s args lw_all own) (hEnv : sn_Env TX D κ A a8 L xs s) (h8k : sn_K8 k8 L xs) (hk : ∀ ls st g, pm_le h0 g → pm_int jp hs (K ls st g) = some (o, h') → sn_G p l e R s m args below meth c Q D κ A k8 a8 nL ad0 h0 (pc + 1) ls st g) (hle : pm_le h0 h) (d : decode cc pc = .ok (.aaload, 1)) (hrun : pm_int jp hs (pm_st pm_tab cl (tr lk B rt ini pc (.aaload)) K ls st h) = some (o, h')) : sn_G p l e R s m args below meth c Q D κ A k8 a8 nL ad0 h0 pc ls st h := by
  have hrun : pm_int jp hs (pm_st pm_tab cl (.aaload) K ls st h) = some (o, h') := hrun
  unfold pm_st at hrun
  dsimp only at hrun
  split at hrun
  · unfold pm_o at hrun
    split at hrun
    · rename_i hv
      exact sg_aaload S hEnv.1 h8k hv d (hk _ _ _ hle hrun)
    · cases (show (none : pm_R) = some (o, h') from hrun)
  · cases (show (none : pm_R) = some (o, h') from hrun)
theorem st_arraylength (S : CallFix p m c cc nL s args lw_all own) (hEnv : sn_Env TX D κ A a8 L xs s) (h8k : sn_K8 k8 L xs) (hk : ∀ ls st g, pm_le h0 g → pm_int jp hs (K ls st g) = some (o, h') → sn_G p l e R s m args below meth c Q D κ A k8 a8 nL ad0 h0 (pc + 1) ls st g) (hle : pm_le h0 h) (d : decode cc pc = .ok (.arraylength, 1)) (hrun : pm_int jp hs (pm_st pm_tab cl (tr lk B rt ini pc (.arraylength)) K ls st h) = some (o, h')) : sn_G p l e R s m args below meth c Q D κ A k8 a8 nL ad0 h0 pc ls st h := by
  have hrun : pm_int jp hs (pm_st pm_tab cl (.arraylength) K ls st h) = some (o, h') := hrun
  unfold pm_st at hrun
  dsimp only at hrun
  split at hrun
  · unfold pm_o at hrun
    split at hrun
    · rename_i hv
      exact sg_arraylength S hEnv.1 h8k hEnv.2.1 hv d (hk _ _ _ hle hrun)
    · cases (show (none : pm_R) = some (o, h') from hrun)
  · cases (show (none : pm_R) = some (o, h') from hrun)
theorem st_iastore (S : CallFix p m c cc nL s args lw_all own) (hEnv : sn_Env TX D κ A a8 L xs s) (h8k : sn_K8 k8 L xs) (hk : ∀ ls st g, pm_le h0 g → pm_int jp hs (K ls st g) = some (o, h') → sn_G p l e R s m args below meth c Q D κ A k8 a8 nL ad0 h0 (pc + 1) ls st g) (hle : pm_le h0 h) (d : decode cc pc = .ok (.iastore, 1)) (hrun : pm_int jp hs (pm_st pm_tab cl (tr lk B rt ini pc (.iastore)) K ls st h) = some (o, h')) : sn_G p l e R s m args below meth c Q D κ A k8 a8 nL ad0 h0 pc ls st h := by
  have hrun : pm_int jp hs (pm_st pm_tab cl (.iastore) K ls st h) = some (o, h') := hrun
  unfold pm_st at hrun
  dsimp only at hrun
  split at hrun
  · unfold pm_o at hrun
    split at hrun
    · rename_i hv
      exact sg_iastore S hEnv.1 h8k hv d (hk _ _ _ (pm_le_tr hle (pm_le_wr hv)) hrun)
    · cases (show (none : pm_R) = some (o, h') from hrun)
  · cases (show (none : pm_R) = some (o, h') from hrun)
theorem st_castore (S : CallFix p m c cc nL s args lw_all own) (hEnv : sn_Env TX D κ A a8 L xs s) (h8k : sn_K8 k8 L xs) (hk : ∀ ls st g, pm_le h0 g → pm_int jp hs (K ls st g) = some (o, h') → sn_G p l e R s m args below meth c Q D κ A k8 a8 nL ad0 h0 (pc + 1) ls st g) (hle : pm_le h0 h) (d : decode cc pc = .ok (.castore, 1)) (hrun : pm_int jp hs (pm_st pm_tab cl (tr lk B rt ini pc (.castore)) K ls st h) = some (o, h')) : sn_G p l e R s m args below meth c Q D κ A k8 a8 nL ad0 h0 pc ls st h := by
  have hrun : pm_int jp hs (pm_st pm_tab cl (.castore) K ls st h) = some (o, h') := hrun
  unfold pm_st at hrun
  dsimp only at hrun
  split at hrun
  · unfold pm_o at hrun
    split at hrun
    · rename_i hv
      exact sg_castore S hEnv.1 h8k hv d (hk _ _ _ (pm_le_tr hle (pm_le_wr hv)) hrun)
    · cases (show (none : pm_R) = some (o, h') from hrun)
  · cases (show (none : pm_R) = some (o, h') from hrun)
theorem st_sastore (S : CallFix p m c cc nL s args lw_all own) (hEnv : sn_Env TX D κ A a8 L xs s) (h8k : sn_K8 k8 L xs) (hk : ∀ ls st g, pm_le h0 g → pm_int jp hs (K ls st g) = some (o, h') → sn_G p l e R s m args below meth c Q D κ A k8 a8 nL ad0 h0 (pc + 1) ls st g) (hle : pm_le h0 h) (d : decode cc pc = .ok (.sastore, 1)) (hrun : pm_int jp hs (pm_st pm_tab cl (tr lk B rt ini pc (.sastore)) K ls st h) = some (o, h')) : sn_G p l e R s m args below meth c Q D κ A k8 a8 nL ad0 h0 pc ls st h := by
  have hrun : pm_int jp hs (pm_st pm_tab cl (.sastore) K ls st h) = some (o, h') := hrun
  unfold pm_st at hrun
  dsimp only at hrun
  split at hrun
  · unfold pm_o at hrun
    split at hrun
    · rename_i hv
      exact sg_sastore S hEnv.1 h8k hv d (hk _ _ _ (pm_le_tr hle (pm_le_wr hv)) hrun)
    · cases (show (none : pm_R) = some (o, h') from hrun)
  · cases (show (none : pm_R) = some (o, h') from hrun)
theorem st_bastore (S : CallFix p m c cc nL s args lw_all own) (hEnv : sn_Env TX D κ A a8 L xs s) (h8k : sn_K8 k8 L xs) (hk : ∀ ls st g, pm_le h0 g → pm_int jp hs (K ls st g) = some (o, h') → sn_G p l e R s m args below meth c Q D κ A k8 a8 nL ad0 h0 (pc + 1) ls st g) (hle : pm_le h0 h) (d : decode cc pc = .ok (.bastore, 1)) (hrun : pm_int jp hs (pm_st pm_tab cl (tr lk B rt ini pc (.bastore)) K ls st h) = some (o, h')) : sn_G p l e R s m args below meth c Q D κ A k8 a8 nL ad0 h0 pc ls st h := by
  have hrun : pm_int jp hs (pm_st pm_tab cl (.bastore) K ls st h) = some (o, h') := hrun
  unfold pm_st at hrun
  dsimp only at hrun
  split at hrun
  · unfold pm_o at hrun
    split at hrun
    · rename_i hv
      exact sg_bastore S hEnv.1 h8k hv d (hk _ _ _ (pm_le_tr hle (pm_le_wr hv)) hrun)
    · cases (show (none : pm_R) = some (o, h') from hrun)
  · cases (show (none : pm_R) = some (o, h') from hrun)
theorem st_lastore (S : CallFix p m c cc nL s args lw_all own) (hEnv : sn_Env TX D κ A a8 L xs s) (h8k : sn_K8 k8 L xs) (hk : ∀ ls st g, pm_le h0 g → pm_int jp hs (K ls st g) = some (o, h') → sn_G p l e R s m args below meth c Q D κ A k8 a8 nL ad0 h0 (pc + 1) ls st g) (hle : pm_le h0 h) (d : decode cc pc = .ok (.lastore, 1)) (hrun : pm_int jp hs (pm_st pm_tab cl (tr lk B rt ini pc (.lastore)) K ls st h) = some (o, h')) : sn_G p l e R s m args below meth c Q D κ A k8 a8 nL ad0 h0 pc ls st h := by
  have hrun : pm_int jp hs (pm_st pm_tab cl (.lastore) K ls st h) = some (o, h') := hrun
  unfold pm_st at hrun
  dsimp only at hrun
  split at hrun
  · unfold pm_o at hrun
    split at hrun
    · rename_i hv
      exact sg_lastore S hEnv.1 h8k hv d (hk _ _ _ (pm_le_tr hle (pm_le_wrL hv)) hrun)
    · cases (show (none : pm_R) = some (o, h') from hrun)
  · cases (show (none : pm_R) = some (o, h') from hrun)
theorem st_aastore (S : CallFix p m c cc nL s args lw_all own) (hEnv : sn_Env TX D κ A a8 L xs s) (h8k : sn_K8 k8 L xs) (hk : ∀ ls st g, pm_le h0 g → pm_int jp hs (K ls st g) = some (o, h') → sn_G p l e R s m args below meth c Q D κ A k8 a8 nL ad0 h0 (pc + 1) ls st g) (hle : pm_le h0 h) (d : decode cc pc = .ok (.aastore, 1)) (hrun : pm_int jp hs (pm_st pm_tab cl (tr lk B rt ini pc (.aastore)) K ls st h) = some (o, h')) : sn_G p l e R s m args below meth c Q D κ A k8 a8 nL ad0 h0 pc ls st h := by
  have hrun : pm_int jp hs (pm_st pm_tab cl (.aastore) K ls st h) = some (o, h') := hrun
  unfold pm_st at hrun
  dsimp only at hrun
  split at hrun
  · unfold pm_o at hrun
    split at hrun
    · rename_i hv
      exact sg_aastore (v := some _) S hEnv.1 h8k hEnv.2.2.1 hv d (hk _ _ _ (pm_le_tr hle (pm_le_wrR hv)) hrun)
    · cases (show (none : pm_R) = some (o, h') from hrun)
  · unfold pm_o at hrun
    split at hrun
    · rename_i hv
      exact sg_aastore (v := none) S hEnv.1 h8k hEnv.2.2.1 hv d (hk _ _ _ (pm_le_tr hle (pm_le_wrR hv)) hrun)
    · cases (show (none : pm_R) = some (o, h') from hrun)
  · cases (show (none : pm_R) = some (o, h') from hrun)
theorem sn_hJ (hj : ∀ t ls st g, pm_le h0 g → jp t ls st g = some (o, h') → t < B.length ∧ t < 99999 ∧ sn_G p l e R s m args below meth c Q D κ A k8 a8 nL ad0 h0 (B.getD t 99998) ls st g) {t : Nat} {z : Int} {ls st : List Value} {g : pm_H} (hz : bk z B 0 = t) (hg : pm_le h0 g) (hr : jp t ls st g = some (o, h')) : z = ((B.getD t 99998 : Nat) : Int) ∧ sn_G p l e R s m args below meth c Q D κ A k8 a8 nL ad0 h0 (B.getD t 99998) ls st g := by
  obtain ⟨q1, q1b, q2⟩ := hj t ls st g hg hr
  have q3 := (bk_ok B 0 t hz (by omega) q1b).2
  rw [Nat.sub_zero] at q3
  exact ⟨q3.symm, q2⟩
theorem st_goto {z : Int} (S : CallFix p m c cc nL s args lw_all own) (hj : ∀ t ls st g, pm_le h0 g → jp t ls st g = some (o, h') → t < B.length ∧ t < 99999 ∧ sn_G p l e R s m args below meth c Q D κ A k8 a8 nL ad0 h0 (B.getD t 99998) ls st g) (hk : ∀ ls st g, pm_le h0 g → pm_int jp hs (K ls st g) = some (o, h') → sn_G p l e R s m args below meth c Q D κ A k8 a8 nL ad0 h0 (pc + 3) ls st g) (hle : pm_le h0 h) (d : decode cc pc = .ok (.goto z, 3)) (hrun : pm_int jp hs (pm_st pm_tab cl (tr lk B rt ini pc (.goto z)) K ls st h) = some (o, h')) : sn_G p l e R s m args below meth c Q D κ A k8 a8 nL ad0 h0 pc ls st h := by
  obtain ⟨q1, q2⟩ := sn_hJ hj rfl hle hrun
  exact sg_goto S d q1 q2
theorem st_if_eq {z : Int} (S : CallFix p m c cc nL s args lw_all own) (hj : ∀ t ls st g, pm_le h0 g → jp t ls st g = some (o, h') → t < B.length ∧ t < 99999 ∧ sn_G p l e R s m args below meth c Q D κ A k8 a8 nL ad0 h0 (B.getD t 99998) ls st g) (hk : ∀ ls st g, pm_le h0 g → pm_int jp hs (K ls st g) = some (o, h') → sn_G p l e R s m args below meth c Q D κ A k8 a8 nL ad0 h0 (pc + 3) ls st g) (hle : pm_le h0 h) (d : decode cc pc = .ok (.ifCond .eq z, 3)) (hrun : pm_int jp hs (pm_st pm_tab cl (tr lk B rt ini pc (.ifCond .eq z)) K ls st h) = some (o, h')) : sn_G p l e R s m args below meth c Q D κ A k8 a8 nL ad0 h0 pc ls st h := by
  unfold tr at hrun
  dsimp only at hrun
  unfold tr_j at hrun
  split at hrun
  · cases (show (none : pm_R) = some (o, h') from hrun)
  rename_i hne
  have hpos := bk_pos hne
  unfold pm_st at hrun
  dsimp only at hrun
  split at hrun
  · rename_i x s0
    by_cases hq : x = 0
    · rw [if_pos hq] at hrun
      obtain ⟨q1, q2⟩ := sn_hJ hj rfl hle hrun
      exact sg_if_eq S d q1 (fun _ => q2) (fun q => absurd hq q)
    · rw [if_neg hq] at hrun
      have q2 := hk _ _ _ hle hrun
      by_cases ht : ∃ t : Nat, (pc : Int) + z = (t : Int)
      · obtain ⟨t, ht⟩ := ht
        exact sg_if_eq S d ht (fun q => absurd q hq) (fun _ => q2)
      · exact absurd (hpos) ht
  · cases (show (none : pm_R) = some (o, h') from hrun)
theorem st_icmp_eq {z : Int} (S : CallFix p m c cc nL s args lw_all own) (hj : ∀ t ls st g, pm_le h0 g → jp t ls st g = some (o, h') → t < B.length ∧ t < 99999 ∧ sn_G p l e R s m args below meth c Q D κ A k8 a8 nL ad0 h0 (B.getD t 99998) ls st g) (hk : ∀ ls st g, pm_le h0 g → pm_int jp hs (K ls st g) = some (o, h') → sn_G p l e R s m args below meth c Q D κ A k8 a8 nL ad0 h0 (pc + 3) ls st g) (hle : pm_le h0 h) (d : decode cc pc = .ok (.if_icmp .eq z, 3)) (hrun : pm_int jp hs (pm_st pm_tab cl (tr lk B rt ini pc (.if_icmp .eq z)) K ls st h) = some (o, h')) : sn_G p l e R s m args below meth c Q D κ A k8 a8 nL ad0 h0 pc ls st h := by
  unfold tr at hrun
  dsimp only at hrun
  unfold tr_j at hrun
  split at hrun
  · cases (show (none : pm_R) = some (o, h') from hrun)
  rename_i hne
  have hpos := bk_pos hne
  unfold pm_st at hrun
  dsimp only at hrun
  split at hrun
  · rename_i y x s0
    by_cases hq : x = y
    · rw [if_pos hq] at hrun
      obtain ⟨q1, q2⟩ := sn_hJ hj rfl hle hrun
      exact sg_icmp_eq S d q1 (fun _ => q2) (fun q => absurd hq q)
    · rw [if_neg hq] at hrun
      have q2 := hk _ _ _ hle hrun
      by_cases ht : ∃ t : Nat, (pc : Int) + z = (t : Int)
      · obtain ⟨t, ht⟩ := ht
        exact sg_icmp_eq S d ht (fun q => absurd q hq) (fun _ => q2)
      · exact absurd (hpos) ht
  · cases (show (none : pm_R) = some (o, h') from hrun)
theorem st_if_ne {z : Int} (S : CallFix p m c cc nL s args lw_all own) (hj : ∀ t ls st g, pm_le h0 g → jp t ls st g = some (o, h') → t < B.length ∧ t < 99999 ∧ sn_G p l e R s m args below meth c Q D κ A k8 a8 nL ad0 h0 (B.getD t 99998) ls st g) (hk : ∀ ls st g, pm_le h0 g → pm_int jp hs (K ls st g) = some (o, h') → sn_G p l e R s m args below meth c Q D κ A k8 a8 nL ad0 h0 (pc + 3) ls st g) (hle : pm_le h0 h) (d : decode cc pc = .ok (.ifCond .ne z, 3)) (hrun : pm_int jp hs (pm_st pm_tab cl (tr lk B rt ini pc (.ifCond .ne z)) K ls st h) = some (o, h')) : sn_G p l e R s m args below meth c Q D κ A k8 a8 nL ad0 h0 pc ls st h := by
  unfold tr at hrun
  dsimp only at hrun
  unfold tr_j at hrun
  split at hrun
  · cases (show (none : pm_R) = some (o, h') from hrun)
  rename_i hne
  have hpos := bk_pos hne
  unfold pm_st at hrun
  dsimp only at hrun
  split at hrun
  · rename_i x s0
    by_cases hq : x = 0
    · rw [if_pos hq] at hrun
      have q2 := hk _ _ _ hle hrun
      by_cases ht : ∃ t : Nat, (pc : Int) + z = (t : Int)
      · obtain ⟨t, ht⟩ := ht
        exact sg_if_ne S d ht (fun q => absurd hq (fun hq => q hq)) (fun _ => q2)
      · exact absurd (hpos) ht
    · rw [if_neg hq] at hrun
      obtain ⟨q1, q2⟩ := sn_hJ hj rfl hle hrun
      exact sg_if_ne S d q1 (fun _ => q2) (fun q => absurd hq (fun hq => hq q))
  · cases (show (none : pm_R) = some (o, h') from hrun)
theorem st_icmp_ne {z : Int} (S : CallFix p m c cc nL s args lw_all own) (hj : ∀ t ls st g, pm_le h0 g → jp t ls st g = some (o, h') → t < B.length ∧ t < 99999 ∧ sn_G p l e R s m args below meth c Q D κ A k8 a8 nL ad0 h0 (B.getD t 99998) ls st g) (hk : ∀ ls st g, pm_le h0 g → pm_int jp hs (K ls st g) = some (o, h') → sn_G p l e R s m args below meth c Q D κ A k8 a8 nL ad0 h0 (pc + 3) ls st g) (hle : pm_le h0 h) (d : decode cc pc = .ok (.if_icmp .ne z, 3)) (hrun : pm_int jp hs (pm_st pm_tab cl (tr lk B rt ini pc (.if_icmp .ne z)) K ls st h) = some (o, h')) : sn_G p l e R s m args below meth c Q D κ A k8 a8 nL ad0 h0 pc ls st h := by
  unfold tr at hrun
  dsimp only at hrun
  unfold tr_j at hrun
  split at hrun
  · cases (show (none : pm_R) = some (o, h') from hrun)
  rename_i hne
  have hpos := bk_pos hne
  unfold pm_st at hrun
  dsimp only at hrun
  split at hrun
  · rename_i y x s0
    by_cases hq : x = y
    · rw [if_pos hq] at hrun
      have q2 := hk _ _ _ hle hrun
      by_cases ht : ∃ t : Nat, (pc : Int) + z = (t : Int)
      · obtain ⟨t, ht⟩ := ht
        exact sg_icmp_ne S d ht (fun q => absurd hq (fun hq => q hq)) (fun _ => q2)
      · exact absurd (hpos) ht
    · rw [if_neg hq] at hrun
      obtain ⟨q1, q2⟩ := sn_hJ hj rfl hle hrun
      exact sg_icmp_ne S d q1 (fun _ => q2) (fun q => absurd hq (fun hq => hq q))
  · cases (show (none : pm_R) = some (o, h') from hrun)
theorem st_if_lt {z : Int} (S : CallFix p m c cc nL s args lw_all own) (hj : ∀ t ls st g, pm_le h0 g → jp t ls st g = some (o, h') → t < B.length ∧ t < 99999 ∧ sn_G p l e R s m args below meth c Q D κ A k8 a8 nL ad0 h0 (B.getD t 99998) ls st g) (hk : ∀ ls st g, pm_le h0 g → pm_int jp hs (K ls st g) = some (o, h') → sn_G p l e R s m args below meth c Q D κ A k8 a8 nL ad0 h0 (pc + 3) ls st g) (hle : pm_le h0 h) (d : decode cc pc = .ok (.ifCond .lt z, 3)) (hrun : pm_int jp hs (pm_st pm_tab cl (tr lk B rt ini pc (.ifCond .lt z)) K ls st h) = some (o, h')) : sn_G p l e R s m args below meth c Q D κ A k8 a8 nL ad0 h0 pc ls st h := by
  unfold tr at hrun
  dsimp only at hrun
  unfold tr_j at hrun
  split at hrun
  · cases (show (none : pm_R) = some (o, h') from hrun)
  rename_i hne
  have hpos := bk_pos hne
  unfold pm_st at hrun
  dsimp only at hrun
  split at hrun
  · rename_i x s0
    by_cases hq : x < 0
    · rw [if_pos hq] at hrun
      obtain ⟨q1, q2⟩ := sn_hJ hj rfl hle hrun
      exact sg_if_lt S d q1 (fun _ => q2) (fun q => absurd hq q)
    · rw [if_neg hq] at hrun
      have q2 := hk _ _ _ hle hrun
      by_cases ht : ∃ t : Nat, (pc : Int) + z = (t : Int)
      · obtain ⟨t, ht⟩ := ht
        exact sg_if_lt S d ht (fun q => absurd q hq) (fun _ => q2)
      · exact absurd (hpos) ht
  · cases (show (none : pm_R) = some (o, h') from hrun)
theorem st_icmp_lt {z : Int} (S : CallFix p m c cc nL s args lw_all own) (hj : ∀ t ls st g, pm_le h0 g → jp t ls st g = some (o, h') → t < B.length ∧ t < 99999 ∧ sn_G p l e R s m args below meth c Q D κ A k8 a8 nL ad0 h0 (B.getD t 99998) ls st g) (hk : ∀ ls st g, pm_le h0 g → pm_int jp hs (K ls st g) = some (o, h') → sn_G p l e R s m args below meth c Q D κ A k8 a8 nL ad0 h0 (pc + 3) ls st g) (hle : pm_le h0 h) (d : decode cc pc = .ok (.if_icmp .lt z, 3)) (hrun : pm_int jp hs (pm_st pm_tab cl (tr lk B rt ini pc (.if_icmp .lt z)) K ls st h) = some (o, h')) : sn_G p l e R s m args below meth c Q D κ A k8 a8 nL ad0 h0 pc ls st h := by
  unfold tr at hrun
  dsimp only at hrun
  unfold tr_j at hrun
  split at hrun
  · cases (show (none : pm_R) = some (o, h') from hrun)
  rename_i hne
  have hpos := bk_pos hne
  unfold pm_st at hrun
  dsimp only at hrun
  split at hrun
  · rename_i y x s0
    by_cases hq : x < y
    · rw [if_pos hq] at hrun
      obtain ⟨q1, q2⟩ := sn_hJ hj rfl hle hrun
      exact sg_icmp_lt S d q1 (fun _ => q2) (fun q => absurd hq q)
    · rw [if_neg hq] at hrun
      have q2 := hk _ _ _ hle hrun
      by_cases ht : ∃ t : Nat, (pc : Int) + z = (t : Int)
      · obtain ⟨t, ht⟩ := ht
        exact sg_icmp_lt S d ht (fun q => absurd q hq) (fun _ => q2)
      · exact absurd (hpos) ht
  · cases (show (none : pm_R) = some (o, h') from hrun)
theorem st_if_ge {z : Int} (S : CallFix p m c cc nL s args lw_all own) (hj : ∀ t ls st g, pm_le h0 g → jp t ls st g = some (o, h') → t < B.length ∧ t < 99999 ∧ sn_G p l e R s m args below meth c Q D κ A k8 a8 nL ad0 h0 (B.getD t 99998) ls st g) (hk : ∀ ls st g, pm_le h0 g → pm_int jp hs (K ls st g) = some (o, h') → sn_G p l e R s m args below meth c Q D κ A k8 a8 nL ad0 h0 (pc + 3) ls st g) (hle : pm_le h0 h) (d : decode cc pc = .ok (.ifCond .ge z, 3)) (hrun : pm_int jp hs (pm_st pm_tab cl (tr lk B rt ini pc (.ifCond .ge z)) K ls st h) = some (o, h')) : sn_G p l e R s m args below meth c Q D κ A k8 a8 nL ad0 h0 pc ls st h := by
  unfold tr at hrun
  dsimp only at hrun
  unfold tr_j at hrun
  split at hrun
  · cases (show (none : pm_R) = some (o, h') from hrun)
  rename_i hne
  have hpos := bk_pos hne
  unfold pm_st at hrun
  dsimp only at hrun
  split at hrun
  · rename_i x s0
    by_cases hq : x < 0
    · rw [if_pos hq] at hrun
      have q2 := hk _ _ _ hle hrun
      by_cases ht : ∃ t : Nat, (pc : Int) + z = (t : Int)
      · obtain ⟨t, ht⟩ := ht
        exact sg_if_ge S d ht (fun q => absurd hq (fun hq => (Int32.not_lt.mpr q) hq)) (fun _ => q2)
      · exact absurd (hpos) ht
    · rw [if_neg hq] at hrun
      obtain ⟨q1, q2⟩ := sn_hJ hj rfl hle hrun
      exact sg_if_ge S d q1 (fun _ => q2) (fun q => absurd hq (fun hq => q (Int32.not_lt.mp hq)))
  · cases (show (none : pm_R) = some (o, h') from hrun)
theorem st_icmp_ge {z : Int} (S : CallFix p m c cc nL s args lw_all own) (hj : ∀ t ls st g, pm_le h0 g → jp t ls st g = some (o, h') → t < B.length ∧ t < 99999 ∧ sn_G p l e R s m args below meth c Q D κ A k8 a8 nL ad0 h0 (B.getD t 99998) ls st g) (hk : ∀ ls st g, pm_le h0 g → pm_int jp hs (K ls st g) = some (o, h') → sn_G p l e R s m args below meth c Q D κ A k8 a8 nL ad0 h0 (pc + 3) ls st g) (hle : pm_le h0 h) (d : decode cc pc = .ok (.if_icmp .ge z, 3)) (hrun : pm_int jp hs (pm_st pm_tab cl (tr lk B rt ini pc (.if_icmp .ge z)) K ls st h) = some (o, h')) : sn_G p l e R s m args below meth c Q D κ A k8 a8 nL ad0 h0 pc ls st h := by
  unfold tr at hrun
  dsimp only at hrun
  unfold tr_j at hrun
  split at hrun
  · cases (show (none : pm_R) = some (o, h') from hrun)
  rename_i hne
  have hpos := bk_pos hne
  unfold pm_st at hrun
  dsimp only at hrun
  split at hrun
  · rename_i y x s0
    by_cases hq : x < y
    · rw [if_pos hq] at hrun
      have q2 := hk _ _ _ hle hrun
      by_cases ht : ∃ t : Nat, (pc : Int) + z = (t : Int)
      · obtain ⟨t, ht⟩ := ht
        exact sg_icmp_ge S d ht (fun q => absurd hq (fun hq => (Int32.not_lt.mpr q) hq)) (fun _ => q2)
      · exact absurd (hpos) ht
    · rw [if_neg hq] at hrun
      obtain ⟨q1, q2⟩ := sn_hJ hj rfl hle hrun
      exact sg_icmp_ge S d q1 (fun _ => q2) (fun q => absurd hq (fun hq => q (Int32.not_lt.mp hq)))
  · cases (show (none : pm_R) = some (o, h') from hrun)
theorem st_if_gt {z : Int} (S : CallFix p m c cc nL s args lw_all own) (hj : ∀ t ls st g, pm_le h0 g → jp t ls st g = some (o, h') → t < B.length ∧ t < 99999 ∧ sn_G p l e R s m args below meth c Q D κ A k8 a8 nL ad0 h0 (B.getD t 99998) ls st g) (hk : ∀ ls st g, pm_le h0 g → pm_int jp hs (K ls st g) = some (o, h') → sn_G p l e R s m args below meth c Q D κ A k8 a8 nL ad0 h0 (pc + 3) ls st g) (hle : pm_le h0 h) (d : decode cc pc = .ok (.ifCond .gt z, 3)) (hrun : pm_int jp hs (pm_st pm_tab cl (tr lk B rt ini pc (.ifCond .gt z)) K ls st h) = some (o, h')) : sn_G p l e R s m args below meth c Q D κ A k8 a8 nL ad0 h0 pc ls st h := by
  unfold tr at hrun
  dsimp only at hrun
  unfold tr_j at hrun
  split at hrun
  · cases (show (none : pm_R) = some (o, h') from hrun)
  rename_i hne
  have hpos := bk_pos hne
  unfold pm_st at hrun
  dsimp only at hrun
  split at hrun
  · rename_i x s0
    by_cases hq : x ≤ 0
    · rw [if_pos hq] at hrun
      have q2 := hk _ _ _ hle hrun
      by_cases ht : ∃ t : Nat, (pc : Int) + z = (t : Int)
      · obtain ⟨t, ht⟩ := ht
        exact sg_if_gt S d ht (fun q => absurd hq (fun hq => (Int32.not_le.mpr q) hq)) (fun _ => q2)
      · exact absurd (hpos) ht
    · rw [if_neg hq] at hrun
      obtain ⟨q1, q2⟩ := sn_hJ hj rfl hle hrun
      exact sg_if_gt S d q1 (fun _ => q2) (fun q => absurd hq (fun hq => q (Int32.not_le.mp hq)))
  · cases (show (none : pm_R) = some (o, h') from hrun)
theorem st_icmp_gt {z : Int} (S : CallFix p m c cc nL s args lw_all own) (hj : ∀ t ls st g, pm_le h0 g → jp t ls st g = some (o, h') → t < B.length ∧ t < 99999 ∧ sn_G p l e R s m args below meth c Q D κ A k8 a8 nL ad0 h0 (B.getD t 99998) ls st g) (hk : ∀ ls st g, pm_le h0 g → pm_int jp hs (K ls st g) = some (o, h') → sn_G p l e R s m args below meth c Q D κ A k8 a8 nL ad0 h0 (pc + 3) ls st g) (hle : pm_le h0 h) (d : decode cc pc = .ok (.if_icmp .gt z, 3)) (hrun : pm_int jp hs (pm_st pm_tab cl (tr lk B rt ini pc (.if_icmp .gt z)) K ls st h) = some (o, h')) : sn_G p l e R s m args below meth c Q D κ A k8 a8 nL ad0 h0 pc ls st h := by
  unfold tr at hrun
  dsimp only at hrun
  unfold tr_j at hrun
  split at hrun
  · cases (show (none : pm_R) = some (o, h') from hrun)
  rename_i hne
  have hpos := bk_pos hne
  unfold pm_st at hrun
  dsimp only at hrun
  split at hrun
  · rename_i y x s0
    by_cases hq : x ≤ y
    · rw [if_pos hq] at hrun
      have q2 := hk _ _ _ hle hrun
      by_cases ht : ∃ t : Nat, (pc : Int) + z = (t : Int)
      · obtain ⟨t, ht⟩ := ht
        exact sg_icmp_gt S d ht (fun q => absurd hq (fun hq => (Int32.not_le.mpr q) hq)) (fun _ => q2)
      · exact absurd (hpos) ht
    · rw [if_neg hq] at hrun
      obtain ⟨q1, q2⟩ := sn_hJ hj rfl hle hrun
      exact sg_icmp_gt S d q1 (fun _ => q2) (fun q => absurd hq (fun hq => q (Int32.not_le.mp hq)))
  · cases (show (none : pm_R) = some (o, h') from hrun)
theorem st_if_le {z : Int} (S : CallFix p m c cc nL s args lw_all own) (hj : ∀ t ls st g, pm_le h0 g → jp t ls st g = some (o, h') → t < B.length ∧ t < 99999 ∧ sn_G p l e R s m args below meth c Q D κ A k8 a8 nL ad0 h0 (B.getD t 99998) ls st g) (hk : ∀ ls st g, pm_le h0 g → pm_int jp hs (K ls st g) = some (o, h') → sn_G p l e R s m args below meth c Q D κ A k8 a8 nL ad0 h0 (pc + 3) ls st g) (hle : pm_le h0 h) (d : decode cc pc = .ok (.ifCond .le z, 3)) (hrun : pm_int jp hs (pm_st pm_tab cl (tr lk B rt ini pc (.ifCond .le z)) K ls st h) = some (o, h')) : sn_G p l e R s m args below meth c Q D κ A k8 a8 nL ad0 h0 pc ls st h := by
  unfold tr at hrun
  dsimp only at hrun
  unfold tr_j at hrun
  split at hrun
  · cases (show (none : pm_R) = some (o, h') from hrun)
  rename_i hne
  have hpos := bk_pos hne
  unfold pm_st at hrun
  dsimp only at hrun
  split at hrun
  · rename_i x s0
    by_cases hq : x ≤ 0
    · rw [if_pos hq] at hrun
      obtain ⟨q1, q2⟩ := sn_hJ hj rfl hle hrun
      exact sg_if_le S d q1 (fun _ => q2) (fun q => absurd hq q)
    · rw [if_neg hq] at hrun
      have q2 := hk _ _ _ hle hrun
      by_cases ht : ∃ t : Nat, (pc : Int) + z = (t : Int)
      · obtain ⟨t, ht⟩ := ht
        exact sg_if_le S d ht (fun q => absurd q hq) (fun _ => q2)
      · exact absurd (hpos) ht
  · cases (show (none : pm_R) = some (o, h') from hrun)
theorem st_icmp_le {z : Int} (S : CallFix p m c cc nL s args lw_all own) (hj : ∀ t ls st g, pm_le h0 g → jp t ls st g = some (o, h') → t < B.length ∧ t < 99999 ∧ sn_G p l e R s m args below meth c Q D κ A k8 a8 nL ad0 h0 (B.getD t 99998) ls st g) (hk : ∀ ls st g, pm_le h0 g → pm_int jp hs (K ls st g) = some (o, h') → sn_G p l e R s m args below meth c Q D κ A k8 a8 nL ad0 h0 (pc + 3) ls st g) (hle : pm_le h0 h) (d : decode cc pc = .ok (.if_icmp .le z, 3)) (hrun : pm_int jp hs (pm_st pm_tab cl (tr lk B rt ini pc (.if_icmp .le z)) K ls st h) = some (o, h')) : sn_G p l e R s m args below meth c Q D κ A k8 a8 nL ad0 h0 pc ls st h := by
  unfold tr at hrun
  dsimp only at hrun
  unfold tr_j at hrun
  split at hrun
  · cases (show (none : pm_R) = some (o, h') from hrun)
  rename_i hne
  have hpos := bk_pos hne
  unfold pm_st at hrun
  dsimp only at hrun
  split at hrun
  · rename_i y x s0
    by_cases hq : x ≤ y
    · rw [if_pos hq] at hrun
      obtain ⟨q1, q2⟩ := sn_hJ hj rfl hle hrun
      exact sg_icmp_le S d q1 (fun _ => q2) (fun q => absurd hq q)
    · rw [if_neg hq] at hrun
      have q2 := hk _ _ _ hle hrun
      by_cases ht : ∃ t : Nat, (pc : Int) + z = (t : Int)
      · obtain ⟨t, ht⟩ := ht
        exact sg_icmp_le S d ht (fun q => absurd q hq) (fun _ => q2)
      · exact absurd (hpos) ht
  · cases (show (none : pm_R) = some (o, h') from hrun)
end
