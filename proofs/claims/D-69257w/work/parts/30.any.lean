/-! ===== SOUNDNESS, 14: any instruction; a block ===== -/
theorem len_of {a n : Nat} (ha : a ≠ 0) (hn : a = n ∨ a = 0) : n = a := by omega
section
variable {p : Program} {l : Launch} {e : Env} {R : Room} {s : State} {m : MethodId} {args : Array Value} {below : List Frame} {meth : Method} {c : Code} {Q : State → Prop} {D : va_G} {κ : FieldType → ClassId} {A : Nat → Prop} {k8 : Nat → pm_E} {a8 : Nat → Nat} {nL : Nat} {ad0 : Nat → Nat} {h0 : pm_H} {cc : ByteArray} {own : String} {pc : Nat} {ls st : List Value} {h : pm_H} {L : Nat} {xs : Nat → Int32} {TX : State → Heap → Prop} {lk : lk_T} {B : List Nat} {rt : Nat} {ini : Bool} {jp : Nat → List Value → List Value → pm_H → pm_R} {hs : List (List Nat × Nat × Nat)} {K : pm_K} {cl : pm_C} {d0 : Nat} {o : Outcome} {h' : pm_H}
theorem st_invokespecial {x : Nat} (S : CallFix p m c cc nL s args lw_all own) (T : lk_sem own lk) (hTX : sn_TXok TX A) (hEnv : sn_Env TX D κ A a8 L xs s) (h8k : sn_K8 k8 L xs) (hIH : ∀ (k : Nat) (as : List Value) (g : pm_H) (o1 : Outcome) (g' : pm_H), cl k as g = some (o1, g') → pm_le g g' ∧ pm_rc pm_tab (pm_prog.2 k).2.2.1 as g = true ∧ ∀ ad, sn_Met l (sn_y k) (sn_w k) d0 TX D κ A k8 a8 L xs ad as g g' o1) (hR : 21 + d0 ≤ R.frames ∧ 448 + 48 * d0 ≤ R.locals) (hthr : ∀ ls c0 g, pm_le h0 g → pm_int jp hs (.inr (.inr (ls, c0, g))) = some (o, h') → pm_le g h' ∧ sn_Gx p l e R s m args below meth c Q D κ A k8 a8 nL ad0 h0 pc ls c0 g) (hob : Cond.instanceMethod Lib.objectInit ∈ lw_all ∧ Cond.code Lib.objectInit ⟨#[0xb1]⟩ 1 none ∈ lw_all) (hgap : ∀ (i : Instr) (n : Nat) (pi : Instr), (pi = .monitorexit ∨ pi = .d2i ∨ pi = .d2l ∨ (∃ v, pi = .ldc v) ∨ (∃ v, pi = .invokedynamic v) ∨ ∃ v w, pi = .multianewarray v w) → tr lk B rt ini pc i = pi → tr_len i = n → decode cc pc = .ok (i, n) → (∀ ls st g, pm_le h0 g → pm_int jp hs (K ls st g) = some (o, h') → pm_le g h' ∧ sn_G p l e R s m args below meth c Q D κ A k8 a8 nL ad0 h0 (pc + n) ls st g) → pm_int jp hs (pm_st pm_tab cl pi K ls st h) = some (o, h') → sn_G p l e R s m args below meth c Q D κ A k8 a8 nL ad0 h0 pc ls st h) (hk : ∀ ls st g, pm_le h0 g → pm_int jp hs (K ls st g) = some (o, h') → pm_le g h' ∧ sn_G p l e R s m args below meth c Q D κ A k8 a8 nL ad0 h0 (pc + 3) ls st g) (hle : pm_le h0 h) (hroom : h'.1 ≤ h0.1 + R.cells ∧ h'.2.1 ≤ h0.2.1 + R.slots) (d : decode cc pc = .ok (.invokespecial x, 3)) (hrun : pm_int jp hs (pm_st pm_tab cl (tr lk B rt ini pc (.invokespecial x)) K ls st h) = some (o, h')) : sn_G p l e R s m args below meth c Q D κ A k8 a8 nL ad0 h0 pc ls st h := by
  have hk2 : ∀ ls st g, pm_le h0 g → pm_int jp hs (K ls st g) = some (o, h') → sn_G p l e R s m args below meth c Q D κ A k8 a8 nL ad0 h0 (pc + 3) ls st g := fun a b c q r => (hk a b c q r).2
  have hgap := fun q => hgap (.invokespecial x) 3 _ q rfl rfl d hk
  unfold tr at hrun hgap
  dsimp only at hrun hgap
  split at hrun
  · rename_i v hv
    have q := lk_at T (kind := 7) (by decide) hv
    exact st_callI S hTX hEnv h8k hIH hR hthr hk hle hroom q.1 q.2.1 q.2.2.1 q.2.2.2.1 q.2.2.2.2 d hrun
  · split at hrun
    · rename_i v hv
      have q := lk_at T (kind := 8) (by decide) hv
      exact st_callIN S hTX hEnv h8k hIH hR hthr hk hle hroom q.1 q.2.1 q.2.2.1 q.2.2.2.1 q.2.2.2.2 d hrun
    · unfold tr_g at hrun
      split at hrun
      · rename_i v hv
        unfold pm_st at hrun
        dsimp only at hrun
        split at hrun
        · split at hrun
          · rename_i hc
            exact sg_objInit S (lk_at T (kind := 11) (by decide) hv) hob.1 hob.2 hc (by omega) (by omega) d (hk2 _ _ _ hle hrun)
          · cases (show (none : pm_R) = some (o, h') from hrun)
        · cases (show (none : pm_R) = some (o, h') from hrun)
      · cases (show (none : pm_R) = some (o, h') from hrun)
theorem st_invokestatic {x : Nat} (S : CallFix p m c cc nL s args lw_all own) (T : lk_sem own lk) (hTX : sn_TXok TX A) (hEnv : sn_Env TX D κ A a8 L xs s) (h8k : sn_K8 k8 L xs) (hIH : ∀ (k : Nat) (as : List Value) (g : pm_H) (o1 : Outcome) (g' : pm_H), cl k as g = some (o1, g') → pm_le g g' ∧ pm_rc pm_tab (pm_prog.2 k).2.2.1 as g = true ∧ ∀ ad, sn_Met l (sn_y k) (sn_w k) d0 TX D κ A k8 a8 L xs ad as g g' o1) (hR : 21 + d0 ≤ R.frames ∧ 448 + 48 * d0 ≤ R.locals) (hthr : ∀ ls c0 g, pm_le h0 g → pm_int jp hs (.inr (.inr (ls, c0, g))) = some (o, h') → pm_le g h' ∧ sn_Gx p l e R s m args below meth c Q D κ A k8 a8 nL ad0 h0 pc ls c0 g) (hcp : Cond.native arraycopyName ∈ lw_all ∧ Cond.static arraycopyName ∈ lw_all ∧ Cond.initialized "java/lang/System" ∈ lw_all) (hgap : ∀ (i : Instr) (n : Nat) (pi : Instr), (pi = .monitorexit ∨ pi = .d2i ∨ pi = .d2l ∨ (∃ v, pi = .ldc v) ∨ (∃ v, pi = .invokedynamic v) ∨ ∃ v w, pi = .multianewarray v w) → tr lk B rt ini pc i = pi → tr_len i = n → decode cc pc = .ok (i, n) → (∀ ls st g, pm_le h0 g → pm_int jp hs (K ls st g) = some (o, h') → pm_le g h' ∧ sn_G p l e R s m args below meth c Q D κ A k8 a8 nL ad0 h0 (pc + n) ls st g) → pm_int jp hs (pm_st pm_tab cl pi K ls st h) = some (o, h') → sn_G p l e R s m args below meth c Q D κ A k8 a8 nL ad0 h0 pc ls st h) (hk : ∀ ls st g, pm_le h0 g → pm_int jp hs (K ls st g) = some (o, h') → pm_le g h' ∧ sn_G p l e R s m args below meth c Q D κ A k8 a8 nL ad0 h0 (pc + 3) ls st g) (hle : pm_le h0 h) (hroom : h'.1 ≤ h0.1 + R.cells ∧ h'.2.1 ≤ h0.2.1 + R.slots) (d : decode cc pc = .ok (.invokestatic x, 3)) (hrun : pm_int jp hs (pm_st pm_tab cl (tr lk B rt ini pc (.invokestatic x)) K ls st h) = some (o, h')) : sn_G p l e R s m args below meth c Q D κ A k8 a8 nL ad0 h0 pc ls st h := by
  have hk2 : ∀ ls st g, pm_le h0 g → pm_int jp hs (K ls st g) = some (o, h') → sn_G p l e R s m args below meth c Q D κ A k8 a8 nL ad0 h0 (pc + 3) ls st g := fun a b c q r => (hk a b c q r).2
  have hgap := fun q => hgap (.invokestatic x) 3 _ q rfl rfl d hk
  unfold tr at hrun hgap
  dsimp only at hrun hgap
  split at hrun
  · rename_i v hv
    have q := lk_at T (kind := 3) (by decide) hv
    exact st_callS S hTX hEnv h8k hIH hR hthr hk hle hroom q.1 q.2.1 q.2.2.1 q.2.2.2 d hrun
  · rename_i h3
    split at hrun
    · rename_i v hv
      have q := lk_at T (kind := 4) (by decide) hv
      exact st_callSN S hTX hEnv h8k hIH hR hthr hk hle hroom q.1 q.2.1 q.2.2.1 q.2.2.2.1 q.2.2.2.2 d hrun
    · rename_i h4
      split at hrun
      · rename_i v hv
        unfold pm_st at hrun
        dsimp only at hrun
        split at hrun
        · split at hrun
          · rename_i hc
            unfold pm_o at hrun
            split at hrun
            · rename_i hg
              exact sg_arraycopy S hEnv.1 h8k (lk_at T (kind := 12) (by decide) hv) hcp.1 hcp.2.1 hcp.2.2 hc (by omega) (by omega) hg d (hk2 _ _ _ (pm_le_tr hle (pm_le_cpy hg)) hrun)
            · cases (show (none : pm_R) = some (o, h') from hrun)
          · cases (show (none : pm_R) = some (o, h') from hrun)
        · cases (show (none : pm_R) = some (o, h') from hrun)
      · rename_i h12
        unfold tr_g at hrun hgap
        split at hrun
        · rename_i v hv
          rw [h3, h4, h12, hv] at hgap
          exact hgap (Or.inl rfl) hrun
        · cases (show (none : pm_R) = some (o, h') from hrun)
theorem st_invokevirtual {x : Nat} (S : CallFix p m c cc nL s args lw_all own) (T : lk_sem own lk) (hTX : sn_TXok TX A) (hEnv : sn_Env TX D κ A a8 L xs s) (h8k : sn_K8 k8 L xs) (hIH : ∀ (k : Nat) (as : List Value) (g : pm_H) (o1 : Outcome) (g' : pm_H), cl k as g = some (o1, g') → pm_le g g' ∧ pm_rc pm_tab (pm_prog.2 k).2.2.1 as g = true ∧ ∀ ad, sn_Met l (sn_y k) (sn_w k) d0 TX D κ A k8 a8 L xs ad as g g' o1) (hR : 21 + d0 ≤ R.frames ∧ 448 + 48 * d0 ≤ R.locals) (hthr : ∀ ls c0 g, pm_le h0 g → pm_int jp hs (.inr (.inr (ls, c0, g))) = some (o, h') → pm_le g h' ∧ sn_Gx p l e R s m args below meth c Q D κ A k8 a8 nL ad0 h0 pc ls c0 g)  (hgap : ∀ (i : Instr) (n : Nat) (pi : Instr), (pi = .monitorexit ∨ pi = .d2i ∨ pi = .d2l ∨ (∃ v, pi = .ldc v) ∨ (∃ v, pi = .invokedynamic v) ∨ ∃ v w, pi = .multianewarray v w) → tr lk B rt ini pc i = pi → tr_len i = n → decode cc pc = .ok (i, n) → (∀ ls st g, pm_le h0 g → pm_int jp hs (K ls st g) = some (o, h') → pm_le g h' ∧ sn_G p l e R s m args below meth c Q D κ A k8 a8 nL ad0 h0 (pc + n) ls st g) → pm_int jp hs (pm_st pm_tab cl pi K ls st h) = some (o, h') → sn_G p l e R s m args below meth c Q D κ A k8 a8 nL ad0 h0 pc ls st h) (hk : ∀ ls st g, pm_le h0 g → pm_int jp hs (K ls st g) = some (o, h') → pm_le g h' ∧ sn_G p l e R s m args below meth c Q D κ A k8 a8 nL ad0 h0 (pc + 3) ls st g) (hle : pm_le h0 h) (hroom : h'.1 ≤ h0.1 + R.cells ∧ h'.2.1 ≤ h0.2.1 + R.slots) (d : decode cc pc = .ok (.invokevirtual x, 3)) (hrun : pm_int jp hs (pm_st pm_tab cl (tr lk B rt ini pc (.invokevirtual x)) K ls st h) = some (o, h')) : sn_G p l e R s m args below meth c Q D κ A k8 a8 nL ad0 h0 pc ls st h := by
  have hk2 : ∀ ls st g, pm_le h0 g → pm_int jp hs (K ls st g) = some (o, h') → sn_G p l e R s m args below meth c Q D κ A k8 a8 nL ad0 h0 (pc + 3) ls st g := fun a b c q r => (hk a b c q r).2
  have hgap := fun q => hgap (.invokevirtual x) 3 _ q rfl rfl d hk
  unfold tr at hrun hgap
  dsimp only at hrun hgap
  split at hrun
  · rename_i v hv
    have q := lk_at T (kind := 5) (by decide) hv
    exact st_callV S hTX hEnv h8k hIH hR hthr hk hle hroom q.1 q.2.1 q.2.2.1 q.2.2.2 d hrun
  · rename_i h5
    split at hrun
    · rename_i v hv
      have q := lk_at T (kind := 6) (by decide) hv
      exact st_callVN S hTX hEnv h8k hIH hR hthr hk hle hroom q.1 q.2.1 q.2.2.1 q.2.2.2.1 q.2.2.2.2 d hrun
    · rename_i h6
      split at hrun
      · rename_i v hv
        rw [h5, h6, hv] at hgap
        exact hgap (Or.inr (Or.inr (Or.inr (Or.inr (Or.inl ⟨_, rfl⟩))))) hrun
      · rename_i h16
        split at hrun
        · rename_i v hv
          rw [h5, h6, h16, hv] at hgap
          exact hgap (Or.inr (Or.inl rfl)) hrun
        · rename_i h14
          unfold tr_g at hrun hgap
          split at hrun
          · rename_i v hv
            rw [h5, h6, h16, h14, hv] at hgap
            exact hgap (Or.inr (Or.inr (Or.inl rfl))) hrun
          · cases (show (none : pm_R) = some (o, h') from hrun)
theorem sn_step {i : Instr} {n : Nat} (S : CallFix p m c cc nL s args lw_all own) (T : lk_sem own lk) (hTX : sn_TXok TX A) (hEnv : sn_Env TX D κ A a8 L xs s) (h8k : sn_K8 k8 L xs) (hIH : ∀ (k : Nat) (as : List Value) (g : pm_H) (o1 : Outcome) (g' : pm_H), cl k as g = some (o1, g') → pm_le g g' ∧ pm_rc pm_tab (pm_prog.2 k).2.2.1 as g = true ∧ ∀ ad, sn_Met l (sn_y k) (sn_w k) d0 TX D κ A k8 a8 L xs ad as g g' o1) (hR : 21 + d0 ≤ R.frames ∧ 448 + 48 * d0 ≤ R.locals) (hthr : ∀ ls c0 g, pm_le h0 g → pm_int jp hs (.inr (.inr (ls, c0, g))) = some (o, h') → pm_le g h' ∧ sn_Gx p l e R s m args below meth c Q D κ A k8 a8 nL ad0 h0 pc ls c0 g) (hat : ∀ x : ArrayType, x ≠ .float → x ≠ .double → newarray.typeOf x ∈ sn_ats ∧ Cond.arrayClass (newarray.typeOf x) ∈ lw_all) (hob : Cond.instanceMethod Lib.objectInit ∈ lw_all ∧ Cond.code Lib.objectInit ⟨#[0xb1]⟩ 1 none ∈ lw_all) (hcp : Cond.native arraycopyName ∈ lw_all ∧ Cond.static arraycopyName ∈ lw_all ∧ Cond.initialized "java/lang/System" ∈ lw_all) (hj : ∀ t ls st g, pm_le h0 g → jp t ls st g = some (o, h') → t < B.length ∧ t < 99999 ∧ sn_G p l e R s m args below meth c Q D κ A k8 a8 nL ad0 h0 (B.getD t 99998) ls st g) (hini : ini = true → meth.name = "<init>") (hgap : ∀ (i : Instr) (n : Nat) (pi : Instr), (pi = .monitorexit ∨ pi = .d2i ∨ pi = .d2l ∨ (∃ v, pi = .ldc v) ∨ (∃ v, pi = .invokedynamic v) ∨ ∃ v w, pi = .multianewarray v w) → tr lk B rt ini pc i = pi → tr_len i = n → decode cc pc = .ok (i, n) → (∀ ls st g, pm_le h0 g → pm_int jp hs (K ls st g) = some (o, h') → pm_le g h' ∧ sn_G p l e R s m args below meth c Q D κ A k8 a8 nL ad0 h0 (pc + n) ls st g) → pm_int jp hs (pm_st pm_tab cl pi K ls st h) = some (o, h') → sn_G p l e R s m args below meth c Q D κ A k8 a8 nL ad0 h0 pc ls st h) (hk : ∀ ls st g, pm_le h0 g → pm_int jp hs (K ls st g) = some (o, h') → pm_le g h' ∧ sn_G p l e R s m args below meth c Q D κ A k8 a8 nL ad0 h0 (pc + n) ls st g) (hle : pm_le h0 h) (hroom : h'.1 ≤ h0.1 + R.cells ∧ h'.2.1 ≤ h0.2.1 + R.slots) (hldcw : ∀ (x : Nat) (z : Int), lk_get x lk.2.1 = some z → decode cc pc = .ok (.ldc_w x, 3) → sn_G p l e R s m args below meth c Q D κ A k8 a8 nL ad0 h0 (pc + 3) ls (.int (Int32.ofInt z) :: st) h → sn_G p l e R s m args below meth c Q D κ A k8 a8 nL ad0 h0 pc ls st h) (hn : tr_len i = n ∨ tr_len i = 0) (he : tr_end i = false) (d : decode cc pc = .ok (i, n)) (hrun : pm_int jp hs (pm_st pm_tab cl (tr lk B rt ini pc i) K ls st h) = some (o, h')) : sn_G p l e R s m args below meth c Q D κ A k8 a8 nL ad0 h0 pc ls st h := by
  have hk2 : ∀ ls st g, pm_le h0 g → pm_int jp hs (K ls st g) = some (o, h') → sn_G p l e R s m args below meth c Q D κ A k8 a8 nL ad0 h0 (pc + n) ls st g := fun a b c q r => (hk a b c q r).2
  have hKle : ∀ ls st g, pm_le h0 g → pm_int jp hs (K ls st g) = some (o, h') → pm_le g h' := fun a b c q r => (hk a b c q r).1
  cases i with
  | iadd => obtain rfl := len_of (a := 1) (by decide) hn; exact st_iadd S hk2 hle d hrun
  | isub => obtain rfl := len_of (a := 1) (by decide) hn; exact st_isub S hk2 hle d hrun
  | imul => obtain rfl := len_of (a := 1) (by decide) hn; exact st_imul S hk2 hle d hrun
  | iand => obtain rfl := len_of (a := 1) (by decide) hn; exact st_iand S hk2 hle d hrun
  | ior => obtain rfl := len_of (a := 1) (by decide) hn; exact st_ior S hk2 hle d hrun
  | ixor => obtain rfl := len_of (a := 1) (by decide) hn; exact st_ixor S hk2 hle d hrun
  | ishl => obtain rfl := len_of (a := 1) (by decide) hn; exact st_ishl S hk2 hle d hrun
  | ishr => obtain rfl := len_of (a := 1) (by decide) hn; exact st_ishr S hk2 hle d hrun
  | ladd => obtain rfl := len_of (a := 1) (by decide) hn; exact st_ladd S hk2 hle d hrun
  | lsub => obtain rfl := len_of (a := 1) (by decide) hn; exact st_lsub S hk2 hle d hrun
  | lmul => obtain rfl := len_of (a := 1) (by decide) hn; exact st_lmul S hk2 hle d hrun
  | land => obtain rfl := len_of (a := 1) (by decide) hn; exact st_land S hk2 hle d hrun
  | lor => obtain rfl := len_of (a := 1) (by decide) hn; exact st_lor S hk2 hle d hrun
  | lxor => obtain rfl := len_of (a := 1) (by decide) hn; exact st_lxor S hk2 hle d hrun
  | ineg => obtain rfl := len_of (a := 1) (by decide) hn; exact st_ineg S hk2 hle d hrun
  | lneg => obtain rfl := len_of (a := 1) (by decide) hn; exact st_lneg S hk2 hle d hrun
  | lshl => obtain rfl := len_of (a := 1) (by decide) hn; exact st_lshl S hk2 hle d hrun
  | lushr => obtain rfl := len_of (a := 1) (by decide) hn; exact st_lushr S hk2 hle d hrun
  | i2l => obtain rfl := len_of (a := 1) (by decide) hn; exact st_i2l S hk2 hle d hrun
  | l2i => obtain rfl := len_of (a := 1) (by decide) hn; exact st_l2i S hk2 hle d hrun
  | i2b => obtain rfl := len_of (a := 1) (by decide) hn; exact st_i2b S hk2 hle d hrun
  | i2s => obtain rfl := len_of (a := 1) (by decide) hn; exact st_i2s S hk2 hle d hrun
  | i2c => obtain rfl := len_of (a := 1) (by decide) hn; exact st_i2c S hk2 hle d hrun
  | i2d => obtain rfl := len_of (a := 1) (by decide) hn; exact st_i2d S hk2 hle d hrun
  | lcmp => obtain rfl := len_of (a := 1) (by decide) hn; exact st_lcmp S hk2 hle d hrun
  | dcmp => obtain rfl := len_of (a := 1) (by decide) hn; exact st_dcmp S hk2 hle d hrun
  | idiv => obtain rfl := len_of (a := 1) (by decide) hn; exact st_idiv S hk2 hle d hrun
  | irem => obtain rfl := len_of (a := 1) (by decide) hn; exact st_irem S hk2 hle d hrun
  | ldiv => obtain rfl := len_of (a := 1) (by decide) hn; exact st_ldiv S hk2 hle d hrun
  | lrem => obtain rfl := len_of (a := 1) (by decide) hn; exact st_lrem S hk2 hle d hrun
  | ddiv => obtain rfl := len_of (a := 1) (by decide) hn; exact st_ddiv S hk2 hle d hrun
  | dup => obtain rfl := len_of (a := 1) (by decide) hn; exact st_dup S hk2 hle d hrun
  | pop => obtain rfl := len_of (a := 1) (by decide) hn; exact st_pop S hk2 hle d hrun
  | dup_x1 => obtain rfl := len_of (a := 1) (by decide) hn; exact st_dup_x1 S hk2 hle d hrun
  | dup_x2 => obtain rfl := len_of (a := 1) (by decide) hn; exact st_dup_x2 S hk2 hle d hrun
  | dup2 => obtain rfl := len_of (a := 1) (by decide) hn; exact st_dup2 S hk2 hle d hrun
  | iconst => obtain rfl := len_of (a := 1) (by decide) hn; exact st_iconst S hk2 hle d hrun
  | aconst_null => obtain rfl := len_of (a := 1) (by decide) hn; exact st_aconst_null S hk2 hle d hrun
  | lconst => obtain rfl := len_of (a := 1) (by decide) hn; exact st_lconst S hk2 hle d hrun
  | iload_n => obtain rfl := len_of (a := 1) (by decide) hn; exact st_iload_n S hk2 hle d hrun
  | lload_n => obtain rfl := len_of (a := 1) (by decide) hn; exact st_lload_n S hk2 hle d hrun
  | dload_n => obtain rfl := len_of (a := 1) (by decide) hn; exact st_dload_n S hk2 hle d hrun
  | aload_n => obtain rfl := len_of (a := 1) (by decide) hn; exact st_aload_n S hk2 hle d hrun
  | istore_n => obtain rfl := len_of (a := 1) (by decide) hn; exact st_istore_n S hk2 hle d hrun
  | lstore_n => obtain rfl := len_of (a := 1) (by decide) hn; exact st_lstore_n S hk2 hle d hrun
  | astore_n => obtain rfl := len_of (a := 1) (by decide) hn; exact st_astore_n S hk2 hle d hrun
  | dconst => obtain rfl := len_of (a := 1) (by decide) hn; exact st_dconst S hk2 hle d hrun
  | bipush => obtain rfl := len_of (a := 2) (by decide) hn; exact st_bipush S hk2 hle d hrun
  | iload => obtain rfl := len_of (a := 2) (by decide) hn; exact st_iload S hk2 hle d hrun
  | lload => obtain rfl := len_of (a := 2) (by decide) hn; exact st_lload S hk2 hle d hrun
  | aload => obtain rfl := len_of (a := 2) (by decide) hn; exact st_aload S hk2 hle d hrun
  | istore => obtain rfl := len_of (a := 2) (by decide) hn; exact st_istore S hk2 hle d hrun
  | lstore => obtain rfl := len_of (a := 2) (by decide) hn; exact st_lstore S hk2 hle d hrun
  | astore => obtain rfl := len_of (a := 2) (by decide) hn; exact st_astore S hk2 hle d hrun
  | sipush => obtain rfl := len_of (a := 3) (by decide) hn; exact st_sipush S hk2 hle d hrun
  | iinc => obtain rfl := len_of (a := 3) (by decide) hn; exact st_iinc S hk2 hle d hrun
  | iaload => obtain rfl := len_of (a := 1) (by decide) hn; exact st_iaload S hEnv h8k hk2 hle d hrun
  | caload => obtain rfl := len_of (a := 1) (by decide) hn; exact st_caload S hEnv h8k hk2 hle d hrun
  | saload => obtain rfl := len_of (a := 1) (by decide) hn; exact st_saload S hEnv h8k hk2 hle d hrun
  | baload => obtain rfl := len_of (a := 1) (by decide) hn; exact st_baload S hEnv h8k hk2 hle d hrun
  | laload => obtain rfl := len_of (a := 1) (by decide) hn; exact st_laload S hEnv h8k hk2 hle d hrun
  | aaload => obtain rfl := len_of (a := 1) (by decide) hn; exact st_aaload S hEnv h8k hk2 hle d hrun
  | arraylength => obtain rfl := len_of (a := 1) (by decide) hn; exact st_arraylength S hEnv h8k hk2 hle d hrun
  | iastore => obtain rfl := len_of (a := 1) (by decide) hn; exact st_iastore S hEnv h8k hk2 hle d hrun
  | castore => obtain rfl := len_of (a := 1) (by decide) hn; exact st_castore S hEnv h8k hk2 hle d hrun
  | sastore => obtain rfl := len_of (a := 1) (by decide) hn; exact st_sastore S hEnv h8k hk2 hle d hrun
  | bastore => obtain rfl := len_of (a := 1) (by decide) hn; exact st_bastore S hEnv h8k hk2 hle d hrun
  | lastore => obtain rfl := len_of (a := 1) (by decide) hn; exact st_lastore S hEnv h8k hk2 hle d hrun
  | aastore => obtain rfl := len_of (a := 1) (by decide) hn; exact st_aastore S hEnv h8k hk2 hle d hrun
  | ldc2_w => obtain rfl := len_of (a := 3) (by decide) hn; exact st_ldc2_w S T hk2 hle d hrun
  | getfield => obtain rfl := len_of (a := 3) (by decide) hn; exact st_getfield S T hEnv h8k hk2 hle d hrun
  | putfield => obtain rfl := len_of (a := 3) (by decide) hn; exact st_putfield S T hEnv h8k hini hk2 hle d hrun
  | getstatic => obtain rfl := len_of (a := 3) (by decide) hn; exact st_getstatic S T hEnv h8k hk2 hle d hrun
  | checkcast => obtain rfl := len_of (a := 3) (by decide) hn; exact st_checkcast S T hEnv h8k hk2 hle d hrun
  | ifnull => obtain rfl := len_of (a := 3) (by decide) hn; exact st_ifnull S hj hk2 hle d hrun
  | ifnonnull => obtain rfl := len_of (a := 3) (by decide) hn; exact st_ifnonnull S hj hk2 hle d hrun
  | invokespecial => obtain rfl := len_of (a := 3) (by decide) hn; exact st_invokespecial S T hTX hEnv h8k hIH hR hthr hob hgap hk hle hroom d hrun
  | invokestatic => obtain rfl := len_of (a := 3) (by decide) hn; exact st_invokestatic S T hTX hEnv h8k hIH hR hthr hcp hgap hk hle hroom d hrun
  | invokevirtual => obtain rfl := len_of (a := 3) (by decide) hn; exact st_invokevirtual S T hTX hEnv h8k hIH hR hthr hgap hk hle hroom d hrun
  | new => obtain rfl := len_of (a := 3) (by decide) hn; exact st_new S T hEnv h8k hKle hroom hk2 hle d hrun
  | newarray => obtain rfl := len_of (a := 2) (by decide) hn; exact st_newarray S hEnv h8k hKle hroom hat hk2 hle d hrun
  | anewarray => obtain rfl := len_of (a := 3) (by decide) hn; exact st_anewarray S T hEnv h8k hKle hroom hk2 hle d hrun
  | ifCond cnd z =>
    obtain rfl := len_of (a := 3) (by decide) hn
    cases cnd with
    | eq => exact st_if_eq S hj hk2 hle d hrun
    | ne => exact st_if_ne S hj hk2 hle d hrun
    | lt => exact st_if_lt S hj hk2 hle d hrun
    | ge => exact st_if_ge S hj hk2 hle d hrun
    | gt => exact st_if_gt S hj hk2 hle d hrun
    | le => exact st_if_le S hj hk2 hle d hrun
  | if_icmp cnd z =>
    obtain rfl := len_of (a := 3) (by decide) hn
    cases cnd with
    | eq => exact st_icmp_eq S hj hk2 hle d hrun
    | ne => exact st_icmp_ne S hj hk2 hle d hrun
    | lt => exact st_icmp_lt S hj hk2 hle d hrun
    | ge => exact st_icmp_ge S hj hk2 hle d hrun
    | gt => exact st_icmp_gt S hj hk2 hle d hrun
    | le => exact st_icmp_le S hj hk2 hle d hrun
  | if_acmp cnd z =>
    obtain rfl := len_of (a := 3) (by decide) hn
    cases cnd with
    | eq => exact st_acmp_eq S hj hEnv h8k hk2 hle d hrun
    | ne => exact st_acmp_ne S hj hEnv h8k hk2 hle d hrun
  | ldc x =>
    obtain rfl := len_of (a := 2) (by decide) hn
    have hgap := fun q => hgap (.ldc x) 2 _ q rfl rfl d hk
    unfold tr at hrun hgap
    dsimp only at hrun hgap
    unfold tr_z at hrun hgap
    split at hrun
    · rename_i z hz
      exact sg_ldc S (T.2.1 _ (lk_in hz)) d (hk2 _ _ _ hle hrun)
    · rename_i hz
      unfold tr_g at hrun hgap
      split at hrun
      · rename_i v hv
        rw [hz, hv] at hgap
        exact hgap (Or.inr (Or.inr (Or.inr (Or.inl ⟨_, rfl⟩)))) hrun
      · cases (show (none : pm_R) = some (o, h') from hrun)
  | multianewarray x y =>
    have hgap := fun q => hgap (.multianewarray x y) n _ q rfl (by rcases hn with z | z <;> first | exact z | cases z) d hk
    unfold tr at hrun hgap
    dsimp only at hrun hgap
    unfold tr_g at hrun hgap
    split at hrun
    · rename_i v hv
      rw [hv] at hgap
      exact hgap (Or.inr (Or.inr (Or.inr (Or.inr (Or.inr ⟨_, _, rfl⟩))))) hrun
    · cases (show (none : pm_R) = some (o, h') from hrun)
  | goto => cases he
  | tableswitch => cases he
  | lookupswitch => cases he
  | ireturn => cases he
  | lreturn => cases he
  | areturn => cases he
  | return_ => cases he
  | athrow => cases he
  | ldc_w x =>
    obtain rfl := len_of (a := 3) (by decide) hn
    have hgap := fun q => hgap (.ldc_w x) 3 _ q rfl rfl d hk
    unfold tr at hrun hgap
    dsimp only at hrun hgap
    unfold tr_z at hrun hgap
    split at hrun
    · rename_i z hz
      exact hldcw x z hz d (hk2 _ _ _ hle hrun)
    · rename_i hz
      unfold tr_g at hrun hgap
      split at hrun
      · rename_i v hv
        rw [hz, hv] at hgap
        exact hgap (Or.inr (Or.inr (Or.inr (Or.inl ⟨_, rfl⟩)))) hrun
      · cases (show (none : pm_R) = some (o, h') from hrun)
  | _ => cases (show (none : pm_R) = some (o, h') from hrun)
end
