/-! ===== SOUNDNESS, 16: a block ===== -/
section
variable {p : Program} {l : Launch} {e : Env} {R : Room} {s : State} {m : MethodId} {args : Array Value} {below : List Frame} {meth : Method} {c : Code} {Q : State → Prop} {D : va_G} {κ : FieldType → ClassId} {A : Nat → Prop} {k8 : Nat → pm_E} {a8 : Nat → Nat} {nL : Nat} {ad0 : Nat → Nat} {h0 : pm_H} {cc : ByteArray} {own : String} {pc : Nat} {ls st : List Value} {h : pm_H} {L : Nat} {xs : Nat → Int32} {TX : State → Heap → Prop} {lk : lk_T} {B : List Nat} {rt : Nat} {ini : Bool} {jp : Nat → List Value → List Value → pm_H → pm_R} {hs : List (List Nat × Nat × Nat)} {K : pm_K} {cl : pm_C} {d0 : Nat} {hc : Nat → Bool} {stop j : Nat} {ov : List (Nat × Instr × Nat)} {o : Outcome} {h' : pm_H}
theorem sg_ldcw {i : Nat} {n : Int} (S : CallFix p m c cc nL s args lw_all own) (hw : Cond.constant own i (Int32.ofInt n) ∈ lw_all) (d : decode cc pc = .ok (.ldc_w i, 3)) (k : sn_G p l e R s m args below meth c Q D κ A k8 a8 nL ad0 h0 (pc + 3) ls (.int (Int32.ofInt n) :: st) h) : sn_G p l e R s m args below meth c Q D κ A k8 a8 nL ad0 h0 pc ls st h := by
  intro ad H locs la cells slots hR h8 hE hS hF hs c1 c2
  exact lv_ldcw S.1 S.2.1 S.2.2.2.1 (S.2.2.2.2 _ hw) d (k ad H locs la cells slots hR h8 hE hS hF (sn_S_cons sn_v_i hs) c1 c2)
theorem sn_blk (S : CallFix p m c cc nL s args lw_all own) (T : lk_sem own lk) (hTX : sn_TXok TX A) (hEnv : sn_Env TX D κ A a8 L xs s) (h8k : sn_K8 k8 L xs) (hIH : ∀ (k : Nat) (as : List Value) (g : pm_H) (o1 : Outcome) (g' : pm_H), cl k as g = some (o1, g') → pm_le g g' ∧ pm_rc pm_tab (pm_prog.2 k).2.2.1 as g = true ∧ ∀ ad, sn_Met l (sn_y k) (sn_w k) d0 TX D κ A k8 a8 L xs ad as g g' o1) (hR : 21 + d0 ≤ R.frames ∧ 448 + 48 * d0 ≤ R.locals) (hat : ∀ x : ArrayType, x ≠ .float → x ≠ .double → newarray.typeOf x ∈ sn_ats ∧ Cond.arrayClass (newarray.typeOf x) ∈ lw_all) (hob : Cond.instanceMethod Lib.objectInit ∈ lw_all ∧ Cond.code Lib.objectInit ⟨#[0xb1]⟩ 1 none ∈ lw_all) (hcp : Cond.native arraycopyName ∈ lw_all ∧ Cond.static arraycopyName ∈ lw_all ∧ Cond.initialized "java/lang/System" ∈ lw_all) (hl : l.stackTraces = false) (hexw : ∀ v ∈ sn_exs, Bundle.fit (sn_nm v) = true ∧ sn_N v = 0 ∧ v < 90 ∧ Cond.initialized (sn_nm v) ∈ lw_all) (hj : ∀ t ls st g, pm_le h0 g → jp t ls st g = some (o, h') → t < B.length ∧ t < 99999 ∧ sn_G p l e R s m args below meth c Q D κ A k8 a8 nL ad0 h0 (B.getD t 99998) ls st g) (hini : ini = true → meth.name = "<init>")
    (hjp : ∀ j ls st h o g, jp j ls st h = some (o, g) → pm_le h g) (hthr : ∀ pc, hc pc = true → ∀ ls c0 g, pm_le h0 g → pm_int jp hs (.inr (.inr (ls, c0, g))) = some (o, h') → pm_le g h' ∧ sn_Gx p l e R s m args below meth c Q D κ A k8 a8 nL ad0 h0 pc ls c0 g)
    (hgap : ∀ (pc : Nat) (K : pm_K) (ls st : List Value) (h : pm_H) (i : Instr) (n : Nat) (pi : Instr), pm_le h0 h → (pi = .monitorexit ∨ pi = .d2i ∨ pi = .d2l ∨ (∃ v, pi = .ldc v) ∨ (∃ v, pi = .invokedynamic v) ∨ ∃ v w, pi = .multianewarray v w) → tr lk B rt ini pc i = pi → tr_len i = n → decode cc pc = .ok (i, n) → (∀ ls c0 g, pm_le h0 g → pm_int jp hs (.inr (.inr (ls, c0, g))) = some (o, h') → pm_le g h' ∧ sn_Gx p l e R s m args below meth c Q D κ A k8 a8 nL ad0 h0 pc ls c0 g) → (∀ ls st g, pm_le h0 g → pm_int jp hs (K ls st g) = some (o, h') → pm_le g h' ∧ sn_G p l e R s m args below meth c Q D κ A k8 a8 nL ad0 h0 (pc + n) ls st g) → pm_int jp hs (pm_st pm_tab cl pi K ls st h) = some (o, h') → sn_G p l e R s m args below meth c Q D κ A k8 a8 nL ad0 h0 pc ls st h) (hret : ∀ (pc : Nat) (K : pm_K) (ls st : List Value) (h : pm_H) (i : Instr), pm_le h0 h → (i = .ireturn ∨ i = .lreturn ∨ i = .areturn ∨ i = .return_) → decode cc pc = .ok (i, 1) → pm_int jp hs (pm_st pm_tab cl (tr lk B rt ini pc i) K ls st h) = some (o, h') → sn_G p l e R s m args below meth c Q D κ A k8 a8 nL ad0 h0 pc ls st h) (hroom : h'.1 ≤ h0.1 + R.cells ∧ h'.2.1 ≤ h0.2.1 + R.slots) (hov : ∀ q ∈ ov, decode cc q.1 = .ok q.2) (hstop : stop = B.getD (j + 1) 99998) :
    ∀ (f pc : Nat) (bs : List Nat) (ls st : List Value) (h : pm_H), (cc.data.toList.drop pc).map UInt8.toNat = bs → pm_le h0 h → pm_int jp hs (pm_s pm_tab cl (trb lk B rt ini ov hc stop j f pc bs) ls st h) = some (o, h') → sn_G p l e R s m args below meth c Q D κ A k8 a8 nL ad0 h0 pc ls st h := by
  have hcle : ∀ k as h o g, cl k as h = some (o, g) → pm_le h g := fun k as h o g q => (hIH k as h o g q).1
  intro f
  induction f with
  | zero => intro pc bs ls st h hb hle hrun; cases (show (none : pm_R) = some (o, h') from hrun)
  | succ f ih =>
    intro pc bs ls st h hb hle hrun
    have hkk : ∀ (n : Nat) (ls st : List Value) (g : pm_H), pm_le h0 g → pm_int jp hs (pm_s pm_tab cl (trb lk B rt ini ov hc stop j f (pc + n) (bs.drop n)) ls st g) = some (o, h') → pm_le g h' ∧ sn_G p l e R s m args below meth c Q D κ A k8 a8 nL ad0 h0 (pc + n) ls st g :=
      fun n ls st g q r => ⟨pm_int_le hjp (pm_s_le hcle _ _ _ _) r, ih (pc + n) (bs.drop n) ls st g (sn_drop hb) q r⟩
    unfold trb at hrun
    split at hrun
    · rename_i hpc
      have hpc := Nat.eq_of_beq_eq_true hpc
      obtain ⟨q1, q1b, q2⟩ := hj (j + 1) ls st h hle hrun
      rw [hpc, hstop]
      exact q2
    split at hrun
    · cases (show (none : pm_R) = some (o, h') from hrun)
    rename_i hhc
    have hthr := hthr pc hhc
    split at hrun
    · cases (show (none : pm_R) = some (o, h') from hrun)
    rename_i i n hraw
    have d : decode cc pc = .ok (i, n) := tr_raw_ok hov hb hraw
    split at hrun
    · cases (show (none : pm_R) = some (o, h') from hrun)
    rename_i hlen
    have hn : tr_len i = n ∨ tr_len i = 0 := by
      rcases Bool.or_eq_true _ _ ▸ hlen with q | q
      · exact Or.inl (Nat.eq_of_beq_eq_true q)
      · exact Or.inr (Nat.eq_of_beq_eq_true q)
    split at hrun
    · rename_i hend
      cases i with
      | goto z => obtain rfl := len_of (a := 3) (by decide) hn; obtain ⟨q1, q2⟩ := sn_hJ hj rfl hle hrun; exact sg_goto S d q1 q2
      | tableswitch d1 lo hi o1 => exact st_tableswitch S hj hle d hrun
      | lookupswitch d1 o1 => exact st_lookupswitch S hj hle d hrun
      | athrow => obtain rfl := len_of (a := 1) (by decide) hn; exact st_athrow (lk := lk) (B := B) (rt := rt) (ini := ini) (cl := cl) (K := pm_s pm_tab cl []) S hEnv h8k hthr hle d hrun
      | ireturn => obtain rfl := len_of (a := 1) (by decide) hn; exact hret _ (pm_s pm_tab cl []) _ _ _ _ hle (Or.inl rfl) d hrun
      | lreturn => obtain rfl := len_of (a := 1) (by decide) hn; exact hret _ (pm_s pm_tab cl []) _ _ _ _ hle (Or.inr (Or.inl rfl)) d hrun
      | areturn => obtain rfl := len_of (a := 1) (by decide) hn; exact hret _ (pm_s pm_tab cl []) _ _ _ _ hle (Or.inr (Or.inr (Or.inl rfl))) d hrun
      | return_ => obtain rfl := len_of (a := 1) (by decide) hn; exact hret _ (pm_s pm_tab cl []) _ _ _ _ hle (Or.inr (Or.inr (Or.inr rfl))) d hrun
      | _ => cases hend
    · rename_i hend
      split at hrun
      · rename_i x
        split at hrun
        · exact sn_step S T hTX hEnv h8k hIH hR hthr hat hob hcp hj hini (fun i n pi a b b2 c e g => hgap _ _ _ _ _ i n pi hle a b b2 c hthr e g) (hkk n) hle hroom (fun x z hz d k => sg_ldcw S (T.2.1 _ (lk_in hz)) d k) hn hend d hrun
        · rename_i v h18
          split at hrun
          · rename_i y hd1 hd2
            split at hrun
            · rename_i hq
              simp only [Bool.and_eq_true, decide_eq_true_eq] at hq
              obtain ⟨rfl, h19⟩ := hq
              exact st_mkx (cl := cl) S T hEnv h8k hl hexw hR hroom (hkk 7) hle h18 h19 d (sd_ok (sn_drop hb) hd1) (sd_ok (sn_drop hb) hd2) hrun
            · cases (show (none : pm_R) = some (o, h') from hrun)
          · cases (show (none : pm_R) = some (o, h') from hrun)
      · exact sn_step S T hTX hEnv h8k hIH hR hthr hat hob hcp hj hini (fun i n pi a b b2 c e g => hgap _ _ _ _ _ i n pi hle a b b2 c hthr e g) (hkk n) hle hroom (fun x z hz d k => sg_ldcw S (T.2.1 _ (lk_in hz)) d k) hn hend d hrun
end
