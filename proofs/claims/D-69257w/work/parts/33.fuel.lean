/-! ===== SOUNDNESS, 17: a method's run ===== -/
section
variable {p : Program} {l : Launch} {e : Env} {R : Room} {s : State} {m : MethodId} {args : Array Value} {below : List Frame} {meth : Method} {c : Code} {Q : State → Prop} {D : va_G} {κ : FieldType → ClassId} {A : Nat → Prop} {k8 : Nat → pm_E} {a8 : Nat → Nat} {nL : Nat} {ad0 : Nat → Nat} {h0 : pm_H} {cc : ByteArray} {own : String} {pc : Nat} {ls st : List Value} {h : pm_H} {L : Nat} {xs : Nat → Int32} {TX : State → Heap → Prop} {lk : lk_T} {B : List Nat} {rt : Nat} {ini : Bool} {cl : pm_C} {d0 k : Nat} {hcj : Nat → Nat → Bool} {ov : List (Nat × Instr × Nat)} {o : Outcome} {h' : pm_H}
theorem sn_fuel (S : CallFix p m c cc nL s args lw_all own) (T : lk_sem own lk) (hTX : sn_TXok TX A) (hEnv : sn_Env TX D κ A a8 L xs s) (h8k : sn_K8 k8 L xs) (hIH : ∀ (k : Nat) (as : List Value) (g : pm_H) (o1 : Outcome) (g' : pm_H), cl k as g = some (o1, g') → pm_le g g' ∧ pm_rc pm_tab (pm_prog.2 k).2.2.1 as g = true ∧ ∀ ad, sn_Met l (sn_y k) (sn_w k) d0 TX D κ A k8 a8 L xs ad as g g' o1) (hR : 21 + d0 ≤ R.frames ∧ 448 + 48 * d0 ≤ R.locals) (hat : ∀ x : ArrayType, x ≠ .float → x ≠ .double → newarray.typeOf x ∈ sn_ats ∧ Cond.arrayClass (newarray.typeOf x) ∈ lw_all) (hob : Cond.instanceMethod Lib.objectInit ∈ lw_all ∧ Cond.code Lib.objectInit ⟨#[0xb1]⟩ 1 none ∈ lw_all) (hcp : Cond.native arraycopyName ∈ lw_all ∧ Cond.static arraycopyName ∈ lw_all ∧ Cond.initialized "java/lang/System" ∈ lw_all) (hl : l.stackTraces = false) (hexw : ∀ v ∈ sn_exs, Bundle.fit (sn_nm v) = true ∧ sn_N v = 0 ∧ v < 90 ∧ Cond.initialized (sn_nm v) ∈ lw_all) (hini : ini = true → meth.name = "<init>")
    (hthr : ∀ (j pc : Nat), hcj j pc = true → ∀ (jp : Nat → List Value → List Value → pm_H → pm_R), (∀ t ls st g, pm_le h0 g → jp t ls st g = some (o, h') → t < B.length ∧ t < 99999 ∧ sn_G p l e R s m args below meth c Q D κ A k8 a8 nL ad0 h0 (B.getD t 99998) ls st g) → (∀ j ls st h o g, jp j ls st h = some (o, g) → pm_le h g) → ∀ ls c0 g, pm_le h0 g → pm_int jp ((pm_prog.2 k).2.1 j) (.inr (.inr (ls, c0, g))) = some (o, h') → pm_le g h' ∧ sn_Gx p l e R s m args below meth c Q D κ A k8 a8 nL ad0 h0 pc ls c0 g)
    (hgap : ∀ (jp : Nat → List Value → List Value → pm_H → pm_R) (hs : List (List Nat × Nat × Nat)), (∀ j ls st h o g, jp j ls st h = some (o, g) → pm_le h g) → ∀ (pc : Nat) (K : pm_K) (ls st : List Value) (h : pm_H) (i : Instr) (n : Nat) (pi : Instr), pm_le h0 h → (pi = .monitorexit ∨ pi = .d2i ∨ pi = .d2l ∨ (∃ v, pi = .ldc v) ∨ (∃ v, pi = .invokedynamic v) ∨ ∃ v w, pi = .multianewarray v w) → tr lk B rt ini pc i = pi → tr_len i = n → decode cc pc = .ok (i, n) → (∀ ls c0 g, pm_le h0 g → pm_int jp hs (.inr (.inr (ls, c0, g))) = some (o, h') → pm_le g h' ∧ sn_Gx p l e R s m args below meth c Q D κ A k8 a8 nL ad0 h0 pc ls c0 g) → (∀ ls st g, pm_le h0 g → pm_int jp hs (K ls st g) = some (o, h') → pm_le g h' ∧ sn_G p l e R s m args below meth c Q D κ A k8 a8 nL ad0 h0 (pc + n) ls st g) → pm_int jp hs (pm_st pm_tab cl pi K ls st h) = some (o, h') → sn_G p l e R s m args below meth c Q D κ A k8 a8 nL ad0 h0 pc ls st h) (hret : ∀ (jp : Nat → List Value → List Value → pm_H → pm_R) (hs : List (List Nat × Nat × Nat)) (pc : Nat) (K : pm_K) (ls st : List Value) (h : pm_H) (i : Instr), pm_le h0 h → (i = .ireturn ∨ i = .lreturn ∨ i = .areturn ∨ i = .return_) → decode cc pc = .ok (i, 1) → pm_int jp hs (pm_st pm_tab cl (tr lk B rt ini pc i) K ls st h) = some (o, h') → sn_G p l e R s m args below meth c Q D κ A k8 a8 nL ad0 h0 pc ls st h) (hroom : h'.1 ≤ h0.1 + R.cells ∧ h'.2.1 ≤ h0.2.1 + R.slots) (hov : ∀ q ∈ ov, decode cc q.1 = .ok q.2) (hB : B.length < 99999) (hM : ∀ t, B.length ≤ t → (pm_prog.2 k).1 t = [])
    (hchk : ∀ j, j < B.length → trb lk B rt ini ov (hcj j) (B.getD (j + 1) 99998) j 5000 (B.getD j 0) ((cc.data.toList.drop (B.getD j 0)).map UInt8.toNat) = (pm_prog.2 k).1 j) :
    ∀ (n t : Nat) (ls st : List Value) (g : pm_H), pm_le h0 g → pm_X pm_prog cl k n t ls st g = some (o, h') → t < B.length ∧ t < 99999 ∧ sn_G p l e R s m args below meth c Q D κ A k8 a8 nL ad0 h0 (B.getD t 99998) ls st g := by
  have hcle : ∀ k as h o g, cl k as h = some (o, g) → pm_le h g := fun k as h o g q => (hIH k as h o g q).1
  intro n
  induction n with
  | zero => intro t ls st g hle hrun; cases (show (none : pm_R) = some (o, h') from hrun)
  | succ n ih =>
    intro t ls st g hle hrun
    have hrun : pm_int (pm_X pm_prog cl k n) ((pm_prog.2 k).2.1 t) (pm_s pm_tab cl ((pm_prog.2 k).1 t) ls st g) = some (o, h') := hrun
    rcases Nat.lt_or_ge t B.length with ht | ht
    · refine ⟨ht, by omega, ?_⟩
      have e1 : B.getD t 99998 = B.getD t 0 := by
        rw [List.getD_eq_getElem?_getD, List.getD_eq_getElem?_getD, List.getElem?_eq_getElem ht]; rfl
      rw [e1]
      rw [← hchk t ht] at hrun
      have hjp := fun j ls st h o g q => pm_X_leq (P := pm_prog) (cl := cl) hcle k n j ls st h o g q
      exact sn_blk S T hTX hEnv h8k hIH hR hat hob hcp hl hexw ih hini hjp (fun pc q => hthr t pc q _ ih hjp) (hgap _ _ hjp) (hret _ _) hroom hov rfl _ _ _ _ _ _ rfl hle hrun
    · rw [hM t ht] at hrun
      cases (show (none : pm_R) = some (o, h') from hrun)
end
