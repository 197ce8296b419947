/-! ===== SOUNDNESS, 21: a method meets its contract ===== -/
/-- a body's contract where the class is plainly named or the method has no row among the natives (the proofs of the exceptions' rows, by MetFree.of_bodySF) -/
theorem sn_ofW {l : Launch} {y : MethodName} {ws ws' : List Cond} {rm : Room} {Pc : Array Value → State → Prop} {Qc : Array Value → State → Outcome → State → Prop} {XC : String → State → State → Prop} {mc ms : Nat} {free : Addr → Prop} {cc : ByteArray} {maxL : Nat} {ret : Option FieldType}
    (hy : plainFor y = true) (hw : ws = Cond.code y cc maxL ret :: ws')
    (body : ∀ p e s m args below meth c s₁, BodyLoose p l y (headSpec ws rm) cc maxL ret e s m args below meth c s₁ → c.maxLocals = maxL → (∀ x ∈ c.exceptionTable.toList, False) → Pc args s →
      W p l e (headSpec ws rm).room s m args below meth c s.heap [] 0 0 (vx_MQ below Qc XC args s mc ms free) (entryFrame m args maxL)) : vx_Met l y ws rm Pc Qc XC mc ms free := by
  refine MetFree.of_bodySF (code := cc) (maxLocals := maxL) (ret := ret) hy ?_ ?_
  · intro args s m h hn
    obtain ⟨meth, c, h1, h2, h3, h4, h5, h6, -, -⟩ := Cond.code_spec hn (atoms_spec (ws := ws) h _ (by rw [hw]; exact List.mem_cons_self))
    exact ⟨meth, c, h1, h2, h3, h4, h5, h6⟩
  · intro p e s m args below meth c s₁ B hml hP _
    have hh0 : s₁.heap = s.heap := by rw [B.state]; rfl
    have ht : ∀ x ∈ c.exceptionTable.toList, False := by
      obtain ⟨meth9, c9, h1, h2, -, -, -, -, h7, -⟩ := Cond.code_spec B.named (atoms_spec (ws := ws) B.pre _ (by rw [hw]; exact List.mem_cons_self))
      cases Option.some.inj (h1.symm.trans B.method)
      cases Option.some.inj (h2.symm.trans (Stand.of_body B).code)
      intro x hx
      rw [Array.isEmpty_iff.mp h7] at hx
      cases hx
    obtain ⟨t, a1, o, b1, b2, b3⟩ := body p e s m args below meth c s₁ B hml ht hP s₁ hh0 (Stand.of_body B)
    exact ⟨t, o, a1, b1, b2, b3⟩
theorem sn_ofWH {l : Launch} {y : MethodName} {ws ws' : List Cond} {rm : Room} {Pc : Array Value → State → Prop} {Qc : Array Value → State → Outcome → State → Prop} {XC : String → State → State → Prop} {mc ms : Nat} {free : Addr → Prop} {cc : ByteArray} {maxL : Nat} {ret : Option FieldType} {hh : List (Nat × Nat × Nat × Nat)}
    (hy : plainFor y = true) (hw : ws = Cond.codeWith y cc maxL ret hh :: ws')
    (body : ∀ p e s m args below meth c s₁, BodyLoose p l y (headSpec ws rm) cc maxL ret e s m args below meth c s₁ → c.maxLocals = maxL → Pc args s →
      W p l e (headSpec ws rm).room s m args below meth c s.heap [] 0 0 (vx_MQ below Qc XC args s mc ms free) (entryFrame m args maxL)) : vx_Met l y ws rm Pc Qc XC mc ms free := by
  refine MetFree.of_bodySF (code := cc) (maxLocals := maxL) (ret := ret) hy ?_ ?_
  · intro args s m h hn
    obtain ⟨m9, meth, c, hn9, h1, h2, h3, h4, -, h5, h6, -⟩ := Cond.codeWith_spec (atoms_spec (ws := ws) h _ (by rw [hw]; exact List.mem_cons_self))
    cases hn.symm.trans hn9
    exact ⟨meth, c, h1, h2, h3, h4, h5, h6⟩
  · intro p e s m args below meth c s₁ B hml hP _
    have hh0 : s₁.heap = s.heap := by rw [B.state]; rfl
    obtain ⟨t, a1, o, b1, b2, b3⟩ := body p e s m args below meth c s₁ B hml hP s₁ hh0 (Stand.of_body B)
    exact ⟨t, o, a1, b1, b2, b3⟩
/-- what the checker says of the method k -/
def sn_chk (k : Nat) : Prop := ∃ (lk : lk_T) (B : List Nat) (rt : Nat) (ini : Bool) (ov : List (Nat × Instr × Nat)), lk_sem (sn_y k).cls lk ∧ trm lk B rt ini ov (sn_b k).2.2.2 ((sn_b k).1.data.toList.map UInt8.toNat) (pm_prog.2 k) B.length = true ∧ B.length < 99999 ∧ B.getD 0 99998 = 0 ∧ (∀ t, B.length ≤ t → (pm_prog.2 k).1 t = []) ∧ (ini = true → (sn_y k).name = "<init>") ∧ (∀ ty, (sn_b k).2.2.1 = some ty → sn_dg ty = rt) ∧ ((sn_b k).2.2.1 = none → rt = 9) ∧ (∀ q ∈ ov, decode (sn_b k).1 q.1 = .ok q.2) ∧ ((sn_b k).2.2.2 = [] → ∀ j, (pm_prog.2 k).2.1 j = []) ∧ ∀ j, ∀ q ∈ (pm_prog.2 k).2.1 j, q.2.2 < (pm_prog.2 k).2.2.2
def sn_hc (lk : lk_T) (B : List Nat) (hh : List (Nat × Nat × Nat × Nat)) (bs : List Nat) (M : pm_M) (j pc : Nat) : Bool := match hh with | [] => true | _ => decide (hx lk B bs pc hh = some (M.2.1 j))
theorem trm_at {lk : lk_T} {B : List Nat} {rt : Nat} {ini : Bool} {ov : List (Nat × Instr × Nat)} {hh : List (Nat × Nat × Nat × Nat)} {bs : List Nat} {M : pm_M} : ∀ {n : Nat}, trm lk B rt ini ov hh bs M n = true → ∀ j, j < n → trb lk B rt ini ov (sn_hc lk B hh bs M j) (B.getD (j + 1) 99998) j 5000 (B.getD j 0) (bs.drop (B.getD j 0)) = M.1 j
  | 0, _, j, hj => absurd hj (Nat.not_lt_zero _)
  | n + 1, h, j, hj => by
    unfold trm at h
    simp only [Bool.and_eq_true, decide_eq_true_eq] at h
    rcases Nat.lt_or_ge j n with q | q
    · exact trm_at h.1 j q
    · have e : j = n := by omega
      subst e
      exact h.2
/-- what is known of calls of depth d0 -/
def sn_IH (l : Launch) (TX : State → Heap → Prop) (D : va_G) (κ : FieldType → ClassId) (A : Nat → Prop) (k8 : Nat → pm_E) (a8 : Nat → Nat) (L : Nat) (xs : Nat → Int32) (cl : pm_C) (d0 : Nat) : Prop := ∀ (k : Nat) (as : List Value) (g : pm_H) (o1 : Outcome) (g' : pm_H), cl k as g = some (o1, g') → pm_le g g' ∧ pm_rc pm_tab (pm_prog.2 k).2.2.1 as g = true ∧ ∀ ad, sn_Met l (sn_y k) (sn_w k) d0 TX D κ A k8 a8 L xs ad as g g' o1
/-- the instructions that are shown behind -/
def sn_Gap (l : Launch) (TX : State → Heap → Prop) (D : va_G) (κ : FieldType → ClassId) (A : Nat → Prop) (k8 : Nat → pm_E) (a8 : Nat → Nat) (L : Nat) (xs : Nat → Int32) (cl : pm_C) (d0 : Nat) : Prop := ∀ (p : Program) (e : Env) (R : Room) (s : State) (m : MethodId) (args : Array Value) (below : List Frame) (meth : Method) (c : Code) (Q : State → Prop) (nL : Nat) (ad0 : Nat → Nat) (h0 : pm_H) (cc : ByteArray) (own : String) (lk : lk_T) (B : List Nat) (rt : Nat) (ini : Bool) (o : Outcome) (h' : pm_H), CallFix p m c cc nL s args lw_all own → lk_sem own lk → sn_Env TX D κ A a8 L xs s → 21 + d0 ≤ R.frames ∧ 448 + 48 * d0 ≤ R.locals → h'.1 ≤ h0.1 + R.cells ∧ h'.2.1 ≤ h0.2.1 + R.slots → ∀ (jp : Nat → List Value → List Value → pm_H → pm_R) (hs : List (List Nat × Nat × Nat)), (∀ j ls st h o g, jp j ls st h = some (o, g) → pm_le h g) → ∀ (pc : Nat) (K : pm_K) (ls st : List Value) (h : pm_H) (i : Instr) (n : Nat) (pi : Instr), pm_le h0 h → (pi = .monitorexit ∨ pi = .d2i ∨ pi = .d2l ∨ (∃ v, pi = .ldc v) ∨ (∃ v, pi = .invokedynamic v) ∨ ∃ v w, pi = .multianewarray v w) → tr lk B rt ini pc i = pi → tr_len i = n → decode cc pc = .ok (i, n) → (∀ ls c0 g, pm_le h0 g → pm_int jp hs (.inr (.inr (ls, c0, g))) = some (o, h') → pm_le g h' ∧ sn_Gx p l e R s m args below meth c Q D κ A k8 a8 nL ad0 h0 pc ls c0 g) → (∀ ls st g, pm_le h0 g → pm_int jp hs (K ls st g) = some (o, h') → pm_le g h' ∧ sn_G p l e R s m args below meth c Q D κ A k8 a8 nL ad0 h0 (pc + n) ls st g) → pm_int jp hs (pm_st pm_tab cl pi K ls st h) = some (o, h') → sn_G p l e R s m args below meth c Q D κ A k8 a8 nL ad0 h0 pc ls st h
/-- what the words say of the machine at large -/
def sn_Wds : Prop := (∀ x : ArrayType, x ≠ .float → x ≠ .double → newarray.typeOf x ∈ sn_ats ∧ Cond.arrayClass (newarray.typeOf x) ∈ lw_all) ∧ (Cond.instanceMethod Lib.objectInit ∈ lw_all ∧ Cond.code Lib.objectInit ⟨#[0xb1]⟩ 1 none ∈ lw_all) ∧ (Cond.native arraycopyName ∈ lw_all ∧ Cond.static arraycopyName ∈ lw_all ∧ Cond.initialized "java/lang/System" ∈ lw_all) ∧ (∀ v ∈ sn_exs, Bundle.fit (sn_nm v) = true ∧ sn_N v = 0 ∧ v < 90 ∧ Cond.initialized (sn_nm v) ∈ lw_all) ∧ ∀ v ∈ sn_exs, Cond.castable (sn_nm v) (sn_nm v) ∈ lw_tbl
section
variable {p : Program} {l : Launch} {e : Env} {R : Room} {s : State} {m : MethodId} {args : Array Value} {below : List Frame} {meth : Method} {c : Code} {D : va_G} {κ : FieldType → ClassId} {A : Nat → Prop} {k8 : Nat → pm_E} {a8 : Nat → Nat} {L : Nat} {xs : Nat → Int32} {TX : State → Heap → Prop} {cl : pm_C} {d0 k : Nat} {ad : Nat → Nat} {h h' : pm_H} {o : Outcome}
theorem sn_body {as : List Value} (hW : sn_Wds) (hgap : sn_Gap l TX D κ A k8 a8 L xs cl d0) (hTX : sn_TXok TX A) (h8k : sn_K8 k8 L xs) (hIH : sn_IH l TX D κ A k8 a8 L xs cl d0) (hl : l.stackTraces = false) (hch : sn_chk k) (hex : ∀ c0, o = .threw c0 → c0 ∈ sn_exs) (S : CallFix p m c (sn_b k).1 (pm_prog.2 k).2.2.2 s args lw_all (sn_y k).cls) (hlocks : meth.locks = false) (hr : meth.sig.returnType = (sn_b k).2.2.1) (hnm : meth.name = (sn_y k).name) (ht : c.exceptionTable.toList = tableOf (sn_b k).2.2.2) (hEnv : sn_Env TX D κ A a8 L xs s) (hRm : 21 + d0 ≤ R.frames ∧ 448 + 48 * d0 ≤ R.locals) (hroom : h'.1 ≤ h.1 + R.cells ∧ h'.2.1 ≤ h.2.1 + R.slots) (hR : sn_R D κ A k8 ad h s.heap) (h8 : ∀ k, k < 8 → ad k = a8 k) (has : sn_S h.1 as) (hlen : (pm_ent as).length ≤ (pm_prog.2 k).2.2.2) (hrun : pm_go pm_prog cl k 0 (pm_entry (pm_prog.2 k).2.2.2 as) [] h = some (o, h')) :
    W p l e R s m args below meth c s.heap [] 0 0 (vx_MQ below (sn_Qc D κ A k8 ad h h' o) (sn_XC D κ A k8 ad h h' o) args s (h'.1 - h.1) (h'.2.1 - h.2.1) A) (entryFrame m (as.map (sn_V ad)).toArray (pm_prog.2 k).2.2.2) := by
  obtain ⟨lk, B, rt, ini, ov, T, htrm, hB, hB0, hM, hini, hrt, hrn, hov, hnh, hloc⟩ := hch
  obtain ⟨hat, hob, hcp, hexw, hcx⟩ := hW
  obtain ⟨n, hX⟩ := pm_go_some.mp hrun
  have hchk := trm_at htrm
  have hcle : ∀ k as h o g, cl k as h = some (o, g) → pm_le h g := fun k as h o g q => (hIH k as h o g q).1
  have key := sn_fuel (Q := vx_MQ below (sn_Qc D κ A k8 ad h h' o) (sn_XC D κ A k8 ad h h' o) args s (h'.1 - h.1) (h'.2.1 - h.2.1) A) (p := p) (e := e) (below := below) (ad0 := ad) (k := k) (hcj := sn_hc lk B (sn_b k).2.2.2 ((sn_b k).1.data.toList.map UInt8.toNat) (pm_prog.2 k)) S T hTX hEnv h8k hIH hRm hat hob hcp hl hexw (fun q => by rw [hnm]; exact hini q) (fun j pc hc jp hj hjp ls c0 g hle hrun => ?_) (hgap p e R s m args below meth c _ _ ad h _ _ lk B rt ini o h' S T hEnv hRm hroom) (fun jp hs pc K ls st h1 i hle hi d hrun => sn_ret S hlocks hr hrt hrn hle hi d hrun) hroom hov hB hM (fun j hj => by rw [List.map_drop]; exact hchk j hj) n 0 _ [] h (pm_le_rf _) hX
  · obtain ⟨-, -, kk⟩ := key
    rw [hB0] at kk
    have := kk ad s.heap [] _ 0 0 hR h8 (fun _ _ => rfl) va_S.rf (sn_entry hlen has) sn_S_nil (Nat.zero_add _) (Nat.zero_add _)
    rw [lg_entry_eq]
    exact this
  · have hx0 : hx lk B ((sn_b k).1.data.toList.map UInt8.toNat) pc (sn_b k).2.2.2 = some ((pm_prog.2 k).2.1 j) := by
      unfold sn_hc at hc
      split at hc
      · rename_i e0
        rw [e0, hnh e0 j]; rfl
      · simpa using hc
    exact sn_thr S T hEnv hlocks ht rfl hx0 (hloc j) (fun c0 g e1 _ => hex c0 e1) hcx hj hjp hle hrun
theorem sn_method (hW : sn_Wds) (hgap : sn_Gap l TX D κ A k8 a8 L xs cl d0) (hTX : sn_TXok TX A) (h8k : sn_K8 k8 L xs) (hIH : sn_IH l TX D κ A k8 a8 L xs cl d0) (hl : l.stackTraces = false) (hch : sn_chk k) (hgd : sn_gd k) (hex : ∀ c0, o = .threw c0 → c0 ∈ sn_exs) {as : List Value} (hlen : (pm_ent as).length ≤ (pm_prog.2 k).2.2.2) (hrun : pm_go pm_prog cl k 0 (pm_entry (pm_prog.2 k).2.2.2 as) [] h = some (o, h')) (hle : pm_le h h') : sn_Met l (sn_y k) (sn_w k) (d0 + 1) TX D κ A k8 a8 L xs ad as h h' o := by
  obtain ⟨g1, g2, g3, ⟨g4, -⟩, g5, g6, g7⟩ := hgd
  have hsz : h'.1 ≤ h.1 + (h'.1 - h.1) ∧ h'.2.1 ≤ h.2.1 + (h'.2.1 - h.2.1) := ⟨by omega, by omega⟩
  unfold sn_Met
  cases hh : (sn_b k).2.2.2 with
  | nil =>
    rw [sn_w0 hh]
    refine sn_ofW (cc := (sn_b k).1) (maxL := (sn_b k).2.1) (ret := (sn_b k).2.2.1) g4 rfl ?_
    intro p e s m args below meth c s₁ B hml ht hP
    obtain ⟨rfl, hEnv, hR, h8, has⟩ := hP
    have hts0 := atoms_spec (ws := Cond.code (sn_y k) (sn_b k).1 (sn_b k).2.1 (sn_b k).2.2.1 :: lw_all) B.pre
    have hts : ∀ w ∈ lw_all, w.before _ s = true := fun w h => hts0 w (List.mem_cons_of_mem _ h)
    rw [g5]
    refine sn_body hW hgap hTX h8k hIH hl hch hex ⟨B.exec, B.bytes, by rw [hml, g5], findClass_of_methodNamed B.named, hts⟩ B.notSynchronized B.returns (name_of_methodNamed B.named B.method).1 ?_ hEnv ⟨?_, ?_⟩ hsz hR h8 has hlen hrun
    · rw [hh]
      cases hq : c.exceptionTable.toList with
      | nil => rfl
      | cons z t => exact (ht z (by rw [hq]; exact List.mem_cons_self)).elim
    · show 21 + d0 ≤ 20 + (d0 + 1); omega
    · show 448 + 48 * d0 ≤ 400 + 48 * (d0 + 1); omega
  | cons z t =>
    rw [sn_w1 hh]
    refine sn_ofWH (cc := (sn_b k).1) (maxL := (sn_b k).2.1) (ret := (sn_b k).2.2.1) (hh := z :: t) g4 rfl ?_
    intro p e s m args below meth c s₁ B hml hP
    obtain ⟨rfl, hEnv, hR, h8, has⟩ := hP
    have hts0 := atoms_spec (ws := Cond.codeWith (sn_y k) (sn_b k).1 (sn_b k).2.1 (sn_b k).2.2.1 (z :: t) :: lw_all) B.pre
    have hts : ∀ w ∈ lw_all, w.before _ s = true := fun w h => hts0 w (List.mem_cons_of_mem _ h)
    rw [g5]
    refine sn_body hW hgap hTX h8k hIH hl hch hex ⟨B.exec, B.bytes, by rw [hml, g5], findClass_of_methodNamed B.named, hts⟩ B.notSynchronized B.returns (name_of_methodNamed B.named B.method).1 ?_ hEnv ⟨?_, ?_⟩ hsz hR h8 has hlen hrun
    · rw [hh]
      exact vx_table (x := sn_y k) B (hts0 _ List.mem_cons_self)
    · show 21 + d0 ≤ 20 + (d0 + 1); omega
    · show 448 + 48 * d0 ≤ 400 + 48 * (d0 + 1); omega
end
/-- all methods -/
def sn_All : Prop := ∀ k, (pm_prog.2 k).2.2.1 = 1000 ∨ (pm_prog.2 k).1 0 = [] ∨ (sn_chk k ∧ sn_gd k)
theorem sn_rc1000 {as : List Value} {h : pm_H} : pm_rc pm_tab 1000 as h = true → False := by
  intro q
  unfold pm_rc at q
  split at q
  · rcases Bool.or_eq_true _ _ ▸ q with r | r
    · cases r
    · split at r
      · rename_i b _
        have r : pm_sub b 1000 = true := r
        unfold pm_sub at r
        simp at r
      · cases r
  · cases q
theorem sn_sound {l : Launch} {D : va_G} {κ : FieldType → ClassId} {A : Nat → Prop} {k8 : Nat → pm_E} {a8 : Nat → Nat} {L : Nat} {xs : Nat → Int32} {TX : State → Heap → Prop} (hW : sn_Wds) (hall : sn_All) (hgap : ∀ d, sn_IH l TX D κ A k8 a8 L xs (pm_call pm_prog d) d → sn_Gap l TX D κ A k8 a8 L xs (pm_call pm_prog d) d) (hTX : sn_TXok TX A) (h8k : sn_K8 k8 L xs) (hl : l.stackTraces = false) : ∀ d, sn_IH l TX D κ A k8 a8 L xs (pm_call pm_prog d) d := by
  intro d
  induction d with
  | zero => intro k as g o1 g' h; cases (show (none : pm_R) = some (o1, g') from h)
  | succ d ih =>
    intro k as g o1 g' h
    have hle : pm_le g g' := pm_call_le (d + 1) k as g o1 g' h
    have hex : ∀ c0, o1 = .threw c0 → c0 ∈ sn_exs := fun c0 e => by
      subst e
      have := pm_call_ex (d + 1) k as g c0 g' h
      rcases this with rfl | rfl | rfl <;> decide
    have h2 : (if pm_rc pm_prog.1 (pm_prog.2 k).2.2.1 as g = true ∧ (pm_ent as).length ≤ (pm_prog.2 k).2.2.2 then pm_go pm_prog (pm_call pm_prog d) k 0 (pm_entry (pm_prog.2 k).2.2.2 as) [] g else none) = some (o1, g') := h
    split at h2
    · rename_i hc
      refine ⟨hle, hc.1, fun ad => ?_⟩
      rcases hall k with q0 | q | ⟨q1, q2⟩
      · rw [q0] at hc
        exact (sn_rc1000 hc.1).elim
      · rw [pm_go_eq, q] at h2
        cases (show (none : pm_R) = some (o1, g') from h2)
      · exact sn_method hW (hgap d ih) hTX h8k ih hl q1 q2 hex hc.2 h2 hle
    · cases h2
