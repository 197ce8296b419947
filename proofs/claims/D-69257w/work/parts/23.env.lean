/-! ===== SOUNDNESS, 9: what is carried along calls; contracts ===== -/
theorem sn_AOA {t : FieldType} {u U : State} (hvm : u.vm.Alike U.vm) (h : va_Nw (.arrayOver (.array t)) u) : va_Nw (.arrayOver (.array t)) U := by
  unfold va_Nw Cond.before at h
  simp only [Cond.holds, Cond.value, beq_iff_eq] at h
  cases hc : u.vm.findClass (FieldType.array t).toString with
  | none => simp [hc] at h
  | some comp =>
    simp only [hc, Option.bind_some, Option.bind_eq_some_iff, Option.map_eq_some_iff] at h
    obtain ⟨c, hi, k, hk, hb⟩ := h
    obtain ⟨k', hk', he⟩ := hvm.2.2 _ _ hk
    have hi2 : (U.vm.classes.findIdx? fun (x : Class) => match x.kind with | .array component _ => component == comp | _ => false) = some c := by
      have e1 := va_idx_bare U.vm comp
      have e2 := va_idx_bare u.vm comp
      have e3 : U.vm.bare = u.vm.bare := by first | exact hvm.bare_eq | exact hvm.bare_eq.symm
      rw [e3] at e1
      exact e1.symm.trans (e2.trans hi)
    cases hkind : k.kind with
    | array component ty =>
      rw [hkind] at hb
      simp at hb
      have hkind2 : k'.kind = .array component ty := by rw [he]; exact hkind
      have f1 : U.vm.findClass (FieldType.array t).toString = some comp := by rw [hvm.findClass]; exact hc
      have f2 : U.vm.findClass ("[" ++ (FieldType.array t).toString) = some c := by rw [hvm.findClass]; exact hb.2
      unfold va_Nw Cond.before Cond.holds
      simp only [Cond.value]
      rw [f1, Option.bind_some]
      refine (congrArg (fun o : Option Nat => (o.bind (fun c => (U.vm.classes[c]?).map fun (k : Class) => match k.kind with | .array _ ty => decide (ty = FieldType.array t) && decide (U.vm.findClass ("[" ++ (FieldType.array t).toString) = some c) | _ => false) == some true)) hi2).trans ?_
      simp [hk', hkind2, hb.1, f2]
    | _ => rw [hkind] at hb; simp at hb
/-- the words that are no good words, and are carried one by one -/
def sn_kind : Cond → Bool
  | .fieldLinkNest .. => true
  | .methodLinkNest .. => true
  | .declares _ => true
  | .castable .. => true
  | .arrayOver (.object _) => true
  | .arrayOver (.array _) => true
  | _ => false
theorem sn_kind_moved {w : Cond} {u U : State} (hW : u.WarmedH U.vm) (hk : sn_kind w = true) (h : va_Nw w u) : va_Nw w U := by
  unfold sn_kind at hk
  split at hk
  · exact h.warmF hW
  · exact h.warmM hW
  · exact h.warmD hW
  · exact h.warmC hW
  · exact va_AO.moved hW.alike h
  · exact sn_AOA hW.alike h
  · cases hk
def sn_exs : List Nat := [67, 70, 71]
/-- TX: what is known of the texts -/
def sn_Env (TX : State → Heap → Prop) (D : va_G) (κ : FieldType → ClassId) (A : Nat → Prop) (a8 : Nat → Nat) (L : Nat) (xs : Nat → Int32) (U : State) : Prop :=
  va_K D sn_cl (sn_tys κ) U ∧ sn_C8 a8 L xs A U ∧ sn_As D κ U ∧ (∀ w ∈ lw_tbl, sn_kind w = true → va_Nw w U) ∧ vx_Zq Bundle.tN "UNASSIGNED_STACK" Bundle.steD A U U.heap ∧ vx_Zq Bundle.tN "SUPPRESSED_SENTINEL" Bundle.listD A U U.heap ∧ va_Z "TimberHouse$NailRules" "LETTERS" "[C" (.ref (a8 1)) A U U.heap ∧ va_Z "java/util/ArrayList" "DEFAULTCAPACITY_EMPTY_ELEMENTDATA" "[Ljava/lang/Object;" (.ref (a8 2)) A U U.heap ∧ (∀ q, U.heap.size ≤ q → A q) ∧ (∀ a ∈ sn_exs, ∀ b ∈ sn_exs, a ≠ b → va_Nc (sn_nm a) (sn_nm b) U) ∧ TX U U.heap
/-- what TX must bear -/
def sn_TXok (TX : State → Heap → Prop) (A : Nat → Prop) : Prop := ∀ (u U : State), u.WarmedH U.vm → (∀ a : Nat, a < u.heap.size → ¬ A a → U.heap[a]? = u.heap[a]?) → TX u u.heap → TX U U.heap
theorem sn_Env_moved {TX : State → Heap → Prop} {D : va_G} {κ : FieldType → ClassId} {A : Nat → Prop} {a8 : Nat → Nat} {L : Nat} {xs : Nat → Int32} {u U : State} (hTX : sn_TXok TX A) (hW : u.WarmedH U.vm) (hz : u.heap.size ≤ U.heap.size) (hq : ∀ a : Nat, a < u.heap.size → ¬ A a → U.heap[a]? = u.heap[a]?) (h : sn_Env TX D κ A a8 L xs u) : sn_Env TX D κ A a8 L xs U := by
  obtain ⟨h1, ⟨⟨h2, h2b, h2c⟩, h3, h4⟩, h5, h6, h7, h8, h9, h10, h11, h12, h13⟩ := h
  have al := hW.alike
  refine ⟨va_K.moved al h1, ⟨⟨va_X.moved al (h2.kept (hq _ h2b h2c)), Nat.lt_of_lt_of_le h2b hz, h2c⟩, va_T.moved al (h3.kept hq), va_T.moved al (h4.kept hq)⟩, ?_, fun w hw hk => sn_kind_moved hW hk (h6 w hw hk), vx_Zq.moved al (h7.kept hq), vx_Zq.moved al (h8.kept hq), va_Z.moved al (h9.kept hq), va_Z.moved al (h10.kept hq), fun q hh => h11 q (Nat.le_trans hz hh), fun a ha b hb hn => va_Nc.moved al (h12 a ha b hb hn), hTX u U hW hq h13⟩
  intro t ht e he hte
  obtain ⟨kA, comp, kc, kv, q1, q2, q3, q4, q5⟩ := h5 t ht e he hte
  obtain ⟨kA', r1, r2⟩ := al.2.2 _ _ q1
  obtain ⟨kc', r3, -⟩ := al.2.2 _ _ q3
  obtain ⟨kv', r4, -⟩ := al.2.2 _ _ q4
  exact ⟨kA', comp, kc', kv', r1, by rw [r2]; exact q2, r3, r4, by rw [al.assignable]; exact q5⟩
/-- the contract of a call that comes, from h with the arguments as, to o and h' -/
def sn_Pc (TX : State → Heap → Prop) (D : va_G) (κ : FieldType → ClassId) (A : Nat → Prop) (k8 : Nat → pm_E) (a8 : Nat → Nat) (L : Nat) (xs : Nat → Int32) (ad : Nat → Nat) (as : List Value) (h : pm_H) : Array Value → State → Prop := fun v U =>
  v = (as.map (sn_V ad)).toArray ∧ sn_Env TX D κ A a8 L xs U ∧ sn_R D κ A k8 ad h U.heap ∧ (∀ k, k < 8 → ad k = a8 k) ∧ sn_S h.1 as
def sn_Qc (D : va_G) (κ : FieldType → ClassId) (A : Nat → Prop) (k8 : Nat → pm_E) (ad : Nat → Nat) (h h' : pm_H) (o : Outcome) : Array Value → State → Outcome → State → Prop := fun _ st oc t =>
  ∃ (ad' : Nat → Nat) (v : Option Value), o = .returned v ∧ oc = .returned (v.map (sn_V ad')) ∧ (∀ k, k < h.1 → ad' k = ad k) ∧ sn_R D κ A k8 ad' h' t.heap ∧ (∀ w, v = some w → sn_v h'.1 w) ∧ va_F A st t
def sn_XC (D : va_G) (κ : FieldType → ClassId) (A : Nat → Prop) (k8 : Nat → pm_E) (ad : Nat → Nat) (h h' : pm_H) (o : Outcome) : String → State → State → Prop := fun E st t =>
  ∃ (ad' : Nat → Nat) (c0 : Nat), o = .threw c0 ∧ E = sn_nm c0 ∧ (∀ k, k < h.1 → ad' k = ad k) ∧ sn_R D κ A k8 ad' h' t.heap ∧ va_F A st t
def sn_rm (d : Nat) (h h' : pm_H) : Room := { frames := 20 + d, cells := h'.1 - h.1, slots := h'.2.1 - h.2.1, locals := 400 + 48 * d }
def sn_Met (l : Launch) (y : MethodName) (w : Cond) (d : Nat) (TX : State → Heap → Prop) (D : va_G) (κ : FieldType → ClassId) (A : Nat → Prop) (k8 : Nat → pm_E) (a8 : Nat → Nat) (L : Nat) (xs : Nat → Int32) (ad : Nat → Nat) (as : List Value) (h h' : pm_H) (o : Outcome) : Prop :=
  vx_Met l y (w :: lw_all) (sn_rm d h h') (sn_Pc TX D κ A k8 a8 L xs ad as h) (sn_Qc D κ A k8 ad h h' o) (sn_XC D κ A k8 ad h h' o) (h'.1 - h.1) (h'.2.1 - h.2.1) A
theorem sn_blind {TX : State → Heap → Prop} {D : va_G} {κ : FieldType → ClassId} {A : Nat → Prop} {k8 : Nat → pm_E} {a8 : Nat → Nat} {L : Nat} {xs : Nat → Int32} (hTX : sn_TXok TX A) {ad : Nat → Nat} {as : List Value} {h : pm_H} : FrameBlind (sn_Pc TX D κ A k8 a8 L xs ad as h) := by
  intro a U g mk hp
  exact ⟨hp.1, sn_Env_moved (u := U) (U := U.calling g mk a) hTX (State.WarmedH.refl U) (Nat.le_refl _) (fun _ _ _ => rfl) hp.2.1, hp.2.2.1, hp.2.2.2.1, hp.2.2.2.2⟩
section
variable {p : Program} {l : Launch} {e : Env} {R : Room} {s : State} {m : MethodId} {args : Array Value} {below : List Frame} {meth : Method} {c : Code} {Q : State → Prop} {D : va_G} {κ : FieldType → ClassId} {A : Nat → Prop} {k8 : Nat → pm_E} {a8 : Nat → Nat} {nL : Nat} {ad0 : Nat → Nat} {h0 : pm_H} {cc : ByteArray} {own : String} {pc : Nat} {ls st : List Value} {h : pm_H} {L : Nat} {xs : Nat → Int32} {TX : State → Heap → Prop}
/-- the goal at a throw of an object of class c0 -/
def sn_Gx (p : Program) (l : Launch) (e : Env) (R : Room) (s : State) (m : MethodId) (args : Array Value) (below : List Frame) (meth : Method) (c : Code) (Q : State → Prop) (D : va_G) (κ : FieldType → ClassId) (A : Nat → Prop) (k8 : Nat → pm_E) (a8 : Nat → Nat) (nL : Nat) (ad0 : Nat → Nat) (h0 : pm_H) (pc : Nat) (ls : List Value) (c0 : Nat) (h : pm_H) : Prop :=
  ∀ (ad : Nat → Nat) (H : Heap) (locs : List Loc) (la : Array Slot) (cells slots : Nat) (rest : List Value) (q : Addr) (ce : Cell), sn_R D κ A k8 ad h H → (∀ k, k < 8 → ad k = a8 k) → (∀ k, k < h0.1 → ad k = ad0 k) → va_S A s.heap H locs → sn_F nL h.1 ad ls la → cells + h0.1 = h.1 → slots + h0.2.1 = h.2.1 → H[q]? = some ce → ce.vm = .none → s.vm.findClass (sn_nm c0) = some ce.cls →
    vx_W p l e R s m args below meth c H locs cells slots Q (F0 m pc la rest) q
/-- behind a call -/
theorem sg_run {st rest : List Value} {h' : pm_H} {o : Outcome} {aa : Array Value} (hle : h0.1 ≤ h.1 ∧ h.1 ≤ h'.1 ∧ h0.2.1 ≤ h.2.1 ∧ h.2.1 ≤ h'.2.1) (hrest : sn_S h.1 st → sn_S h.1 rest)
    (hrun : ∀ (ad : Nat → Nat) (H : Heap) (locs : List Loc) (la : Array Slot) (cells slots : Nat), sn_R D κ A k8 ad h H → (∀ k, k < 8 → ad k = a8 k) → (∀ k, k < h0.1 → ad k = ad0 k) → va_S A s.heap H locs → sn_F nL h.1 ad ls la → sn_S h.1 st → cells + h0.1 = h.1 → slots + h0.2.1 = h.2.1 →
      ∃ aa, vx_Run p l e R s m args below meth c H locs cells slots (h'.1 - h.1) (h'.2.1 - h.2.1) (F0 m pc la (st.map (sn_V ad))) (rest.map (sn_V ad)) (sn_Qc D κ A k8 ad h h' o aa) (sn_XC D κ A k8 ad h h' o) A)
    (kr : ∀ v, o = .returned v → sn_G p l e R s m args below meth c Q D κ A k8 a8 nL ad0 h0 (pc + 3) ls (v.toList ++ rest) h') (kx : ∀ c0, o = .threw c0 → sn_Gx p l e R s m args below meth c Q D κ A k8 a8 nL ad0 h0 pc ls c0 h') : sn_G p l e R s m args below meth c Q D κ A k8 a8 nL ad0 h0 pc ls st h := by
  intro ad H locs la cells slots hR h8 hE hS hF hs c1 c2
  obtain ⟨aa, hr⟩ := hrun ad H locs la cells slots hR h8 hE hS hF hs c1 c2
  have hrs := hrest hs
  intro T hT X
  rcases hr T hT X with ⟨v, st0, t, T', L', e0, X', hL, e1, e2, ⟨ad', v', ho, hv, hid, hR', hw, hFr⟩, hg⟩ | ⟨q, st0, t, T', L', E, ce, e0, X', hL, e1, e2, ⟨ad', c0, ho, hEn, hid, hR', hFr⟩, hce, hcv, hcl, hst⟩
  · obtain ⟨k1, k2, k3⟩ := vx_keep e0 e1 hS (fun _ _ q => q) (fun _ q => q) hL hFr
    have hv2 : v = v'.map (sn_V ad') := by cases hv; rfl
    have hF' := sn_F_le hle.2.1 (sn_F_id hid hF)
    have hst' : sn_S h'.1 (v'.toList ++ rest) := by
      intro w hw2
      rcases List.mem_append.mp hw2 with q | q
      · exact hw w (by cases v' with
          | none => cases q
          | some z => rcases List.mem_cons.mp q with rfl | q2
                      · rfl
                      · cases q2)
      · exact sn_v_le hle.2.1 (hrs w q)
    obtain ⟨t2, a1, b1⟩ := kr v' ho ad' T'.heap (locs ++ L') la (cells + (h'.1 - h.1)) (slots + (h'.2.1 - h.2.1)) (by rw [e1]; exact hR') (fun k hk => by rw [hid k (by have := hR.1.1; omega)]; exact h8 k hk) (fun k hk => by rw [hid k (by omega)]; exact hE k hk) k3 hF' hst' (by omega) (by omega) T' rfl X'
    refine ⟨t2, hg t2 ?_, b1⟩
    have es : v.toList ++ rest.map (sn_V ad) = (v'.toList ++ rest).map (sn_V ad') := by
      rw [List.map_append, hv2, sn_map_id hid hrs]
      cases v' <;> rfl
    show Steps p.tables e below (T'.setTop (F0 m (pc + 3) la (v.toList ++ rest.map (sn_V ad)))) t2
    rw [es]
    exact a1
  · obtain ⟨k1, k2, k3⟩ := vx_keep e0 e1 hS (fun _ _ q => q) (fun _ q => q) hL hFr
    have hF' := sn_F_le hle.2.1 (sn_F_id hid hF)
    obtain ⟨t2, a1, b1⟩ := kx c0 ho ad' T'.heap (locs ++ L') la (cells + (h'.1 - h.1)) (slots + (h'.2.1 - h.2.1)) (rest.map (sn_V ad)) q ce (by rw [e1]; exact hR') (fun k hk => by rw [hid k (by have := hR.1.1; omega)]; exact h8 k hk) (fun k hk => by rw [hid k (by omega)]; exact hE k hk) k3 hF' (by omega) (by omega) (by rw [e1]; exact hce) hcv (by rw [← hEn]; exact hcl) T' rfl X'
    exact ⟨t2, hst.trans a1, b1⟩
/-- an object's cell -/
theorem sn_obj {ad : Nat → Nat} {H : Heap} {a c0 : Nat} (hK : va_K D sn_cl (sn_tys κ) s) (h8k : sn_K8 k8 L xs) (hR : sn_R D κ A k8 ad h H) (h1 : pm_cls h a = some c0) (hc0 : c0 < 90) : ∃ cell : Cell, H[ad a]? = some cell ∧ cell.vm = .none ∧ s.vm.findClass (sn_nm c0) = some cell.cls := by
  unfold pm_cls at h1
  split at h1
  · rename_i c1' fs he
    cases h1
    have h8' : ¬ a < 8 := by
      intro ha
      rw [hR.2.2.2 a ha] at he
      rcases (show a = 0 ∨ a = 1 ∨ a = 2 ∨ (3 ≤ a) by omega) with rfl | rfl | rfl | h3
      · rw [h8k.1] at he; cases he
      · rw [h8k.2.1] at he; cases he
      · rw [h8k.2.2.1] at he; cases he
      · obtain ⟨n', f', e'⟩ := h8k.2.2.2 a h3 ha
        rw [e'] at he; cases he
    have hlt := sn_ltr hR.1 hc0 he
    have hw := sn_ws_at (κ := κ) (ad := ad) (h := h) (a := a) (by omega) hlt
    rw [he] at hw
    obtain ⟨r', hr', cell, q1, q2, q3, -⟩ := hR.2.1 (a - 8) _ hw
    have hcls := (hK.1 c0 _ (sn_cl_at hc0)).2
    exact ⟨cell, q1, q3, by rw [q2]; exact hcls.1⟩
  · cases h1
theorem sg_athrow {a c0 : Nat} (S : CallFix p m c cc nL s args lw_all own) (hK : va_K D sn_cl (sn_tys κ) s) (h8k : sn_K8 k8 L xs) (h1 : pm_cls h a = some c0) (hc0 : c0 < 90) (d : decode cc pc = .ok (.athrow, 1)) (k : sn_Gx p l e R s m args below meth c Q D κ A k8 a8 nL ad0 h0 pc ls c0 h) : sn_G p l e R s m args below meth c Q D κ A k8 a8 nL ad0 h0 pc ls (.ref a :: st) h := by
  intro ad H locs la cells slots hR h8 hE hS hF hs c1 c2
  obtain ⟨cell, q1, q2, q3⟩ := sn_obj hK h8k hR h1 hc0
  exact vx_athrow S.1 S.2.1 d (k ad H locs la cells slots _ _ cell hR h8 hE hS hF c1 c2 q1 q2 q3)
/-- what holds at U behind a call's start -/
theorem sn_pre {ad : Nat → Nat} {H : Heap} {locs : List Loc} {as : List Value} (hTX : sn_TXok TX A) (hEnv : sn_Env TX D κ A a8 L xs s) (hR : sn_R D κ A k8 ad h H) (h8 : ∀ k, k < 8 → ad k = a8 k) (hS : va_S A s.heap H locs) (has : sn_S h.1 as) {U : State} (hU : U.heap = H) (hW : s.WarmedH U.vm) : sn_Pc TX D κ A k8 a8 L xs ad as h (as.map (sn_V ad)).toArray U :=
  ⟨rfl, sn_Env_moved hTX hW (by rw [hU]; exact hS.1) (fun a h1 h2 => by rw [hU]; exact hS.2.1 a h1 h2) hEnv, by rw [hU]; exact hR, h8, has⟩
theorem sg_callS {as rest : List Value} {h' : pm_H} {o : Outcome} {y : MethodName} {bytes : ByteArray} {maxL index d0 : Nat} {ret : Option FieldType} (hTX : sn_TXok TX A) (hEnv : sn_Env TX D κ A a8 L xs s) (S : CallFix p m c cc nL s args lw_all own) (hM : ∀ ad, sn_Met l y (Cond.code y bytes maxL ret) d0 TX D κ A k8 a8 L xs ad as h h' o)
    (cw : CallB R s args own index y bytes maxL ret (Cond.code y bytes maxL ret :: lw_all) (sn_rm d0 h h') (h'.1 - h.1) (h'.2.1 - h.2.1) as.length ∧ (Cond.static y).before args s = true) (hle : h0.1 ≤ h.1 ∧ h.1 ≤ h'.1 ∧ h0.2.1 ≤ h.2.1 ∧ h.2.1 ≤ h'.2.1) (hcat : pm_cats rest ≤ 8) (hroom : h'.1 ≤ h0.1 + R.cells ∧ h'.2.1 ≤ h0.2.1 + R.slots) (d : decode cc pc = .ok (.invokestatic index, 3))
    (kr : ∀ v, o = .returned v → sn_G p l e R s m args below meth c Q D κ A k8 a8 nL ad0 h0 (pc + 3) ls (v.toList ++ rest) h') (kx : ∀ c0, o = .threw c0 → sn_Gx p l e R s m args below meth c Q D κ A k8 a8 nL ad0 h0 pc ls c0 h') : sn_G p l e R s m args below meth c Q D κ A k8 a8 nL ad0 h0 pc ls (as.reverse ++ rest) h := by
  refine sg_run (aa := #[]) hle (fun hs v hv => hs v (List.mem_append_right _ hv)) (fun ad H locs la cells slots hR h8 hE hS hF hs c1 c2 => ?_) kr kx
  have has : sn_S h.1 as := fun v hv => hs v (List.mem_append_left _ (List.mem_reverse.mpr hv))
  refine ⟨_, vx_runS S (hM ad) cw ⟨sn_blind hTX, fun U hU hW => sn_pre hTX hEnv hR h8 hS has hU hW⟩ rfl (by simp) hF.2.1 (by simp [List.map_append, List.map_reverse]) ?_ d ⟨by omega, by omega⟩⟩
  rw [sn_cats]; show 2 * 0 + _ ≤ 8; omega
theorem sg_callV {as rest : List Value} {a c0 : Nat} {h' : pm_H} {o : Outcome} {y : MethodName} {bytes : ByteArray} {maxL index d0 : Nat} {ret : Option FieldType} (hTX : sn_TXok TX A) (hEnv : sn_Env TX D κ A a8 L xs s) (h8k : sn_K8 k8 L xs) (S : CallFix p m c cc nL s args lw_all own) (hM : ∀ ad, sn_Met l y (Cond.code y bytes maxL ret) d0 TX D κ A k8 a8 L xs ad (.ref a :: as) h h' o) (h1 : pm_cls h a = some c0) (hc0 : c0 < 90)
    (cw : CallW R s args own (sn_nm c0) index y bytes maxL ret (Cond.code y bytes maxL ret :: lw_all) (sn_rm d0 h h') (h'.1 - h.1) (h'.2.1 - h.2.1) as.length) (hle : h0.1 ≤ h.1 ∧ h.1 ≤ h'.1 ∧ h0.2.1 ≤ h.2.1 ∧ h.2.1 ≤ h'.2.1) (hcat : pm_cats rest ≤ 8) (hroom : h'.1 ≤ h0.1 + R.cells ∧ h'.2.1 ≤ h0.2.1 + R.slots) (d : decode cc pc = .ok (.invokevirtual index, 3))
    (kr : ∀ v, o = .returned v → sn_G p l e R s m args below meth c Q D κ A k8 a8 nL ad0 h0 (pc + 3) ls (v.toList ++ rest) h') (kx : ∀ c0, o = .threw c0 → sn_Gx p l e R s m args below meth c Q D κ A k8 a8 nL ad0 h0 pc ls c0 h') : sn_G p l e R s m args below meth c Q D κ A k8 a8 nL ad0 h0 pc ls (as.reverse ++ .ref a :: rest) h := by
  refine sg_run (aa := #[]) hle (fun hs v hv => hs v (List.mem_append_right _ (List.mem_cons_of_mem _ hv))) (fun ad H locs la cells slots hR h8 hE hS hF hs c1 c2 => ?_) kr kx
  have has : sn_S h.1 (.ref a :: as) := fun v hv => by
    rcases List.mem_cons.mp hv with rfl | q
    · exact hs _ (List.mem_append_right _ List.mem_cons_self)
    · exact hs v (List.mem_append_left _ (List.mem_reverse.mpr q))
  obtain ⟨cell, q1, q2, q3⟩ := sn_obj hEnv.1 h8k hR h1 hc0
  refine ⟨_, vx_runV (As := as.map (sn_V ad)) (b := ad a) S (hM ad) cw ⟨sn_blind hTX, ⟨cell, q1, by rw [q2]; rfl, q3⟩, fun U hU hW => sn_pre hTX hEnv hR h8 hS has hU hW⟩ rfl (by simp) hF.2.1 (by simp [List.map_append, List.map_reverse, sn_V]) ?_ d ⟨by omega, by omega⟩⟩
  rw [sn_cats]; show 2 * 0 + _ ≤ 8; omega
end
