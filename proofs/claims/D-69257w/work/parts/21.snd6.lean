/-! ===== SOUNDNESS, 7: references in arrays, casts, exceptions, statics, arraycopy ===== -/
def sn_ci (D : va_G) (κ : FieldType → ClassId) (e : pm_E) : ClassId := match e with
  | .inl (u, _) => κ u
  | .inr (c, _) => D.1 c
/-- what may be put into an array -/
def sn_As (D : va_G) (κ : FieldType → ClassId) (s : State) : Prop := ∀ t, t ∈ sn_ats → ∀ e : pm_E, pm_asg t e = true → sn_t e → ∃ (kA : Class) (comp : ClassId) (kc kv : Class), s.vm.classes[κ t]? = some kA ∧ kA.kind = .array comp t ∧ s.vm.classes[comp]? = some kc ∧ s.vm.classes[sn_ci D κ e]? = some kv ∧ s.vm.assignable (sn_ci D κ e) comp = true
section
variable {p : Program} {l : Launch} {e : Env} {R : Room} {s : State} {m : MethodId} {args : Array Value} {below : List Frame} {meth : Method} {c : Code} {Q : State → Prop} {D : va_G} {κ : FieldType → ClassId} {A : Nat → Prop} {k8 : Nat → pm_E} {a8 : Nat → Nat} {nL : Nat} {ad0 : Nat → Nat} {h0 : pm_H} {cc : ByteArray} {own : String} {pc : Nat} {ls st : List Value} {h : pm_H} {L : Nat} {xs : Nat → Int32} {H : Heap} {locs : List Loc} {cells slots : Nat}
theorem sn_aastN0 {T : State} (X : Stand p l e R s m args below meth c T locs cells slots) (hexec : p.tables.exec = Jvm.exec) {a : Addr} {cell : Cell} {ty : FieldType} (hty : ty.isReference = true) {j : Int32} (hcell : T.heap[a]? = some cell) (harr : s.isArrayOf cell ty) (hknown : cell.vm ≠ .unknown)
    (hin : ¬ (j < 0 ∨ cell.slots.size ≤ j.toNatClampNeg))
    {g : JFrame} (hg : g.method = m) {rest : List Value} (hstack : g.stack = .null :: .int j :: .ref a :: rest) (hdg : decode c.code g.pc = .ok (.aastore, 1)) :
    Stand p l e R s m args below meth c (T.setCell a (cell.setSlot j.toNatClampNeg .null)) (locs ++ [⟨a, j.toNatClampNeg⟩]) cells slots ∧
      ∀ target, Steps p.tables e below ((T.setCell a (cell.setSlot j.toNatClampNeg .null)).setTop { g with pc := g.pc + 1, stack := rest }) target → Steps p.tables e below (T.setTop g) target := by
  have hT := State.isArrayOf_alike X.warmed.alike harr
  have hfn : fits ty .null = true := by cases ty <;> first | rfl | cases hty
  have hfit : T.fitsSlot cell.cls cell.vm j.toNatClampNeg .null = true := by
    obtain ⟨hobj, k, hk, comp, hkind⟩ := hT
    cases hvm : cell.vm <;> first | exact absurd hvm (hobj _) | simp [State.fitsSlot, State.slotType?, hk, hkind, hfn]
  refine ⟨X.stored hcell _ _, fun target hrest => ?_⟩
  subst hg
  jvm_step X.here [hexec, hdg]
  refine aastore.wp_of_null (c := cell) (t := ty) X.here.top hstack hcell hT hin hknown (Nat.not_le.mp fun q => hin (Or.inr q)) hfit ?_
  intro acts
  rw [afterInstr_ok]
  exact hrest
theorem sn_WaastN (hexec : p.tables.exec = Jvm.exec) (hb : c.code = cc) {a : Addr} {cell : Cell} {ty : FieldType} (hty : ty.isReference = true) {j : Int32} (hcell : H[a]? = some cell) (harr : s.isArrayOf cell ty) (hknown : cell.vm ≠ .unknown) (hin : ¬ (j < 0 ∨ cell.slots.size ≤ j.toNatClampNeg))
    {g : JFrame} (hg : g.method = m) {rest : List Value} (hstack : g.stack = .null :: .int j :: .ref a :: rest) (hdg : decode cc g.pc = .ok (.aastore, 1))
    (kk : ∀ H' : Heap, H'[a]? = some (cell.setSlot j.toNatClampNeg .null) → H'.size = H.size → (∀ q, q ≠ a → H'[q]? = H[q]?) → W p l e R s m args below meth c H' (locs ++ [⟨a, j.toNatClampNeg⟩]) cells slots Q { g with pc := g.pc + 1, stack := rest }) :
    W p l e R s m args below meth c H locs cells slots Q g := by
  intro T hT X
  have hT' : T.heap[a]? = some cell := by rw [hT]; exact hcell
  obtain ⟨X', st⟩ := sn_aastN0 X hexec hty hT' harr hknown hin hg hstack (by rw [hb]; exact hdg)
  have hlt : a < T.heap.size := (Array.getElem?_eq_some_iff.mp hT').1
  obtain ⟨t', a1, b1⟩ := kk _ (heapAt_setCell_self _ hlt) (by rw [size_setCell, hT]) (fun q hq => by rw [heapAt_setCell_ne _ (Ne.symm hq), hT]) (T.setCell a (cell.setSlot j.toNatClampNeg .null)) rfl X'
  exact ⟨t', st t' a1, b1⟩
theorem sg_aastore {a : Nat} {i : Int32} {v : Option Nat} {h' : pm_H} (S : CallFix p m c cc nL s args lw_all own) (hK : va_K D sn_cl (sn_tys κ) s) (h8k : sn_K8 k8 L xs) (hAs : sn_As D κ s) (hv : pm_wrR pm_tab h a i v = some h') (d : decode cc pc = .ok (.aastore, 1)) (k : sn_G p l e R s m args below meth c Q D κ A k8 a8 nL ad0 h0 (pc + 1) ls st h') : sn_G p l e R s m args below meth c Q D κ A k8 a8 nL ad0 h0 pc ls (va_rf v :: .int i :: .ref a :: st) h := by
  intro ad H locs la cells slots hR h8 hE hS hF hs c1 c2
  have hs3 := sn_S_tl (sn_S_tl (sn_S_tl hs))
  unfold pm_wrR at hv
  split at hv
  · rename_i t n f he
    split at hv
    · rename_i hc
      obtain ⟨hp, hi0, hi1, hasg⟩ := hc
      have hi : 0 ≤ i.toInt ∧ i.toInt < n := ⟨hi0, hi1⟩
      have hin : vp_in i n := pm_in_vp.mp hi
      have hlt := sn_lt hR.1 he
      have h8' : ¬ a < 8 := by
        intro ha
        rw [hR.2.2.2 a ha] at he
        rcases (show a = 0 ∨ a = 1 ∨ a = 2 ∨ (3 ≤ a) by omega) with rfl | rfl | rfl | h3
        · rw [h8k.1] at he; cases he
        · rw [h8k.2.1] at he; cases he
        · rw [h8k.2.2.1] at he; cases he
          exact absurd (Int.lt_of_le_of_lt hi.1 hi.2) (Int.lt_irrefl _)
        · obtain ⟨n', f', e'⟩ := h8k.2.2.2 a h3 ha
          rw [e'] at he; cases he
      have ha : 8 ≤ a := by omega
      have ht : t ∈ sn_ats := by have := hR.1.2.2.2 a ha hlt; rw [he] at this; exact this
      obtain ⟨t0, ht0⟩ := sn_ty_at (κ := κ) ht
      have hw := sn_ws_at (κ := κ) (ad := ad) ha hlt
      rw [he] at hw
      have hlt2 : i.toNatClampNeg < n := Nat.not_le.mp fun q => hin (Or.inr q)
      have hwf := hR.1.2.1 a
      rw [he] at hwf
      have hvn : ∀ b, v = some b → b < h.1 := fun b e => by
        have := sn_S_hd hs b (by rw [e]; rfl)
        exact this
      have hnew : sn_e h.1 (.inl (t, n, .inr (.inr (.inr (.inr (va_up f i.toInt.toNat v)))))) := by
        intro j b e
        by_cases hj : j = i.toInt.toNat
        · subst hj; rw [va_up_self] at e; exact hvn b e
        · rw [va_up_ne _ _ hj] at e; exact hwf j b e
      cases hv
      have fin : ∀ (H1 : Heap), H1[ad a]? = some ((vp_cell (κ t) (n, .inr (.inr (.inr (.inr (fun j => (f j).map ad)))))).setSlot i.toNatClampNeg (va_rf (v.map ad))) → H1.size = H.size → (∀ q, q ≠ ad a → H1[q]? = H[q]?) → W p l e R s m args below meth c H1 (locs ++ [⟨ad a, i.toNatClampNeg⟩]) cells slots Q (F0 m (pc + 1) la (st.map (sn_V ad))) := by
        intro H1 e1 z oq
        have ee : sn_E κ ad (.inl (t, n, .inr (.inr (.inr (.inr (va_up f i.toInt.toNat v)))))) = .inl (κ t, n, .inr (.inr (.inr (.inr (va_up (fun j => (f j).map ad) i.toNatClampNeg (v.map ad)))))) := by
          show Sum.inl (κ t, n, Sum.inr (Sum.inr (Sum.inr (Sum.inr (fun j => (va_up f i.toInt.toNat v j).map ad))))) = _
          refine congrArg Sum.inl (congrArg _ (congrArg _ (congrArg _ (congrArg _ (congrArg _ (congrArg _ (funext fun j => ?_)))))))
          by_cases hj : j = i.toInt.toNat
          · subst hj
            show (va_up f i.toInt.toNat v i.toInt.toNat).map ad = va_up _ i.toInt.toNat _ i.toInt.toNat
            rw [va_up_self, va_up_self]
          · show (va_up f i.toInt.toNat v j).map ad = va_up (fun j => (f j).map ad) i.toInt.toNat (v.map ad) j
            rw [va_up_ne _ _ hj, va_up_ne _ _ hj]
        have hcell : va_at D sn_cl (ad a, sn_E κ ad (.inl (t, n, .inr (.inr (.inr (.inr (va_up f i.toInt.toNat v))))))) H1 := by
          rw [ee]
          show H1[ad a]? = some (vp_cell _ _)
          rw [e1, vp_cell_q, vp_cell_q, arrV_store]
          congr 2
          funext q
          by_cases hq : q = i.toNatClampNeg
          · subst hq
            simp [updV, va_up]
          · simp [updV, va_up, hq]
        refine k ad H1 _ la cells slots ⟨sn_h_up hR.1 hlt hnew (fun _ => ht), ?_, ?_, fun b hb => ?_⟩ h8 hE (hS.put z oq (hR.2.2.1.2 (a - 8) _ hw)) hF hs3 c1 c2
        · rw [sn_ws_up ha hlt]; exact hR.2.1.set hR.2.2.1 hw hcell oq
        · rw [sn_ws_up ha hlt]; exact hR.2.2.1.set hw
        · show va_up h.2.2 a _ b = _
          rw [va_up_ne _ _ (by omega)]; exact hR.2.2.2 b hb
      cases v with
      | none => exact sn_WaastN S.1 S.2.1 hp (hR.2.1 (a - 8) _ hw) ((hK.2 t0 _ ht0).1 n (fun j => va_rf ((f j).map ad))) (fun h => by cases h) (by show ¬ (i < 0 ∨ (arrV _ _ _).slots.size ≤ _); rw [arrV_size]; exact hin) rfl rfl d (fun H1 e z oq => fin H1 e z oq)
      | some b =>
        have hb := hvn b rfl
        have hg := hasg b rfl
        have hb8 : 8 ≤ b := by
          rcases Nat.lt_or_ge b 8 with q | q
          · exfalso
            rw [hR.2.2.2 b q] at hg
            have hno : ∀ (o : String) (x : vp_A), k8 b = .inl (.object o, x) → False := by
              intro o x e
              rw [e] at hg
              cases t with
              | array u =>
                have : u = .object o := by simpa [pm_tab, pm_asg] using hg
                subst this
                simp only [sn_ats, List.mem_cons, List.not_mem_nil, FieldType.array.injEq, reduceCtorEq, FieldType.object.injEq, or_false, false_or] at ht
                subst ht
                rcases (show b = 0 ∨ b = 1 ∨ b = 2 ∨ (3 ≤ b) by omega) with rfl | rfl | rfl | h3
                · rw [h8k.1] at e; simp at e
                · rw [h8k.2.1] at e; simp at e
                · rw [h8k.2.2.1] at e; simp at e
                · obtain ⟨n', f', e'⟩ := h8k.2.2.2 b h3 q
                  rw [e'] at e; simp at e
              | _ => cases hg
            rcases (show b = 0 ∨ b = 1 ∨ b = 2 ∨ (3 ≤ b) by omega) with rfl | rfl | rfl | h3
            · exact hno _ _ h8k.1
            · exact hno _ _ h8k.2.1
            · exact hno _ _ h8k.2.2.1
            · obtain ⟨n', f', e'⟩ := h8k.2.2.2 b h3 q
              exact hno _ _ e'
          · exact q
        obtain ⟨kA, comp, kc, kv, g1, g2, g3, g4, g5⟩ := hAs t ht _ hg (hR.1.2.2.2 b hb8 hb)
        have hwb := sn_ws_at (κ := κ) (ad := ad) hb8 hb
        obtain ⟨cv, v1, v2, v3⟩ : ∃ cv : Cell, H[ad b]? = some cv ∧ cv.vm = .none ∧ cv.cls = sn_ci D κ (h.2.2 b) := by
          have hat := hR.2.1 (b - 8) _ hwb
          cases hcb : h.2.2 b with
          | inl x =>
            obtain ⟨u, nn, x⟩ := x
            rw [hcb] at hat
            refine ⟨_, hat, ?_, ?_⟩
            · rcases x with x | x | x | x | x <;> rfl
            · rcases x with x | x | x | x | x <;> rfl
          | inr o =>
            obtain ⟨c0, fs⟩ := o
            rw [hcb] at hat
            obtain ⟨r', hr', cell, q1, q2, q3, -⟩ := hat
            exact ⟨cell, q1, q3, q2⟩
        refine W.aast S.1 S.2.1 (hR.2.1 (a - 8) _ hw) (fun q h => by cases h) (fun h => by cases h) g1 g2 hp g3 ⟨fun q => hin (Or.inl q), by show _ < (arrV _ _ _).slots.size; rw [arrV_size]; exact hlt2⟩ v1 (fun q h => by rw [v2] at h; cases h) (by rw [v3]; exact g4) (by rw [v3]; exact g5) rfl rfl d fun H1 e z oq => fin H1 e z oq
    · cases hv
  · cases hv
theorem sg_checkcast {a i c0 ci : Nat} {nm : String} (S : CallFix p m c cc nL s args lw_all own) (hK : va_K D sn_cl (sn_tys κ) s) (h8k : sn_K8 k8 L xs) (h1 : pm_cls h a = some c0) (hc0 : c0 < 90) (hl : Cond.classLink own i nm ∈ lw_all) (hc : va_Nw (.castable (sn_nm c0) nm) s) (d : decode cc pc = .ok (.checkcast i, 3)) (k : sn_G p l e R s m args below meth c Q D κ A k8 a8 nL ad0 h0 (pc + 3) ls (.ref a :: st) h) : sn_G p l e R s m args below meth c Q D κ A k8 a8 nL ad0 h0 pc ls (.ref a :: st) h := by
  intro ad H locs la cells slots hR h8 hE hS hF hs c1 c2
  unfold pm_cls at h1
  split at h1
  · rename_i c1' fs he
    cases h1
    have h8' : ¬ a < 8 := by
      intro ha
      rw [hR.2.2.2 a ha] at he
      rcases (show a = 0 ∨ a = 1 ∨ a = 2 ∨ (3 ≤ a) by omega) with rfl | rfl | rfl | h3
      · rw [h8k.1] at he; cases he
      · rw [h8k.2.1] at he; cases he
      · rw [h8k.2.2.1] at he; cases he
      · obtain ⟨n', f', e'⟩ := h8k.2.2.2 a h3 ha
        rw [e'] at he; cases he
    have hlt := sn_ltr hR.1 hc0 he
    have hw := sn_ws_at (κ := κ) (ad := ad) (h := h) (a := a) (by omega) hlt
    rw [he] at hw
    obtain ⟨r', hr', cell, q1, q2, q3, -⟩ := hR.2.1 (a - 8) _ hw
    have hcls := (hK.1 c0 _ (sn_cl_at hc0)).2
    exact va_castY S.1 S.2.1 S.2.2.2.1 (S.2.2.2.2 _ hl) hc ⟨cell, q1, by rw [q3]; rfl, by rw [q2]; exact hcls.1⟩ d (k ad H locs la cells slots hR h8 hE hS hF hs c1 c2)
  · cases h1
theorem sg_getstatic {i a : Nat} {C n dd ref : String} (S : CallFix p m c cc nL s args lw_all own) (ha : a < 8) (hZ : va_Z C n dd (.ref (a8 a)) A s s.heap) (hl : Cond.fieldLink own i ref n dd ∈ lw_all) (hsame : ref = C) (d : decode cc pc = .ok (.getstatic i, 3)) (k : sn_G p l e R s m args below meth c Q D κ A k8 a8 nL ad0 h0 (pc + 3) ls (.ref a :: st) h) : sn_G p l e R s m args below meth c Q D κ A k8 a8 nL ad0 h0 pc ls st h := by
  intro ad H locs la cells slots hR h8 hE hS hF hs c1 c2
  have kk := k ad H locs la cells slots hR h8 hE hS hF (sn_S_cons (sn_v_r (by have := hR.1.1; omega)) hs) c1 c2
  have e : (.ref a :: st).map (sn_V ad) = .ref (a8 a) :: st.map (sn_V ad) := by
    rw [List.map_cons, ← h8 a ha]; rfl
  rw [e] at kk
  exact va_gets S.1 S.2.1 hZ hS S.2.2.2.1 (S.2.2.2.2 _ hl) (by rw [hsame]; exact fun x e => e) d kk
theorem sg_mkx {ik ic c0 : Nat} {names : List String} (S : CallFix p m c cc nL s args lw_all own) (hl : l.stackTraces = false) (hK : va_K D sn_cl (sn_tys κ) s) (hA : ∀ q, s.heap.size ≤ q → A q) (hc : c0 < 90) (hN : sn_N c0 = 0) (hcls : Bundle.fit (sn_nm c0) = true) (hnames : ∀ n ∈ names, Bundle.fit n = true) (hnl : names.length ≤ 3)
    (hk : Cond.classLink own ik (sn_nm c0) ∈ lw_all) (hini : Cond.initialized (sn_nm c0) ∈ lw_all) (hat : ∀ w ∈ vx_at0 own ic (sn_nm c0) names, w.before args s = true) (hgood : ∀ w ∈ vx_at0 own ic (sn_nm c0) names, vx_ot w = true)
    (hU : vx_Zq Bundle.tN "UNASSIGNED_STACK" Bundle.steD A s s.heap) (hNn : vx_Zq Bundle.tN "SUPPRESSED_SENTINEL" Bundle.listD A s s.heap) (hcat : pm_cats st ≤ 8) (hr : h.1 + 1 ≤ h0.1 + R.cells ∧ h.2.1 + 6 ≤ h0.2.1 + R.slots) (hf : 6 < R.frames) (hlo : 200 ≤ R.locals)
    (d0 : decode cc pc = .ok (.new ik, 3)) (d3 : decode cc (pc + 3) = .ok (.dup, 1)) (d4 : decode cc (pc + 4) = .ok (.invokespecial ic, 3)) (k : sn_G p l e R s m args below meth c Q D κ A k8 a8 nL ad0 h0 (pc + 7) ls (.ref h.1 :: st) (pm_new h 6 (.inr (c0, [])))) : sn_G p l e R s m args below meth c Q D κ A k8 a8 nL ad0 h0 pc ls st h := by
  intro ad H locs la cells slots hR h8 hE hS hF hs c1 c2
  have hcat2 : ((st.map (sn_V ad)).map fun v => v.category).sum = pm_cats st := by
    unfold pm_cats
    rw [List.map_map]
    refine congrArg List.sum (List.map_congr_left fun v _ => sn_V_cat)
  have hcl := sn_cl_at hc
  rw [hN] at hcl
  refine vx_make0 (ci := c0) (T0 := sn_T c0) S.1 S.2.1 hl S.2.2.2.1 hcls hnames (S.2.2.2.2 _ hk) (S.2.2.2.2 _ hini) hat (fun w hw => ?_) hU hNn hS (by rw [S.2.2.1]; exact hF.2.1) d0 d3 d4 hK hR.2.1 hR.2.2.1 hA hcl (by omega) (by rw [hcat2]; omega) (by omega) (by omega) (fun q H1 hP1 hD1 hS1 => ?_)
  · rcases List.mem_cons.mp hw with rfl | hw
    · rfl
    · rcases List.mem_cons.mp hw with rfl | hw
      · rfl
      · exact hgood w hw
  · exact sn_made (e1 := .inr (c0, [])) hR h8 hE hF hs c1 c2 (fun v hv => absurd hv List.not_mem_nil) ⟨hc, hN.symm⟩ hP1 hD1 hS1 k
end
