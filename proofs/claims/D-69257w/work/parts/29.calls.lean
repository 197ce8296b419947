/-! ===== SOUNDNESS, 13: calls ===== -/
section
variable {p : Program} {l : Launch} {e : Env} {R : Room} {s : State} {m : MethodId} {args : Array Value} {below : List Frame} {meth : Method} {c : Code} {Q : State → Prop} {D : va_G} {κ : FieldType → ClassId} {A : Nat → Prop} {k8 : Nat → pm_E} {a8 : Nat → Nat} {nL : Nat} {ad0 : Nat → Nat} {h0 : pm_H} {cc : ByteArray} {own : String} {pc : Nat} {ls st : List Value} {h : pm_H} {L : Nat} {xs : Nat → Int32} {TX : State → Heap → Prop} {lk : lk_T} {B : List Nat} {rt : Nat} {ini : Bool} {jp : Nat → List Value → List Value → pm_H → pm_R} {hs : List (List Nat × Nat × Nat)} {K : pm_K} {cl : pm_C} {d0 : Nat} {o : Outcome} {h' : pm_H}
theorem sn_w0 {k : Nat} (h : (sn_b k).2.2.2 = []) : sn_w k = Cond.code (sn_y k) (sn_b k).1 (sn_b k).2.1 (sn_b k).2.2.1 := by
  unfold sn_w sn_wof
  split
  · rfl
  · rename_i q
    rw [h] at q; cases q
theorem sn_w1 {k : Nat} {a : Nat × Nat × Nat × Nat} {t : List (Nat × Nat × Nat × Nat)} (h : (sn_b k).2.2.2 = a :: t) : sn_w k = Cond.codeWith (sn_y k) (sn_b k).1 (sn_b k).2.1 (sn_b k).2.2.1 (a :: t) := by
  unfold sn_w sn_wof
  split
  · rename_i q
    rw [h] at q; cases q
  · rename_i q
    rw [h] at q; cases q; rfl
theorem st_callS {x v : Nat} (S : CallFix p m c cc nL s args lw_all own) (hTX : sn_TXok TX A) (hEnv : sn_Env TX D κ A a8 L xs s) (h8k : sn_K8 k8 L xs) (hIH : ∀ (k : Nat) (as : List Value) (g : pm_H) (o1 : Outcome) (g' : pm_H), cl k as g = some (o1, g') → pm_le g g' ∧ pm_rc pm_tab (pm_prog.2 k).2.2.1 as g = true ∧ ∀ ad, sn_Met l (sn_y k) (sn_w k) d0 TX D κ A k8 a8 L xs ad as g g' o1) (hR : 21 + d0 ≤ R.frames ∧ 448 + 48 * d0 ≤ R.locals) (hthr : ∀ ls c0 g, pm_le h0 g → pm_int jp hs (.inr (.inr (ls, c0, g))) = some (o, h') → pm_le g h' ∧ sn_Gx p l e R s m args below meth c Q D κ A k8 a8 nL ad0 h0 pc ls c0 g) (hk : ∀ ls st g, pm_le h0 g → pm_int jp hs (K ls st g) = some (o, h') → pm_le g h' ∧ sn_G p l e R s m args below meth c Q D κ A k8 a8 nL ad0 h0 (pc + 3) ls st g) (hle : pm_le h0 h) (hroom : h'.1 ≤ h0.1 + R.cells ∧ h'.2.1 ≤ h0.2.1 + R.slots) (hlk : Cond.methodLink own x (sn_y (v / 16)) ∈ lw_all) (hkd : sn_kd (v / 16) = 0) (hna : sn_na (v / 16) = v % 16) (hgd : sn_gd (v / 16)) (d : decode cc pc = .ok (.invokestatic x, 3)) (hrun : pm_int jp hs (pm_st pm_tab cl (.invokeinterface (v / 16) (v % 16)) K ls st h) = some (o, h')) : sn_G p l e R s m args below meth c Q D κ A k8 a8 nL ad0 h0 pc ls st h := by
  unfold pm_st at hrun
  dsimp only at hrun
  split at hrun
  case isFalse => cases (show (none : pm_R) = some (o, h') from hrun)
  rename_i hn
  cases hcl : cl (v / 16) (st.take (v % 16)).reverse h with
  | none => rw [hcl] at hrun; cases (show (none : pm_R) = some (o, h') from hrun)
  | some r =>
    obtain ⟨o1, g1⟩ := r
    rw [hcl] at hrun
    obtain ⟨hg, hrc, hM⟩ := hIH _ _ _ _ _ hcl
    have hlen : (st.take (v % 16)).reverse.length = v % 16 := by rw [List.length_reverse, List.length_take]; omega
    have hst : st = ((st.take (v % 16)).reverse).reverse ++ st.drop (v % 16) := by rw [List.reverse_reverse, List.take_append_drop]
    have hg1 : pm_le g1 h' := by
      cases o1 with
      | returned w => exact (hk _ _ _ (pm_le_tr hle hg) hrun).1
      | threw c0 => exact (hthr _ _ _ (pm_le_tr hle hg) hrun).1
    have kr : ∀ w, o1 = .returned w → sn_G p l e R s m args below meth c Q D κ A k8 a8 nL ad0 h0 (pc + 3) ls (w.toList ++ st.drop (v % 16)) g1 := by
      intro w e; subst e
      exact (hk _ _ _ (pm_le_tr hle hg) hrun).2
    have kx : ∀ c0, o1 = .threw c0 → sn_Gx p l e R s m args below meth c Q D κ A k8 a8 nL ad0 h0 pc ls c0 g1 := by
      intro c0 e; subst e
      exact (hthr _ _ _ (pm_le_tr hle hg) hrun).2
    have hle4 : h0.1 ≤ h.1 ∧ h.1 ≤ g1.1 ∧ h0.2.1 ≤ h.2.1 ∧ h.2.1 ≤ g1.2.1 := ⟨hle.1, hg.1, hle.2, hg.2⟩
    have hroom1 : g1.1 ≤ h0.1 + R.cells ∧ g1.2.1 ≤ h0.2.1 + R.slots := ⟨Nat.le_trans hg1.1 hroom.1, Nat.le_trans hg1.2 hroom.2⟩
    have hRR : (sn_rm d0 h g1).frames + 1 ≤ R.frames ∧ 8 + ((sn_b (v / 16)).2.1 + 11) + (sn_rm d0 h g1).locals ≤ R.locals := by
      have hb20 := hgd.2.2.2.2.2.1
      show 20 + d0 + 1 ≤ R.frames ∧ 8 + ((sn_b (v / 16)).2.1 + 11) + (400 + 48 * d0) ≤ R.locals
      omega
    have hkf := hgd.2.2.1
    have hyc := hgd.2.2.2.1
    rw [hkd] at hkf hyc
    rw [hst]
    have hd : (sn_y (v / 16)).cls ≠ "java/lang/invoke/MethodHandle" ∧ (sn_y (v / 16)).cls ≠ "java/lang/invoke/VarHandle" ∧ (parseMethodDescriptor (sn_y (v / 16)).desc).map (fun d => d.parameters.length) = some (st.take (v % 16)).reverse.length := by
      rw [hlen, ← hna]; exact hyc.2
    cases hb : (sn_b (v / 16)).2.2.2 with
    | nil =>
      have hw := hgd.1
      rw [sn_w0 hb] at hw hM
      exact sg_callS hTX hEnv S hM (va_cwS _ S.2.2.2.2 (lw_S hlk hkf.1 hgd.2.1 hw) rfl rfl rfl hd hRR) hle4 hn.2 hroom1 d kr kx
    | cons a t =>
      have hw := hgd.1
      rw [sn_w1 hb] at hw hM
      exact sg_callSX hTX hEnv S hM (vx_cwSW _ S.2.2.2.2 (lw_SW hlk hkf.1 hgd.2.1 hw) rfl rfl rfl hd hRR) hle4 hn.2 hroom1 d kr kx
theorem st_callSN {x v : Nat} (S : CallFix p m c cc nL s args lw_all own) (hTX : sn_TXok TX A) (hEnv : sn_Env TX D κ A a8 L xs s) (h8k : sn_K8 k8 L xs) (hIH : ∀ (k : Nat) (as : List Value) (g : pm_H) (o1 : Outcome) (g' : pm_H), cl k as g = some (o1, g') → pm_le g g' ∧ pm_rc pm_tab (pm_prog.2 k).2.2.1 as g = true ∧ ∀ ad, sn_Met l (sn_y k) (sn_w k) d0 TX D κ A k8 a8 L xs ad as g g' o1) (hR : 21 + d0 ≤ R.frames ∧ 448 + 48 * d0 ≤ R.locals) (hthr : ∀ ls c0 g, pm_le h0 g → pm_int jp hs (.inr (.inr (ls, c0, g))) = some (o, h') → pm_le g h' ∧ sn_Gx p l e R s m args below meth c Q D κ A k8 a8 nL ad0 h0 pc ls c0 g) (hk : ∀ ls st g, pm_le h0 g → pm_int jp hs (K ls st g) = some (o, h') → pm_le g h' ∧ sn_G p l e R s m args below meth c Q D κ A k8 a8 nL ad0 h0 (pc + 3) ls st g) (hle : pm_le h0 h) (hroom : h'.1 ≤ h0.1 + R.cells ∧ h'.2.1 ≤ h0.2.1 + R.slots) (hlk : ∃ host, Cond.methodLinkNest own x (sn_y (v / 16)) host ∈ lw_tbl) (hkd : sn_kd (v / 16) = 0) (hna : sn_na (v / 16) = v % 16) (hgd : sn_gd (v / 16)) (hb : (sn_b (v / 16)).2.2.2 = []) (d : decode cc pc = .ok (.invokestatic x, 3)) (hrun : pm_int jp hs (pm_st pm_tab cl (.invokeinterface (v / 16) (v % 16)) K ls st h) = some (o, h')) : sn_G p l e R s m args below meth c Q D κ A k8 a8 nL ad0 h0 pc ls st h := by
  unfold pm_st at hrun
  dsimp only at hrun
  split at hrun
  case isFalse => cases (show (none : pm_R) = some (o, h') from hrun)
  rename_i hn
  cases hcl : cl (v / 16) (st.take (v % 16)).reverse h with
  | none => rw [hcl] at hrun; cases (show (none : pm_R) = some (o, h') from hrun)
  | some r =>
    obtain ⟨o1, g1⟩ := r
    rw [hcl] at hrun
    obtain ⟨hg, hrc, hM⟩ := hIH _ _ _ _ _ hcl
    have hlen : (st.take (v % 16)).reverse.length = v % 16 := by rw [List.length_reverse, List.length_take]; omega
    have hst : st = ((st.take (v % 16)).reverse).reverse ++ st.drop (v % 16) := by rw [List.reverse_reverse, List.take_append_drop]
    have hg1 : pm_le g1 h' := by
      cases o1 with
      | returned w => exact (hk _ _ _ (pm_le_tr hle hg) hrun).1
      | threw c0 => exact (hthr _ _ _ (pm_le_tr hle hg) hrun).1
    have kr : ∀ w, o1 = .returned w → sn_G p l e R s m args below meth c Q D κ A k8 a8 nL ad0 h0 (pc + 3) ls (w.toList ++ st.drop (v % 16)) g1 := by
      intro w e; subst e
      exact (hk _ _ _ (pm_le_tr hle hg) hrun).2
    have kx : ∀ c0, o1 = .threw c0 → sn_Gx p l e R s m args below meth c Q D κ A k8 a8 nL ad0 h0 pc ls c0 g1 := by
      intro c0 e; subst e
      exact (hthr _ _ _ (pm_le_tr hle hg) hrun).2
    have hle4 : h0.1 ≤ h.1 ∧ h.1 ≤ g1.1 ∧ h0.2.1 ≤ h.2.1 ∧ h.2.1 ≤ g1.2.1 := ⟨hle.1, hg.1, hle.2, hg.2⟩
    have hroom1 : g1.1 ≤ h0.1 + R.cells ∧ g1.2.1 ≤ h0.2.1 + R.slots := ⟨Nat.le_trans hg1.1 hroom.1, Nat.le_trans hg1.2 hroom.2⟩
    have hRR : (sn_rm d0 h g1).frames + 1 ≤ R.frames ∧ 8 + ((sn_b (v / 16)).2.1 + 11) + (sn_rm d0 h g1).locals ≤ R.locals := by
      have hb20 := hgd.2.2.2.2.2.1
      show 20 + d0 + 1 ≤ R.frames ∧ 8 + ((sn_b (v / 16)).2.1 + 11) + (400 + 48 * d0) ≤ R.locals
      omega
    have hkf := hgd.2.2.1
    have hyc := hgd.2.2.2.1
    rw [hkd] at hkf hyc
    rw [hst]
    have hd : (sn_y (v / 16)).cls ≠ "java/lang/invoke/MethodHandle" ∧ (sn_y (v / 16)).cls ≠ "java/lang/invoke/VarHandle" ∧ (parseMethodDescriptor (sn_y (v / 16)).desc).map (fun d => d.parameters.length) = some (st.take (v % 16)).reverse.length := by
      rw [hlen, ← hna]; exact hyc.2
    have hw := hgd.1
    rw [sn_w0 hb] at hw hM
    obtain ⟨host, hlk⟩ := hlk
    exact sg_callSN hTX hEnv S hM ⟨va_cnB _ S.2.2.2.2 (lw_meth hw) rfl rfl rfl (hEnv.2.2.2.1 _ hlk rfl) (S.2.2.2.2 _ hgd.2.1) hd hRR, S.2.2.2.2 _ hkf.1, trivial⟩ hle4 hn.2 hroom1 d kr kx
theorem st_callI {x v : Nat} (S : CallFix p m c cc nL s args lw_all own) (hTX : sn_TXok TX A) (hEnv : sn_Env TX D κ A a8 L xs s) (h8k : sn_K8 k8 L xs) (hIH : ∀ (k : Nat) (as : List Value) (g : pm_H) (o1 : Outcome) (g' : pm_H), cl k as g = some (o1, g') → pm_le g g' ∧ pm_rc pm_tab (pm_prog.2 k).2.2.1 as g = true ∧ ∀ ad, sn_Met l (sn_y k) (sn_w k) d0 TX D κ A k8 a8 L xs ad as g g' o1) (hR : 21 + d0 ≤ R.frames ∧ 448 + 48 * d0 ≤ R.locals) (hthr : ∀ ls c0 g, pm_le h0 g → pm_int jp hs (.inr (.inr (ls, c0, g))) = some (o, h') → pm_le g h' ∧ sn_Gx p l e R s m args below meth c Q D κ A k8 a8 nL ad0 h0 pc ls c0 g) (hk : ∀ ls st g, pm_le h0 g → pm_int jp hs (K ls st g) = some (o, h') → pm_le g h' ∧ sn_G p l e R s m args below meth c Q D κ A k8 a8 nL ad0 h0 (pc + 3) ls st g) (hle : pm_le h0 h) (hroom : h'.1 ≤ h0.1 + R.cells ∧ h'.2.1 ≤ h0.2.1 + R.slots) (hlk : Cond.methodLink own x (sn_y (v / 16)) ∈ lw_all) (hkd : sn_kd (v / 16) = 2) (hna : sn_na (v / 16) = v % 16) (hgd : sn_gd (v / 16)) (hb : (sn_b (v / 16)).2.2.2 = []) (d : decode cc pc = .ok (.invokespecial x, 3)) (hrun : pm_int jp hs (pm_st pm_tab cl (.invokeinterface (v / 16) (v % 16)) K ls st h) = some (o, h')) : sn_G p l e R s m args below meth c Q D κ A k8 a8 nL ad0 h0 pc ls st h := by
  unfold pm_st at hrun
  dsimp only at hrun
  split at hrun
  case isFalse => cases (show (none : pm_R) = some (o, h') from hrun)
  rename_i hn
  cases hcl : cl (v / 16) (st.take (v % 16)).reverse h with
  | none => rw [hcl] at hrun; cases (show (none : pm_R) = some (o, h') from hrun)
  | some r =>
    obtain ⟨o1, g1⟩ := r
    rw [hcl] at hrun
    obtain ⟨hg, hrc, hM⟩ := hIH _ _ _ _ _ hcl
    have hlen : (st.take (v % 16)).reverse.length = v % 16 := by rw [List.length_reverse, List.length_take]; omega
    have hst : st = ((st.take (v % 16)).reverse).reverse ++ st.drop (v % 16) := by rw [List.reverse_reverse, List.take_append_drop]
    have hg1 : pm_le g1 h' := by
      cases o1 with
      | returned w => exact (hk _ _ _ (pm_le_tr hle hg) hrun).1
      | threw c0 => exact (hthr _ _ _ (pm_le_tr hle hg) hrun).1
    have kr : ∀ w, o1 = .returned w → sn_G p l e R s m args below meth c Q D κ A k8 a8 nL ad0 h0 (pc + 3) ls (w.toList ++ st.drop (v % 16)) g1 := by
      intro w e; subst e
      exact (hk _ _ _ (pm_le_tr hle hg) hrun).2
    have kx : ∀ c0, o1 = .threw c0 → sn_Gx p l e R s m args below meth c Q D κ A k8 a8 nL ad0 h0 pc ls c0 g1 := by
      intro c0 e; subst e
      exact (hthr _ _ _ (pm_le_tr hle hg) hrun).2
    have hle4 : h0.1 ≤ h.1 ∧ h.1 ≤ g1.1 ∧ h0.2.1 ≤ h.2.1 ∧ h.2.1 ≤ g1.2.1 := ⟨hle.1, hg.1, hle.2, hg.2⟩
    have hroom1 : g1.1 ≤ h0.1 + R.cells ∧ g1.2.1 ≤ h0.2.1 + R.slots := ⟨Nat.le_trans hg1.1 hroom.1, Nat.le_trans hg1.2 hroom.2⟩
    have hRR : (sn_rm d0 h g1).frames + 1 ≤ R.frames ∧ 8 + ((sn_b (v / 16)).2.1 + 11) + (sn_rm d0 h g1).locals ≤ R.locals := by
      have hb20 := hgd.2.2.2.2.2.1
      show 20 + d0 + 1 ≤ R.frames ∧ 8 + ((sn_b (v / 16)).2.1 + 11) + (400 + 48 * d0) ≤ R.locals
      omega
    have hkf := hgd.2.2.1
    have hyc := hgd.2.2.2.1
    rw [hkd] at hkf hyc
    rw [hst]
    have hcc : (pm_prog.2 (v / 16)).2.2.1 ≠ 0 := hkf.2.2.2
    generalize has : (st.take (v % 16)).reverse = as at hM hrc hlen hst hcl ⊢
    unfold pm_rc at hrc
    split at hrc
    case h_2 => exact absurd (by simpa using hrc) hcc
    rename_i a as'
    have hd : (sn_y (v / 16)).cls ≠ "java/lang/invoke/MethodHandle" ∧ (sn_y (v / 16)).cls ≠ "java/lang/invoke/VarHandle" ∧ (parseMethodDescriptor (sn_y (v / 16)).desc).map (fun d => d.parameters.length) = some as'.length := by
      have e1 : as'.length = sn_na (v / 16) - 1 := by rw [hna, ← hlen]; rfl
      rw [e1]; exact hyc.2
    rw [List.reverse_cons, List.append_assoc]
    have hw := hgd.1
    rw [sn_w0 hb, hkf.2.2.1] at hw hM
    exact sg_callI hTX hEnv S hM (cwI _ S.2.2.2.2 (lw_meth hw) rfl rfl rfl (S.2.2.2.2 _ hgd.2.1) (S.2.2.2.2 _ hlk) (S.2.2.2.2 _ hkf.1) hkf.2.1 hd hRR) hle4 hn.2 hroom1 d kr kx
theorem st_callIN {x v : Nat} (S : CallFix p m c cc nL s args lw_all own) (hTX : sn_TXok TX A) (hEnv : sn_Env TX D κ A a8 L xs s) (h8k : sn_K8 k8 L xs) (hIH : ∀ (k : Nat) (as : List Value) (g : pm_H) (o1 : Outcome) (g' : pm_H), cl k as g = some (o1, g') → pm_le g g' ∧ pm_rc pm_tab (pm_prog.2 k).2.2.1 as g = true ∧ ∀ ad, sn_Met l (sn_y k) (sn_w k) d0 TX D κ A k8 a8 L xs ad as g g' o1) (hR : 21 + d0 ≤ R.frames ∧ 448 + 48 * d0 ≤ R.locals) (hthr : ∀ ls c0 g, pm_le h0 g → pm_int jp hs (.inr (.inr (ls, c0, g))) = some (o, h') → pm_le g h' ∧ sn_Gx p l e R s m args below meth c Q D κ A k8 a8 nL ad0 h0 pc ls c0 g) (hk : ∀ ls st g, pm_le h0 g → pm_int jp hs (K ls st g) = some (o, h') → pm_le g h' ∧ sn_G p l e R s m args below meth c Q D κ A k8 a8 nL ad0 h0 (pc + 3) ls st g) (hle : pm_le h0 h) (hroom : h'.1 ≤ h0.1 + R.cells ∧ h'.2.1 ≤ h0.2.1 + R.slots) (hlk : ∃ host, Cond.methodLinkNest own x (sn_y (v / 16)) host ∈ lw_tbl) (hkd : sn_kd (v / 16) = 2) (hna : sn_na (v / 16) = v % 16) (hgd : sn_gd (v / 16)) (hb : (sn_b (v / 16)).2.2.2 = []) (d : decode cc pc = .ok (.invokespecial x, 3)) (hrun : pm_int jp hs (pm_st pm_tab cl (.invokeinterface (v / 16) (v % 16)) K ls st h) = some (o, h')) : sn_G p l e R s m args below meth c Q D κ A k8 a8 nL ad0 h0 pc ls st h := by
  unfold pm_st at hrun
  dsimp only at hrun
  split at hrun
  case isFalse => cases (show (none : pm_R) = some (o, h') from hrun)
  rename_i hn
  cases hcl : cl (v / 16) (st.take (v % 16)).reverse h with
  | none => rw [hcl] at hrun; cases (show (none : pm_R) = some (o, h') from hrun)
  | some r =>
    obtain ⟨o1, g1⟩ := r
    rw [hcl] at hrun
    obtain ⟨hg, hrc, hM⟩ := hIH _ _ _ _ _ hcl
    have hlen : (st.take (v % 16)).reverse.length = v % 16 := by rw [List.length_reverse, List.length_take]; omega
    have hst : st = ((st.take (v % 16)).reverse).reverse ++ st.drop (v % 16) := by rw [List.reverse_reverse, List.take_append_drop]
    have hg1 : pm_le g1 h' := by
      cases o1 with
      | returned w => exact (hk _ _ _ (pm_le_tr hle hg) hrun).1
      | threw c0 => exact (hthr _ _ _ (pm_le_tr hle hg) hrun).1
    have kr : ∀ w, o1 = .returned w → sn_G p l e R s m args below meth c Q D κ A k8 a8 nL ad0 h0 (pc + 3) ls (w.toList ++ st.drop (v % 16)) g1 := by
      intro w e; subst e
      exact (hk _ _ _ (pm_le_tr hle hg) hrun).2
    have kx : ∀ c0, o1 = .threw c0 → sn_Gx p l e R s m args below meth c Q D κ A k8 a8 nL ad0 h0 pc ls c0 g1 := by
      intro c0 e; subst e
      exact (hthr _ _ _ (pm_le_tr hle hg) hrun).2
    have hle4 : h0.1 ≤ h.1 ∧ h.1 ≤ g1.1 ∧ h0.2.1 ≤ h.2.1 ∧ h.2.1 ≤ g1.2.1 := ⟨hle.1, hg.1, hle.2, hg.2⟩
    have hroom1 : g1.1 ≤ h0.1 + R.cells ∧ g1.2.1 ≤ h0.2.1 + R.slots := ⟨Nat.le_trans hg1.1 hroom.1, Nat.le_trans hg1.2 hroom.2⟩
    have hRR : (sn_rm d0 h g1).frames + 1 ≤ R.frames ∧ 8 + ((sn_b (v / 16)).2.1 + 11) + (sn_rm d0 h g1).locals ≤ R.locals := by
      have hb20 := hgd.2.2.2.2.2.1
      show 20 + d0 + 1 ≤ R.frames ∧ 8 + ((sn_b (v / 16)).2.1 + 11) + (400 + 48 * d0) ≤ R.locals
      omega
    have hkf := hgd.2.2.1
    have hyc := hgd.2.2.2.1
    rw [hkd] at hkf hyc
    rw [hst]
    have hcc : (pm_prog.2 (v / 16)).2.2.1 ≠ 0 := hkf.2.2.2
    generalize has : (st.take (v % 16)).reverse = as at hM hrc hlen hst hcl ⊢
    unfold pm_rc at hrc
    split at hrc
    case h_2 => exact absurd (by simpa using hrc) hcc
    rename_i a as'
    have hd : (sn_y (v / 16)).cls ≠ "java/lang/invoke/MethodHandle" ∧ (sn_y (v / 16)).cls ≠ "java/lang/invoke/VarHandle" ∧ (parseMethodDescriptor (sn_y (v / 16)).desc).map (fun d => d.parameters.length) = some as'.length := by
      have e1 : as'.length = sn_na (v / 16) - 1 := by rw [hna, ← hlen]; rfl
      rw [e1]; exact hyc.2
    rw [List.reverse_cons, List.append_assoc]
    have hw := hgd.1
    rw [sn_w0 hb, hkf.2.2.1] at hw hM
    obtain ⟨host, hlk⟩ := hlk
    exact sg_callIN hTX hEnv S hM ⟨va_cnB _ S.2.2.2.2 (lw_meth hw) rfl rfl rfl (hEnv.2.2.2.1 _ hlk rfl) (S.2.2.2.2 _ hgd.2.1) hd hRR, hkf.2.1, S.2.2.2.2 _ hkf.1⟩ hle4 hn.2 hroom1 d kr kx
theorem st_callV {x v : Nat} (S : CallFix p m c cc nL s args lw_all own) (hTX : sn_TXok TX A) (hEnv : sn_Env TX D κ A a8 L xs s) (h8k : sn_K8 k8 L xs) (hIH : ∀ (k : Nat) (as : List Value) (g : pm_H) (o1 : Outcome) (g' : pm_H), cl k as g = some (o1, g') → pm_le g g' ∧ pm_rc pm_tab (pm_prog.2 k).2.2.1 as g = true ∧ ∀ ad, sn_Met l (sn_y k) (sn_w k) d0 TX D κ A k8 a8 L xs ad as g g' o1) (hR : 21 + d0 ≤ R.frames ∧ 448 + 48 * d0 ≤ R.locals) (hthr : ∀ ls c0 g, pm_le h0 g → pm_int jp hs (.inr (.inr (ls, c0, g))) = some (o, h') → pm_le g h' ∧ sn_Gx p l e R s m args below meth c Q D κ A k8 a8 nL ad0 h0 pc ls c0 g) (hk : ∀ ls st g, pm_le h0 g → pm_int jp hs (K ls st g) = some (o, h') → pm_le g h' ∧ sn_G p l e R s m args below meth c Q D κ A k8 a8 nL ad0 h0 (pc + 3) ls st g) (hle : pm_le h0 h) (hroom : h'.1 ≤ h0.1 + R.cells ∧ h'.2.1 ≤ h0.2.1 + R.slots) (hlk : Cond.methodLink own x (sn_y (v / 16)) ∈ lw_all) (hkd : sn_kd (v / 16) = 1) (hna : sn_na (v / 16) = v % 16) (hgd : sn_gd (v / 16)) (d : decode cc pc = .ok (.invokevirtual x, 3)) (hrun : pm_int jp hs (pm_st pm_tab cl (.invokeinterface (v / 16) (v % 16)) K ls st h) = some (o, h')) : sn_G p l e R s m args below meth c Q D κ A k8 a8 nL ad0 h0 pc ls st h := by
  unfold pm_st at hrun
  dsimp only at hrun
  split at hrun
  case isFalse => cases (show (none : pm_R) = some (o, h') from hrun)
  rename_i hn
  cases hcl : cl (v / 16) (st.take (v % 16)).reverse h with
  | none => rw [hcl] at hrun; cases (show (none : pm_R) = some (o, h') from hrun)
  | some r =>
    obtain ⟨o1, g1⟩ := r
    rw [hcl] at hrun
    obtain ⟨hg, hrc, hM⟩ := hIH _ _ _ _ _ hcl
    have hlen : (st.take (v % 16)).reverse.length = v % 16 := by rw [List.length_reverse, List.length_take]; omega
    have hst : st = ((st.take (v % 16)).reverse).reverse ++ st.drop (v % 16) := by rw [List.reverse_reverse, List.take_append_drop]
    have hg1 : pm_le g1 h' := by
      cases o1 with
      | returned w => exact (hk _ _ _ (pm_le_tr hle hg) hrun).1
      | threw c0 => exact (hthr _ _ _ (pm_le_tr hle hg) hrun).1
    have kr : ∀ w, o1 = .returned w → sn_G p l e R s m args below meth c Q D κ A k8 a8 nL ad0 h0 (pc + 3) ls (w.toList ++ st.drop (v % 16)) g1 := by
      intro w e; subst e
      exact (hk _ _ _ (pm_le_tr hle hg) hrun).2
    have kx : ∀ c0, o1 = .threw c0 → sn_Gx p l e R s m args below meth c Q D κ A k8 a8 nL ad0 h0 pc ls c0 g1 := by
      intro c0 e; subst e
      exact (hthr _ _ _ (pm_le_tr hle hg) hrun).2
    have hle4 : h0.1 ≤ h.1 ∧ h.1 ≤ g1.1 ∧ h0.2.1 ≤ h.2.1 ∧ h.2.1 ≤ g1.2.1 := ⟨hle.1, hg.1, hle.2, hg.2⟩
    have hroom1 : g1.1 ≤ h0.1 + R.cells ∧ g1.2.1 ≤ h0.2.1 + R.slots := ⟨Nat.le_trans hg1.1 hroom.1, Nat.le_trans hg1.2 hroom.2⟩
    have hRR : (sn_rm d0 h g1).frames + 1 ≤ R.frames ∧ 8 + ((sn_b (v / 16)).2.1 + 11) + (sn_rm d0 h g1).locals ≤ R.locals := by
      have hb20 := hgd.2.2.2.2.2.1
      show 20 + d0 + 1 ≤ R.frames ∧ 8 + ((sn_b (v / 16)).2.1 + 11) + (400 + 48 * d0) ≤ R.locals
      omega
    have hkf := hgd.2.2.1
    have hyc := hgd.2.2.2.1
    rw [hkd] at hkf hyc
    rw [hst]
    have hcc : (pm_prog.2 (v / 16)).2.2.1 ≠ 0 := hkf.2.2.2.2
    generalize has : (st.take (v % 16)).reverse = as at hM hrc hlen hst hcl ⊢
    unfold pm_rc at hrc
    split at hrc
    case h_2 => exact absurd (by simpa using hrc) hcc
    rename_i a as'
    have hd : (sn_y (v / 16)).cls ≠ "java/lang/invoke/MethodHandle" ∧ (sn_y (v / 16)).cls ≠ "java/lang/invoke/VarHandle" ∧ (parseMethodDescriptor (sn_y (v / 16)).desc).map (fun d => d.parameters.length) = some as'.length := by
      have e1 : as'.length = sn_na (v / 16) - 1 := by rw [hna, ← hlen]; rfl
      rw [e1]; exact hyc.2
    rw [List.reverse_cons, List.append_assoc]
    have hcls : pm_cls h a = some (pm_prog.2 (v / 16)).2.2.1 := by
      cases hp : pm_cls h a with
      | none => rw [hp] at hrc; exact absurd (by simpa using hrc) hcc
      | some b =>
        rw [hp] at hrc
        have : pm_sub b (pm_prog.2 (v / 16)).2.2.1 = true := by
          rcases Bool.or_eq_true _ _ ▸ hrc with q | q
          · exact absurd (by simpa using q) hcc
          · exact q
        rw [hkf.2.2.2.1 b this]
    intro ad H locs la cells slots hR9 h89 hE9 hS9 hF9 hs9 c19 c29
    have h90 := sn_c90 h8k hR9 hcls (hs9 _ (List.mem_append_right _ List.mem_cons_self) _ rfl)
    cases hb : (sn_b (v / 16)).2.2.2 with
    | nil =>
      have hw := hgd.1
      rw [sn_w0 hb] at hw hM
      exact sg_callV hTX hEnv h8k S hM hcls h90 (cwV _ S.2.2.2.2 (lw_V hlk hkf.1 hkf.2.2.1 (hkf.2.1 ▸ hgd.2.1) hw) rfl rfl rfl ⟨hkf.2.1, hd⟩ hRR) hle4 hn.2 hroom1 d kr kx ad H locs la cells slots hR9 h89 hE9 hS9 hF9 hs9 c19 c29
    | cons a t =>
      have hw := hgd.1
      rw [sn_w1 hb] at hw hM
      exact sg_callVX hTX hEnv S h8k hcls h90 hM (vx_cwVW _ S.2.2.2.2 (lw_VW hlk hkf.1 hkf.2.2.1 (hkf.2.1 ▸ hgd.2.1) hw) rfl rfl rfl ⟨hkf.2.1, hd⟩ hRR) hle4 hn.2 hroom1 d kr kx ad H locs la cells slots hR9 h89 hE9 hS9 hF9 hs9 c19 c29
theorem st_callVN {x v : Nat} (S : CallFix p m c cc nL s args lw_all own) (hTX : sn_TXok TX A) (hEnv : sn_Env TX D κ A a8 L xs s) (h8k : sn_K8 k8 L xs) (hIH : ∀ (k : Nat) (as : List Value) (g : pm_H) (o1 : Outcome) (g' : pm_H), cl k as g = some (o1, g') → pm_le g g' ∧ pm_rc pm_tab (pm_prog.2 k).2.2.1 as g = true ∧ ∀ ad, sn_Met l (sn_y k) (sn_w k) d0 TX D κ A k8 a8 L xs ad as g g' o1) (hR : 21 + d0 ≤ R.frames ∧ 448 + 48 * d0 ≤ R.locals) (hthr : ∀ ls c0 g, pm_le h0 g → pm_int jp hs (.inr (.inr (ls, c0, g))) = some (o, h') → pm_le g h' ∧ sn_Gx p l e R s m args below meth c Q D κ A k8 a8 nL ad0 h0 pc ls c0 g) (hk : ∀ ls st g, pm_le h0 g → pm_int jp hs (K ls st g) = some (o, h') → pm_le g h' ∧ sn_G p l e R s m args below meth c Q D κ A k8 a8 nL ad0 h0 (pc + 3) ls st g) (hle : pm_le h0 h) (hroom : h'.1 ≤ h0.1 + R.cells ∧ h'.2.1 ≤ h0.2.1 + R.slots) (hlk : ∃ host, Cond.methodLinkNest own x (sn_y (v / 16)) host ∈ lw_tbl) (hkd : sn_kd (v / 16) = 1) (hna : sn_na (v / 16) = v % 16) (hgd : sn_gd (v / 16)) (hb : (sn_b (v / 16)).2.2.2 = []) (d : decode cc pc = .ok (.invokevirtual x, 3)) (hrun : pm_int jp hs (pm_st pm_tab cl (.invokeinterface (v / 16) (v % 16)) K ls st h) = some (o, h')) : sn_G p l e R s m args below meth c Q D κ A k8 a8 nL ad0 h0 pc ls st h := by
  unfold pm_st at hrun
  dsimp only at hrun
  split at hrun
  case isFalse => cases (show (none : pm_R) = some (o, h') from hrun)
  rename_i hn
  cases hcl : cl (v / 16) (st.take (v % 16)).reverse h with
  | none => rw [hcl] at hrun; cases (show (none : pm_R) = some (o, h') from hrun)
  | some r =>
    obtain ⟨o1, g1⟩ := r
    rw [hcl] at hrun
    obtain ⟨hg, hrc, hM⟩ := hIH _ _ _ _ _ hcl
    have hlen : (st.take (v % 16)).reverse.length = v % 16 := by rw [List.length_reverse, List.length_take]; omega
    have hst : st = ((st.take (v % 16)).reverse).reverse ++ st.drop (v % 16) := by rw [List.reverse_reverse, List.take_append_drop]
    have hg1 : pm_le g1 h' := by
      cases o1 with
      | returned w => exact (hk _ _ _ (pm_le_tr hle hg) hrun).1
      | threw c0 => exact (hthr _ _ _ (pm_le_tr hle hg) hrun).1
    have kr : ∀ w, o1 = .returned w → sn_G p l e R s m args below meth c Q D κ A k8 a8 nL ad0 h0 (pc + 3) ls (w.toList ++ st.drop (v % 16)) g1 := by
      intro w e; subst e
      exact (hk _ _ _ (pm_le_tr hle hg) hrun).2
    have kx : ∀ c0, o1 = .threw c0 → sn_Gx p l e R s m args below meth c Q D κ A k8 a8 nL ad0 h0 pc ls c0 g1 := by
      intro c0 e; subst e
      exact (hthr _ _ _ (pm_le_tr hle hg) hrun).2
    have hle4 : h0.1 ≤ h.1 ∧ h.1 ≤ g1.1 ∧ h0.2.1 ≤ h.2.1 ∧ h.2.1 ≤ g1.2.1 := ⟨hle.1, hg.1, hle.2, hg.2⟩
    have hroom1 : g1.1 ≤ h0.1 + R.cells ∧ g1.2.1 ≤ h0.2.1 + R.slots := ⟨Nat.le_trans hg1.1 hroom.1, Nat.le_trans hg1.2 hroom.2⟩
    have hRR : (sn_rm d0 h g1).frames + 1 ≤ R.frames ∧ 8 + ((sn_b (v / 16)).2.1 + 11) + (sn_rm d0 h g1).locals ≤ R.locals := by
      have hb20 := hgd.2.2.2.2.2.1
      show 20 + d0 + 1 ≤ R.frames ∧ 8 + ((sn_b (v / 16)).2.1 + 11) + (400 + 48 * d0) ≤ R.locals
      omega
    have hkf := hgd.2.2.1
    have hyc := hgd.2.2.2.1
    rw [hkd] at hkf hyc
    rw [hst]
    have hcc : (pm_prog.2 (v / 16)).2.2.1 ≠ 0 := hkf.2.2.2.2
    generalize has : (st.take (v % 16)).reverse = as at hM hrc hlen hst hcl ⊢
    unfold pm_rc at hrc
    split at hrc
    case h_2 => exact absurd (by simpa using hrc) hcc
    rename_i a as'
    have hd : (sn_y (v / 16)).cls ≠ "java/lang/invoke/MethodHandle" ∧ (sn_y (v / 16)).cls ≠ "java/lang/invoke/VarHandle" ∧ (parseMethodDescriptor (sn_y (v / 16)).desc).map (fun d => d.parameters.length) = some as'.length := by
      have e1 : as'.length = sn_na (v / 16) - 1 := by rw [hna, ← hlen]; rfl
      rw [e1]; exact hyc.2
    rw [List.reverse_cons, List.append_assoc]
    have hcls : pm_cls h a = some (pm_prog.2 (v / 16)).2.2.1 := by
      cases hp : pm_cls h a with
      | none => rw [hp] at hrc; exact absurd (by simpa using hrc) hcc
      | some b =>
        rw [hp] at hrc
        have : pm_sub b (pm_prog.2 (v / 16)).2.2.1 = true := by
          rcases Bool.or_eq_true _ _ ▸ hrc with q | q
          · exact absurd (by simpa using q) hcc
          · exact q
        rw [hkf.2.2.2.1 b this]
    intro ad H locs la cells slots hR9 h89 hE9 hS9 hF9 hs9 c19 c29
    have h90 := sn_c90 h8k hR9 hcls (hs9 _ (List.mem_append_right _ List.mem_cons_self) _ rfl)
    have hw := hgd.1
    rw [sn_w0 hb] at hw hM
    obtain ⟨host, hlk⟩ := hlk
    exact sg_callVN hTX hEnv S h8k hcls h90 hM ⟨va_cnB _ S.2.2.2.2 (lw_meth hw) rfl rfl rfl (hEnv.2.2.2.1 _ hlk rfl) (S.2.2.2.2 _ hgd.2.1) hd hRR, S.2.2.2.2 _ hkf.1, S.2.2.2.2 _ hkf.2.2.1⟩ hle4 hn.2 hroom1 d kr kx ad H locs la cells slots hR9 h89 hE9 hS9 hF9 hs9 c19 c29
end
