/-! ===== SOUNDNESS, 25: texts in the code ===== -/
/-- the texts as pure cells -/
def sn_K8t (k8 : Nat → pm_E) : Prop := ∀ i, i < 5 → k8 (3 + i) = .inl (.object "S", tx_len.getD i 0, .inl (fun j => (tx_byt.getD i []).getD j 0))
/-- what is known of texts, of the class Object[] -/
def sn_TX (a8 : Nat → Nat) (A : Nat → Prop) : State → Heap → Prop := fun U H => (∃ adV, tx_S a8 adV A U H) ∧ (∀ q ∈ sn_strs, vk_R q.1 q.2.1 (sn_txt q.2.2) (a8 (3 + q.2.2)) U) ∧ ∃ mi, va_Mi "[Ljava/lang/Object;" mi U
theorem sn_TX_ok {a8 : Nat → Nat} {A : Nat → Prop} : sn_TXok (sn_TX a8 A) A := by
  intro u U hW hq h
  obtain ⟨⟨adV, h1⟩, h2, ⟨mi, h3⟩⟩ := h
  exact ⟨⟨adV, tx_S_moved hW.alike hq h1⟩, fun q hq9 => (h2 q hq9).warm hW, mi, va_Mi.moved hW.alike h3⟩
section
variable {p : Program} {l : Launch} {e : Env} {R : Room} {s : State} {m : MethodId} {args : Array Value} {below : List Frame} {meth : Method} {c : Code} {Q : State → Prop} {D : va_G} {κ : FieldType → ClassId} {A : Nat → Prop} {k8 : Nat → pm_E} {a8 adV : Nat → Nat} {nL : Nat} {ad0 : Nat → Nat} {h0 : pm_H} {cc : ByteArray} {own : String} {pc : Nat} {ls st : List Value} {h : pm_H} {L : Nat} {xs : Nat → Int32} {TX : State → Heap → Prop} {jp : Nat → List Value → List Value → pm_H → pm_R} {hs : List (List Nat × Nat × Nat)} {K : pm_K} {cl : pm_C} {d0 : Nat} {o : Outcome} {h' : pm_H}
theorem sn_isS {ad : Nat → Nat} {H : Heap} {a n : Nat} {x : (Nat → Int32) ⊕ (Nat → Int64) ⊕ (Nat → UInt32) ⊕ (Nat → UInt64) ⊕ (Nat → Option Nat)} (hR : sn_R D κ A k8 ad h H) (h8k : sn_K8 k8 L xs) (e : h.2.2 a = .inl (.object "S", n, x)) : ∃ i, i < 5 ∧ a = 3 + i := by
  have hlt := sn_lt hR.1 e
  by_cases h8 : a < 8
  · rw [hR.2.2.2 a h8] at e
    rcases (show a = 0 ∨ a = 1 ∨ a = 2 ∨ 3 ≤ a by omega) with rfl | rfl | rfl | h3
    · rw [h8k.1] at e
      injection e with e1
      injection e1 with e2
      injection e2 with e3
      exact absurd e3 (by decide)
    · rw [h8k.2.1] at e
      injection e with e1
      injection e1 with e2
      injection e2 with e3
      exact absurd e3 (by decide)
    · rw [h8k.2.2.1] at e
      injection e with e1
      injection e1 with e2
      injection e2 with e3
      exact absurd e3 (by decide)
    · exact ⟨a - 3, by omega, by omega⟩
  · have := hR.1.2.2.2 a (by omega) hlt
    rw [e] at this
    exact absurd (show FieldType.object "S" ∈ sn_ats from this) (by decide +kernel)
theorem sg_strlen {i x : Nat} (hi : i < 5) (hT : tx_S a8 adV A s s.heap) (S : CallFix p m c cc nL s args lw_all own) (hlk : Cond.methodLink own x ⟨"java/lang/String", "length", "()I"⟩ ∈ lw_all) (hR : 21 ≤ R.frames ∧ 448 ≤ R.locals) (hcat : pm_cats st ≤ 8) (hroom : h.1 ≤ h0.1 + R.cells ∧ h.2.1 ≤ h0.2.1 + R.slots) (d : decode cc pc = .ok (.invokevirtual x, 3)) (k : sn_G p l e R s m args below meth c Q D κ A k8 a8 nL ad0 h0 (pc + 3) ls (.int (Int32.ofNat (tx_len.getD i 0)) :: st) h) : sn_G p l e R s m args below meth c Q D κ A k8 a8 nL ad0 h0 pc ls (.ref (3 + i) :: st) h := by
  intro ad H locs la cells slots hR9 h8 hE hS hF hs c1 c2
  show W p l e R s m args below meth c H locs cells slots Q (F0 m pc la (.ref (ad (3 + i)) :: st.map (sn_V ad)))
  rw [h8 (3 + i) (by omega)]
  refine va_calli (A0 := A) (H0 := s.heap) (va_runV (As := []) (b := a8 (3 + i)) (rest := st.map (sn_V ad)) S (tx_lng (a8 := a8) (adV := adV) (A := A) (Hs := H) hi) (cwV 0 S.2.2.2.2 (lw_V hlk (lw_g (lw_at lw_m27 200 rfl) rfl) (lw_g (lw_at lw_m27 201 rfl) rfl) (lw_g (lw_at lw_m1 45 rfl) rfl) (lw_g (lw_at lw_m27 202 rfl) rfl)) rfl rfl rfl ⟨rfl, by decide, by decide, by decide +kernel⟩ ⟨by show 2 + 1 ≤ R.frames; omega, by show 8 + (1 + 11) + 40 * 2 ≤ R.locals; omega⟩) ⟨tx_blind, vk_recv (adK := fun j => a8 (3 + j)) hT.1 hi hS, fun U hU hW => ⟨rfl, hU, tx_S_moved hW.alike (fun a h1 h2 => by rw [hU]; exact hS.2.1 a h1 h2) hT⟩⟩ rfl rfl hF.2.1 rfl ?_ d ⟨by omega, by omega⟩) hS (fun q _ h => h.elim) (fun q h => h.elim) (fun r u t H1 locs1 e1 _ er hB _ _ hS1 => ?_)
  · rw [sn_cats]; show 2 * 0 + _ ≤ 8; omega
  · have eH : H1 = H := by rw [← e1]; exact hB
    subst eH
    subst er
    exact k ad H1 locs1 la cells slots hR9 h8 hE hS1 hF (sn_S_cons sn_v_i (sn_S_tl hs)) c1 c2
theorem sg_strchr {i x : Nat} {z : Int32} (hi : i < 5) (hz : 0 ≤ z.toInt ∧ z.toInt < tx_len.getD i 0) (hT : tx_S a8 adV A s s.heap) (S : CallFix p m c cc nL s args lw_all own) (hlk : Cond.methodLink own x ⟨"java/lang/String", "charAt", "(I)C"⟩ ∈ lw_all) (hR : 21 ≤ R.frames ∧ 448 ≤ R.locals) (hcat : pm_cats st ≤ 8) (hroom : h.1 ≤ h0.1 + R.cells ∧ h.2.1 ≤ h0.2.1 + R.slots) (d : decode cc pc = .ok (.invokevirtual x, 3)) (k : sn_G p l e R s m args below meth c Q D κ A k8 a8 nL ad0 h0 (pc + 3) ls (.int ((tx_byt.getD i []).getD z.toInt.toNat 0) :: st) h) : sn_G p l e R s m args below meth c Q D κ A k8 a8 nL ad0 h0 pc ls (.int z :: .ref (3 + i) :: st) h := by
  intro ad H locs la cells slots hR9 h8 hE hS hF hs c1 c2
  show W p l e R s m args below meth c H locs cells slots Q (F0 m pc la (.int z :: .ref (ad (3 + i)) :: st.map (sn_V ad)))
  rw [h8 (3 + i) (by omega)]
  refine va_calli (A0 := A) (H0 := s.heap) (va_runV (As := [.int z]) (b := a8 (3 + i)) (rest := st.map (sn_V ad)) S (tx_chr (a8 := a8) (adV := adV) (A := A) (Hs := H) hi hz) (cwV 1 S.2.2.2.2 (lw_V hlk (lw_g (lw_at lw_m27 210 rfl) rfl) (lw_g (lw_at lw_m27 211 rfl) rfl) (lw_g (lw_at lw_m1 45 rfl) rfl) (lw_g (lw_at lw_m27 212 rfl) rfl)) rfl rfl rfl ⟨rfl, by decide, by decide, by decide +kernel⟩ ⟨by show 4 + 1 ≤ R.frames; omega, by show 8 + (2 + 11) + 40 * 4 ≤ R.locals; omega⟩) ⟨tx_blind, vk_recv (adK := fun j => a8 (3 + j)) hT.1 hi hS, fun U hU hW => ⟨rfl, hU, tx_S_moved hW.alike (fun a h1 h2 => by rw [hU]; exact hS.2.1 a h1 h2) hT⟩⟩ rfl rfl hF.2.1 rfl ?_ d ⟨by omega, by omega⟩) hS (fun q _ h => h.elim) (fun q h => h.elim) (fun r u t H1 locs1 e1 _ er hB _ _ hS1 => ?_)
  · rw [sn_cats]; show 2 * 0 + _ ≤ 8; omega
  · have eH : H1 = H := by rw [← e1]; exact hB
    subst eH
    subst er
    exact k ad H1 locs1 la cells slots hR9 h8 hE hS1 hF (sn_S_cons sn_v_i (sn_S_tl (sn_S_tl hs))) c1 c2
theorem sg_ldcS {i x : Nat} (hZ : vk_R own x (sn_txt i) (a8 (3 + i)) s) (hi : i < 5) (S : CallFix p m c cc nL s args lw_all own) (d : decode cc pc = .ok (.ldc x, 2)) (h8h : 8 ≤ h.1) (k : sn_G p l e R s m args below meth c Q D κ A k8 a8 nL ad0 h0 (pc + 2) ls (.ref (3 + i) :: st) h) : sn_G p l e R s m args below meth c Q D κ A k8 a8 nL ad0 h0 pc ls st h := by
  intro ad H locs la cells slots hR h8 hE hS hF hs c1 c2
  have := k ad H locs la cells slots hR h8 hE hS hF (sn_S_cons (sn_v_r (by omega)) hs) c1 c2
  refine va_ldcS S.1 S.2.1 S.2.2.2.1 hZ d ?_
  rw [← h8 (3 + i) (by omega)]
  exact this
theorem sg_ldcSW {i x : Nat} (hZ : vk_R own x (sn_txt i) (a8 (3 + i)) s) (hi : i < 5) (S : CallFix p m c cc nL s args lw_all own) (d : decode cc pc = .ok (.ldc_w x, 3)) (h8h : 8 ≤ h.1) (k : sn_G p l e R s m args below meth c Q D κ A k8 a8 nL ad0 h0 (pc + 3) ls (.ref (3 + i) :: st) h) : sn_G p l e R s m args below meth c Q D κ A k8 a8 nL ad0 h0 pc ls st h := by
  intro ad H locs la cells slots hR h8 hE hS hF hs c1 c2
  have this := k ad H locs la cells slots hR h8 hE hS hF (sn_S_cons (sn_v_r (by omega)) hs) c1 c2
  have e1 : ad (3 + i) = a8 (3 + i) := h8 (3 + i) (by omega)
  intro T hT X
  obtain ⟨t, a1, b1⟩ := this T hT X
  exact ⟨t, X.ldcStringW S.1 S.2.2.2.1 (text := sn_txt i) (a := ad (3 + i)) hZ.1 (by rw [e1]; exact hZ.2) (g := F0 m pc la (st.map (sn_V ad))) rfl (by rw [S.2.1]; exact d) t a1, b1⟩
theorem st_strlen {x : Nat} (S : CallFix p m c cc nL s args lw_all own) (hEnv : sn_Env (sn_TX a8 A) D κ A a8 L xs s) (h8k : sn_K8 k8 L xs) (h8t : sn_K8t k8) (hR : 21 + d0 ≤ R.frames ∧ 448 + 48 * d0 ≤ R.locals) (hk : ∀ ls st g, pm_le h0 g → pm_int jp hs (K ls st g) = some (o, h') → pm_le g h' ∧ sn_G p l e R s m args below meth c Q D κ A k8 a8 nL ad0 h0 (pc + 3) ls st g) (hle : pm_le h0 h) (hroom : h'.1 ≤ h0.1 + R.cells ∧ h'.2.1 ≤ h0.2.1 + R.slots) (hlk : Cond.methodLink own x ⟨"java/lang/String", "length", "()I"⟩ ∈ lw_all) (d : decode cc pc = .ok (.invokevirtual x, 3)) (hrun : pm_int jp hs (pm_st pm_tab cl .d2i K ls st h) = some (o, h')) : sn_G p l e R s m args below meth c Q D κ A k8 a8 nL ad0 h0 pc ls st h := by
  obtain ⟨adV, hT⟩ := hEnv.2.2.2.2.2.2.2.2.2.2.1
  unfold pm_st at hrun
  dsimp only at hrun
  split at hrun
  case h_2 => cases (show (none : pm_R) = some (o, h') from hrun)
  rename_i a s0
  split at hrun
  case h_2 => cases (show (none : pm_R) = some (o, h') from hrun)
  rename_i o9 n f9 he
  split at hrun
  case isFalse => cases (show (none : pm_R) = some (o, h') from hrun)
  rename_i hc
  obtain ⟨rfl, hcat⟩ := hc
  obtain ⟨hg1, kk⟩ := hk _ _ _ hle hrun
  intro ad H locs la cells slots hR9 h8 hE hS hF hs9 c1 c2
  obtain ⟨i, hi, rfl⟩ := sn_isS hR9 h8k he
  have en : n = tx_len.getD i 0 := by
    rw [hR9.2.2.2 _ (by omega), h8t i hi] at he
    cases he; rfl
  subst en
  exact sg_strlen hi hT S hlk (by omega) hcat ⟨Nat.le_trans hg1.1 hroom.1, Nat.le_trans hg1.2 hroom.2⟩ d kk ad H locs la cells slots hR9 h8 hE hS hF hs9 c1 c2
theorem st_strchr {x : Nat} (S : CallFix p m c cc nL s args lw_all own) (hEnv : sn_Env (sn_TX a8 A) D κ A a8 L xs s) (h8k : sn_K8 k8 L xs) (h8t : sn_K8t k8) (hR : 21 + d0 ≤ R.frames ∧ 448 + 48 * d0 ≤ R.locals) (hk : ∀ ls st g, pm_le h0 g → pm_int jp hs (K ls st g) = some (o, h') → pm_le g h' ∧ sn_G p l e R s m args below meth c Q D κ A k8 a8 nL ad0 h0 (pc + 3) ls st g) (hle : pm_le h0 h) (hroom : h'.1 ≤ h0.1 + R.cells ∧ h'.2.1 ≤ h0.2.1 + R.slots) (hlk : Cond.methodLink own x ⟨"java/lang/String", "charAt", "(I)C"⟩ ∈ lw_all) (d : decode cc pc = .ok (.invokevirtual x, 3)) (hrun : pm_int jp hs (pm_st pm_tab cl .d2l K ls st h) = some (o, h')) : sn_G p l e R s m args below meth c Q D κ A k8 a8 nL ad0 h0 pc ls st h := by
  obtain ⟨adV, hT⟩ := hEnv.2.2.2.2.2.2.2.2.2.2.1
  unfold pm_st at hrun
  dsimp only at hrun
  split at hrun
  case h_2 => cases (show (none : pm_R) = some (o, h') from hrun)
  rename_i z a s0
  split at hrun
  case isFalse => cases (show (none : pm_R) = some (o, h') from hrun)
  rename_i hcat
  cases hrd : pm_rd (fun t => t == .object "S") h a z with
  | none => rw [hrd] at hrun; cases (show (none : pm_R) = some (o, h') from hrun)
  | some v =>
    rw [hrd] at hrun
    obtain ⟨hg1, kk⟩ := hk _ _ _ hle hrun
    unfold pm_rd at hrd
    split at hrd
    case h_2 => cases hrd
    rename_i t n f he
    split at hrd
    case isFalse => cases hrd
    rename_i hc
    obtain ⟨ht, hz0, hz1⟩ := hc
    have ht : t = .object "S" := by simpa using ht
    subst ht
    cases hrd
    intro ad H locs la cells slots hR9 h8 hE hS hF hs9 c1 c2
    obtain ⟨i, hi, rfl⟩ := sn_isS hR9 h8k he
    rw [hR9.2.2.2 _ (by omega), h8t i hi] at he
    cases he
    exact sg_strchr hi ⟨hz0, hz1⟩ hT S hlk (by omega) hcat ⟨Nat.le_trans hg1.1 hroom.1, Nat.le_trans hg1.2 hroom.2⟩ d kk ad H locs la cells slots hR9 h8 hE hS hF hs9 c1 c2
end
/-! what the pseudo-instructions come from -/
theorem tr_inv_mx {lk : lk_T} {B : List Nat} {rt : Nat} {ini : Bool} {pc : Nat} {i : Instr}  (e : tr lk B rt ini pc i = .monitorexit) : ∃ x v, i = .invokestatic x ∧ lk_get (32 * x + 13) lk.1 = some v := by
  cases i with
  | invokestatic x =>
    unfold tr at e
    dsimp only at e
    split at e
    · cases e
    split at e
    · cases e
    split at e
    · cases e
    unfold tr_g at e
    split at e
    · rename_i v hv; exact ⟨x, v, rfl, hv⟩
    · cases e
  | _ =>
    exfalso
    unfold tr at e
    dsimp only at e
    first
      | (cases e; done)
      | (unfold tr_b at e; split at e <;> cases e; done)
      | (unfold tr_g at e; split at e <;> cases e; done)
      | (unfold tr_j at e; split at e <;> cases e; done)
      | (unfold tr_z at e; split at e <;> first | (cases e; done) | (unfold tr_g at e; split at e <;> cases e; done))
      | ((repeat' split at e) <;> first | (cases e; done) | (unfold tr_g at e; split at e <;> cases e; done) | (unfold tr_b at e; split at e <;> first | (cases e; done) | (unfold tr_g at e; split at e <;> cases e; done)))
theorem tr_inv_len {lk : lk_T} {B : List Nat} {rt : Nat} {ini : Bool} {pc : Nat} {i : Instr}  (e : tr lk B rt ini pc i = .d2i) : ∃ x v, i = .invokevirtual x ∧ lk_get (32 * x + 14) lk.1 = some v := by
  cases i with
  | invokevirtual x =>
    unfold tr at e
    dsimp only at e
    split at e
    · cases e
    split at e
    · cases e
    split at e
    · cases e
    split at e
    · rename_i v hv; first | exact ⟨x, v, rfl, hv⟩ | cases e
    unfold tr_g at e
    split at e
    · rename_i v hv; first | exact ⟨x, v, rfl, hv⟩ | cases e
    · cases e
  | _ =>
    exfalso
    unfold tr at e
    dsimp only at e
    first
      | (cases e; done)
      | (unfold tr_b at e; split at e <;> cases e; done)
      | (unfold tr_g at e; split at e <;> cases e; done)
      | (unfold tr_j at e; split at e <;> cases e; done)
      | (unfold tr_z at e; split at e <;> first | (cases e; done) | (unfold tr_g at e; split at e <;> cases e; done))
      | ((repeat' split at e) <;> first | (cases e; done) | (unfold tr_g at e; split at e <;> cases e; done) | (unfold tr_b at e; split at e <;> first | (cases e; done) | (unfold tr_g at e; split at e <;> cases e; done)))
theorem tr_inv_chr {lk : lk_T} {B : List Nat} {rt : Nat} {ini : Bool} {pc : Nat} {i : Instr}  (e : tr lk B rt ini pc i = .d2l) : ∃ x v, i = .invokevirtual x ∧ lk_get (32 * x + 15) lk.1 = some v := by
  cases i with
  | invokevirtual x =>
    unfold tr at e
    dsimp only at e
    split at e
    · cases e
    split at e
    · cases e
    split at e
    · cases e
    split at e
    · rename_i v hv; first | exact ⟨x, v, rfl, hv⟩ | cases e
    unfold tr_g at e
    split at e
    · rename_i v hv; first | exact ⟨x, v, rfl, hv⟩ | cases e
    · cases e
  | _ =>
    exfalso
    unfold tr at e
    dsimp only at e
    first
      | (cases e; done)
      | (unfold tr_b at e; split at e <;> cases e; done)
      | (unfold tr_g at e; split at e <;> cases e; done)
      | (unfold tr_j at e; split at e <;> cases e; done)
      | (unfold tr_z at e; split at e <;> first | (cases e; done) | (unfold tr_g at e; split at e <;> cases e; done))
      | ((repeat' split at e) <;> first | (cases e; done) | (unfold tr_g at e; split at e <;> cases e; done) | (unfold tr_b at e; split at e <;> first | (cases e; done) | (unfold tr_g at e; split at e <;> cases e; done)))
theorem tr_inv_dyn {lk : lk_T} {B : List Nat} {rt : Nat} {ini : Bool} {pc : Nat} {i : Instr} {v : Nat} (e : tr lk B rt ini pc i = .invokedynamic v) : ∃ x, i = .invokevirtual x ∧ lk_get (32 * x + 16) lk.1 = some v := by
  cases i with
  | invokevirtual x =>
    unfold tr at e
    dsimp only at e
    split at e
    · cases e
    split at e
    · cases e
    split at e
    · rename_i v hv; cases e; exact ⟨x, rfl, hv⟩
    split at e
    · cases e
    unfold tr_g at e
    split at e <;> cases e
  | _ =>
    exfalso
    unfold tr at e
    dsimp only at e
    first
      | (cases e; done)
      | (unfold tr_b at e; split at e <;> cases e; done)
      | (unfold tr_g at e; split at e <;> cases e; done)
      | (unfold tr_j at e; split at e <;> cases e; done)
      | (unfold tr_z at e; split at e <;> first | (cases e; done) | (unfold tr_g at e; split at e <;> cases e; done))
      | ((repeat' split at e) <;> first | (cases e; done) | (unfold tr_g at e; split at e <;> cases e; done) | (unfold tr_b at e; split at e <;> first | (cases e; done) | (unfold tr_g at e; split at e <;> cases e; done)))
theorem tr_inv_ldc {lk : lk_T} {B : List Nat} {rt : Nat} {ini : Bool} {pc : Nat} {i : Instr} {v : Nat} (e : tr lk B rt ini pc i = .ldc v) : ∃ x, (i = .ldc x ∨ i = .ldc_w x) ∧ lk_get (32 * x + 24) lk.1 = some v := by
  cases i with
  | ldc x =>
    unfold tr at e
    dsimp only at e
    unfold tr_z at e
    split at e
    · cases e
    unfold tr_g at e
    split at e
    · rename_i v hv; cases e; exact ⟨x, Or.inl rfl, hv⟩
    · cases e
  | ldc_w x =>
    unfold tr at e
    dsimp only at e
    unfold tr_z at e
    split at e
    · cases e
    unfold tr_g at e
    split at e
    · rename_i v hv; cases e; exact ⟨x, Or.inr rfl, hv⟩
    · cases e
  | _ =>
    exfalso
    unfold tr at e
    dsimp only at e
    first
      | (cases e; done)
      | (unfold tr_b at e; split at e <;> cases e; done)
      | (unfold tr_g at e; split at e <;> cases e; done)
      | (unfold tr_j at e; split at e <;> cases e; done)
      | (unfold tr_z at e; split at e <;> first | (cases e; done) | (unfold tr_g at e; split at e <;> cases e; done))
      | ((repeat' split at e) <;> first | (cases e; done) | (unfold tr_g at e; split at e <;> cases e; done) | (unfold tr_b at e; split at e <;> first | (cases e; done) | (unfold tr_g at e; split at e <;> cases e; done)))
theorem tr_inv_mul {lk : lk_T} {B : List Nat} {rt : Nat} {ini : Bool} {pc : Nat} {i : Instr} {v w : Nat} (e : tr lk B rt ini pc i = .multianewarray v w) : ∃ x, i = .multianewarray x w ∧ lk_get (32 * x + (9 + 6 * w)) lk.1 = some v := by
  cases i with
  | multianewarray x n =>
    unfold tr at e
    dsimp only at e
    unfold tr_g at e
    split at e
    · rename_i v hv; cases e; exact ⟨x, rfl, hv⟩
    · cases e
  | _ =>
    exfalso
    unfold tr at e
    dsimp only at e
    first
      | (cases e; done)
      | (unfold tr_b at e; split at e <;> cases e; done)
      | (unfold tr_g at e; split at e <;> cases e; done)
      | (unfold tr_j at e; split at e <;> cases e; done)
      | (unfold tr_z at e; split at e <;> first | (cases e; done) | (unfold tr_g at e; split at e <;> cases e; done))
      | ((repeat' split at e) <;> first | (cases e; done) | (unfold tr_g at e; split at e <;> cases e; done) | (unfold tr_b at e; split at e <;> first | (cases e; done) | (unfold tr_g at e; split at e <;> cases e; done)))
