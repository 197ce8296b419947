/-! ===== SOUNDNESS, 15: a block's end; a block ===== -/
theorem tr_raw_ok {cc : ByteArray} {ov : List (Nat × Instr × Nat)} {pc : Nat} {bs : List Nat} {i : Instr} {n : Nat} (hov : ∀ q ∈ ov, decode cc q.1 = .ok q.2) (hb : (cc.data.toList.drop pc).map UInt8.toNat = bs) (h : tr_raw ov pc bs = some (i, n)) : decode cc pc = .ok (i, n) := by
  unfold tr_raw at h
  split at h
  · rename_i r hr
    have := hov _ (lk_in hr)
    cases h
    exact this
  · exact sd_ok hb h
theorem sn_drop {cc : ByteArray} {pc n : Nat} {bs : List Nat} (hb : (cc.data.toList.drop pc).map UInt8.toNat = bs) : (cc.data.toList.drop (pc + n)).map UInt8.toNat = bs.drop n := by
  rw [← hb, ← List.map_drop, List.drop_drop]
theorem sn_lk2 {B : List Nat} {pc d : Int} {x : Int32} : ∀ (ps : List (Int × Int)), pm_lk ((bk (pc + d) B 0 : Nat) : Int) (ps.map fun q => (q.1, ((bk (pc + q.2) B 0 : Nat) : Int))) x = bk (pc + Op.lookupswitch.offset ps d x.toInt) B 0
  | [] => rfl
  | (u, v) :: ps => by
    rw [Op.lookupswitch.offset_cons, List.map_cons, pm_lk]
    by_cases q : u = x.toInt
    · rw [if_pos q, if_pos q.symm]; rfl
    · rw [if_neg q, if_neg (fun r => q r.symm)]; exact sn_lk2 ps
section
variable {p : Program} {l : Launch} {e : Env} {R : Room} {s : State} {m : MethodId} {args : Array Value} {below : List Frame} {meth : Method} {c : Code} {Q : State → Prop} {D : va_G} {κ : FieldType → ClassId} {A : Nat → Prop} {k8 : Nat → pm_E} {a8 : Nat → Nat} {nL : Nat} {ad0 : Nat → Nat} {h0 : pm_H} {cc : ByteArray} {own : String} {pc : Nat} {ls st : List Value} {h : pm_H} {L : Nat} {xs : Nat → Int32} {TX : State → Heap → Prop} {lk : lk_T} {B : List Nat} {rt : Nat} {ini : Bool} {jp : Nat → List Value → List Value → pm_H → pm_R} {hs : List (List Nat × Nat × Nat)} {K : pm_K} {cl : pm_C} {d0 : Nat} {o : Outcome} {h' : pm_H}
theorem sg_tsw {x : Int32} {d1 lo hi : Int} {o1 : Array Int} {len : Nat} (S : CallFix p m c cc nL s args lw_all own) (hh : hi < lo + o1.toList.length) (d : decode cc pc = .ok (.tableswitch d1 lo hi o1, len)) (ko : (x.toInt < lo ∨ hi < x.toInt) → ∃ t : Nat, (pc : Int) + d1 = (t : Int) ∧ sn_G p l e R s m args below meth c Q D κ A k8 a8 nL ad0 h0 t ls st h) (ki : ∀ z, ¬ (x.toInt < lo ∨ hi < x.toInt) → o1.toList[(x.toInt - lo).toNat]? = some z → ∃ t : Nat, (pc : Int) + z = (t : Int) ∧ sn_G p l e R s m args below meth c Q D κ A k8 a8 nL ad0 h0 t ls st h) : sn_G p l e R s m args below meth c Q D κ A k8 a8 nL ad0 h0 pc ls (.int x :: st) h := by
  intro ad H locs la cells slots hR h8 hE hS hF hs c1 c2
  by_cases hc : x.toInt < lo ∨ hi < x.toInt
  · obtain ⟨t, ht, k⟩ := ko hc
    exact lv_tableOut S.1 S.2.1 d hc ht (k ad H locs la cells slots hR h8 hE hS hF (sn_S_tl hs) c1 c2)
  · have hlt : (x.toInt - lo).toNat < o1.toList.length := by omega
    have hz := List.getElem?_eq_getElem hlt
    obtain ⟨t, ht, k⟩ := ki _ hc hz
    exact lv_tableIn S.1 S.2.1 d (by omega) (by omega) (by rw [← Array.getElem?_toList]; exact hz) ht (k ad H locs la cells slots hR h8 hE hS hF (sn_S_tl hs) c1 c2)
theorem sg_lsw {x : Int32} {d1 : Int} {o1 : Array (Int × Int)} {len t : Nat} (S : CallFix p m c cc nL s args lw_all own) (hp : (o1.toList.zip (o1.toList.drop 1)).all (fun (a, next) => a.1 < next.1) = true) (d : decode cc pc = .ok (.lookupswitch d1 o1, len)) (ht : (pc : Int) + Op.lookupswitch.offset o1.toList d1 x.toInt = (t : Int)) (k : sn_G p l e R s m args below meth c Q D κ A k8 a8 nL ad0 h0 t ls st h) : sn_G p l e R s m args below meth c Q D κ A k8 a8 nL ad0 h0 pc ls (.int x :: st) h := by
  intro ad H locs la cells slots hR h8 hE hS hF hs c1 c2
  exact lv_lookup S.1 S.2.1 d hp rfl ht (k ad H locs la cells slots hR h8 hE hS hF (sn_S_tl hs) c1 c2)
theorem st_tableswitch {d1 lo hi : Int} {o1 : Array Int} {n : Nat} (S : CallFix p m c cc nL s args lw_all own) (hj : ∀ t ls st g, pm_le h0 g → jp t ls st g = some (o, h') → t < B.length ∧ t < 99999 ∧ sn_G p l e R s m args below meth c Q D κ A k8 a8 nL ad0 h0 (B.getD t 99998) ls st g) (hle : pm_le h0 h) (d : decode cc pc = .ok (.tableswitch d1 lo hi o1, n)) (hrun : pm_int jp hs (pm_st pm_tab cl (tr lk B rt ini pc (.tableswitch d1 lo hi o1)) K ls st h) = some (o, h')) : sn_G p l e R s m args below meth c Q D κ A k8 a8 nL ad0 h0 pc ls st h := by
  unfold tr at hrun
  dsimp only at hrun
  unfold tr_b at hrun
  split at hrun
  · rename_i hh
    have hh := of_decide_eq_true hh
    unfold pm_st at hrun
    dsimp only at hrun
    split at hrun
    · rename_i x s0
      refine sg_tsw S hh d (fun hc => ?_) (fun z hc hz => ?_)
      · have hr : jp (pm_sw ((bk ((pc : Int) + d1) B 0 : Nat) : Int) lo hi (o1.toList.map fun o => ((bk ((pc : Int) + o) B 0 : Nat) : Int)) x) ls s0 h = some (o, h') := hrun
        unfold pm_sw at hr
        rw [if_pos hc] at hr
        obtain ⟨q1, q2⟩ := sn_hJ hj rfl hle hr
        exact ⟨_, q1, q2⟩
      · have hr : jp (pm_sw ((bk ((pc : Int) + d1) B 0 : Nat) : Int) lo hi (o1.toList.map fun o => ((bk ((pc : Int) + o) B 0 : Nat) : Int)) x) ls s0 h = some (o, h') := hrun
        unfold pm_sw at hr
        rw [if_neg hc, List.getD_eq_getElem?_getD, List.getElem?_map, hz] at hr
        obtain ⟨q1, q2⟩ := sn_hJ hj rfl hle hr
        exact ⟨_, q1, q2⟩
    · cases (show (none : pm_R) = some (o, h') from hrun)
  · cases (show (none : pm_R) = some (o, h') from hrun)
theorem st_lookupswitch {d1 : Int} {o1 : Array (Int × Int)} {n : Nat} (S : CallFix p m c cc nL s args lw_all own) (hj : ∀ t ls st g, pm_le h0 g → jp t ls st g = some (o, h') → t < B.length ∧ t < 99999 ∧ sn_G p l e R s m args below meth c Q D κ A k8 a8 nL ad0 h0 (B.getD t 99998) ls st g) (hle : pm_le h0 h) (d : decode cc pc = .ok (.lookupswitch d1 o1, n)) (hrun : pm_int jp hs (pm_st pm_tab cl (tr lk B rt ini pc (.lookupswitch d1 o1)) K ls st h) = some (o, h')) : sn_G p l e R s m args below meth c Q D κ A k8 a8 nL ad0 h0 pc ls st h := by
  unfold tr at hrun
  dsimp only at hrun
  unfold tr_b at hrun
  split at hrun
  · rename_i hh
    unfold pm_st at hrun
    dsimp only at hrun
    split at hrun
    · rename_i x s0
      have hr : jp (pm_lk ((bk ((pc : Int) + d1) B 0 : Nat) : Int) (o1.toList.map fun q => (q.1, ((bk ((pc : Int) + q.2) B 0 : Nat) : Int))) x) ls s0 h = some (o, h') := hrun
      rw [sn_lk2] at hr
      obtain ⟨q1, q2⟩ := sn_hJ hj rfl hle hr
      exact sg_lsw S hh d q1 q2
    · cases (show (none : pm_R) = some (o, h') from hrun)
  · cases (show (none : pm_R) = some (o, h') from hrun)
theorem st_athrow (S : CallFix p m c cc nL s args lw_all own) (hEnv : sn_Env TX D κ A a8 L xs s) (h8k : sn_K8 k8 L xs) (hthr : ∀ ls c0 g, pm_le h0 g → pm_int jp hs (.inr (.inr (ls, c0, g))) = some (o, h') → pm_le g h' ∧ sn_Gx p l e R s m args below meth c Q D κ A k8 a8 nL ad0 h0 pc ls c0 g) (hle : pm_le h0 h) (d : decode cc pc = .ok (.athrow, 1)) (hrun : pm_int jp hs (pm_st pm_tab cl (tr lk B rt ini pc .athrow) K ls st h) = some (o, h')) : sn_G p l e R s m args below meth c Q D κ A k8 a8 nL ad0 h0 pc ls st h := by
  have hrun : pm_int jp hs (pm_st pm_tab cl .athrow K ls st h) = some (o, h') := hrun
  unfold pm_st at hrun
  dsimp only at hrun
  split at hrun
  · split at hrun
    · rename_i c0 hc0
      split at hrun
      case isFalse => cases (show (none : pm_R) = some (o, h') from hrun)
      have kx := (hthr _ _ _ hle hrun).2
      intro ad H locs la cells slots hR h8 hE hS hF hs c1 c2
      have h90 := sn_c90 h8k hR hc0 (sn_S_hd hs _ rfl)
      exact sg_athrow S hEnv.1 h8k hc0 h90 d kx ad H locs la cells slots hR h8 hE hS hF hs c1 c2
    · cases (show (none : pm_R) = some (o, h') from hrun)
  · cases (show (none : pm_R) = some (o, h') from hrun)
/-- an exception made -/
theorem st_mkx {x y v : Nat} (S : CallFix p m c cc nL s args lw_all own) (T : lk_sem own lk) (hEnv : sn_Env TX D κ A a8 L xs s) (h8k : sn_K8 k8 L xs) (hl : l.stackTraces = false) (hexw : ∀ v ∈ sn_exs, Bundle.fit (sn_nm v) = true ∧ sn_N v = 0 ∧ v < 90 ∧ Cond.initialized (sn_nm v) ∈ lw_all) (hR : 21 + d0 ≤ R.frames ∧ 448 + 48 * d0 ≤ R.locals) (hroom : h'.1 ≤ h0.1 + R.cells ∧ h'.2.1 ≤ h0.2.1 + R.slots) (hk : ∀ ls st g, pm_le h0 g → pm_int jp hs (K ls st g) = some (o, h') → pm_le g h' ∧ sn_G p l e R s m args below meth c Q D κ A k8 a8 nL ad0 h0 (pc + 7) ls st g) (hle : pm_le h0 h) (h18 : lk_get (32 * x + 18) lk.1 = some v) (h19 : lk_get (32 * y + 19) lk.1 = some v) (d : decode cc pc = .ok (.new x, 3)) (d2 : decode cc (pc + 3) = .ok (.dup, 1)) (d3 : decode cc (pc + 4) = .ok (.invokespecial y, 3)) (hrun : pm_int jp hs (pm_st pm_tab cl (.ret v) K ls st h) = some (o, h')) : sn_G p l e R s m args below meth c Q D κ A k8 a8 nL ad0 h0 pc ls st h := by
  unfold pm_st at hrun
  dsimp only at hrun
  split at hrun
  · rename_i hc
    have q18 := lk_at T (kind := 18) (by decide) h18
    have q19 := lk_at T (kind := 19) (by decide) h19
    obtain ⟨e1, e2, e3, e4⟩ := hexw v q18.2
    obtain ⟨kl, kk⟩ := hk _ _ _ (pm_le_tr hle (pm_le_new (pm_le_rf _))) hrun
    have k1 : h.1 + 1 ≤ h'.1 := kl.1
    have k2 : h.2.1 + 6 ≤ h'.2.1 := kl.2
    refine sg_mkx (names := sn_xnames) S hl hEnv.1 hEnv.2.2.2.2.2.2.2.2.1 e3 e2 e1 (by decide +kernel) (by decide) q18.1 e4 (fun w hw => ?_) (fun w hw => (q19.2 w hw).2.2) hEnv.2.2.2.2.1 hEnv.2.2.2.2.2.1 hc (by omega) (by omega) (by omega) d d2 d3 kk
    obtain ⟨w1, w2, w3⟩ := q19.2 w hw
    rcases Bool.or_eq_true _ _ ▸ (show (w.onTables || goodWord w) = true from w3) with q3 | q3
    · rcases Bool.or_eq_true _ _ ▸ w2 with q | q
      · exact S.2.2.2.2 _ (lw_g w1 q)
      · exact (hEnv.2.2.2.1 _ w1 q).use q3
    · exact S.2.2.2.2 _ (lw_g w1 q3)
  · cases (show (none : pm_R) = some (o, h') from hrun)
end
