/-! ===== SOUNDNESS, 12: what the link tables say; instructions that look into them ===== -/
/-- the texts: class, index, which one -/
def sn_strs : List (String × Nat × Nat) := [("TimberHouseModel", 619, 0), ("TimberHouseModel", 628, 1), ("TimberHouseModel", 630, 2), ("TimberHouseModel", 632, 3), ("TimberHouseModel", 634, 4)]
def sn_txt (k : Nat) : String := ["G0X", "Y", ";G1Z", ";G1X", ";G0Z100;"].getD k ""
def sn_lkG (own : String) (i c k : Nat) : Prop := ∃ ref : String, ((Cond.fieldLink own i ref (sn_T c k).2.1 (sn_T c k).2.2.1 ∈ lw_all) ∨ ∃ host : String, Cond.fieldLinkNest own i ref (sn_T c k).2.1 (sn_T c k).2.2.1 host ∈ lw_tbl) ∧ (ref = (sn_T c k).1 ∨ Cond.sameField ref (sn_T c k).1 (sn_T c k).2.1 (sn_T c k).2.2.1 ∈ lw_all)
def sn_xnames : List String := ["java/lang/RuntimeException", "java/lang/Exception"]
def lk_ok (own : String) (x kind v : Nat) : Prop := match kind with
  | 0 => ∀ c k, pm_sub c (v / 1024) = true → k = v / 8 % 128 → c < 90 → k < sn_N c → sn_lkG own x c k
  | 1 => ∀ c k, pm_sub c (v / 1024) = true → k = v / 8 % 128 → c < 90 → k < sn_N c → sn_dg (sn_ty c k) = v % 8 ∧ (sn_T c k).2.2.2 = false ∧ sn_lkG own x c k
  | 2 => ∀ c k, pm_sub c (v / 1024) = true → k = v / 8 % 128 → c < 90 → k < sn_N c → sn_dg (sn_ty c k) = v % 8 ∧ (sn_T c k).2.2.2 = true ∧ (sn_T c k).1 = own ∧ ∃ ref : String, Cond.fieldLink own x ref (sn_T c k).2.1 (sn_T c k).2.2.1 ∈ lw_all ∧ ref = (sn_T c k).1
  | 3 => Cond.methodLink own x (sn_y (v / 16)) ∈ lw_all ∧ sn_kd (v / 16) = 0 ∧ sn_na (v / 16) = v % 16 ∧ sn_gd (v / 16)
  | 4 => (∃ host, Cond.methodLinkNest own x (sn_y (v / 16)) host ∈ lw_tbl) ∧ sn_kd (v / 16) = 0 ∧ sn_na (v / 16) = v % 16 ∧ sn_gd (v / 16) ∧ (sn_b (v / 16)).2.2.2 = []
  | 5 => Cond.methodLink own x (sn_y (v / 16)) ∈ lw_all ∧ sn_kd (v / 16) = 1 ∧ sn_na (v / 16) = v % 16 ∧ sn_gd (v / 16)
  | 6 => (∃ host, Cond.methodLinkNest own x (sn_y (v / 16)) host ∈ lw_tbl) ∧ sn_kd (v / 16) = 1 ∧ sn_na (v / 16) = v % 16 ∧ sn_gd (v / 16) ∧ (sn_b (v / 16)).2.2.2 = []
  | 7 => Cond.methodLink own x (sn_y (v / 16)) ∈ lw_all ∧ sn_kd (v / 16) = 2 ∧ sn_na (v / 16) = v % 16 ∧ sn_gd (v / 16) ∧ (sn_b (v / 16)).2.2.2 = []
  | 8 => (∃ host, Cond.methodLinkNest own x (sn_y (v / 16)) host ∈ lw_tbl) ∧ sn_kd (v / 16) = 2 ∧ sn_na (v / 16) = v % 16 ∧ sn_gd (v / 16) ∧ (sn_b (v / 16)).2.2.2 = []
  | 11 => Cond.methodLink own x Lib.objectInit ∈ lw_all
  | 12 => Cond.methodLink own x arraycopyName ∈ lw_all
  | 13 => Cond.methodLink own x ⟨"java/util/Arrays", "copyOf", "([Ljava/lang/Object;I)[Ljava/lang/Object;"⟩ ∈ lw_all
  | 14 => Cond.methodLink own x ⟨"java/lang/String", "length", "()I"⟩ ∈ lw_all
  | 15 => Cond.methodLink own x ⟨"java/lang/String", "charAt", "(I)C"⟩ ∈ lw_all
  | 16 => (v = 2 ∧ Cond.methodLink own x ⟨"TimberHouse$LathePieces$Way", "radius", "(I)I"⟩ ∈ lw_all) ∨ (v = 18 ∧ Cond.methodLink own x ⟨"TimberHouse$RouterPaths$Statement", "drive", "(LTimberHouse$RouterPaths$Machine;)V"⟩ ∈ lw_all)
  | 17 => v < 90 ∧ (0 < sn_N v ∨ pm_dfl v = []) ∧ Cond.classLink own x (sn_nm v) ∈ lw_all ∧ Cond.instantiable (sn_nm v) (sn_N v) ∈ lw_all ∧ Cond.initialized (sn_nm v) ∈ lw_all ∧ sn_N v = (pm_dfl v).length
  | 18 => Cond.classLink own x (sn_nm v) ∈ lw_all ∧ v ∈ sn_exs
  | 19 => v ∈ sn_exs ∧ ∀ w ∈ vx_at0 own x (sn_nm v) sn_xnames, w ∈ lw_tbl ∧ (goodWord w || sn_kind w) = true ∧ vx_ot w = true
  | 20 => (∃ C, pm_aty v = .object C ∧ FieldType.object C ∈ sn_ats ∧ Cond.classLink own x C ∈ lw_all ∧ Cond.arrayOver (.object C) ∈ lw_tbl) ∨ (∃ t, pm_aty v = .array t ∧ FieldType.array t ∈ sn_ats ∧ Cond.classLink own x (FieldType.array t).toString ∈ lw_all ∧ Cond.arrayOver (.array t) ∈ lw_tbl)
  | 22 => ∃ nm : String, Cond.classLink own x nm ∈ lw_all ∧ ∀ c, c < 90 → pm_sub c v = true → sn_nm c = nm ∨ Cond.castable (sn_nm c) nm ∈ lw_tbl
  | 21 => Cond.classLink own x ("[" ++ (FieldType.array (pm_aty v)).toString) ∈ lw_all ∧ Cond.arrayOver (.array (pm_aty v)) ∈ lw_tbl ∧ Cond.arrayClass (pm_aty v) ∈ lw_all ∧ FieldType.array (pm_aty v) ∈ sn_ats ∧ pm_aty v ∈ sn_ats
  | 27 => Cond.classLink own x ("[" ++ (FieldType.array (.array (pm_aty v))).toString) ∈ lw_all ∧ Cond.arrayOver (.array (.array (pm_aty v))) ∈ lw_tbl ∧ Cond.arrayOver (.array (pm_aty v)) ∈ lw_tbl ∧ Cond.arrayClass (pm_aty v) ∈ lw_all ∧ FieldType.array (.array (pm_aty v)) ∈ sn_ats ∧ FieldType.array (pm_aty v) ∈ sn_ats ∧ pm_aty v ∈ sn_ats
  | 24 => (own, x, v) ∈ sn_strs
  | 23 => (v = 0 ∧ Cond.fieldLink own x "java/util/ArrayList" "DEFAULTCAPACITY_EMPTY_ELEMENTDATA" "[Ljava/lang/Object;" ∈ lw_all) ∨ (v = 1 ∧ Cond.fieldLink own x "TimberHouse$NailRules" "LETTERS" "[C" ∈ lw_all)
  | 25 => Cond.constantDouble own x (UInt64.ofNat v) ∈ lw_all
  | 26 => Cond.classLink own x (sn_nm v) ∈ lw_all ∧ v ∈ sn_exs ∧ x ≠ 0
  | _ => True
def lk_sem (own : String) (lk : lk_T) : Prop := (∀ q ∈ lk.1, lk_ok own (q.1 / 32) (q.1 % 32) q.2) ∧ (∀ q ∈ lk.2.1, Cond.constant own q.1 (Int32.ofInt q.2) ∈ lw_all) ∧ ∀ q ∈ lk.2.2, Cond.constantLong own q.1 (Int64.ofInt q.2) ∈ lw_all
theorem lk_at {own : String} {lk : lk_T} (T : lk_sem own lk) {x kind v : Nat} (hk : kind < 32) (h : lk_get (32 * x + kind) lk.1 = some v) : lk_ok own x kind v := by
  have h1 := T.1 _ (lk_in h)
  have e1 : (32 * x + kind) / 32 = x := by omega
  have e2 : (32 * x + kind) % 32 = kind := by omega
  rw [e1, e2] at h1
  exact h1
theorem sn_lkG_s {own : String} {i c k : Nat} {TX : State → Heap → Prop} {D : va_G} {κ : FieldType → ClassId} {A : Nat → Prop} {a8 : Nat → Nat} {L : Nat} {xs : Nat → Int32} {s : State} (hEnv : sn_Env TX D κ A a8 L xs s) (h : sn_lkG own i c k) : sn_lkF own i c k s := by
  obtain ⟨ref, h1, h2⟩ := h
  refine ⟨ref, ?_, h2⟩
  rcases h1 with q | ⟨host, q⟩
  · exact Or.inl q
  · exact Or.inr ⟨host, hEnv.2.2.2.1 _ q rfl⟩
section
variable {p : Program} {l : Launch} {e : Env} {R : Room} {s : State} {m : MethodId} {args : Array Value} {below : List Frame} {meth : Method} {c : Code} {Q : State → Prop} {D : va_G} {κ : FieldType → ClassId} {A : Nat → Prop} {k8 : Nat → pm_E} {a8 : Nat → Nat} {nL : Nat} {ad0 : Nat → Nat} {h0 : pm_H} {cc : ByteArray} {own : String} {pc : Nat} {ls st : List Value} {h : pm_H} {L : Nat} {xs : Nat → Int32} {TX : State → Heap → Prop} {lk : lk_T} {B : List Nat} {rt : Nat} {ini : Bool} {jp : Nat → List Value → List Value → pm_H → pm_R} {hs : List (List Nat × Nat × Nat)} {K : pm_K} {cl : pm_C} {o : Outcome} {h' : pm_H}
theorem st_ldc {x : Nat} (S : CallFix p m c cc nL s args lw_all own) (T : lk_sem own lk) (hTx : ∀ (x v : Nat), lk_get (32 * x + 24) lk.1 = some v → decode cc pc = .ok (.ldc x, 2) → sn_G p l e R s m args below meth c Q D κ A k8 a8 nL ad0 h0 (pc + 2) ls (pm_str v :: st) h → sn_G p l e R s m args below meth c Q D κ A k8 a8 nL ad0 h0 pc ls st h) (hk : ∀ ls st g, pm_le h0 g → pm_int jp hs (K ls st g) = some (o, h') → sn_G p l e R s m args below meth c Q D κ A k8 a8 nL ad0 h0 (pc + 2) ls st g) (hle : pm_le h0 h) (d : decode cc pc = .ok (.ldc x, 2)) (hrun : pm_int jp hs (pm_st pm_tab cl (tr lk B rt ini pc (.ldc x)) K ls st h) = some (o, h')) : sn_G p l e R s m args below meth c Q D κ A k8 a8 nL ad0 h0 pc ls st h := by
  unfold tr at hrun
  dsimp only at hrun
  unfold tr_z at hrun
  split at hrun
  · rename_i z hz
    exact sg_ldc S (T.2.1 _ (lk_in hz)) d (hk _ _ _ hle hrun)
  · unfold tr_g at hrun
    split at hrun
    · rename_i v hv
      exact hTx _ _ hv d (hk _ _ _ hle hrun)
    · cases (show (none : pm_R) = some (o, h') from hrun)
theorem st_ldc2_w {x : Nat} (S : CallFix p m c cc nL s args lw_all own) (T : lk_sem own lk) (hk : ∀ ls st g, pm_le h0 g → pm_int jp hs (K ls st g) = some (o, h') → sn_G p l e R s m args below meth c Q D κ A k8 a8 nL ad0 h0 (pc + 3) ls st g) (hle : pm_le h0 h) (d : decode cc pc = .ok (.ldc2_w x, 3)) (hrun : pm_int jp hs (pm_st pm_tab cl (tr lk B rt ini pc (.ldc2_w x)) K ls st h) = some (o, h')) : sn_G p l e R s m args below meth c Q D κ A k8 a8 nL ad0 h0 pc ls st h := by
  unfold tr at hrun
  dsimp only at hrun
  unfold tr_z at hrun
  split at hrun
  · rename_i z hz
    exact sg_ldc2 S (T.2.2 _ (lk_in hz)) d (hk _ _ _ hle hrun)
  · unfold tr_g at hrun
    split at hrun
    · rename_i v hv
      exact sg_ldc2d S (lk_at T (by decide) hv) d (hk _ _ _ hle hrun)
    · cases (show (none : pm_R) = some (o, h') from hrun)
theorem st_dconst {x : Fin 2} (S : CallFix p m c cc nL s args lw_all own) (hk : ∀ ls st g, pm_le h0 g → pm_int jp hs (K ls st g) = some (o, h') → sn_G p l e R s m args below meth c Q D κ A k8 a8 nL ad0 h0 (pc + 1) ls st g) (hle : pm_le h0 h) (d : decode cc pc = .ok (.dconst x, 1)) (hrun : pm_int jp hs (pm_st pm_tab cl (tr lk B rt ini pc (.dconst x)) K ls st h) = some (o, h')) : sn_G p l e R s m args below meth c Q D κ A k8 a8 nL ad0 h0 pc ls st h := by
  rcases x with ⟨n, hn⟩
  match n, hn, d, hrun with
  | 0, hn, d, hrun => exact sg_dconst0 S d (hk _ _ _ hle hrun)
  | 1, hn, d, hrun => cases (show (none : pm_R) = some (o, h') from hrun)
theorem st_getfield {x : Nat} (S : CallFix p m c cc nL s args lw_all own) (T : lk_sem own lk) (hEnv : sn_Env TX D κ A a8 L xs s) (h8k : sn_K8 k8 L xs) (hk : ∀ ls st g, pm_le h0 g → pm_int jp hs (K ls st g) = some (o, h') → sn_G p l e R s m args below meth c Q D κ A k8 a8 nL ad0 h0 (pc + 3) ls st g) (hle : pm_le h0 h) (d : decode cc pc = .ok (.getfield x, 3)) (hrun : pm_int jp hs (pm_st pm_tab cl (tr lk B rt ini pc (.getfield x)) K ls st h) = some (o, h')) : sn_G p l e R s m args below meth c Q D κ A k8 a8 nL ad0 h0 pc ls st h := by
  unfold tr at hrun
  dsimp only at hrun
  unfold tr_g at hrun
  split at hrun
  · rename_i v hv
    unfold pm_st at hrun
    dsimp only at hrun
    split at hrun
    · unfold pm_o at hrun
      split at hrun
      · rename_i hg
        exact sg_getfield S hEnv.1 h8k (fun c k a b e f => sn_lkG_s hEnv (lk_at T (kind := 0) (by decide) hv c k a b e f)) hg d (hk _ _ _ hle hrun)
      · cases (show (none : pm_R) = some (o, h') from hrun)
    · cases (show (none : pm_R) = some (o, h') from hrun)
  · cases (show (none : pm_R) = some (o, h') from hrun)
theorem st_putfield {x : Nat} (S : CallFix p m c cc nL s args lw_all own) (T : lk_sem own lk) (hEnv : sn_Env TX D κ A a8 L xs s) (h8k : sn_K8 k8 L xs) (hini : ini = true → meth.name = "<init>") (hk : ∀ ls st g, pm_le h0 g → pm_int jp hs (K ls st g) = some (o, h') → sn_G p l e R s m args below meth c Q D κ A k8 a8 nL ad0 h0 (pc + 3) ls st g) (hle : pm_le h0 h) (d : decode cc pc = .ok (.putfield x, 3)) (hrun : pm_int jp hs (pm_st pm_tab cl (tr lk B rt ini pc (.putfield x)) K ls st h) = some (o, h')) : sn_G p l e R s m args below meth c Q D κ A k8 a8 nL ad0 h0 pc ls st h := by
  unfold tr at hrun
  dsimp only at hrun
  split at hrun
  · rename_i v hv
    unfold pm_st at hrun
    dsimp only at hrun
    split at hrun
    · unfold pm_o at hrun
      split at hrun
      · rename_i hg
        exact sg_putfield S hEnv.1 h8k (fun c k a b e f => (by have q := lk_at T (kind := 1) (by decide) hv c k a b e f; exact ⟨q.1, Or.inl ⟨q.2.1, sn_lkG_s hEnv q.2.2⟩⟩)) hg d (hk _ _ _ (pm_le_tr hle (pm_le_pf hg)) hrun)
      · cases (show (none : pm_R) = some (o, h') from hrun)
    · cases (show (none : pm_R) = some (o, h') from hrun)
  · unfold tr_b at hrun
    split at hrun
    · unfold tr_g at hrun
      split at hrun
      · rename_i v hv
        unfold pm_st at hrun
        dsimp only at hrun
        split at hrun
        · unfold pm_o at hrun
          split at hrun
          · rename_i hg
            exact sg_putfield S hEnv.1 h8k (fun c k a b e f => (by have q := lk_at T (kind := 2) (by decide) hv c k a b e f; exact ⟨q.1, Or.inr ⟨q.2.1, hini rfl, q.2.2.1, q.2.2.2⟩⟩)) hg d (hk _ _ _ (pm_le_tr hle (pm_le_pf hg)) hrun)
          · cases (show (none : pm_R) = some (o, h') from hrun)
        · cases (show (none : pm_R) = some (o, h') from hrun)
      · cases (show (none : pm_R) = some (o, h') from hrun)
    · cases (show (none : pm_R) = some (o, h') from hrun)
theorem st_getstatic {x : Nat} (S : CallFix p m c cc nL s args lw_all own) (T : lk_sem own lk) (hEnv : sn_Env TX D κ A a8 L xs s) (h8k : sn_K8 k8 L xs) (hk : ∀ ls st g, pm_le h0 g → pm_int jp hs (K ls st g) = some (o, h') → sn_G p l e R s m args below meth c Q D κ A k8 a8 nL ad0 h0 (pc + 3) ls st g) (hle : pm_le h0 h) (d : decode cc pc = .ok (.getstatic x, 3)) (hrun : pm_int jp hs (pm_st pm_tab cl (tr lk B rt ini pc (.getstatic x)) K ls st h) = some (o, h')) : sn_G p l e R s m args below meth c Q D κ A k8 a8 nL ad0 h0 pc ls st h := by
  unfold tr at hrun
  dsimp only at hrun
  unfold tr_g at hrun
  split at hrun
  · rename_i v hv
    rcases lk_at T (kind := 23) (by decide) hv with ⟨rfl, q⟩ | ⟨rfl, q⟩
    · exact sg_getstatic S (a := 2) (by decide) hEnv.2.2.2.2.2.2.2.1 q rfl d (hk _ _ _ hle hrun)
    · exact sg_getstatic S (a := 1) (by decide) hEnv.2.2.2.2.2.2.1 q rfl d (hk _ _ _ hle hrun)
  · cases (show (none : pm_R) = some (o, h') from hrun)
theorem st_new {x : Nat} (S : CallFix p m c cc nL s args lw_all own) (T : lk_sem own lk) (hEnv : sn_Env TX D κ A a8 L xs s) (h8k : sn_K8 k8 L xs) (hKle : ∀ ls st g, pm_le h0 g → pm_int jp hs (K ls st g) = some (o, h') → pm_le g h') (hroom : h'.1 ≤ h0.1 + R.cells ∧ h'.2.1 ≤ h0.2.1 + R.slots) (hk : ∀ ls st g, pm_le h0 g → pm_int jp hs (K ls st g) = some (o, h') → sn_G p l e R s m args below meth c Q D κ A k8 a8 nL ad0 h0 (pc + 3) ls st g) (hle : pm_le h0 h) (d : decode cc pc = .ok (.new x, 3)) (hrun : pm_int jp hs (pm_st pm_tab cl (tr lk B rt ini pc (.new x)) K ls st h) = some (o, h')) : sn_G p l e R s m args below meth c Q D κ A k8 a8 nL ad0 h0 pc ls st h := by
  unfold tr at hrun
  dsimp only at hrun
  unfold tr_g at hrun
  split at hrun
  · rename_i v hv
    have q := lk_at T (kind := 17) (by decide) hv
    have kl := hKle _ _ _ (pm_le_tr hle (pm_le_new (pm_le_rf _))) hrun
    have k1 : h.1 + 1 ≤ h'.1 := kl.1
    have k2 : h.2.1 + (pm_dfl v).length ≤ h'.2.1 := kl.2
    exact sg_new S hEnv.1 hEnv.2.2.2.2.2.2.2.2.1 q.1 q.2.1 q.2.2.1 q.2.2.2.1 q.2.2.2.2.1 (by omega) d (hk _ _ _ (pm_le_tr hle (pm_le_new (pm_le_rf _))) hrun) q.2.2.2.2.2
  · cases (show (none : pm_R) = some (o, h') from hrun)
theorem st_newarray {x : ArrayType} (S : CallFix p m c cc nL s args lw_all own) (hEnv : sn_Env TX D κ A a8 L xs s) (h8k : sn_K8 k8 L xs) (hKle : ∀ ls st g, pm_le h0 g → pm_int jp hs (K ls st g) = some (o, h') → pm_le g h') (hroom : h'.1 ≤ h0.1 + R.cells ∧ h'.2.1 ≤ h0.2.1 + R.slots) (hat : ∀ x : ArrayType, x ≠ .float → x ≠ .double → newarray.typeOf x ∈ sn_ats ∧ Cond.arrayClass (newarray.typeOf x) ∈ lw_all) (hk : ∀ ls st g, pm_le h0 g → pm_int jp hs (K ls st g) = some (o, h') → sn_G p l e R s m args below meth c Q D κ A k8 a8 nL ad0 h0 (pc + 2) ls st g) (hle : pm_le h0 h) (d : decode cc pc = .ok (.newarray x, 2)) (hrun : pm_int jp hs (pm_st pm_tab cl (tr lk B rt ini pc (.newarray x)) K ls st h) = some (o, h')) : sn_G p l e R s m args below meth c Q D κ A k8 a8 nL ad0 h0 pc ls st h := by
  have hrun : pm_int jp hs (pm_st pm_tab cl (tr_b (!(x == .float || x == .double)) (.newarray x)) K ls st h) = some (o, h') := hrun
  unfold tr_b at hrun
  split at hrun
  case h_2 => cases (show (none : pm_R) = some (o, h') from hrun)
  rename_i hx9
  have hat := hat x (fun e => by subst e; exact absurd hx9 (by decide)) (fun e => by subst e; exact absurd hx9 (by decide))
  unfold pm_st at hrun
  dsimp only at hrun
  split at hrun
  · split at hrun
    · rename_i n s0 _ hn
      have kl := hKle _ _ _ (pm_le_tr hle (pm_le_new (pm_le_rf _))) hrun
      have k1 : h.1 + 1 ≤ h'.1 := kl.1
      have k2 : h.2.1 + n.toInt.toNat ≤ h'.2.1 := kl.2
      exact sg_newarray S hEnv.1 hEnv.2.2.2.2.2.2.2.2.1 hat.1 hat.2 hn (by omega) d (hk _ _ _ (pm_le_tr hle (pm_le_new (pm_le_rf _))) hrun)
    · cases (show (none : pm_R) = some (o, h') from hrun)
  · cases (show (none : pm_R) = some (o, h') from hrun)
theorem st_anewarray {x : Nat} (S : CallFix p m c cc nL s args lw_all own) (T : lk_sem own lk) (hEnv : sn_Env TX D κ A a8 L xs s) (h8k : sn_K8 k8 L xs) (hKle : ∀ ls st g, pm_le h0 g → pm_int jp hs (K ls st g) = some (o, h') → pm_le g h') (hroom : h'.1 ≤ h0.1 + R.cells ∧ h'.2.1 ≤ h0.2.1 + R.slots) (hk : ∀ ls st g, pm_le h0 g → pm_int jp hs (K ls st g) = some (o, h') → sn_G p l e R s m args below meth c Q D κ A k8 a8 nL ad0 h0 (pc + 3) ls st g) (hle : pm_le h0 h) (d : decode cc pc = .ok (.anewarray x, 3)) (hrun : pm_int jp hs (pm_st pm_tab cl (tr lk B rt ini pc (.anewarray x)) K ls st h) = some (o, h')) : sn_G p l e R s m args below meth c Q D κ A k8 a8 nL ad0 h0 pc ls st h := by
  unfold tr at hrun
  dsimp only at hrun
  unfold tr_g at hrun
  split at hrun
  · rename_i v hv
    unfold pm_st at hrun
    dsimp only at hrun
    split at hrun
    · split at hrun
      · rename_i n s0 hn
        have kl := hKle _ _ _ (pm_le_tr hle (pm_le_new (pm_le_rf _))) hrun
        have k1 : h.1 + 1 ≤ h'.1 := kl.1
        have k2 : h.2.1 + n.toInt.toNat ≤ h'.2.1 := kl.2
        rcases lk_at T (kind := 20) (by decide) hv with ⟨C, q1, q2, q3, q4⟩ | ⟨t, q1, q2, q3, q4⟩
        · have hrun2 := hk _ _ _ (pm_le_tr hle (pm_le_new (pm_le_rf _))) hrun
          have e1 : pm_tab.1 v = .object C := q1
          rw [e1] at hrun2
          exact sg_anewarray S hEnv.1 hEnv.2.2.2.2.2.2.2.2.1 q2 q3 (hEnv.2.2.2.1 _ q4 rfl) hn (by omega) d hrun2
        · have hrun2 := hk _ _ _ (pm_le_tr hle (pm_le_new (pm_le_rf _))) hrun
          have e1 : pm_tab.1 v = .array t := q1
          rw [e1] at hrun2
          exact sg_anewarrayA S hEnv.1 hEnv.2.2.2.2.2.2.2.2.1 q2 q3 (hEnv.2.2.2.1 _ q4 rfl) hn (by omega) d hrun2
      · cases (show (none : pm_R) = some (o, h') from hrun)
    · cases (show (none : pm_R) = some (o, h') from hrun)
  · cases (show (none : pm_R) = some (o, h') from hrun)
theorem sn_c90 {ad : Nat → Nat} {H : Heap} {a c0 : Nat} (h8k : sn_K8 k8 L xs) (hR : sn_R D κ A k8 ad h H) (h1 : pm_cls h a = some c0) (ha : a < h.1) : c0 < 90 := by
  unfold pm_cls at h1
  split at h1
  · rename_i c1' fs he
    cases h1
    have h8' : ¬ a < 8 := by
      intro ha
      rw [hR.2.2.2 a ha] at he
      rcases (show a = 0 ∨ a = 1 ∨ a = 2 ∨ (3 ≤ a) by omega) with rfl | rfl | rfl | h3
      · rw [h8k.1] at he; cases he
      · rw [h8k.2.1] at he; cases he
      · rw [h8k.2.2.1] at he; cases he
      · obtain ⟨n', f', e'⟩ := h8k.2.2.2 a h3 ha
        rw [e'] at he; cases he
    have := hR.1.2.2.2 a (by omega) ha
    rw [he] at this
    exact this.1
  · cases h1
theorem sg_checkcastS {a i c0 : Nat} (S : CallFix p m c cc nL s args lw_all own) (hK : va_K D sn_cl (sn_tys κ) s) (h8k : sn_K8 k8 L xs) (h1 : pm_cls h a = some c0) (hc0 : c0 < 90) (hl : Cond.classLink own i (sn_nm c0) ∈ lw_all) (d : decode cc pc = .ok (.checkcast i, 3)) (k : sn_G p l e R s m args below meth c Q D κ A k8 a8 nL ad0 h0 (pc + 3) ls (.ref a :: st) h) : sn_G p l e R s m args below meth c Q D κ A k8 a8 nL ad0 h0 pc ls (.ref a :: st) h := by
  intro ad H locs la cells slots hR h8 hE hS hF hs c1 c2
  obtain ⟨cell, q1, q2, q3⟩ := sn_obj hK h8k hR h1 hc0
  exact va_castS S.1 S.2.1 S.2.2.2.1 (S.2.2.2.2 _ hl) (hK.1 c0 _ (sn_cl_at hc0)).2 ⟨cell, q1, by rw [q2]; rfl, q3⟩ d (k ad H locs la cells slots hR h8 hE hS hF hs c1 c2)
theorem sg_checkcastN {i : Nat} (S : CallFix p m c cc nL s args lw_all own) (d : decode cc pc = .ok (.checkcast i, 3)) (k : sn_G p l e R s m args below meth c Q D κ A k8 a8 nL ad0 h0 (pc + 3) ls (.null :: st) h) : sn_G p l e R s m args below meth c Q D κ A k8 a8 nL ad0 h0 pc ls (.null :: st) h := by
  intro ad H locs la cells slots hR h8 hE hS hF hs c1 c2
  exact lv_castN S.1 S.2.1 d (k ad H locs la cells slots hR h8 hE hS hF hs c1 c2)
theorem sg_objInit {a i : Nat} (S : CallFix p m c cc nL s args lw_all own) (hl : Cond.methodLink own i Lib.objectInit ∈ lw_all) (hi : Cond.instanceMethod Lib.objectInit ∈ lw_all) (hc : Cond.code Lib.objectInit ⟨#[0xb1]⟩ 1 none ∈ lw_all) (hcat : pm_cats st ≤ 8) (hf : 1 ≤ R.frames) (hlo : 200 ≤ R.locals) (d : decode cc pc = .ok (.invokespecial i, 3)) (k : sn_G p l e R s m args below meth c Q D κ A k8 a8 nL ad0 h0 (pc + 3) ls st h) : sn_G p l e R s m args below meth c Q D κ A k8 a8 nL ad0 h0 pc ls (.ref a :: st) h := by
  intro ad H locs la cells slots hR h8 hE hS hF hs c1 c2
  refine W.objInit S.1 S.2.1 S.2.2.2.1 (S.2.2.2.2 _ hl) (S.2.2.2.2 _ hi) (S.2.2.2.2 _ hc) rfl (by rw [S.2.2.1]; exact hF.2.1) (a := ad a) rfl d hf ?_ (k ad H locs la cells slots hR h8 hE hS hF (sn_S_tl hs) c1 c2)
  rw [sn_cats]; show 2 * 0 + _ + 12 ≤ _; omega
theorem st_checkcast {x : Nat} (S : CallFix p m c cc nL s args lw_all own) (T : lk_sem own lk) (hEnv : sn_Env TX D κ A a8 L xs s) (h8k : sn_K8 k8 L xs) (hk : ∀ ls st g, pm_le h0 g → pm_int jp hs (K ls st g) = some (o, h') → sn_G p l e R s m args below meth c Q D κ A k8 a8 nL ad0 h0 (pc + 3) ls st g) (hle : pm_le h0 h) (d : decode cc pc = .ok (.checkcast x, 3)) (hrun : pm_int jp hs (pm_st pm_tab cl (tr lk B rt ini pc (.checkcast x)) K ls st h) = some (o, h')) : sn_G p l e R s m args below meth c Q D κ A k8 a8 nL ad0 h0 pc ls st h := by
  unfold tr at hrun
  dsimp only at hrun
  unfold tr_g at hrun
  split at hrun
  · rename_i v hv
    unfold pm_st at hrun
    dsimp only at hrun
    split at hrun
    · split at hrun
      · rename_i c0 hc0
        split at hrun
        · rename_i hsub
          have kk := hk _ _ _ hle hrun
          intro ad H locs la cells slots hR h8 hE hS hF hs c1 c2
          have h90 := sn_c90 h8k hR hc0 (sn_S_hd hs _ rfl)
          obtain ⟨nm, q1, q2⟩ := lk_at T (kind := 22) (by decide) hv
          have q := q2 c0 h90 hsub
          rcases q with q | q
          · subst q
            exact sg_checkcastS S hEnv.1 h8k hc0 h90 q1 d kk ad H locs la cells slots hR h8 hE hS hF hs c1 c2
          · exact sg_checkcast (ci := 0) S hEnv.1 h8k hc0 h90 q1 (hEnv.2.2.2.1 _ q rfl) d kk ad H locs la cells slots hR h8 hE hS hF hs c1 c2
        · cases (show (none : pm_R) = some (o, h') from hrun)
      · cases (show (none : pm_R) = some (o, h') from hrun)
    · exact sg_checkcastN S d (hk _ _ _ hle hrun)
    · cases (show (none : pm_R) = some (o, h') from hrun)
  · cases (show (none : pm_R) = some (o, h') from hrun)
theorem st_ifnull {z : Int} (S : CallFix p m c cc nL s args lw_all own) (hj : ∀ t ls st g, pm_le h0 g → jp t ls st g = some (o, h') → t < B.length ∧ t < 99999 ∧ sn_G p l e R s m args below meth c Q D κ A k8 a8 nL ad0 h0 (B.getD t 99998) ls st g) (hk : ∀ ls st g, pm_le h0 g → pm_int jp hs (K ls st g) = some (o, h') → sn_G p l e R s m args below meth c Q D κ A k8 a8 nL ad0 h0 (pc + 3) ls st g) (hle : pm_le h0 h) (d : decode cc pc = .ok (.ifnull z, 3)) (hrun : pm_int jp hs (pm_st pm_tab cl (tr lk B rt ini pc (.ifnull z)) K ls st h) = some (o, h')) : sn_G p l e R s m args below meth c Q D κ A k8 a8 nL ad0 h0 pc ls st h := by
  unfold tr at hrun
  dsimp only at hrun
  unfold tr_j at hrun
  split at hrun
  · cases (show (none : pm_R) = some (o, h') from hrun)
  rename_i hne
  have hpos := bk_pos hne
  unfold pm_st at hrun
  dsimp only at hrun
  split at hrun
  · obtain ⟨q1, q2⟩ := sn_hJ hj rfl hle hrun
    exact sg_ifnull_n S d q1 q2
  · obtain ⟨t, ht⟩ := hpos
    exact sg_ifnull_r S d ht (hk _ _ _ hle hrun)
  · cases (show (none : pm_R) = some (o, h') from hrun)
theorem st_ifnonnull {z : Int} (S : CallFix p m c cc nL s args lw_all own) (hj : ∀ t ls st g, pm_le h0 g → jp t ls st g = some (o, h') → t < B.length ∧ t < 99999 ∧ sn_G p l e R s m args below meth c Q D κ A k8 a8 nL ad0 h0 (B.getD t 99998) ls st g) (hk : ∀ ls st g, pm_le h0 g → pm_int jp hs (K ls st g) = some (o, h') → sn_G p l e R s m args below meth c Q D κ A k8 a8 nL ad0 h0 (pc + 3) ls st g) (hle : pm_le h0 h) (d : decode cc pc = .ok (.ifnonnull z, 3)) (hrun : pm_int jp hs (pm_st pm_tab cl (tr lk B rt ini pc (.ifnonnull z)) K ls st h) = some (o, h')) : sn_G p l e R s m args below meth c Q D κ A k8 a8 nL ad0 h0 pc ls st h := by
  unfold tr at hrun
  dsimp only at hrun
  unfold tr_j at hrun
  split at hrun
  · cases (show (none : pm_R) = some (o, h') from hrun)
  rename_i hne
  have hpos := bk_pos hne
  unfold pm_st at hrun
  dsimp only at hrun
  split at hrun
  · obtain ⟨t, ht⟩ := hpos
    exact sg_ifnonnull_n S d ht (hk _ _ _ hle hrun)
  · obtain ⟨q1, q2⟩ := sn_hJ hj rfl hle hrun
    exact sg_ifnonnull_r S d q1 q2
  · cases (show (none : pm_R) = some (o, h') from hrun)
theorem st_acmp_eq {z : Int} (S : CallFix p m c cc nL s args lw_all own) (hj : ∀ t ls st g, pm_le h0 g → jp t ls st g = some (o, h') → t < B.length ∧ t < 99999 ∧ sn_G p l e R s m args below meth c Q D κ A k8 a8 nL ad0 h0 (B.getD t 99998) ls st g) (hEnv : sn_Env TX D κ A a8 L xs s) (h8k : sn_K8 k8 L xs) (hk : ∀ ls st g, pm_le h0 g → pm_int jp hs (K ls st g) = some (o, h') → sn_G p l e R s m args below meth c Q D κ A k8 a8 nL ad0 h0 (pc + 3) ls st g) (hle : pm_le h0 h) (d : decode cc pc = .ok (.if_acmp .eq z, 3)) (hrun : pm_int jp hs (pm_st pm_tab cl (tr lk B rt ini pc (.if_acmp .eq z)) K ls st h) = some (o, h')) : sn_G p l e R s m args below meth c Q D κ A k8 a8 nL ad0 h0 pc ls st h := by
  unfold tr at hrun
  dsimp only at hrun
  unfold tr_j at hrun
  split at hrun
  · cases (show (none : pm_R) = some (o, h') from hrun)
  rename_i hne
  have hpos := bk_pos hne
  unfold pm_st at hrun
  dsimp only at hrun
  split at hrun
  · split at hrun
    · rename_i y x s0 hl
      by_cases hq : x = y
      · rw [if_pos hq] at hrun
        obtain ⟨q1, q2⟩ := sn_hJ hj rfl hle hrun
        exact sg_acmp_eq S h8k hEnv.2.1 hl.1 hl.2 d q1 (fun _ => q2) (fun q => absurd hq q)
      · rw [if_neg hq] at hrun
        obtain ⟨t, ht⟩ := hpos
        have q2 := hk _ _ _ hle hrun
        exact sg_acmp_eq S h8k hEnv.2.1 hl.1 hl.2 d ht (fun q => absurd q hq) (fun _ => q2)
    · cases (show (none : pm_R) = some (o, h') from hrun)
  · cases (show (none : pm_R) = some (o, h') from hrun)
theorem st_acmp_ne {z : Int} (S : CallFix p m c cc nL s args lw_all own) (hj : ∀ t ls st g, pm_le h0 g → jp t ls st g = some (o, h') → t < B.length ∧ t < 99999 ∧ sn_G p l e R s m args below meth c Q D κ A k8 a8 nL ad0 h0 (B.getD t 99998) ls st g) (hEnv : sn_Env TX D κ A a8 L xs s) (h8k : sn_K8 k8 L xs) (hk : ∀ ls st g, pm_le h0 g → pm_int jp hs (K ls st g) = some (o, h') → sn_G p l e R s m args below meth c Q D κ A k8 a8 nL ad0 h0 (pc + 3) ls st g) (hle : pm_le h0 h) (d : decode cc pc = .ok (.if_acmp .ne z, 3)) (hrun : pm_int jp hs (pm_st pm_tab cl (tr lk B rt ini pc (.if_acmp .ne z)) K ls st h) = some (o, h')) : sn_G p l e R s m args below meth c Q D κ A k8 a8 nL ad0 h0 pc ls st h := by
  unfold tr at hrun
  dsimp only at hrun
  unfold tr_j at hrun
  split at hrun
  · cases (show (none : pm_R) = some (o, h') from hrun)
  rename_i hne
  have hpos := bk_pos hne
  unfold pm_st at hrun
  dsimp only at hrun
  split at hrun
  · split at hrun
    · rename_i y x s0 hl
      by_cases hq : x = y
      · rw [if_pos hq] at hrun
        obtain ⟨t, ht⟩ := hpos
        have q2 := hk _ _ _ hle hrun
        exact sg_acmp_ne S h8k hEnv.2.1 hl.1 hl.2 d ht (fun q => absurd hq q) (fun _ => q2)
      · rw [if_neg hq] at hrun
        obtain ⟨q1, q2⟩ := sn_hJ hj rfl hle hrun
        exact sg_acmp_ne S h8k hEnv.2.1 hl.1 hl.2 d q1 (fun _ => q2) (fun q => absurd q hq)
    · cases (show (none : pm_R) = some (o, h') from hrun)
  · cases (show (none : pm_R) = some (o, h') from hrun)
end
