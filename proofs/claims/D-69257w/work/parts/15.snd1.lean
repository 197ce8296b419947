/-! ===== SOUNDNESS, 2: steps that leave the heap alone ===== -/
section
variable {p : Program} {l : Launch} {e : Env} {R : Room} {s : State} {m : MethodId} {args : Array Value} {below : List Frame} {meth : Method} {c : Code} {Q : State → Prop} {D : va_G} {κ : FieldType → ClassId} {A : Nat → Prop} {k8 : Nat → pm_E} {a8 : Nat → Nat} {nL : Nat} {ad0 : Nat → Nat} {h0 : pm_H} {cc : ByteArray} {own : String} {pc : Nat} {ls st : List Value} {h : pm_H}
theorem sn_b8 {n : Int} (h1 : -128 ≤ n) (h2 : n ≤ 127) : (Int8.ofInt n).toInt32 = Int32.ofInt n := by
  have h : ∀ k : Fin 256, (Int8.ofInt ((k.val : Int) - 128)).toInt32 = Int32.ofInt ((k.val : Int) - 128) := by decide +kernel
  have := h ⟨(n + 128).toNat, by omega⟩
  rw [show (((n + 128).toNat : Nat) : Int) - 128 = n by omega] at this
  exact this
theorem sn_b16 {n : Int} (h1 : -32768 ≤ n) (h2 : n ≤ 32767) : (Int16.ofInt n).toInt32 = Int32.ofInt n := by
  rw [← Int32.toInt_inj, Int16.toInt_toInt32, nu_i (by omega) (by omega)]
  exact Int16.toInt_ofInt_of_le (by simpa using h1) (by simp; omega)
theorem sg_iconst {n : Int} (S : CallFix p m c cc nL s args lw_all own) (d : decode cc pc = .ok (.iconst n, 1)) (k : sn_G p l e R s m args below meth c Q D κ A k8 a8 nL ad0 h0 (pc + 1) ls (.int (Int32.ofInt n) :: st) h) : sn_G p l e R s m args below meth c Q D κ A k8 a8 nL ad0 h0 pc ls (st) h := by
  intro ad H locs la cells slots hR h8 hE hS hF hs c1 c2
  exact lv_iconst S.1 S.2.1 d rfl (k ad H locs la cells slots hR h8 hE hS hF (sn_S_cons sn_v_i hs) c1 c2)
theorem sg_bipush {n : Int} (S : CallFix p m c cc nL s args lw_all own) (h1 : -128 ≤ n) (h2 : n ≤ 127) (d : decode cc pc = .ok (.bipush n, 2)) (k : sn_G p l e R s m args below meth c Q D κ A k8 a8 nL ad0 h0 (pc + 2) ls (.int (Int32.ofInt n) :: st) h) : sn_G p l e R s m args below meth c Q D κ A k8 a8 nL ad0 h0 pc ls (st) h := by
  intro ad H locs la cells slots hR h8 hE hS hF hs c1 c2
  exact lv_bipush S.1 S.2.1 d (sn_b8 h1 h2) (k ad H locs la cells slots hR h8 hE hS hF (sn_S_cons sn_v_i hs) c1 c2)
theorem sg_sipush {n : Int} (S : CallFix p m c cc nL s args lw_all own) (h1 : -32768 ≤ n) (h2 : n ≤ 32767) (d : decode cc pc = .ok (.sipush n, 3)) (k : sn_G p l e R s m args below meth c Q D κ A k8 a8 nL ad0 h0 (pc + 3) ls (.int (Int32.ofInt n) :: st) h) : sn_G p l e R s m args below meth c Q D κ A k8 a8 nL ad0 h0 pc ls (st) h := by
  intro ad H locs la cells slots hR h8 hE hS hF hs c1 c2
  exact lv_sipush S.1 S.2.1 d (sn_b16 h1 h2) (k ad H locs la cells slots hR h8 hE hS hF (sn_S_cons sn_v_i hs) c1 c2)
theorem sg_ldc {i : Nat} {n : Int} (S : CallFix p m c cc nL s args lw_all own) (hw : Cond.constant own i (Int32.ofInt n) ∈ lw_all) (d : decode cc pc = .ok (.ldc i, 2)) (k : sn_G p l e R s m args below meth c Q D κ A k8 a8 nL ad0 h0 (pc + 2) ls (.int (Int32.ofInt n) :: st) h) : sn_G p l e R s m args below meth c Q D κ A k8 a8 nL ad0 h0 pc ls (st) h := by
  intro ad H locs la cells slots hR h8 hE hS hF hs c1 c2
  exact lv_ldc S.1 S.2.1 S.2.2.2.1 (S.2.2.2.2 _ hw) d (k ad H locs la cells slots hR h8 hE hS hF (sn_S_cons sn_v_i hs) c1 c2)
theorem sg_lconst {i : Fin 2} {n : Int} (S : CallFix p m c cc nL s args lw_all own) (hn : Int64.ofNat (i : Nat) = Int64.ofInt n) (d : decode cc pc = .ok (.lconst i, 1)) (k : sn_G p l e R s m args below meth c Q D κ A k8 a8 nL ad0 h0 (pc + 1) ls (.long (Int64.ofInt n) :: st) h) : sn_G p l e R s m args below meth c Q D κ A k8 a8 nL ad0 h0 pc ls (st) h := by
  intro ad H locs la cells slots hR h8 hE hS hF hs c1 c2
  exact lv_lconst S.1 S.2.1 d hn (k ad H locs la cells slots hR h8 hE hS hF (sn_S_cons sn_v_l hs) c1 c2)
theorem sg_ldc2 {i : Nat} {n : Int} (S : CallFix p m c cc nL s args lw_all own) (hw : Cond.constantLong own i (Int64.ofInt n) ∈ lw_all) (d : decode cc pc = .ok (.ldc2_w i, 3)) (k : sn_G p l e R s m args below meth c Q D κ A k8 a8 nL ad0 h0 (pc + 3) ls (.long (Int64.ofInt n) :: st) h) : sn_G p l e R s m args below meth c Q D κ A k8 a8 nL ad0 h0 pc ls (st) h := by
  intro ad H locs la cells slots hR h8 hE hS hF hs c1 c2
  exact lv_ldc2 S.1 S.2.1 S.2.2.2.1 (S.2.2.2.2 _ hw) d (k ad H locs la cells slots hR h8 hE hS hF (sn_S_cons sn_v_l hs) c1 c2)
theorem sg_ldc2d {i n : Nat} (S : CallFix p m c cc nL s args lw_all own) (hw : Cond.constantDouble own i (UInt64.ofNat n) ∈ lw_all) (d : decode cc pc = .ok (.ldc2_w i, 3)) (k : sn_G p l e R s m args below meth c Q D κ A k8 a8 nL ad0 h0 (pc + 3) ls (.double (UInt64.ofNat n) :: st) h) : sn_G p l e R s m args below meth c Q D κ A k8 a8 nL ad0 h0 pc ls (st) h := by
  intro ad H locs la cells slots hR h8 hE hS hF hs c1 c2
  exact lv_ldc2d S.1 S.2.1 S.2.2.2.1 (S.2.2.2.2 _ hw) d (k ad H locs la cells slots hR h8 hE hS hF (sn_S_cons sn_v_d hs) c1 c2)
theorem sg_dconst0 (S : CallFix p m c cc nL s args lw_all own) (d : decode cc pc = .ok (.dconst 0, 1)) (k : sn_G p l e R s m args below meth c Q D κ A k8 a8 nL ad0 h0 (pc + 1) ls (.double (UInt64.ofNat 0) :: st) h) : sn_G p l e R s m args below meth c Q D κ A k8 a8 nL ad0 h0 pc ls (st) h := by
  intro ad H locs la cells slots hR h8 hE hS hF hs c1 c2
  exact lv_dconst0 S.1 S.2.1 d (k ad H locs la cells slots hR h8 hE hS hF (sn_S_cons sn_v_d hs) c1 c2)
theorem sg_null (S : CallFix p m c cc nL s args lw_all own) (d : decode cc pc = .ok (.aconst_null, 1)) (k : sn_G p l e R s m args below meth c Q D κ A k8 a8 nL ad0 h0 (pc + 1) ls (.null :: st) h) : sn_G p l e R s m args below meth c Q D κ A k8 a8 nL ad0 h0 pc ls (st) h := by
  intro ad H locs la cells slots hR h8 hE hS hF hs c1 c2
  exact lv_null S.1 S.2.1 d (k ad H locs la cells slots hR h8 hE hS hF (sn_S_cons sn_v_n hs) c1 c2)
theorem sg_iadd {x y : Int32} (S : CallFix p m c cc nL s args lw_all own) (d : decode cc pc = .ok (.iadd, 1)) (k : sn_G p l e R s m args below meth c Q D κ A k8 a8 nL ad0 h0 (pc + 1) ls (.int (x + y) :: st) h) : sn_G p l e R s m args below meth c Q D κ A k8 a8 nL ad0 h0 pc ls (.int y :: .int x :: st) h := by
  intro ad H locs la cells slots hR h8 hE hS hF hs c1 c2
  exact lv_iadd S.1 S.2.1 d (k ad H locs la cells slots hR h8 hE hS hF (sn_S_cons sn_v_i (sn_S_tl (sn_S_tl hs))) c1 c2)
theorem sg_isub {x y : Int32} (S : CallFix p m c cc nL s args lw_all own) (d : decode cc pc = .ok (.isub, 1)) (k : sn_G p l e R s m args below meth c Q D κ A k8 a8 nL ad0 h0 (pc + 1) ls (.int (x - y) :: st) h) : sn_G p l e R s m args below meth c Q D κ A k8 a8 nL ad0 h0 pc ls (.int y :: .int x :: st) h := by
  intro ad H locs la cells slots hR h8 hE hS hF hs c1 c2
  exact lv_isub S.1 S.2.1 d (k ad H locs la cells slots hR h8 hE hS hF (sn_S_cons sn_v_i (sn_S_tl (sn_S_tl hs))) c1 c2)
theorem sg_imul {x y : Int32} (S : CallFix p m c cc nL s args lw_all own) (d : decode cc pc = .ok (.imul, 1)) (k : sn_G p l e R s m args below meth c Q D κ A k8 a8 nL ad0 h0 (pc + 1) ls (.int (x * y) :: st) h) : sn_G p l e R s m args below meth c Q D κ A k8 a8 nL ad0 h0 pc ls (.int y :: .int x :: st) h := by
  intro ad H locs la cells slots hR h8 hE hS hF hs c1 c2
  exact lv_imul S.1 S.2.1 d (k ad H locs la cells slots hR h8 hE hS hF (sn_S_cons sn_v_i (sn_S_tl (sn_S_tl hs))) c1 c2)
theorem sg_iand {x y : Int32} (S : CallFix p m c cc nL s args lw_all own) (d : decode cc pc = .ok (.iand, 1)) (k : sn_G p l e R s m args below meth c Q D κ A k8 a8 nL ad0 h0 (pc + 1) ls (.int (x &&& y) :: st) h) : sn_G p l e R s m args below meth c Q D κ A k8 a8 nL ad0 h0 pc ls (.int y :: .int x :: st) h := by
  intro ad H locs la cells slots hR h8 hE hS hF hs c1 c2
  exact lv_iand S.1 S.2.1 d (k ad H locs la cells slots hR h8 hE hS hF (sn_S_cons sn_v_i (sn_S_tl (sn_S_tl hs))) c1 c2)
theorem sg_ior {x y : Int32} (S : CallFix p m c cc nL s args lw_all own) (d : decode cc pc = .ok (.ior, 1)) (k : sn_G p l e R s m args below meth c Q D κ A k8 a8 nL ad0 h0 (pc + 1) ls (.int (x ||| y) :: st) h) : sn_G p l e R s m args below meth c Q D κ A k8 a8 nL ad0 h0 pc ls (.int y :: .int x :: st) h := by
  intro ad H locs la cells slots hR h8 hE hS hF hs c1 c2
  exact lv_ior S.1 S.2.1 d (k ad H locs la cells slots hR h8 hE hS hF (sn_S_cons sn_v_i (sn_S_tl (sn_S_tl hs))) c1 c2)
theorem sg_ixor {x y : Int32} (S : CallFix p m c cc nL s args lw_all own) (d : decode cc pc = .ok (.ixor, 1)) (k : sn_G p l e R s m args below meth c Q D κ A k8 a8 nL ad0 h0 (pc + 1) ls (.int (x ^^^ y) :: st) h) : sn_G p l e R s m args below meth c Q D κ A k8 a8 nL ad0 h0 pc ls (.int y :: .int x :: st) h := by
  intro ad H locs la cells slots hR h8 hE hS hF hs c1 c2
  exact lv_ixor S.1 S.2.1 d (k ad H locs la cells slots hR h8 hE hS hF (sn_S_cons sn_v_i (sn_S_tl (sn_S_tl hs))) c1 c2)
theorem sg_ishl {x y : Int32} (S : CallFix p m c cc nL s args lw_all own) (d : decode cc pc = .ok (.ishl, 1)) (k : sn_G p l e R s m args below meth c Q D κ A k8 a8 nL ad0 h0 (pc + 1) ls (.int (x <<< (y &&& 31)) :: st) h) : sn_G p l e R s m args below meth c Q D κ A k8 a8 nL ad0 h0 pc ls (.int y :: .int x :: st) h := by
  intro ad H locs la cells slots hR h8 hE hS hF hs c1 c2
  exact lv_ishl S.1 S.2.1 d (k ad H locs la cells slots hR h8 hE hS hF (sn_S_cons sn_v_i (sn_S_tl (sn_S_tl hs))) c1 c2)
theorem sg_ishr {x y : Int32} (S : CallFix p m c cc nL s args lw_all own) (d : decode cc pc = .ok (.ishr, 1)) (k : sn_G p l e R s m args below meth c Q D κ A k8 a8 nL ad0 h0 (pc + 1) ls (.int (x >>> (y &&& 31)) :: st) h) : sn_G p l e R s m args below meth c Q D κ A k8 a8 nL ad0 h0 pc ls (.int y :: .int x :: st) h := by
  intro ad H locs la cells slots hR h8 hE hS hF hs c1 c2
  exact lv_ishr S.1 S.2.1 d (k ad H locs la cells slots hR h8 hE hS hF (sn_S_cons sn_v_i (sn_S_tl (sn_S_tl hs))) c1 c2)
theorem sg_ladd {x y : Int64} (S : CallFix p m c cc nL s args lw_all own) (d : decode cc pc = .ok (.ladd, 1)) (k : sn_G p l e R s m args below meth c Q D κ A k8 a8 nL ad0 h0 (pc + 1) ls (.long (x + y) :: st) h) : sn_G p l e R s m args below meth c Q D κ A k8 a8 nL ad0 h0 pc ls (.long y :: .long x :: st) h := by
  intro ad H locs la cells slots hR h8 hE hS hF hs c1 c2
  exact lv_ladd S.1 S.2.1 d (k ad H locs la cells slots hR h8 hE hS hF (sn_S_cons sn_v_l (sn_S_tl (sn_S_tl hs))) c1 c2)
theorem sg_lsub {x y : Int64} (S : CallFix p m c cc nL s args lw_all own) (d : decode cc pc = .ok (.lsub, 1)) (k : sn_G p l e R s m args below meth c Q D κ A k8 a8 nL ad0 h0 (pc + 1) ls (.long (x - y) :: st) h) : sn_G p l e R s m args below meth c Q D κ A k8 a8 nL ad0 h0 pc ls (.long y :: .long x :: st) h := by
  intro ad H locs la cells slots hR h8 hE hS hF hs c1 c2
  exact lv_lsub S.1 S.2.1 d (k ad H locs la cells slots hR h8 hE hS hF (sn_S_cons sn_v_l (sn_S_tl (sn_S_tl hs))) c1 c2)
theorem sg_lmul {x y : Int64} (S : CallFix p m c cc nL s args lw_all own) (d : decode cc pc = .ok (.lmul, 1)) (k : sn_G p l e R s m args below meth c Q D κ A k8 a8 nL ad0 h0 (pc + 1) ls (.long (x * y) :: st) h) : sn_G p l e R s m args below meth c Q D κ A k8 a8 nL ad0 h0 pc ls (.long y :: .long x :: st) h := by
  intro ad H locs la cells slots hR h8 hE hS hF hs c1 c2
  exact lv_lmul S.1 S.2.1 d (k ad H locs la cells slots hR h8 hE hS hF (sn_S_cons sn_v_l (sn_S_tl (sn_S_tl hs))) c1 c2)
theorem sg_land {x y : Int64} (S : CallFix p m c cc nL s args lw_all own) (d : decode cc pc = .ok (.land, 1)) (k : sn_G p l e R s m args below meth c Q D κ A k8 a8 nL ad0 h0 (pc + 1) ls (.long (x &&& y) :: st) h) : sn_G p l e R s m args below meth c Q D κ A k8 a8 nL ad0 h0 pc ls (.long y :: .long x :: st) h := by
  intro ad H locs la cells slots hR h8 hE hS hF hs c1 c2
  exact lv_land S.1 S.2.1 d (k ad H locs la cells slots hR h8 hE hS hF (sn_S_cons sn_v_l (sn_S_tl (sn_S_tl hs))) c1 c2)
theorem sg_lor {x y : Int64} (S : CallFix p m c cc nL s args lw_all own) (d : decode cc pc = .ok (.lor, 1)) (k : sn_G p l e R s m args below meth c Q D κ A k8 a8 nL ad0 h0 (pc + 1) ls (.long (x ||| y) :: st) h) : sn_G p l e R s m args below meth c Q D κ A k8 a8 nL ad0 h0 pc ls (.long y :: .long x :: st) h := by
  intro ad H locs la cells slots hR h8 hE hS hF hs c1 c2
  exact lv_lor S.1 S.2.1 d (k ad H locs la cells slots hR h8 hE hS hF (sn_S_cons sn_v_l (sn_S_tl (sn_S_tl hs))) c1 c2)
theorem sg_lxor {x y : Int64} (S : CallFix p m c cc nL s args lw_all own) (d : decode cc pc = .ok (.lxor, 1)) (k : sn_G p l e R s m args below meth c Q D κ A k8 a8 nL ad0 h0 (pc + 1) ls (.long (x ^^^ y) :: st) h) : sn_G p l e R s m args below meth c Q D κ A k8 a8 nL ad0 h0 pc ls (.long y :: .long x :: st) h := by
  intro ad H locs la cells slots hR h8 hE hS hF hs c1 c2
  exact lv_lxor S.1 S.2.1 d (k ad H locs la cells slots hR h8 hE hS hF (sn_S_cons sn_v_l (sn_S_tl (sn_S_tl hs))) c1 c2)
theorem sg_idiv {x y : Int32} (S : CallFix p m c cc nL s args lw_all own) (hy : ¬ y = 0) (d : decode cc pc = .ok (.idiv, 1)) (k : sn_G p l e R s m args below meth c Q D κ A k8 a8 nL ad0 h0 (pc + 1) ls (.int (x / y) :: st) h) : sn_G p l e R s m args below meth c Q D κ A k8 a8 nL ad0 h0 pc ls (.int y :: .int x :: st) h := by
  intro ad H locs la cells slots hR h8 hE hS hF hs c1 c2
  exact lv_idiv S.1 S.2.1 d hy (k ad H locs la cells slots hR h8 hE hS hF (sn_S_cons sn_v_i (sn_S_tl (sn_S_tl hs))) c1 c2)
theorem sg_irem {x y : Int32} (S : CallFix p m c cc nL s args lw_all own) (hy : ¬ y = 0) (d : decode cc pc = .ok (.irem, 1)) (k : sn_G p l e R s m args below meth c Q D κ A k8 a8 nL ad0 h0 (pc + 1) ls (.int (x - x / y * y) :: st) h) : sn_G p l e R s m args below meth c Q D κ A k8 a8 nL ad0 h0 pc ls (.int y :: .int x :: st) h := by
  intro ad H locs la cells slots hR h8 hE hS hF hs c1 c2
  exact lv_irem S.1 S.2.1 d hy (k ad H locs la cells slots hR h8 hE hS hF (sn_S_cons sn_v_i (sn_S_tl (sn_S_tl hs))) c1 c2)
theorem sg_ldiv {x y : Int64} (S : CallFix p m c cc nL s args lw_all own) (hy : ¬ y = 0) (d : decode cc pc = .ok (.ldiv, 1)) (k : sn_G p l e R s m args below meth c Q D κ A k8 a8 nL ad0 h0 (pc + 1) ls (.long (x / y) :: st) h) : sn_G p l e R s m args below meth c Q D κ A k8 a8 nL ad0 h0 pc ls (.long y :: .long x :: st) h := by
  intro ad H locs la cells slots hR h8 hE hS hF hs c1 c2
  exact lv_ldiv S.1 S.2.1 d hy (k ad H locs la cells slots hR h8 hE hS hF (sn_S_cons sn_v_l (sn_S_tl (sn_S_tl hs))) c1 c2)
theorem sg_lrem {x y : Int64} (S : CallFix p m c cc nL s args lw_all own) (hy : ¬ y = 0) (d : decode cc pc = .ok (.lrem, 1)) (k : sn_G p l e R s m args below meth c Q D κ A k8 a8 nL ad0 h0 (pc + 1) ls (.long (x - x / y * y) :: st) h) : sn_G p l e R s m args below meth c Q D κ A k8 a8 nL ad0 h0 pc ls (.long y :: .long x :: st) h := by
  intro ad H locs la cells slots hR h8 hE hS hF hs c1 c2
  exact lv_lrem S.1 S.2.1 d hy (k ad H locs la cells slots hR h8 hE hS hF (sn_S_cons sn_v_l (sn_S_tl (sn_S_tl hs))) c1 c2)
theorem sg_ineg {x : Int32} (S : CallFix p m c cc nL s args lw_all own) (d : decode cc pc = .ok (.ineg, 1)) (k : sn_G p l e R s m args below meth c Q D κ A k8 a8 nL ad0 h0 (pc + 1) ls (.int (-x) :: st) h) : sn_G p l e R s m args below meth c Q D κ A k8 a8 nL ad0 h0 pc ls (.int x :: st) h := by
  intro ad H locs la cells slots hR h8 hE hS hF hs c1 c2
  exact lv_ineg S.1 S.2.1 d (k ad H locs la cells slots hR h8 hE hS hF (sn_S_cons sn_v_i (sn_S_tl hs)) c1 c2)
theorem sg_lneg {x : Int64} (S : CallFix p m c cc nL s args lw_all own) (d : decode cc pc = .ok (.lneg, 1)) (k : sn_G p l e R s m args below meth c Q D κ A k8 a8 nL ad0 h0 (pc + 1) ls (.long (-x) :: st) h) : sn_G p l e R s m args below meth c Q D κ A k8 a8 nL ad0 h0 pc ls (.long x :: st) h := by
  intro ad H locs la cells slots hR h8 hE hS hF hs c1 c2
  exact lv_lneg S.1 S.2.1 d (k ad H locs la cells slots hR h8 hE hS hF (sn_S_cons sn_v_l (sn_S_tl hs)) c1 c2)
theorem sg_lshl {x : Int64} {y : Int32} (S : CallFix p m c cc nL s args lw_all own) (d : decode cc pc = .ok (.lshl, 1)) (k : sn_G p l e R s m args below meth c Q D κ A k8 a8 nL ad0 h0 (pc + 1) ls (.long (x <<< (y.toInt64 &&& 63)) :: st) h) : sn_G p l e R s m args below meth c Q D κ A k8 a8 nL ad0 h0 pc ls (.int y :: .long x :: st) h := by
  intro ad H locs la cells slots hR h8 hE hS hF hs c1 c2
  exact lv_lshl S.1 S.2.1 d rfl (k ad H locs la cells slots hR h8 hE hS hF (sn_S_cons sn_v_l (sn_S_tl (sn_S_tl hs))) c1 c2)
theorem sg_lushr {x : Int64} {y : Int32} (S : CallFix p m c cc nL s args lw_all own) (d : decode cc pc = .ok (.lushr, 1)) (k : sn_G p l e R s m args below meth c Q D κ A k8 a8 nL ad0 h0 (pc + 1) ls (.long (x.toUInt64 >>> (y.toInt64.toUInt64 &&& Int64.toUInt64 63)).toInt64 :: st) h) : sn_G p l e R s m args below meth c Q D κ A k8 a8 nL ad0 h0 pc ls (.int y :: .long x :: st) h := by
  intro ad H locs la cells slots hR h8 hE hS hF hs c1 c2
  exact lv_lushr S.1 S.2.1 d rfl (k ad H locs la cells slots hR h8 hE hS hF (sn_S_cons sn_v_l (sn_S_tl (sn_S_tl hs))) c1 c2)
theorem sg_i2l {x : Int32} (S : CallFix p m c cc nL s args lw_all own) (d : decode cc pc = .ok (.i2l, 1)) (k : sn_G p l e R s m args below meth c Q D κ A k8 a8 nL ad0 h0 (pc + 1) ls (.long x.toInt64 :: st) h) : sn_G p l e R s m args below meth c Q D κ A k8 a8 nL ad0 h0 pc ls (.int x :: st) h := by
  intro ad H locs la cells slots hR h8 hE hS hF hs c1 c2
  exact lv_i2l S.1 S.2.1 d rfl (k ad H locs la cells slots hR h8 hE hS hF (sn_S_cons sn_v_l (sn_S_tl hs)) c1 c2)
theorem sg_l2i {x : Int64} (S : CallFix p m c cc nL s args lw_all own) (d : decode cc pc = .ok (.l2i, 1)) (k : sn_G p l e R s m args below meth c Q D κ A k8 a8 nL ad0 h0 (pc + 1) ls (.int x.toInt32 :: st) h) : sn_G p l e R s m args below meth c Q D κ A k8 a8 nL ad0 h0 pc ls (.long x :: st) h := by
  intro ad H locs la cells slots hR h8 hE hS hF hs c1 c2
  exact lv_l2i S.1 S.2.1 d rfl (k ad H locs la cells slots hR h8 hE hS hF (sn_S_cons sn_v_i (sn_S_tl hs)) c1 c2)
theorem sg_i2b {x : Int32} (S : CallFix p m c cc nL s args lw_all own) (d : decode cc pc = .ok (.i2b, 1)) (k : sn_G p l e R s m args below meth c Q D κ A k8 a8 nL ad0 h0 (pc + 1) ls (.int x.toInt8.toInt32 :: st) h) : sn_G p l e R s m args below meth c Q D κ A k8 a8 nL ad0 h0 pc ls (.int x :: st) h := by
  intro ad H locs la cells slots hR h8 hE hS hF hs c1 c2
  exact lv_i2b S.1 S.2.1 d rfl (k ad H locs la cells slots hR h8 hE hS hF (sn_S_cons sn_v_i (sn_S_tl hs)) c1 c2)
theorem sg_i2s {x : Int32} (S : CallFix p m c cc nL s args lw_all own) (d : decode cc pc = .ok (.i2s, 1)) (k : sn_G p l e R s m args below meth c Q D κ A k8 a8 nL ad0 h0 (pc + 1) ls (.int x.toInt16.toInt32 :: st) h) : sn_G p l e R s m args below meth c Q D κ A k8 a8 nL ad0 h0 pc ls (.int x :: st) h := by
  intro ad H locs la cells slots hR h8 hE hS hF hs c1 c2
  exact lv_i2s S.1 S.2.1 d rfl (k ad H locs la cells slots hR h8 hE hS hF (sn_S_cons sn_v_i (sn_S_tl hs)) c1 c2)
theorem sg_i2c {x : Int32} (S : CallFix p m c cc nL s args lw_all own) (d : decode cc pc = .ok (.i2c, 1)) (k : sn_G p l e R s m args below meth c Q D κ A k8 a8 nL ad0 h0 (pc + 1) ls (.int (x.toUInt32 % 65536).toInt32 :: st) h) : sn_G p l e R s m args below meth c Q D κ A k8 a8 nL ad0 h0 pc ls (.int x :: st) h := by
  intro ad H locs la cells slots hR h8 hE hS hF hs c1 c2
  exact lv_i2c S.1 S.2.1 d rfl (k ad H locs la cells slots hR h8 hE hS hF (sn_S_cons sn_v_i (sn_S_tl hs)) c1 c2)
theorem sg_i2d {x : Int32} (S : CallFix p m c cc nL s args lw_all own) (d : decode cc pc = .ok (.i2d, 1)) (k : sn_G p l e R s m args below meth c Q D κ A k8 a8 nL ad0 h0 (pc + 1) ls (.double (FP.i2d x) :: st) h) : sn_G p l e R s m args below meth c Q D κ A k8 a8 nL ad0 h0 pc ls (.int x :: st) h := by
  intro ad H locs la cells slots hR h8 hE hS hF hs c1 c2
  exact lv_i2d S.1 S.2.1 d (k ad H locs la cells slots hR h8 hE hS hF (sn_S_cons sn_v_d (sn_S_tl hs)) c1 c2)
theorem sg_ddiv {x y : UInt64} (S : CallFix p m c cc nL s args lw_all own) (hy : FP.ddiv x y &&& 0x7fffffffffffffff ≤ 0x7ff0000000000000) (d : decode cc pc = .ok (.ddiv, 1)) (k : sn_G p l e R s m args below meth c Q D κ A k8 a8 nL ad0 h0 (pc + 1) ls (.double (FP.ddiv x y) :: st) h) : sn_G p l e R s m args below meth c Q D κ A k8 a8 nL ad0 h0 pc ls (.double y :: .double x :: st) h := by
  intro ad H locs la cells slots hR h8 hE hS hF hs c1 c2
  exact lv_ddiv S.1 S.2.1 d hy (k ad H locs la cells slots hR h8 hE hS hF (sn_S_cons sn_v_d (sn_S_tl (sn_S_tl hs))) c1 c2)
theorem sg_lcmp {x y : Int64} (S : CallFix p m c cc nL s args lw_all own) (d : decode cc pc = .ok (.lcmp, 1)) (k : sn_G p l e R s m args below meth c Q D κ A k8 a8 nL ad0 h0 (pc + 1) ls (.int (lg_cmp x y) :: st) h) : sn_G p l e R s m args below meth c Q D κ A k8 a8 nL ad0 h0 pc ls (.long y :: .long x :: st) h := by
  intro ad H locs la cells slots hR h8 hE hS hF hs c1 c2
  exact W.lcmp S.1 S.2.1 d (k ad H locs la cells slots hR h8 hE hS hF (sn_S_cons sn_v_i (sn_S_tl (sn_S_tl hs))) c1 c2)
theorem sg_dcmp {x y : UInt64} {op : CmpOp} (S : CallFix p m c cc nL s args lw_all own) (d : decode cc pc = .ok (.dcmp op, 1)) (k : sn_G p l e R s m args below meth c Q D κ A k8 a8 nL ad0 h0 (pc + 1) ls (.int (Op.cmpValue (FP.dcmp x y) op) :: st) h) : sn_G p l e R s m args below meth c Q D κ A k8 a8 nL ad0 h0 pc ls (.double y :: .double x :: st) h := by
  intro ad H locs la cells slots hR h8 hE hS hF hs c1 c2
  exact lv_dcmp S.1 S.2.1 d (k ad H locs la cells slots hR h8 hE hS hF (sn_S_cons sn_v_i (sn_S_tl (sn_S_tl hs))) c1 c2)
theorem sg_dup {v : Value} (S : CallFix p m c cc nL s args lw_all own) (hv : v.category = 1) (d : decode cc pc = .ok (.dup, 1)) (k : sn_G p l e R s m args below meth c Q D κ A k8 a8 nL ad0 h0 (pc + 1) ls (v :: v :: st) h) : sn_G p l e R s m args below meth c Q D κ A k8 a8 nL ad0 h0 pc ls (v :: st) h := by
  intro ad H locs la cells slots hR h8 hE hS hF hs c1 c2
  exact lv_dup S.1 S.2.1 d (by rw [sn_V_cat]; exact hv) (k ad H locs la cells slots hR h8 hE hS hF (sn_S_cons (sn_S_hd hs) hs) c1 c2)
theorem sg_pop {v : Value} (S : CallFix p m c cc nL s args lw_all own) (hv : v.category = 1) (d : decode cc pc = .ok (.pop, 1)) (k : sn_G p l e R s m args below meth c Q D κ A k8 a8 nL ad0 h0 (pc + 1) ls (st) h) : sn_G p l e R s m args below meth c Q D κ A k8 a8 nL ad0 h0 pc ls (v :: st) h := by
  intro ad H locs la cells slots hR h8 hE hS hF hs c1 c2
  exact lv_pop S.1 S.2.1 d (by rw [sn_V_cat]; exact hv) (k ad H locs la cells slots hR h8 hE hS hF (sn_S_tl hs) c1 c2)
theorem sg_pop2 {v : Value} (S : CallFix p m c cc nL s args lw_all own) (hv : v.category = 2) (d : decode cc pc = .ok (.pop2, 1)) (k : sn_G p l e R s m args below meth c Q D κ A k8 a8 nL ad0 h0 (pc + 1) ls (st) h) : sn_G p l e R s m args below meth c Q D κ A k8 a8 nL ad0 h0 pc ls (v :: st) h := by
  intro ad H locs la cells slots hR h8 hE hS hF hs c1 c2
  exact lv_pop2_2 S.1 S.2.1 d (by rw [sn_V_cat]; exact hv) (k ad H locs la cells slots hR h8 hE hS hF (sn_S_tl hs) c1 c2)
theorem sg_dup_x1 {v u : Value} (S : CallFix p m c cc nL s args lw_all own) (hv : v.category = 1) (hu : u.category = 1) (d : decode cc pc = .ok (.dup_x1, 1)) (k : sn_G p l e R s m args below meth c Q D κ A k8 a8 nL ad0 h0 (pc + 1) ls (v :: u :: v :: st) h) : sn_G p l e R s m args below meth c Q D κ A k8 a8 nL ad0 h0 pc ls (v :: u :: st) h := by
  intro ad H locs la cells slots hR h8 hE hS hF hs c1 c2
  exact lv_dup_x1 S.1 S.2.1 d (by rw [sn_V_cat]; exact hv) (by rw [sn_V_cat]; exact hu) (k ad H locs la cells slots hR h8 hE hS hF (sn_S_cons (sn_S_hd hs) (sn_S_cons (sn_S_hd (sn_S_tl hs)) (sn_S_cons (sn_S_hd hs) (sn_S_tl (sn_S_tl hs))))) c1 c2)
theorem sg_dup_x2 {v u t : Value} (S : CallFix p m c cc nL s args lw_all own) (hv : v.category = 1) (hu : u.category = 1) (ht : t.category = 1) (d : decode cc pc = .ok (.dup_x2, 1)) (k : sn_G p l e R s m args below meth c Q D κ A k8 a8 nL ad0 h0 (pc + 1) ls (v :: u :: t :: v :: st) h) : sn_G p l e R s m args below meth c Q D κ A k8 a8 nL ad0 h0 pc ls (v :: u :: t :: st) h := by
  intro ad H locs la cells slots hR h8 hE hS hF hs c1 c2
  exact lv_dup_x2 S.1 S.2.1 d (by rw [sn_V_cat]; exact hv) (by rw [sn_V_cat]; exact hu) (by rw [sn_V_cat]; exact ht) (k ad H locs la cells slots hR h8 hE hS hF (sn_S_cons (sn_S_hd hs) (sn_S_cons (sn_S_hd (sn_S_tl hs)) (sn_S_cons (sn_S_hd (sn_S_tl (sn_S_tl hs))) (sn_S_cons (sn_S_hd hs) (sn_S_tl (sn_S_tl (sn_S_tl hs))))))) c1 c2)
theorem sg_dup2_2 {v : Value} (S : CallFix p m c cc nL s args lw_all own) (hv : v.category = 2) (d : decode cc pc = .ok (.dup2, 1)) (k : sn_G p l e R s m args below meth c Q D κ A k8 a8 nL ad0 h0 (pc + 1) ls (v :: v :: st) h) : sn_G p l e R s m args below meth c Q D κ A k8 a8 nL ad0 h0 pc ls (v :: st) h := by
  intro ad H locs la cells slots hR h8 hE hS hF hs c1 c2
  exact lv_dup2_2 S.1 S.2.1 d (by rw [sn_V_cat]; exact hv) (k ad H locs la cells slots hR h8 hE hS hF (sn_S_cons (sn_S_hd hs) hs) c1 c2)
theorem sg_dup2_11 {v u : Value} (S : CallFix p m c cc nL s args lw_all own) (hv : v.category = 1) (hu : u.category = 1) (d : decode cc pc = .ok (.dup2, 1)) (k : sn_G p l e R s m args below meth c Q D κ A k8 a8 nL ad0 h0 (pc + 1) ls (v :: u :: v :: u :: st) h) : sn_G p l e R s m args below meth c Q D κ A k8 a8 nL ad0 h0 pc ls (v :: u :: st) h := by
  intro ad H locs la cells slots hR h8 hE hS hF hs c1 c2
  exact lv_dup2_11 S.1 S.2.1 d (by rw [sn_V_cat]; exact hv) (by rw [sn_V_cat]; exact hu) (k ad H locs la cells slots hR h8 hE hS hF (sn_S_cons (sn_S_hd hs) (sn_S_cons (sn_S_hd (sn_S_tl hs)) hs)) c1 c2)
theorem sg_dup2_x1 {v u : Value} (S : CallFix p m c cc nL s args lw_all own) (hv : v.category = 2) (hu : u.category = 1) (d : decode cc pc = .ok (.dup2_x1, 1)) (k : sn_G p l e R s m args below meth c Q D κ A k8 a8 nL ad0 h0 (pc + 1) ls (v :: u :: v :: st) h) : sn_G p l e R s m args below meth c Q D κ A k8 a8 nL ad0 h0 pc ls (v :: u :: st) h := by
  intro ad H locs la cells slots hR h8 hE hS hF hs c1 c2
  exact lv_dup2_x1_2 S.1 S.2.1 d (by rw [sn_V_cat]; exact hv) (by rw [sn_V_cat]; exact hu) (k ad H locs la cells slots hR h8 hE hS hF (sn_S_cons (sn_S_hd hs) (sn_S_cons (sn_S_hd (sn_S_tl hs)) (sn_S_cons (sn_S_hd hs) (sn_S_tl (sn_S_tl hs))))) c1 c2)
theorem sg_iload_n {j : Fin 4} {i : Nat} {x : Int32} (S : CallFix p m c cc nL s args lw_all own) (hj : (j : Nat) = i) (hi : ls[i]? = some (.int x)) (d : decode cc pc = .ok (.iload_n j, 1)) (k : sn_G p l e R s m args below meth c Q D κ A k8 a8 nL ad0 h0 (pc + 1) ls (.int x :: st) h) : sn_G p l e R s m args below meth c Q D κ A k8 a8 nL ad0 h0 pc ls (st) h := by
  intro ad H locs la cells slots hR h8 hE hS hF hs c1 c2
  exact lv_iload_n S.1 S.2.1 d hj (hF.2.2.2.1 i _ hi (by intro z; cases z)) (k ad H locs la cells slots hR h8 hE hS hF (sn_S_cons sn_v_i hs) c1 c2)
theorem sg_iload {i : Nat} {x : Int32} (S : CallFix p m c cc nL s args lw_all own) (hi : ls[i]? = some (.int x)) (d : decode cc pc = .ok (.iload i, 2)) (k : sn_G p l e R s m args below meth c Q D κ A k8 a8 nL ad0 h0 (pc + 2) ls (.int x :: st) h) : sn_G p l e R s m args below meth c Q D κ A k8 a8 nL ad0 h0 pc ls (st) h := by
  intro ad H locs la cells slots hR h8 hE hS hF hs c1 c2
  exact lv_iload S.1 S.2.1 d (hF.2.2.2.1 i _ hi (by intro z; cases z)) (k ad H locs la cells slots hR h8 hE hS hF (sn_S_cons sn_v_i hs) c1 c2)
theorem sg_lload_n {j : Fin 4} {i : Nat} {x : Int64} (S : CallFix p m c cc nL s args lw_all own) (hj : (j : Nat) = i) (hi : ls[i]? = some (.long x)) (d : decode cc pc = .ok (.lload_n j, 1)) (k : sn_G p l e R s m args below meth c Q D κ A k8 a8 nL ad0 h0 (pc + 1) ls (.long x :: st) h) : sn_G p l e R s m args below meth c Q D κ A k8 a8 nL ad0 h0 pc ls (st) h := by
  intro ad H locs la cells slots hR h8 hE hS hF hs c1 c2
  exact lv_lload_n S.1 S.2.1 d hj (hF.2.2.2.1 i _ hi (by intro z; cases z)) (k ad H locs la cells slots hR h8 hE hS hF (sn_S_cons sn_v_l hs) c1 c2)
theorem sg_lload {i : Nat} {x : Int64} (S : CallFix p m c cc nL s args lw_all own) (hi : ls[i]? = some (.long x)) (d : decode cc pc = .ok (.lload i, 2)) (k : sn_G p l e R s m args below meth c Q D κ A k8 a8 nL ad0 h0 (pc + 2) ls (.long x :: st) h) : sn_G p l e R s m args below meth c Q D κ A k8 a8 nL ad0 h0 pc ls (st) h := by
  intro ad H locs la cells slots hR h8 hE hS hF hs c1 c2
  exact lv_lload S.1 S.2.1 d (hF.2.2.2.1 i _ hi (by intro z; cases z)) (k ad H locs la cells slots hR h8 hE hS hF (sn_S_cons sn_v_l hs) c1 c2)
theorem sg_dload_n {j : Fin 4} {i : Nat} {x : UInt64} (S : CallFix p m c cc nL s args lw_all own) (hj : (j : Nat) = i) (hi : ls[i]? = some (.double x)) (d : decode cc pc = .ok (.dload_n j, 1)) (k : sn_G p l e R s m args below meth c Q D κ A k8 a8 nL ad0 h0 (pc + 1) ls (.double x :: st) h) : sn_G p l e R s m args below meth c Q D κ A k8 a8 nL ad0 h0 pc ls (st) h := by
  intro ad H locs la cells slots hR h8 hE hS hF hs c1 c2
  exact lv_dload_n S.1 S.2.1 d hj (hF.2.2.2.1 i _ hi (by intro z; cases z)) (k ad H locs la cells slots hR h8 hE hS hF (sn_S_cons sn_v_d hs) c1 c2)
theorem sg_dload {i : Nat} {x : UInt64} (S : CallFix p m c cc nL s args lw_all own) (hi : ls[i]? = some (.double x)) (d : decode cc pc = .ok (.dload i, 2)) (k : sn_G p l e R s m args below meth c Q D κ A k8 a8 nL ad0 h0 (pc + 2) ls (.double x :: st) h) : sn_G p l e R s m args below meth c Q D κ A k8 a8 nL ad0 h0 pc ls (st) h := by
  intro ad H locs la cells slots hR h8 hE hS hF hs c1 c2
  exact lv_dload S.1 S.2.1 d (hF.2.2.2.1 i _ hi (by intro z; cases z)) (k ad H locs la cells slots hR h8 hE hS hF (sn_S_cons sn_v_d hs) c1 c2)
theorem sg_aload_n {j : Fin 4} {i : Nat} {x : Nat} (S : CallFix p m c cc nL s args lw_all own) (hj : (j : Nat) = i) (hi : ls[i]? = some (.ref x)) (d : decode cc pc = .ok (.aload_n j, 1)) (k : sn_G p l e R s m args below meth c Q D κ A k8 a8 nL ad0 h0 (pc + 1) ls (.ref x :: st) h) : sn_G p l e R s m args below meth c Q D κ A k8 a8 nL ad0 h0 pc ls (st) h := by
  intro ad H locs la cells slots hR h8 hE hS hF hs c1 c2
  exact lv_aload_n S.1 S.2.1 d hj (hF.2.2.2.1 i _ hi (by intro z; cases z)) (k ad H locs la cells slots hR h8 hE hS hF (sn_S_cons (hF.2.2.2.2 _ (List.mem_of_getElem? hi)) hs) c1 c2)
theorem sg_aload {i : Nat} {x : Nat} (S : CallFix p m c cc nL s args lw_all own) (hi : ls[i]? = some (.ref x)) (d : decode cc pc = .ok (.aload i, 2)) (k : sn_G p l e R s m args below meth c Q D κ A k8 a8 nL ad0 h0 (pc + 2) ls (.ref x :: st) h) : sn_G p l e R s m args below meth c Q D κ A k8 a8 nL ad0 h0 pc ls (st) h := by
  intro ad H locs la cells slots hR h8 hE hS hF hs c1 c2
  exact lv_aload S.1 S.2.1 d (hF.2.2.2.1 i _ hi (by intro z; cases z)) (k ad H locs la cells slots hR h8 hE hS hF (sn_S_cons (hF.2.2.2.2 _ (List.mem_of_getElem? hi)) hs) c1 c2)
theorem sg_aload_nN {j : Fin 4} {i : Nat} (S : CallFix p m c cc nL s args lw_all own) (hj : (j : Nat) = i) (hi : ls[i]? = some .null) (d : decode cc pc = .ok (.aload_n j, 1)) (k : sn_G p l e R s m args below meth c Q D κ A k8 a8 nL ad0 h0 (pc + 1) ls (.null :: st) h) : sn_G p l e R s m args below meth c Q D κ A k8 a8 nL ad0 h0 pc ls (st) h := by
  intro ad H locs la cells slots hR h8 hE hS hF hs c1 c2
  exact lv_aload_nN S.1 S.2.1 d hj (hF.2.2.2.1 i _ hi (by intro z; cases z)) (k ad H locs la cells slots hR h8 hE hS hF (sn_S_cons sn_v_n hs) c1 c2)
theorem sg_aloadN {i : Nat} (S : CallFix p m c cc nL s args lw_all own) (hi : ls[i]? = some .null) (d : decode cc pc = .ok (.aload i, 2)) (k : sn_G p l e R s m args below meth c Q D κ A k8 a8 nL ad0 h0 (pc + 2) ls (.null :: st) h) : sn_G p l e R s m args below meth c Q D κ A k8 a8 nL ad0 h0 pc ls (st) h := by
  intro ad H locs la cells slots hR h8 hE hS hF hs c1 c2
  exact lv_aloadN S.1 S.2.1 d (hF.2.2.2.1 i _ hi (by intro z; cases z)) (k ad H locs la cells slots hR h8 hE hS hF (sn_S_cons sn_v_n hs) c1 c2)
def sn_lv (ad : Nat → Nat) (ls : List Value) : List (Nat × Value) := (List.range ls.length).filterMap fun j => match ls[j]? with
  | some v => if v = pm_junk then none else some (j, sn_V ad v)
  | none => none
theorem sn_lv_in {ad : Nat → Nat} {ls : List Value} {j : Nat} {v : Value} (h : ls[j]? = some v) (hj : v ≠ pm_junk) : (j, sn_V ad v) ∈ sn_lv ad ls := by
  refine List.mem_filterMap.mpr ⟨j, List.mem_range.mpr (List.getElem?_eq_some_iff.mp h).1, ?_⟩
  simp only [h, if_neg hj]
theorem sn_lv_has {nL n : Nat} {ad : Nat → Nat} {ls : List Value} {la : Array Slot} (h : sn_F nL n ad ls la) : lv_has la nL (sn_lv ad ls) := by
  refine ⟨h.2.1, h.2.2.1, fun q hq => ?_⟩
  obtain ⟨j, -, hj⟩ := List.mem_filterMap.mp hq
  split at hj
  · rename_i v hv
    split at hj
    · cases hj
    · rename_i hne
      cases hj
      exact h.2.2.2.1 j v hv hne
  · cases hj
theorem sn_set1_len : ∀ (ls : List Value) (i : Nat) (v : Value), (pm_set1 ls i v).length = ls.length := by
  intro ls
  induction ls with
  | nil => intro i v; simp [pm_set1]
  | cons w l ih =>
    intro i v
    match i with
    | 0 => simp [pm_set1]
    | 1 => simp [pm_set1]
    | i + 2 => simp [pm_set1, ih]
theorem sn_set1_at : ∀ (ls : List Value) (i j : Nat) (v u : Value), (pm_set1 ls i v)[j]? = some u → (j = i ∧ u = v) ∨ (j ≠ i ∧ j + 1 ≠ i ∧ ls[j]? = some u) ∨ (j + 1 = i ∧ ∃ w, ls[j]? = some w ∧ u = pm_kill w) := by
  intro ls
  induction ls with
  | nil => intro i j v u h; simp [pm_set1] at h
  | cons w l ih =>
    intro i j v u h
    match i, j with
    | 0, 0 => simp [pm_set1] at h; exact Or.inl ⟨rfl, h.symm⟩
    | 0, j + 1 => simp [pm_set1] at h; exact Or.inr (Or.inl ⟨by omega, by omega, by simpa using h⟩)
    | 1, 0 => simp [pm_set1] at h; exact Or.inr (Or.inr ⟨rfl, w, rfl, h.symm⟩)
    | 1, 1 =>
      simp only [pm_set1, List.getElem?_cons_succ] at h
      rcases l with _ | ⟨z, l⟩
      · simp at h
      · simp at h; exact Or.inl ⟨rfl, h.symm⟩
    | 1, j + 2 =>
      simp only [pm_set1, List.getElem?_cons_succ] at h
      rw [List.getElem?_set_ne (by omega)] at h
      exact Or.inr (Or.inl ⟨by omega, by omega, by simpa using h⟩)
    | i + 2, 0 => simp [pm_set1] at h; exact Or.inr (Or.inl ⟨by omega, by omega, by simp [h]⟩)
    | i + 2, j + 1 =>
      simp only [pm_set1, List.getElem?_cons_succ] at h
      rcases ih (i + 1) j v u h with ⟨a, b⟩ | ⟨a, b, d⟩ | ⟨a, z, b, d⟩
      · exact Or.inl ⟨by omega, b⟩
      · exact Or.inr (Or.inl ⟨by omega, by omega, by simpa using d⟩)
      · exact Or.inr (Or.inr ⟨by omega, z, by simpa using b, d⟩)
theorem sn_kill_n {w : Value} (h : pm_kill w ≠ pm_junk) : w.category ≠ 2 ∧ pm_kill w = w := by
  unfold pm_kill at h ⊢
  split at h
  · exact absurd rfl h
  · rename_i q; exact ⟨q, if_neg q⟩
theorem sn_kill_v {n : Nat} {w : Value} (h : sn_v n w) : sn_v n (pm_kill w) := by
  unfold pm_kill
  split
  · exact sn_v_j
  · exact h
theorem sn_set1_wf {n : Nat} {ls : List Value} {i : Nat} {v : Value} (h : ∀ u ∈ ls, sn_v n u) (hv : sn_v n v) : ∀ u ∈ pm_set1 ls i v, sn_v n u := by
  intro u hu
  obtain ⟨j, hj⟩ := List.getElem?_of_mem hu
  rcases sn_set1_at ls i j v u hj with ⟨-, rfl⟩ | ⟨-, -, q⟩ | ⟨-, w, q, rfl⟩
  · exact hv
  · exact h u (List.mem_of_getElem? q)
  · exact sn_kill_v (h w (List.mem_of_getElem? q))
theorem sn_F_set1 {nL n : Nat} {ad : Nat → Nat} {ls : List Value} {la la' : Array Slot} {i : Nat} {v : Value} (h : sn_F nL n ad ls la) (hv : sn_v n v) (h' : lv_has la' nL ((i, sn_V ad v) :: (sn_lv ad ls).filter (fun q => !(q.1 == i) && !(q.1 + 1 == i && q.2.category == 2)))) : sn_F nL n ad (pm_set1 ls i v) la' := by
  refine ⟨by rw [sn_set1_len]; exact h.1, h'.1, h'.2.1, fun j u hj hne => ?_, sn_set1_wf h.2.2.2.2 hv⟩
  rcases sn_set1_at ls i j v u hj with ⟨rfl, rfl⟩ | ⟨a, b, q⟩ | ⟨a, w, q, rfl⟩
  · exact h'.2.2 _ List.mem_cons_self
  · refine h'.2.2 (j, sn_V ad u) (List.mem_cons_of_mem _ (List.mem_filter.mpr ⟨sn_lv_in q hne, ?_⟩))
    simp [a, b]
  · obtain ⟨k1, k2⟩ := sn_kill_n hne
    rw [k2]
    refine h'.2.2 (j, sn_V ad w) (List.mem_cons_of_mem _ (List.mem_filter.mpr ⟨sn_lv_in q (by rw [← k2]; exact hne), ?_⟩))
    have hji : ¬ j = i := by omega
    simp [hji, sn_V_cat, k1]
theorem sn_F_set2 {nL n : Nat} {ad : Nat → Nat} {ls : List Value} {la la' : Array Slot} {i : Nat} {v : Value} (h : sn_F nL n ad ls la) (hv : sn_v n v) (h' : lv_has la' nL ((i, sn_V ad v) :: (sn_lv ad ls).filter (fun q => !(q.1 == i) && (!(q.1 == i + 1) && !(q.1 + 1 == i && q.2.category == 2))))) : sn_F nL n ad (pm_set2 ls i v) la' := by
  refine ⟨by unfold pm_set2; rw [List.length_set, sn_set1_len]; exact h.1, h'.1, h'.2.1, fun j u hj hne => ?_, ?_⟩
  · unfold pm_set2 at hj
    by_cases hji : j = i + 1
    · subst hji
      rw [List.getElem?_set] at hj
      split at hj
      · split at hj
        · cases hj; exact absurd rfl hne
        · cases hj
      · rename_i q; exact absurd rfl q
    · rw [List.getElem?_set_ne (by omega)] at hj
      rcases sn_set1_at ls i j v u hj with ⟨rfl, rfl⟩ | ⟨a, b, q⟩ | ⟨a, w, q, rfl⟩
      · exact h'.2.2 _ List.mem_cons_self
      · refine h'.2.2 (j, sn_V ad u) (List.mem_cons_of_mem _ (List.mem_filter.mpr ⟨sn_lv_in q hne, ?_⟩))
        simp [a, b, hji]
      · obtain ⟨k1, k2⟩ := sn_kill_n hne
        rw [k2]
        refine h'.2.2 (j, sn_V ad w) (List.mem_cons_of_mem _ (List.mem_filter.mpr ⟨sn_lv_in q (by rw [← k2]; exact hne), ?_⟩))
        have hji2 : ¬ j = i := by omega
        simp [hji, hji2, sn_V_cat, k1]
  · intro u hu
    unfold pm_set2 at hu
    rcases List.mem_or_eq_of_mem_set hu with q | rfl
    · exact sn_set1_wf h.2.2.2.2 hv u q
    · exact sn_v_j
theorem sg_istore_n {j : Fin 4} {i : Nat} {x : Int32} (S : CallFix p m c cc nL s args lw_all own) (hj : (j : Nat) = i) (hi : i < ls.length) (d : decode cc pc = .ok (.istore_n j, 1)) (k : sn_G p l e R s m args below meth c Q D κ A k8 a8 nL ad0 h0 (pc + 1) (pm_set1 ls i (.int x)) st h) : sn_G p l e R s m args below meth c Q D κ A k8 a8 nL ad0 h0 pc ls (.int x :: st) h := by
  intro ad H locs la cells slots hR h8 hE hS hF hs c1 c2
  exact lv_istore_n S.1 S.2.1 d hj (sn_lv_has hF) (by rw [← hF.1]; exact hi) rfl (fun la' h' => k ad H locs la' cells slots hR h8 hE hS (sn_F_set1 (v := .int x) hF sn_v_i h') (sn_S_tl hs) c1 c2)
theorem sg_istore {i : Nat} {x : Int32} (S : CallFix p m c cc nL s args lw_all own) (hi : i < ls.length) (d : decode cc pc = .ok (.istore i, 2)) (k : sn_G p l e R s m args below meth c Q D κ A k8 a8 nL ad0 h0 (pc + 2) (pm_set1 ls i (.int x)) st h) : sn_G p l e R s m args below meth c Q D κ A k8 a8 nL ad0 h0 pc ls (.int x :: st) h := by
  intro ad H locs la cells slots hR h8 hE hS hF hs c1 c2
  exact lv_istore S.1 S.2.1 d (sn_lv_has hF) (by rw [← hF.1]; exact hi) rfl (fun la' h' => k ad H locs la' cells slots hR h8 hE hS (sn_F_set1 (v := .int x) hF sn_v_i h') (sn_S_tl hs) c1 c2)
theorem sg_astore_n {j : Fin 4} {i : Nat} {x : Nat} (S : CallFix p m c cc nL s args lw_all own) (hj : (j : Nat) = i) (hi : i < ls.length) (d : decode cc pc = .ok (.astore_n j, 1)) (k : sn_G p l e R s m args below meth c Q D κ A k8 a8 nL ad0 h0 (pc + 1) (pm_set1 ls i (.ref x)) st h) : sn_G p l e R s m args below meth c Q D κ A k8 a8 nL ad0 h0 pc ls (.ref x :: st) h := by
  intro ad H locs la cells slots hR h8 hE hS hF hs c1 c2
  exact lv_astore_n S.1 S.2.1 d hj (sn_lv_has hF) (by rw [← hF.1]; exact hi) rfl (fun la' h' => k ad H locs la' cells slots hR h8 hE hS (sn_F_set1 (v := .ref x) hF (sn_S_hd hs) h') (sn_S_tl hs) c1 c2)
theorem sg_astore {i : Nat} {x : Nat} (S : CallFix p m c cc nL s args lw_all own) (hi : i < ls.length) (d : decode cc pc = .ok (.astore i, 2)) (k : sn_G p l e R s m args below meth c Q D κ A k8 a8 nL ad0 h0 (pc + 2) (pm_set1 ls i (.ref x)) st h) : sn_G p l e R s m args below meth c Q D κ A k8 a8 nL ad0 h0 pc ls (.ref x :: st) h := by
  intro ad H locs la cells slots hR h8 hE hS hF hs c1 c2
  exact lv_astore S.1 S.2.1 d (sn_lv_has hF) (by rw [← hF.1]; exact hi) rfl (fun la' h' => k ad H locs la' cells slots hR h8 hE hS (sn_F_set1 (v := .ref x) hF (sn_S_hd hs) h') (sn_S_tl hs) c1 c2)
theorem sg_astore_nN {j : Fin 4} {i : Nat} (S : CallFix p m c cc nL s args lw_all own) (hj : (j : Nat) = i) (hi : i < ls.length) (d : decode cc pc = .ok (.astore_n j, 1)) (k : sn_G p l e R s m args below meth c Q D κ A k8 a8 nL ad0 h0 (pc + 1) (pm_set1 ls i .null) st h) : sn_G p l e R s m args below meth c Q D κ A k8 a8 nL ad0 h0 pc ls (.null :: st) h := by
  intro ad H locs la cells slots hR h8 hE hS hF hs c1 c2
  exact lv_astore_nN S.1 S.2.1 d hj (sn_lv_has hF) (by rw [← hF.1]; exact hi) rfl (fun la' h' => k ad H locs la' cells slots hR h8 hE hS (sn_F_set1 (v := .null) hF sn_v_n h') (sn_S_tl hs) c1 c2)
theorem sg_astoreN {i : Nat} (S : CallFix p m c cc nL s args lw_all own) (hi : i < ls.length) (d : decode cc pc = .ok (.astore i, 2)) (k : sn_G p l e R s m args below meth c Q D κ A k8 a8 nL ad0 h0 (pc + 2) (pm_set1 ls i .null) st h) : sn_G p l e R s m args below meth c Q D κ A k8 a8 nL ad0 h0 pc ls (.null :: st) h := by
  intro ad H locs la cells slots hR h8 hE hS hF hs c1 c2
  exact lv_astoreN S.1 S.2.1 d (sn_lv_has hF) (by rw [← hF.1]; exact hi) rfl (fun la' h' => k ad H locs la' cells slots hR h8 hE hS (sn_F_set1 (v := .null) hF sn_v_n h') (sn_S_tl hs) c1 c2)
theorem sg_lstore_n {j : Fin 4} {i : Nat} {x : Int64} (S : CallFix p m c cc nL s args lw_all own) (hj : (j : Nat) = i) (hi : i + 1 < ls.length) (d : decode cc pc = .ok (.lstore_n j, 1)) (k : sn_G p l e R s m args below meth c Q D κ A k8 a8 nL ad0 h0 (pc + 1) (pm_set2 ls i (.long x)) st h) : sn_G p l e R s m args below meth c Q D κ A k8 a8 nL ad0 h0 pc ls (.long x :: st) h := by
  intro ad H locs la cells slots hR h8 hE hS hF hs c1 c2
  exact lv_lstore_n S.1 S.2.1 d hj (sn_lv_has hF) (by rw [← hF.1]; exact hi) rfl (fun la' h' => k ad H locs la' cells slots hR h8 hE hS (sn_F_set2 (v := .long x) hF sn_v_l h') (sn_S_tl hs) c1 c2)
theorem sg_lstore {i : Nat} {x : Int64} (S : CallFix p m c cc nL s args lw_all own) (hi : i + 1 < ls.length) (d : decode cc pc = .ok (.lstore i, 2)) (k : sn_G p l e R s m args below meth c Q D κ A k8 a8 nL ad0 h0 (pc + 2) (pm_set2 ls i (.long x)) st h) : sn_G p l e R s m args below meth c Q D κ A k8 a8 nL ad0 h0 pc ls (.long x :: st) h := by
  intro ad H locs la cells slots hR h8 hE hS hF hs c1 c2
  exact lv_lstore S.1 S.2.1 d (sn_lv_has hF) (by rw [← hF.1]; exact hi) rfl (fun la' h' => k ad H locs la' cells slots hR h8 hE hS (sn_F_set2 (v := .long x) hF sn_v_l h') (sn_S_tl hs) c1 c2)
theorem sg_iinc {i : Nat} {n : Int} {x : Int32} (S : CallFix p m c cc nL s args lw_all own) (hi : ls[i]? = some (.int x)) (d : decode cc pc = .ok (.iinc i n, 3)) (k : sn_G p l e R s m args below meth c Q D κ A k8 a8 nL ad0 h0 (pc + 3) (pm_set1 ls i (.int (x + Int32.ofInt n))) st h) : sn_G p l e R s m args below meth c Q D κ A k8 a8 nL ad0 h0 pc ls st h := by
  intro ad H locs la cells slots hR h8 hE hS hF hs c1 c2
  obtain ⟨q, hq⟩ := List.getElem?_of_mem (sn_lv_in (ad := ad) hi (by intro z; cases z))
  exact lv_iinc S.1 S.2.1 d (sn_lv_has hF) hq rfl (by rw [← hF.1]; exact (List.getElem?_eq_some_iff.mp hi).1) rfl (fun la' h' => k ad H locs la' cells slots hR h8 hE hS (sn_F_set1 (v := .int (x + Int32.ofInt n)) hF sn_v_i h') hs c1 c2)
theorem sg_if_eq {x : Int32} {off : Int} {t : Nat} (S : CallFix p m c cc nL s args lw_all own) (d : decode cc pc = .ok (.ifCond .eq off, 3)) (ht : (pc : Int) + off = (t : Int)) (kt : (x = 0) → sn_G p l e R s m args below meth c Q D κ A k8 a8 nL ad0 h0 t ls st h) (kf : ¬ (x = 0) → sn_G p l e R s m args below meth c Q D κ A k8 a8 nL ad0 h0 (pc + 3) ls st h) : sn_G p l e R s m args below meth c Q D κ A k8 a8 nL ad0 h0 pc ls (.int x :: st) h := by
  intro ad H locs la cells slots hR h8 hE hS hF hs c1 c2
  exact lv_if_eq S.1 S.2.1 d ht (fun z => kt z ad H locs la cells slots hR h8 hE hS hF (sn_S_tl hs) c1 c2) (fun z => kf z ad H locs la cells slots hR h8 hE hS hF (sn_S_tl hs) c1 c2)
theorem sg_if_ne {x : Int32} {off : Int} {t : Nat} (S : CallFix p m c cc nL s args lw_all own) (d : decode cc pc = .ok (.ifCond .ne off, 3)) (ht : (pc : Int) + off = (t : Int)) (kt : (¬ x = 0) → sn_G p l e R s m args below meth c Q D κ A k8 a8 nL ad0 h0 t ls st h) (kf : x = 0 → sn_G p l e R s m args below meth c Q D κ A k8 a8 nL ad0 h0 (pc + 3) ls st h) : sn_G p l e R s m args below meth c Q D κ A k8 a8 nL ad0 h0 pc ls (.int x :: st) h := by
  intro ad H locs la cells slots hR h8 hE hS hF hs c1 c2
  exact lv_if_ne S.1 S.2.1 d ht (fun z => kt z ad H locs la cells slots hR h8 hE hS hF (sn_S_tl hs) c1 c2) (fun z => kf z ad H locs la cells slots hR h8 hE hS hF (sn_S_tl hs) c1 c2)
theorem sg_if_lt {x : Int32} {off : Int} {t : Nat} (S : CallFix p m c cc nL s args lw_all own) (d : decode cc pc = .ok (.ifCond .lt off, 3)) (ht : (pc : Int) + off = (t : Int)) (kt : (x < 0) → sn_G p l e R s m args below meth c Q D κ A k8 a8 nL ad0 h0 t ls st h) (kf : ¬ (x < 0) → sn_G p l e R s m args below meth c Q D κ A k8 a8 nL ad0 h0 (pc + 3) ls st h) : sn_G p l e R s m args below meth c Q D κ A k8 a8 nL ad0 h0 pc ls (.int x :: st) h := by
  intro ad H locs la cells slots hR h8 hE hS hF hs c1 c2
  exact lv_if_lt S.1 S.2.1 d ht (fun z => kt z ad H locs la cells slots hR h8 hE hS hF (sn_S_tl hs) c1 c2) (fun z => kf z ad H locs la cells slots hR h8 hE hS hF (sn_S_tl hs) c1 c2)
theorem sg_if_ge {x : Int32} {off : Int} {t : Nat} (S : CallFix p m c cc nL s args lw_all own) (d : decode cc pc = .ok (.ifCond .ge off, 3)) (ht : (pc : Int) + off = (t : Int)) (kt : (0 ≤ x) → sn_G p l e R s m args below meth c Q D κ A k8 a8 nL ad0 h0 t ls st h) (kf : ¬ (0 ≤ x) → sn_G p l e R s m args below meth c Q D κ A k8 a8 nL ad0 h0 (pc + 3) ls st h) : sn_G p l e R s m args below meth c Q D κ A k8 a8 nL ad0 h0 pc ls (.int x :: st) h := by
  intro ad H locs la cells slots hR h8 hE hS hF hs c1 c2
  exact lv_if_ge S.1 S.2.1 d ht (fun z => kt z ad H locs la cells slots hR h8 hE hS hF (sn_S_tl hs) c1 c2) (fun z => kf z ad H locs la cells slots hR h8 hE hS hF (sn_S_tl hs) c1 c2)
theorem sg_if_gt {x : Int32} {off : Int} {t : Nat} (S : CallFix p m c cc nL s args lw_all own) (d : decode cc pc = .ok (.ifCond .gt off, 3)) (ht : (pc : Int) + off = (t : Int)) (kt : (0 < x) → sn_G p l e R s m args below meth c Q D κ A k8 a8 nL ad0 h0 t ls st h) (kf : ¬ (0 < x) → sn_G p l e R s m args below meth c Q D κ A k8 a8 nL ad0 h0 (pc + 3) ls st h) : sn_G p l e R s m args below meth c Q D κ A k8 a8 nL ad0 h0 pc ls (.int x :: st) h := by
  intro ad H locs la cells slots hR h8 hE hS hF hs c1 c2
  exact lv_if_gt S.1 S.2.1 d ht (fun z => kt z ad H locs la cells slots hR h8 hE hS hF (sn_S_tl hs) c1 c2) (fun z => kf z ad H locs la cells slots hR h8 hE hS hF (sn_S_tl hs) c1 c2)
theorem sg_if_le {x : Int32} {off : Int} {t : Nat} (S : CallFix p m c cc nL s args lw_all own) (d : decode cc pc = .ok (.ifCond .le off, 3)) (ht : (pc : Int) + off = (t : Int)) (kt : (x ≤ 0) → sn_G p l e R s m args below meth c Q D κ A k8 a8 nL ad0 h0 t ls st h) (kf : ¬ (x ≤ 0) → sn_G p l e R s m args below meth c Q D κ A k8 a8 nL ad0 h0 (pc + 3) ls st h) : sn_G p l e R s m args below meth c Q D κ A k8 a8 nL ad0 h0 pc ls (.int x :: st) h := by
  intro ad H locs la cells slots hR h8 hE hS hF hs c1 c2
  exact lv_if_le S.1 S.2.1 d ht (fun z => kt z ad H locs la cells slots hR h8 hE hS hF (sn_S_tl hs) c1 c2) (fun z => kf z ad H locs la cells slots hR h8 hE hS hF (sn_S_tl hs) c1 c2)
theorem sg_icmp_eq {x y : Int32} {off : Int} {t : Nat} (S : CallFix p m c cc nL s args lw_all own) (d : decode cc pc = .ok (.if_icmp .eq off, 3)) (ht : (pc : Int) + off = (t : Int)) (kt : (x = y) → sn_G p l e R s m args below meth c Q D κ A k8 a8 nL ad0 h0 t ls st h) (kf : ¬ (x = y) → sn_G p l e R s m args below meth c Q D κ A k8 a8 nL ad0 h0 (pc + 3) ls st h) : sn_G p l e R s m args below meth c Q D κ A k8 a8 nL ad0 h0 pc ls (.int y :: .int x :: st) h := by
  intro ad H locs la cells slots hR h8 hE hS hF hs c1 c2
  exact lv_icmp_eq S.1 S.2.1 d ht (fun z => kt z ad H locs la cells slots hR h8 hE hS hF (sn_S_tl (sn_S_tl hs)) c1 c2) (fun z => kf z ad H locs la cells slots hR h8 hE hS hF (sn_S_tl (sn_S_tl hs)) c1 c2)
theorem sg_icmp_ne {x y : Int32} {off : Int} {t : Nat} (S : CallFix p m c cc nL s args lw_all own) (d : decode cc pc = .ok (.if_icmp .ne off, 3)) (ht : (pc : Int) + off = (t : Int)) (kt : (¬ x = y) → sn_G p l e R s m args below meth c Q D κ A k8 a8 nL ad0 h0 t ls st h) (kf : x = y → sn_G p l e R s m args below meth c Q D κ A k8 a8 nL ad0 h0 (pc + 3) ls st h) : sn_G p l e R s m args below meth c Q D κ A k8 a8 nL ad0 h0 pc ls (.int y :: .int x :: st) h := by
  intro ad H locs la cells slots hR h8 hE hS hF hs c1 c2
  exact lv_icmp_ne S.1 S.2.1 d ht (fun z => kt z ad H locs la cells slots hR h8 hE hS hF (sn_S_tl (sn_S_tl hs)) c1 c2) (fun z => kf z ad H locs la cells slots hR h8 hE hS hF (sn_S_tl (sn_S_tl hs)) c1 c2)
theorem sg_icmp_lt {x y : Int32} {off : Int} {t : Nat} (S : CallFix p m c cc nL s args lw_all own) (d : decode cc pc = .ok (.if_icmp .lt off, 3)) (ht : (pc : Int) + off = (t : Int)) (kt : (x < y) → sn_G p l e R s m args below meth c Q D κ A k8 a8 nL ad0 h0 t ls st h) (kf : ¬ (x < y) → sn_G p l e R s m args below meth c Q D κ A k8 a8 nL ad0 h0 (pc + 3) ls st h) : sn_G p l e R s m args below meth c Q D κ A k8 a8 nL ad0 h0 pc ls (.int y :: .int x :: st) h := by
  intro ad H locs la cells slots hR h8 hE hS hF hs c1 c2
  exact lv_icmp_lt S.1 S.2.1 d ht (fun z => kt z ad H locs la cells slots hR h8 hE hS hF (sn_S_tl (sn_S_tl hs)) c1 c2) (fun z => kf z ad H locs la cells slots hR h8 hE hS hF (sn_S_tl (sn_S_tl hs)) c1 c2)
theorem sg_icmp_ge {x y : Int32} {off : Int} {t : Nat} (S : CallFix p m c cc nL s args lw_all own) (d : decode cc pc = .ok (.if_icmp .ge off, 3)) (ht : (pc : Int) + off = (t : Int)) (kt : (y ≤ x) → sn_G p l e R s m args below meth c Q D κ A k8 a8 nL ad0 h0 t ls st h) (kf : ¬ (y ≤ x) → sn_G p l e R s m args below meth c Q D κ A k8 a8 nL ad0 h0 (pc + 3) ls st h) : sn_G p l e R s m args below meth c Q D κ A k8 a8 nL ad0 h0 pc ls (.int y :: .int x :: st) h := by
  intro ad H locs la cells slots hR h8 hE hS hF hs c1 c2
  exact lv_icmp_ge S.1 S.2.1 d ht (fun z => kt z ad H locs la cells slots hR h8 hE hS hF (sn_S_tl (sn_S_tl hs)) c1 c2) (fun z => kf z ad H locs la cells slots hR h8 hE hS hF (sn_S_tl (sn_S_tl hs)) c1 c2)
theorem sg_icmp_gt {x y : Int32} {off : Int} {t : Nat} (S : CallFix p m c cc nL s args lw_all own) (d : decode cc pc = .ok (.if_icmp .gt off, 3)) (ht : (pc : Int) + off = (t : Int)) (kt : (y < x) → sn_G p l e R s m args below meth c Q D κ A k8 a8 nL ad0 h0 t ls st h) (kf : ¬ (y < x) → sn_G p l e R s m args below meth c Q D κ A k8 a8 nL ad0 h0 (pc + 3) ls st h) : sn_G p l e R s m args below meth c Q D κ A k8 a8 nL ad0 h0 pc ls (.int y :: .int x :: st) h := by
  intro ad H locs la cells slots hR h8 hE hS hF hs c1 c2
  exact lv_icmp_gt S.1 S.2.1 d ht (fun z => kt z ad H locs la cells slots hR h8 hE hS hF (sn_S_tl (sn_S_tl hs)) c1 c2) (fun z => kf z ad H locs la cells slots hR h8 hE hS hF (sn_S_tl (sn_S_tl hs)) c1 c2)
theorem sg_icmp_le {x y : Int32} {off : Int} {t : Nat} (S : CallFix p m c cc nL s args lw_all own) (d : decode cc pc = .ok (.if_icmp .le off, 3)) (ht : (pc : Int) + off = (t : Int)) (kt : (x ≤ y) → sn_G p l e R s m args below meth c Q D κ A k8 a8 nL ad0 h0 t ls st h) (kf : ¬ (x ≤ y) → sn_G p l e R s m args below meth c Q D κ A k8 a8 nL ad0 h0 (pc + 3) ls st h) : sn_G p l e R s m args below meth c Q D κ A k8 a8 nL ad0 h0 pc ls (.int y :: .int x :: st) h := by
  intro ad H locs la cells slots hR h8 hE hS hF hs c1 c2
  exact lv_icmp_le S.1 S.2.1 d ht (fun z => kt z ad H locs la cells slots hR h8 hE hS hF (sn_S_tl (sn_S_tl hs)) c1 c2) (fun z => kf z ad H locs la cells slots hR h8 hE hS hF (sn_S_tl (sn_S_tl hs)) c1 c2)
theorem sg_goto {off : Int} {t : Nat} (S : CallFix p m c cc nL s args lw_all own) (d : decode cc pc = .ok (.goto off, 3)) (ht : (pc : Int) + off = (t : Int)) (k : sn_G p l e R s m args below meth c Q D κ A k8 a8 nL ad0 h0 t ls st h) : sn_G p l e R s m args below meth c Q D κ A k8 a8 nL ad0 h0 pc ls st h := by
  intro ad H locs la cells slots hR h8 hE hS hF hs c1 c2
  exact lv_goto S.1 S.2.1 d ht (k ad H locs la cells slots hR h8 hE hS hF hs c1 c2)
theorem sg_ifnull_r {x : Nat} {off : Int} {t : Nat} (S : CallFix p m c cc nL s args lw_all own) (d : decode cc pc = .ok (.ifnull off, 3)) (ht : (pc : Int) + off = (t : Int)) (k : sn_G p l e R s m args below meth c Q D κ A k8 a8 nL ad0 h0 (pc + 3) ls st h) : sn_G p l e R s m args below meth c Q D κ A k8 a8 nL ad0 h0 pc ls (.ref x :: st) h := by
  intro ad H locs la cells slots hR h8 hE hS hF hs c1 c2
  exact lv_ifnull S.1 S.2.1 d (k ad H locs la cells slots hR h8 hE hS hF (sn_S_tl hs) c1 c2)
theorem sg_ifnull_n {off : Int} {t : Nat} (S : CallFix p m c cc nL s args lw_all own) (d : decode cc pc = .ok (.ifnull off, 3)) (ht : (pc : Int) + off = (t : Int)) (k : sn_G p l e R s m args below meth c Q D κ A k8 a8 nL ad0 h0 (t) ls st h) : sn_G p l e R s m args below meth c Q D κ A k8 a8 nL ad0 h0 pc ls (.null :: st) h := by
  intro ad H locs la cells slots hR h8 hE hS hF hs c1 c2
  exact lv_ifnullN S.1 S.2.1 d ht (k ad H locs la cells slots hR h8 hE hS hF (sn_S_tl hs) c1 c2)
theorem sg_ifnonnull_r {x : Nat} {off : Int} {t : Nat} (S : CallFix p m c cc nL s args lw_all own) (d : decode cc pc = .ok (.ifnonnull off, 3)) (ht : (pc : Int) + off = (t : Int)) (k : sn_G p l e R s m args below meth c Q D κ A k8 a8 nL ad0 h0 (t) ls st h) : sn_G p l e R s m args below meth c Q D κ A k8 a8 nL ad0 h0 pc ls (.ref x :: st) h := by
  intro ad H locs la cells slots hR h8 hE hS hF hs c1 c2
  exact lv_ifnonnull S.1 S.2.1 d ht (k ad H locs la cells slots hR h8 hE hS hF (sn_S_tl hs) c1 c2)
theorem sg_ifnonnull_n {off : Int} {t : Nat} (S : CallFix p m c cc nL s args lw_all own) (d : decode cc pc = .ok (.ifnonnull off, 3)) (ht : (pc : Int) + off = (t : Int)) (k : sn_G p l e R s m args below meth c Q D κ A k8 a8 nL ad0 h0 (pc + 3) ls st h) : sn_G p l e R s m args below meth c Q D κ A k8 a8 nL ad0 h0 pc ls (.null :: st) h := by
  intro ad H locs la cells slots hR h8 hE hS hF hs c1 c2
  exact lv_ifnonnullN S.1 S.2.1 d (k ad H locs la cells slots hR h8 hE hS hF (sn_S_tl hs) c1 c2)
end
