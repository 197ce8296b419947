/-! ===== THE CHECKER: from a method's bytes to its pure code ===== -/
/-- what a class's constants say: links (32 * index + kind, value), ints, longs -/
abbrev lk_T : Type := List (Nat × Nat) × List (Nat × Int) × List (Nat × Int)
def lk_get {α : Type} (k : Nat) : List (Nat × α) → Option α
  | [] => none
  | (a, v) :: l => match Nat.beq a k with | true => some v | false => lk_get k l
/-- the block that begins at z -/
def bk (z : Int) : List Nat → Nat → Nat
  | [], _ => 99999
  | b :: l, j => match decide ((b : Int) = z) with | true => j | false => bk z l (j + 1)
def tr_g (x : Option Nat) (f : Nat → Instr) : Instr := match x with | some v => f v | none => .nop
def tr_z (x : Option Int) (f : Int → Instr) (y : Instr) : Instr := match x with | some v => f v | none => y
def tr_b (b : Bool) (x : Instr) : Instr := match b with | true => x | false => .nop
def tr_j (t : Nat) (f : Nat → Instr) : Instr := match Nat.beq t 99999 with | true => .nop | false => f t
def tr (lk : lk_T) (B : List Nat) (rt : Nat) (ini : Bool) (pc : Nat) (i : Instr) : Instr := match i with
  | .iconst n => .sipush n
  | .bipush n => tr_b (decide (-128 ≤ n) && decide (n ≤ 127)) (.sipush n)
  | .sipush n => tr_b (decide (-32768 ≤ n) && decide (n ≤ 32767)) (.sipush n)
  | .ldc x => tr_z (lk_get x lk.2.1) (fun z => .sipush z) (tr_g (lk_get (32 * x + 24) lk.1) (fun v => .ldc v))
  | .ldc_w x => tr_z (lk_get x lk.2.1) (fun z => .sipush z) (tr_g (lk_get (32 * x + 24) lk.1) (fun v => .ldc v))
  | .lconst n => .bipush (n.val : Int)
  | .ldc2_w x => tr_z (lk_get x lk.2.2) (fun z => .bipush z) (tr_g (lk_get (32 * x + 25) lk.1) (fun v => .ldc2_w v))
  | .dconst n => (match n.val with | 0 => .ldc2_w 0 | _ => .nop)
  | .iload_n n => .iload n.val
  | .lload_n n => .lload n.val
  | .dload_n n => .dload n.val
  | .aload_n n => .aload n.val
  | .istore_n n => .istore n.val
  | .lstore_n n => .lstore n.val
  | .astore_n n => .astore n.val
  | .iload n => .iload n
  | .lload n => .lload n
  | .aload n => .aload n
  | .istore n => .istore n
  | .lstore n => .lstore n
  | .astore n => .astore n
  | .iinc n z => .iinc n z
  | .dcmp o => .dcmp o
  | .newarray t => tr_b (!(t == .float || t == .double)) (.newarray t)
  | .aaload => .aaload
  | .aastore => .aastore
  | .aconst_null => .aconst_null
  | .arraylength => .arraylength
  | .athrow => .athrow
  | .baload => .baload
  | .bastore => .bastore
  | .caload => .caload
  | .castore => .castore
  | .ddiv => .ddiv
  | .dup => .dup
  | .dup2 => .dup2
  | .dup_x1 => .dup_x1
  | .dup_x2 => .dup_x2
  | .i2b => .i2b
  | .i2c => .i2c
  | .i2d => .i2d
  | .i2l => .i2l
  | .i2s => .i2s
  | .iadd => .iadd
  | .iaload => .iaload
  | .iand => .iand
  | .iastore => .iastore
  | .idiv => .idiv
  | .imul => .imul
  | .ineg => .ineg
  | .ior => .ior
  | .irem => .irem
  | .ishl => .ishl
  | .ishr => .ishr
  | .isub => .isub
  | .ixor => .ixor
  | .l2i => .l2i
  | .ladd => .ladd
  | .laload => .laload
  | .land => .land
  | .lastore => .lastore
  | .lcmp => .lcmp
  | .ldiv => .ldiv
  | .lmul => .lmul
  | .lneg => .lneg
  | .lor => .lor
  | .lrem => .lrem
  | .lshl => .lshl
  | .lsub => .lsub
  | .lushr => .lushr
  | .lxor => .lxor
  | .pop => .pop
  | .saload => .saload
  | .sastore => .sastore
  | .ifCond c o => tr_j (bk ((pc : Int) + o) B 0) (fun t => .ifCond c (t : Int))
  | .if_icmp c o => tr_j (bk ((pc : Int) + o) B 0) (fun t => .if_icmp c (t : Int))
  | .if_acmp c o => tr_j (bk ((pc : Int) + o) B 0) (fun t => .if_acmp c (t : Int))
  | .ifnull o => tr_j (bk ((pc : Int) + o) B 0) (fun t => .ifnull (t : Int))
  | .ifnonnull o => tr_j (bk ((pc : Int) + o) B 0) (fun t => .ifnonnull (t : Int))
  | .goto o => .goto (bk ((pc : Int) + o) B 0 : Nat)
  | .tableswitch d lo hi os => tr_b (decide (hi < lo + os.toList.length)) (.tableswitch (bk ((pc : Int) + d) B 0 : Nat) lo hi (Array.mk (os.toList.map fun o => ((bk ((pc : Int) + o) B 0 : Nat) : Int))))
  | .lookupswitch d ps => tr_b ((ps.toList.zip (ps.toList.drop 1)).all (fun (a, next) => a.1 < next.1)) (.lookupswitch (bk ((pc : Int) + d) B 0 : Nat) (Array.mk (ps.toList.map fun q => (q.1, ((bk ((pc : Int) + q.2) B 0 : Nat) : Int)))))
  | .ireturn => .jsr (rt : Int)
  | .lreturn => tr_b (Nat.beq rt 1) .lreturn
  | .areturn => tr_b (Nat.beq rt 3) .areturn
  | .return_ => tr_b (Nat.beq rt 9) .return_
  | .getfield x => tr_g (lk_get (32 * x) lk.1) (fun v => .getfield v)
  | .putfield x => match lk_get (32 * x + 1) lk.1 with
      | some v => .putfield v
      | none => tr_b ini (tr_g (lk_get (32 * x + 2) lk.1) (fun v => .putfield v))
  | .invokestatic x => match lk_get (32 * x + 3) lk.1 with
      | some v => .invokeinterface (v / 16) (v % 16)
      | none => match lk_get (32 * x + 4) lk.1 with
          | some v => .invokeinterface (v / 16) (v % 16)
          | none => match lk_get (32 * x + 12) lk.1 with
              | some _ => .monitorenter
              | none => tr_g (lk_get (32 * x + 13) lk.1) (fun _ => .monitorexit)
  | .invokevirtual x => match lk_get (32 * x + 5) lk.1 with
      | some v => .invokeinterface (v / 16) (v % 16)
      | none => match lk_get (32 * x + 6) lk.1 with
          | some v => .invokeinterface (v / 16) (v % 16)
          | none => match lk_get (32 * x + 16) lk.1 with
              | some v => .invokedynamic v
              | none => match lk_get (32 * x + 14) lk.1 with
                  | some _ => .d2i
                  | none => tr_g (lk_get (32 * x + 15) lk.1) (fun _ => .d2l)
  | .invokespecial x => match lk_get (32 * x + 7) lk.1 with
      | some v => .invokeinterface (v / 16) (v % 16)
      | none => match lk_get (32 * x + 8) lk.1 with
          | some v => .invokeinterface (v / 16) (v % 16)
          | none => tr_g (lk_get (32 * x + 11) lk.1) (fun _ => .f2i)
  | .new x => tr_g (lk_get (32 * x + 17) lk.1) (fun v => .new v)
  | .anewarray x => tr_g (lk_get (32 * x + 20) lk.1) (fun v => .anewarray v)
  | .multianewarray x n => tr_g (lk_get (32 * x + (9 + 6 * n)) lk.1) (fun v => .multianewarray v n)
  | .checkcast x => tr_g (lk_get (32 * x + 22) lk.1) (fun v => .checkcast v)
  | .getstatic x => tr_g (lk_get (32 * x + 23) lk.1) (fun v => .getstatic v)
  | _ => .nop
/-- it does not go on behind itself -/
def tr_end (i : Instr) : Bool := match i with
  | .goto _ => true
  | .tableswitch .. => true
  | .lookupswitch .. => true
  | .ireturn => true
  | .lreturn => true
  | .areturn => true
  | .return_ => true
  | .athrow => true
  | _ => false
/-- how long it must be -/
def tr_len (i : Instr) : Nat := match i with
  | .bipush _ => 2
  | .ldc _ => 2
  | .iload _ => 2
  | .lload _ => 2
  | .aload _ => 2
  | .istore _ => 2
  | .lstore _ => 2
  | .astore _ => 2
  | .newarray _ => 2
  | .sipush _ => 3
  | .ldc_w _ => 3
  | .ldc2_w _ => 3
  | .iinc .. => 3
  | .ifCond .. => 3
  | .if_icmp .. => 3
  | .if_acmp .. => 3
  | .ifnull _ => 3
  | .ifnonnull _ => 3
  | .goto _ => 3
  | .getfield _ => 3
  | .putfield _ => 3
  | .getstatic _ => 3
  | .invokestatic _ => 3
  | .invokevirtual _ => 3
  | .invokespecial _ => 3
  | .new _ => 3
  | .anewarray _ => 3
  | .checkcast _ => 3
  | .multianewarray .. => 4
  | .tableswitch .. => 0
  | .lookupswitch .. => 0
  | _ => 1
def tr_raw (ov : List (Nat × Instr × Nat)) (pc : Nat) (bs : List Nat) : Option (Instr × Nat) := match lk_get pc ov with
  | some r => some r
  | none => sd bs
/-- a block of the code, from pc on; hc looks at the handlers -/
def trb (lk : lk_T) (B : List Nat) (rt : Nat) (ini : Bool) (ov : List (Nat × Instr × Nat)) (hc : Nat → Bool) (stop j : Nat) : Nat → Nat → List Nat → List Instr
  | 0, _, _ => []
  | f + 1, pc, bs => match Nat.beq pc stop with
      | true => [.goto_w ((j + 1 : Nat) : Int)]
      | false => match hc pc with
          | false => []
          | true => match tr_raw ov pc bs with
              | none => []
              | some (i, n) => match Nat.beq (tr_len i) n || Nat.beq (tr_len i) 0 with
                | false => []
                | true => match tr_end i with
                  | true => [tr lk B rt ini pc i]
                  | false => match i with
                      | .new x => (match lk_get (32 * x + 18) lk.1 with
                          | none => tr lk B rt ini pc i :: trb lk B rt ini ov hc stop j f (pc + n) (bs.drop n)
                          | some c => match sd (bs.drop 3), sd (bs.drop 4) with
                              | some (.dup, 1), some (.invokespecial y, 3) => (match decide (n = 3) && decide (lk_get (32 * y + 19) lk.1 = some c) with
                                  | true => .ret c :: trb lk B rt ini ov hc stop j f (pc + 7) (bs.drop 7)
                                  | false => [])
                              | _, _ => [])
                      | i => tr lk B rt ini pc i :: trb lk B rt ini ov hc stop j f (pc + n) (bs.drop n)
/-- the handlers at pc -/
def hx (lk : lk_T) (B : List Nat) (bs : List Nat) (pc : Nat) : List (Nat × Nat × Nat × Nat) → Option (List (List Nat × Nat × Nat))
  | [] => some []
  | (f, to, tg, ct) :: l => match Nat.ble f pc && Nat.ble (pc + 1) to with
      | false => hx lk B bs pc l
      | true => match lk_get (32 * ct + 26) lk.1, sd (bs.drop tg), hx lk B bs pc l with
          | some c, some (.astore i, 2), some r => some (([c], bk ((tg + 2 : Nat) : Int) B 0, i) :: r)
          | some c, some (.astore_n i, 1), some r => some (([c], bk ((tg + 1 : Nat) : Int) B 0, i.val) :: r)
          | _, _, _ => none
/-- the whole method -/
def trm (lk : lk_T) (B : List Nat) (rt : Nat) (ini : Bool) (ov : List (Nat × Instr × Nat)) (hh : List (Nat × Nat × Nat × Nat)) (bs : List Nat) (M : pm_M) : Nat → Bool
  | 0 => true
  | j + 1 => trm lk B rt ini ov hh bs M j && decide (trb lk B rt ini ov (fun pc => match hh with | [] => true | _ => decide (hx lk B bs pc hh = some (M.2.1 j))) (B.getD (j + 1) 99998) j 5000 (B.getD j 0) (bs.drop (B.getD j 0)) = M.1 j)
