/-! ===== THE PURE MACHINE: values as the model has them; references are places 0, 1, .. in the order in which cells are made; a heap is (cells made, slots made, what is in a cell) ===== -/
abbrev pm_E : Type := (FieldType × vp_A) ⊕ (Nat × List Value)
abbrev pm_H : Type := Nat × Nat × (Nat → pm_E)
abbrev pm_R : Type := Option (Outcome × pm_H)
/-- what a run of a piece of straight code comes to: an end; a jump to a block; a throw (of an object of a class, by its number; so is Outcome.threw here) -/
abbrev pm_N : Type := pm_R ⊕ (Nat × List Value × List Value × pm_H) ⊕ (List Value × Nat × pm_H)
abbrev pm_C : Type := Nat → List Value → pm_H → pm_R
def pm_junk : Value := .retAddr 0
/-- an address where nothing is: all that reads or writes is stuck there -/
def pm_none : pm_E := .inr (1000000, [])
def pm_up (h : pm_H) (a : Nat) (e : pm_E) : pm_H := (h.1, h.2.1, va_up h.2.2 a e)
def pm_new (h : pm_H) (n : Nat) (e : pm_E) : pm_H := (h.1 + 1, h.2.1 + n, va_up h.2.2 h.1 e)
/-- types of values by a digit: 0 int, 1 long, 2 boolean, 3 a reference, 4 char, 5 byte, 6 double, 7 short -/
def pm_ok (t : Nat) (v : Value) : Bool := match v with
  | .int x => t == 0 || (t == 2 && (x == 0 || x == 1)) || (t == 4 && (0 ≤ x && x ≤ 65535)) || (t == 5 && (-128 ≤ x && x ≤ 127)) || (t == 7 && (-32768 ≤ x && x ≤ 32767))
  | .long _ => t == 1
  | .double _ => t == 6
  | .ref _ => t == 3
  | .null => t == 3
  | _ => false
def pm_kill (v : Value) : Value := if v.category = 2 then pm_junk else v
/-- a local of one place is set: a long that reached into it is gone -/
def pm_set1 (ls : List Value) (i : Nat) (v : Value) : List Value := match i, ls with
  | _, [] => []
  | 0, _ :: l => v :: l
  | 1, w :: l => pm_kill w :: l.set 0 v
  | i + 1, w :: l => w :: pm_set1 l i v
def pm_set2 (ls : List Value) (i : Nat) (v : Value) : List Value := (pm_set1 ls i v).set (i + 1) pm_junk
def pm_cats (st : List Value) : Nat := (st.map fun v => v.category).sum
/-- what the tables tell: (kind of array by number, default fields of a class, the classes below a class, a virtual method by kind and class, a constant's value, a static's value, slots of an exception) -/
abbrev pm_T : Type := (Nat → FieldType) × (Nat → List Value) × (Nat → Nat → Bool) × (Nat → Nat → Nat) × (Nat → Value) × (Nat → Value) × (FieldType → pm_E → Bool)
def pm_zero (t : FieldType) : (Nat → Int32) ⊕ (Nat → Int64) ⊕ (Nat → UInt32) ⊕ (Nat → UInt64) ⊕ (Nat → Option Nat) := match t with
  | .long => .inr (.inl (fun _ => 0))
  | .float => .inr (.inr (.inl (fun _ => 0)))
  | .double => .inr (.inr (.inr (.inl (fun _ => 0))))
  | .object _ => .inr (.inr (.inr (.inr (fun _ => none))))
  | .array _ => .inr (.inr (.inr (.inr (fun _ => none))))
  | _ => .inl (fun _ => 0)
def pm_isI (t : FieldType) : Bool := t == .int || t == .object "I"
def pm_isB (t : FieldType) : Bool := t == .byte || t == .boolean || t == .object "B"
def pm_isC (t : FieldType) : Bool := t == .char || t == .object "C"
def pm_isS (t : FieldType) : Bool := t == .short
def pm_wI (t : FieldType) : Bool := t == .int
def pm_wB (t : FieldType) : Bool := t == .byte || t == .boolean
def pm_wC (t : FieldType) : Bool := t == .char
/-- an index and a length -/
def pm_in (i : Int32) (n : Nat) : Prop := 0 ≤ i.toInt ∧ i.toInt < n
theorem pm_in_vp {i : Int32} {n : Nat} : pm_in i n ↔ vp_in i n := vp_in_iff.symm
def pm_rd (p : FieldType → Bool) (h : pm_H) (a : Nat) (i : Int32) : Option Int32 := match h.2.2 a with
  | .inl (t, n, .inl f) => if p t = true ∧ 0 ≤ i.toInt ∧ i.toInt < n then some (f i.toInt.toNat) else none
  | _ => none
def pm_wr (p : FieldType → Bool) (h : pm_H) (a : Nat) (i : Int32) (x : Int32) : Option pm_H := match h.2.2 a with
  | .inl (t, n, .inl f) => if p t = true ∧ 0 ≤ i.toInt ∧ i.toInt < n then some (pm_up h a (.inl (t, n, .inl (upd f i.toInt.toNat (vp_nar t x))))) else none
  | _ => none
def pm_rdL (h : pm_H) (a : Nat) (i : Int32) : Option Int64 := match h.2.2 a with
  | .inl (t, n, .inr (.inl f)) => if t = .long ∧ 0 ≤ i.toInt ∧ i.toInt < n then some (f i.toInt.toNat) else none
  | _ => none
def pm_wrL (h : pm_H) (a : Nat) (i : Int32) (x : Int64) : Option pm_H := match h.2.2 a with
  | .inl (t, n, .inr (.inl f)) => if t = .long ∧ 0 ≤ i.toInt ∧ i.toInt < n then some (pm_up h a (.inl (t, n, .inr (.inl (vp_updL f i.toInt.toNat x))))) else none
  | _ => none
def pm_rdR (h : pm_H) (a : Nat) (i : Int32) : Option (Option Nat) := match h.2.2 a with
  | .inl (t, n, .inr (.inr (.inr (.inr f)))) => if t.isReference = true ∧ 0 ≤ i.toInt ∧ i.toInt < n then some (f i.toInt.toNat) else none
  | _ => none
def pm_wrR (T : pm_T) (h : pm_H) (a : Nat) (i : Int32) (v : Option Nat) : Option pm_H := match h.2.2 a with
  | .inl (t, n, .inr (.inr (.inr (.inr f)))) => if t.isReference = true ∧ 0 ≤ i.toInt ∧ i.toInt < n ∧ (∀ b, v = some b → T.2.2.2.2.2.2 t (h.2.2 b) = true) then some (pm_up h a (.inl (t, n, .inr (.inr (.inr (.inr (va_up f i.toInt.toNat v))))))) else none
  | _ => none
def pm_len (h : pm_H) (a : Nat) : Option Nat := match h.2.2 a with
  | .inl (t, n, _) => if t = .object "S" then none else some n
  | _ => none
def pm_gf (T : pm_T) (h : pm_H) (a ci k : Nat) : Option Value := match h.2.2 a with
  | .inr (c, fs) => if T.2.2.1 c ci = true then fs[k]? else none
  | _ => none
def pm_pf (T : pm_T) (h : pm_H) (a ci k t : Nat) (v : Value) : Option pm_H := match h.2.2 a with
  | .inr (c, fs) => if T.2.2.1 c ci = true ∧ k < fs.length ∧ pm_ok t v = true then some (pm_up h a (.inr (c, fs.set k v))) else none
  | _ => none
def pm_cls (h : pm_H) (a : Nat) : Option Nat := match h.2.2 a with
  | .inr (c, _) => some c
  | _ => none
/-- System.arraycopy of ints -/
def pm_cpy (h : pm_H) (a : Nat) (i : Int32) (b : Nat) (j k : Int32) : Option pm_H := match h.2.2 a, h.2.2 b with
  | .inl (.int, n, .inl f), .inl (.int, m, .inl g) => if 0 ≤ i.toInt ∧ 0 ≤ j.toInt ∧ 0 ≤ k.toInt ∧ i.toInt + k.toInt ≤ n ∧ j.toInt + k.toInt ≤ m then some (pm_up h b (.inl (.int, m, .inl (va_cpy f g i.toInt.toNat j.toInt.toNat k.toInt.toNat)))) else none
  | _, _ => none
/-- Arrays.copyOf of an Object[] -/
def pm_copyOf (h : pm_H) (a : Nat) (n : Int32) : Option pm_H := match h.2.2 a with
  | .inl (.object o, m, .inr (.inr (.inr (.inr f)))) => if o = "java/lang/Object" ∧ 0 ≤ n.toInt ∧ n.toInt ≤ 1000000 ∧ m ≤ 1000000 ∧ (List.range m).all (fun j => match f j with | some k => (pm_cls h k).isSome | none => true) = true then some (pm_new h n.toInt.toNat (.inl (.object o, n.toInt.toNat, .inr (.inr (.inr (.inr (fun j => if j < m ∧ j < n.toInt.toNat then f j else none))))))) else none
  | _ => none
/-- k arrays of class t, one behind the other, each of n places -/
def pm_rows (t : FieldType) (n : Nat) : Nat → pm_H → pm_H
  | 0, h => h
  | k + 1, h => pm_rows t n k (pm_new h n (.inl (t, n, pm_zero t)))
/-- new T[n][m], new T[l][n][m]: rows behind their array -/
def pm_multi2 (t : FieldType) (n m : Nat) (h : pm_H) : pm_H := pm_rows t m n (pm_new h n (.inl (.array t, n, .inr (.inr (.inr (.inr (fun j => if j < n then some (h.1 + 1 + j) else none)))))))
def pm_planes (t : FieldType) (n m : Nat) : Nat → pm_H → pm_H
  | 0, h => h
  | k + 1, h => pm_planes t n m k (pm_multi2 t n m h)
def pm_multi3 (t : FieldType) (l n m : Nat) (h : pm_H) : pm_H := pm_planes t n m l (pm_new h l (.inl (.array (.array t), l, .inr (.inr (.inr (.inr (fun j => if j < l then some (h.1 + 1 + j * (n + 1)) else none)))))))
def pm_small (n : Int32) : Prop := 0 ≤ n.toInt ∧ n.toInt ≤ 1000000
def pm_sw (d lo hi : Int) (offs : List Int) (x : Int32) : Nat := if x.toInt < lo ∨ hi < x.toInt then d.toNat else (offs.getD (x.toInt - lo).toNat 0).toNat
def pm_lk (d : Int) : List (Int × Int) → Int32 → Nat
  | [], _ => d.toNat
  | (a, t) :: l, x => if x.toInt = a then t.toNat else pm_lk d l x
def pm_K : Type := List Value → List Value → pm_H → pm_N
def pm_o {α : Type} (x : Option α) (f : α → pm_N) : pm_N := match x with
  | some a => f a
  | none => .inl none
/-- a call's end in the caller: goes on, or throws here -/
def pm_aft (x : pm_R) (ls rest : List Value) (K : pm_K) : pm_N := match x with
  | some (.returned v, h) => K ls (v.toList ++ rest) h
  | some (.threw a, h) => .inr (.inr (ls, a, h))
  | none => .inl none
def pm_jmp (t : Int) (ls st : List Value) (h : pm_H) : pm_N := .inr (.inl (t.toNat, ls, st, h))
def pm_st (T : pm_T) (cl : pm_C) (i : Instr) (K : pm_K) (ls st : List Value) (h : pm_H) : pm_N := match i with
  | .sipush n => K ls (.int (Int32.ofInt n) :: st) h
  | .bipush n => K ls (.long (Int64.ofInt n) :: st) h
  | .ldc2_w b => K ls (.double (UInt64.ofNat b) :: st) h
  | .ldc k => K ls (T.2.2.2.2.1 k :: st) h
  | .getstatic k => K ls (T.2.2.2.2.2.1 k :: st) h
  | .aconst_null => K ls (.null :: st) h
  | .iload i => (match ls[i]? with | some (.int x) => K ls (.int x :: st) h | _ => .inl none)
  | .lload i => (match ls[i]? with | some (.long x) => K ls (.long x :: st) h | _ => .inl none)
  | .dload i => (match ls[i]? with | some (.double x) => K ls (.double x :: st) h | _ => .inl none)
  | .aload i => (match ls[i]? with | some (.ref x) => K ls (.ref x :: st) h | some .null => K ls (.null :: st) h | _ => .inl none)
  | .istore i => (match st with | .int x :: s => if i < ls.length then K (pm_set1 ls i (.int x)) s h else .inl none | _ => .inl none)
  | .astore i => (match st with | .ref x :: s => if i < ls.length then K (pm_set1 ls i (.ref x)) s h else .inl none | .null :: s => if i < ls.length then K (pm_set1 ls i .null) s h else .inl none | _ => .inl none)
  | .lstore i => (match st with | .long x :: s => if i + 1 < ls.length then K (pm_set2 ls i (.long x)) s h else .inl none | _ => .inl none)
  | .iinc i n => (match ls[i]? with | some (.int x) => K (pm_set1 ls i (.int (x + Int32.ofInt n))) st h | _ => .inl none)
  | .iadd => (match st with | .int y :: .int x :: s => K ls (.int (x + y) :: s) h | _ => .inl none)
  | .isub => (match st with | .int y :: .int x :: s => K ls (.int (x - y) :: s) h | _ => .inl none)
  | .imul => (match st with | .int y :: .int x :: s => K ls (.int (x * y) :: s) h | _ => .inl none)
  | .idiv => (match st with | .int y :: .int x :: s => if y = 0 then .inl none else K ls (.int (x / y) :: s) h | _ => .inl none)
  | .irem => (match st with | .int y :: .int x :: s => if y = 0 then .inl none else K ls (.int (x - x / y * y) :: s) h | _ => .inl none)
  | .ineg => (match st with | .int x :: s => K ls (.int (-x) :: s) h | _ => .inl none)
  | .iand => (match st with | .int y :: .int x :: s => K ls (.int (x &&& y) :: s) h | _ => .inl none)
  | .ior => (match st with | .int y :: .int x :: s => K ls (.int (x ||| y) :: s) h | _ => .inl none)
  | .ixor => (match st with | .int y :: .int x :: s => K ls (.int (x ^^^ y) :: s) h | _ => .inl none)
  | .ishl => (match st with | .int y :: .int x :: s => K ls (.int (x <<< (y &&& 31)) :: s) h | _ => .inl none)
  | .ishr => (match st with | .int y :: .int x :: s => K ls (.int (x >>> (y &&& 31)) :: s) h | _ => .inl none)
  | .ladd => (match st with | .long y :: .long x :: s => K ls (.long (x + y) :: s) h | _ => .inl none)
  | .lsub => (match st with | .long y :: .long x :: s => K ls (.long (x - y) :: s) h | _ => .inl none)
  | .lmul => (match st with | .long y :: .long x :: s => K ls (.long (x * y) :: s) h | _ => .inl none)
  | .ldiv => (match st with | .long y :: .long x :: s => if y = 0 then .inl none else K ls (.long (x / y) :: s) h | _ => .inl none)
  | .lrem => (match st with | .long y :: .long x :: s => if y = 0 then .inl none else K ls (.long (x - x / y * y) :: s) h | _ => .inl none)
  | .lneg => (match st with | .long x :: s => K ls (.long (-x) :: s) h | _ => .inl none)
  | .land => (match st with | .long y :: .long x :: s => K ls (.long (x &&& y) :: s) h | _ => .inl none)
  | .lor => (match st with | .long y :: .long x :: s => K ls (.long (x ||| y) :: s) h | _ => .inl none)
  | .lxor => (match st with | .long y :: .long x :: s => K ls (.long (x ^^^ y) :: s) h | _ => .inl none)
  | .lshl => (match st with | .int y :: .long x :: s => K ls (.long (x <<< (y.toInt64 &&& 63)) :: s) h | _ => .inl none)
  | .lushr => (match st with | .int y :: .long x :: s => K ls (.long (x.toUInt64 >>> (y.toInt64.toUInt64 &&& Int64.toUInt64 63)).toInt64 :: s) h | _ => .inl none)
  | .i2l => (match st with | .int x :: s => K ls (.long x.toInt64 :: s) h | _ => .inl none)
  | .l2i => (match st with | .long x :: s => K ls (.int x.toInt32 :: s) h | _ => .inl none)
  | .i2b => (match st with | .int x :: s => K ls (.int x.toInt8.toInt32 :: s) h | _ => .inl none)
  | .i2s => (match st with | .int x :: s => K ls (.int x.toInt16.toInt32 :: s) h | _ => .inl none)
  | .i2c => (match st with | .int x :: s => K ls (.int (x.toUInt32 % 65536).toInt32 :: s) h | _ => .inl none)
  | .i2d => (match st with | .int x :: s => K ls (.double (FP.i2d x) :: s) h | _ => .inl none)
  | .ddiv => (match st with | .double y :: .double x :: s => if FP.ddiv x y &&& 0x7fffffffffffffff ≤ 0x7ff0000000000000 then K ls (.double (FP.ddiv x y) :: s) h else .inl none | _ => .inl none)
  | .lcmp => (match st with | .long y :: .long x :: s => K ls (.int (lg_cmp x y) :: s) h | _ => .inl none)
  | .dcmp op => (match st with | .double y :: .double x :: s => K ls (.int (Op.cmpValue (FP.dcmp x y) op) :: s) h | _ => .inl none)
  | .dup => (match st with | v :: s => if v.category = 1 then K ls (v :: v :: s) h else .inl none | _ => .inl none)
  | .pop => (match st with | v :: s => if v.category = 1 then K ls s h else .inl none | _ => .inl none)
  | .pop2 => (match st with | v :: s => if v.category = 2 then K ls s h else .inl none | _ => .inl none)
  | .dup_x1 => (match st with | v :: w :: s => if v.category = 1 ∧ w.category = 1 then K ls (v :: w :: v :: s) h else .inl none | _ => .inl none)
  | .dup_x2 => (match st with | v :: w :: u :: s => if v.category = 1 ∧ w.category = 1 ∧ u.category = 1 then K ls (v :: w :: u :: v :: s) h else .inl none | _ => .inl none)
  | .dup2 => (match st with | v :: w :: s => if v.category = 2 then K ls (v :: v :: w :: s) h else if w.category = 1 then K ls (v :: w :: v :: w :: s) h else .inl none | [v] => if v.category = 2 then K ls [v, v] h else .inl none | _ => .inl none)
  | .dup2_x1 => (match st with | v :: w :: s => if v.category = 2 ∧ w.category = 1 then K ls (v :: w :: v :: s) h else .inl none | _ => .inl none)
  | .ifCond c t => (match st with | .int x :: s => (match c with
      | .eq => if x = 0 then pm_jmp t ls s h else K ls s h
      | .ne => if x = 0 then K ls s h else pm_jmp t ls s h
      | .lt => if x < 0 then pm_jmp t ls s h else K ls s h
      | .ge => if x < 0 then K ls s h else pm_jmp t ls s h
      | .gt => if x ≤ 0 then K ls s h else pm_jmp t ls s h
      | .le => if x ≤ 0 then pm_jmp t ls s h else K ls s h) | _ => .inl none)
  | .if_icmp c t => (match st with | .int y :: .int x :: s => (match c with
      | .eq => if x = y then pm_jmp t ls s h else K ls s h
      | .ne => if x = y then K ls s h else pm_jmp t ls s h
      | .lt => if x < y then pm_jmp t ls s h else K ls s h
      | .ge => if x < y then K ls s h else pm_jmp t ls s h
      | .gt => if x ≤ y then K ls s h else pm_jmp t ls s h
      | .le => if x ≤ y then pm_jmp t ls s h else K ls s h) | _ => .inl none)
  | .ifnull t => (match st with | .null :: s => pm_jmp t ls s h | .ref _ :: s => K ls s h | _ => .inl none)
  | .ifnonnull t => (match st with | .null :: s => K ls s h | .ref _ :: s => pm_jmp t ls s h | _ => .inl none)
  | .if_acmp c t => (match st with | .ref y :: .ref x :: s => (match c with
      | .eq => if (pm_len h x).isSome = true ∧ (pm_len h y).isSome = true then (if x = y then pm_jmp t ls s h else K ls s h) else .inl none
      | .ne => if (pm_len h x).isSome = true ∧ (pm_len h y).isSome = true then (if x = y then K ls s h else pm_jmp t ls s h) else .inl none) | _ => .inl none)
  | .goto t => pm_jmp t ls st h
  | .goto_w t => pm_jmp t ls st h
  | .tableswitch d lo hi offs => (match st with | .int x :: s => .inr (.inl (pm_sw d lo hi offs.toList x, ls, s, h)) | _ => .inl none)
  | .lookupswitch d ps => (match st with | .int x :: s => .inr (.inl (pm_lk d ps.toList x, ls, s, h)) | _ => .inl none)
  | .iaload => (match st with | .int i :: .ref a :: s => pm_o (pm_rd pm_isI h a i) (fun x => K ls (.int x :: s) h) | _ => .inl none)
  | .baload => (match st with | .int i :: .ref a :: s => pm_o (pm_rd pm_isB h a i) (fun x => K ls (.int x :: s) h) | _ => .inl none)
  | .caload => (match st with | .int i :: .ref a :: s => pm_o (pm_rd pm_isC h a i) (fun x => K ls (.int x :: s) h) | _ => .inl none)
  | .saload => (match st with | .int i :: .ref a :: s => pm_o (pm_rd pm_isS h a i) (fun x => K ls (.int x :: s) h) | _ => .inl none)
  | .laload => (match st with | .int i :: .ref a :: s => pm_o (pm_rdL h a i) (fun x => K ls (.long x :: s) h) | _ => .inl none)
  | .aaload => (match st with | .int i :: .ref a :: s => pm_o (pm_rdR h a i) (fun x => K ls (va_rf x :: s) h) | _ => .inl none)
  | .iastore => (match st with | .int x :: .int i :: .ref a :: s => pm_o (pm_wr pm_wI h a i x) (fun h => K ls s h) | _ => .inl none)
  | .bastore => (match st with | .int x :: .int i :: .ref a :: s => pm_o (pm_wr pm_wB h a i x) (fun h => K ls s h) | _ => .inl none)
  | .castore => (match st with | .int x :: .int i :: .ref a :: s => pm_o (pm_wr pm_wC h a i x) (fun h => K ls s h) | _ => .inl none)
  | .sastore => (match st with | .int x :: .int i :: .ref a :: s => pm_o (pm_wr pm_isS h a i x) (fun h => K ls s h) | _ => .inl none)
  | .lastore => (match st with | .long x :: .int i :: .ref a :: s => pm_o (pm_wrL h a i x) (fun h => K ls s h) | _ => .inl none)
  | .aastore => (match st with | .ref v :: .int i :: .ref a :: s => pm_o (pm_wrR T h a i (some v)) (fun h => K ls s h) | .null :: .int i :: .ref a :: s => pm_o (pm_wrR T h a i none) (fun h => K ls s h) | _ => .inl none)
  | .arraylength => (match st with | .ref a :: s => pm_o (pm_len h a) (fun n => K ls (.int (Int32.ofNat n) :: s) h) | _ => .inl none)
  | .getfield v => (match st with | .ref a :: s => pm_o (pm_gf T h a (v / 1024) (v / 8 % 128)) (fun x => K ls (x :: s) h) | _ => .inl none)
  | .putfield v => (match st with | x :: .ref a :: s => pm_o (pm_pf T h a (v / 1024) (v / 8 % 128) (v % 8) x) (fun h => K ls s h) | _ => .inl none)
  | .new ci => K ls (.ref h.1 :: st) (pm_new h (T.2.1 ci).length (.inr (ci, T.2.1 ci)))
  | .ret ci => if pm_cats st ≤ 8 then K ls (.ref h.1 :: st) (pm_new h 6 (.inr (ci, []))) else .inl none
  | .newarray t => (match st with | .int n :: s => if 0 ≤ n.toInt ∧ n.toInt ≤ 1000000 then K ls (.ref h.1 :: s) (pm_new h n.toInt.toNat (.inl (newarray.typeOf t, n.toInt.toNat, pm_zero (newarray.typeOf t)))) else .inl none | _ => .inl none)
  | .anewarray k => (match st with | .int n :: s => if 0 ≤ n.toInt ∧ n.toInt ≤ 1000000 then K ls (.ref h.1 :: s) (pm_new h n.toInt.toNat (.inl (T.1 k, n.toInt.toNat, pm_zero (T.1 k)))) else .inl none | _ => .inl none)
  | .multianewarray k d => (match d, st with
      | 2, .int m :: .int n :: s => if 0 ≤ m.toInt ∧ m.toInt ≤ 1000 ∧ 0 ≤ n.toInt ∧ n.toInt ≤ 1000 then K ls (.ref h.1 :: s) (pm_multi2 (T.1 k) n.toInt.toNat m.toInt.toNat h) else .inl none
      | 3, .int m :: .int n :: .int l :: s => if 0 ≤ m.toInt ∧ m.toInt ≤ 100 ∧ 0 ≤ n.toInt ∧ n.toInt ≤ 100 ∧ 0 ≤ l.toInt ∧ l.toInt ≤ 100 then K ls (.ref h.1 :: s) (pm_multi3 (T.1 k) l.toInt.toNat n.toInt.toNat m.toInt.toNat h) else .inl none
      | _, _ => .inl none)
  | .checkcast ci => (match st with | .ref a :: s => (match pm_cls h a with | some c => if T.2.2.1 c ci = true then K ls (.ref a :: s) h else .inl none | none => .inl none) | .null :: s => K ls (.null :: s) h | _ => .inl none)
  | .monitorenter => (match st with | .int k :: .int j :: .ref b :: .int i :: .ref a :: s => if pm_cats s ≤ 8 then pm_o (pm_cpy h a i b j k) (fun h => K ls s h) else .inl none | _ => .inl none)
  | .monitorexit => (match st with | .int n :: .ref a :: s => if pm_cats s ≤ 8 then pm_o (pm_copyOf h a n) (fun h' => K ls (.ref h.1 :: s) h') else .inl none | _ => .inl none)
  | .f2i => (match st with | .ref _ :: s => if pm_cats s ≤ 8 then K ls s h else .inl none | _ => .inl none)
  | .d2i => (match st with | .ref a :: s => (match h.2.2 a with | .inl (.object o, n, _) => if o = "S" ∧ pm_cats s ≤ 8 then K ls (.int (Int32.ofNat n) :: s) h else .inl none | _ => .inl none) | _ => .inl none)
  | .d2l => (match st with | .int i :: .ref a :: s => if pm_cats s ≤ 8 then pm_o (pm_rd (fun t => t == .object "S") h a i) (fun x => K ls (.int x :: s) h) else .inl none | _ => .inl none)
  | .invokeinterface k n => if n ≤ st.length ∧ pm_cats (st.drop n) ≤ 8 then pm_aft (cl k (st.take n).reverse h) ls (st.drop n) K else .inl none
  | .invokedynamic q => (match ((st.take (q % 16)).reverse).head? with
      | some (.ref a) => (match pm_cls h a with
          | some c => if q % 16 ≤ st.length ∧ pm_cats (st.drop (q % 16)) ≤ 8 then pm_aft (cl (T.2.2.2.1 (q / 16) c) (st.take (q % 16)).reverse h) ls (st.drop (q % 16)) K else .inl none
          | none => .inl none)
      | _ => .inl none)
  | .athrow => (match st with | .ref a :: _ => (match pm_cls h a with | some c => if c = 67 ∨ c = 70 ∨ c = 71 then .inr (.inr (ls, c, h)) else .inl none | none => .inl none) | _ => .inl none)
  | .jsr t => (match st with | [.int x] => if pm_ok t.toNat (.int x) = true then .inl (some (.returned (some (.int x)), h)) else .inl none | _ => .inl none)
  | .lreturn => (match st with | [.long x] => .inl (some (.returned (some (.long x)), h)) | _ => .inl none)
  | .areturn => (match st with | [.ref x] => .inl (some (.returned (some (.ref x)), h)) | [.null] => .inl (some (.returned (some .null), h)) | _ => .inl none)
  | .return_ => (match st with | [] => .inl (some (.returned none, h)) | _ => .inl none)
  | _ => .inl none
def pm_s (T : pm_T) (cl : pm_C) : List Instr → pm_K
  | [] => fun _ _ _ => .inl none
  | i :: r => fun ls st h => pm_st T cl i (pm_s T cl r) ls st h
/-- a program: tables; of a method its blocks, its blocks' handlers (classes, block, the local that takes what is caught), its receiver's class (0: static), its locals -/
abbrev pm_M : Type := (Nat → List Instr) × (Nat → List (List Nat × Nat × Nat)) × Nat × Nat
abbrev pm_P : Type := pm_T × (Nat → pm_M)
def pm_hd (c : Nat) : List (List Nat × Nat × Nat) → Option (Nat × Nat)
  | [] => none
  | (cs, t) :: l => if c ∈ cs then some t else pm_hd c l
def pm_int (jp : Nat → List Value → List Value → pm_H → pm_R) (hs : List (List Nat × Nat × Nat)) (x : pm_N) : pm_R := match x with
  | .inl r => r
  | .inr (.inl (j, ls, st, h)) => jp j ls st h
  | .inr (.inr (ls, c, h)) => (match pm_hd c hs with | some (t, i) => jp t (pm_set1 ls i pm_junk) [] h | none => some (.threw c, h))
def pm_X (P : pm_P) (cl : pm_C) (k : Nat) : Nat → Nat → List Value → List Value → pm_H → pm_R
  | 0, _, _, _, _ => none
  | n + 1, j, ls, st, h => pm_int (pm_X P cl k n) ((P.2 k).2.1 j) (pm_s P.1 cl ((P.2 k).1 j) ls st h)
theorem pm_int_mono {jp jp' : Nat → List Value → List Value → pm_H → pm_R} (H : ∀ j ls st h x, jp j ls st h = some x → jp' j ls st h = some x) {hs : List (List Nat × Nat × Nat)} {y : pm_N} {x : Outcome × pm_H} (h : pm_int jp hs y = some x) : pm_int jp' hs y = some x := by
  rcases y with r | ⟨j, ls, st, g⟩ | ⟨ls, a, g⟩
  · exact h
  · exact H _ _ _ _ _ h
  · simp only [pm_int] at h ⊢
    split at h
    · exact H _ _ _ _ _ h
    · exact h
theorem pm_X_mono (P : pm_P) (cl : pm_C) (k : Nat) : ∀ n j ls st h x, pm_X P cl k n j ls st h = some x → pm_X P cl k (n + 1) j ls st h = some x := by
  intro n
  induction n with
  | zero => intro j ls st h x e; simp [pm_X] at e
  | succ n ih =>
    intro j ls st h x e
    exact pm_int_mono ih e
theorem pm_X_le (P : pm_P) (cl : pm_C) (k : Nat) {n m : Nat} (hnm : n ≤ m) {j ls st h x} (e : pm_X P cl k n j ls st h = some x) : pm_X P cl k m j ls st h = some x := by
  induction hnm with
  | refl => exact e
  | step _ ih => exact pm_X_mono P cl k _ _ _ _ _ _ ih
noncomputable def pm_lim (f : Nat → pm_R) : pm_R := @dite _ (∃ n, (f n).isSome = true) (Classical.propDecidable _) (fun h => f (Classical.choose h)) (fun _ => none)
theorem pm_lim_eq {f : Nat → pm_R} (hm : ∀ n x, f n = some x → f (n + 1) = some x) {n : Nat} {x : Outcome × pm_H} (h : f n = some x) : pm_lim f = some x := by
  have hle : ∀ {a b : Nat}, a ≤ b → ∀ y, f a = some y → f b = some y := by
    intro a b hab
    induction hab with
    | refl => intro y e; exact e
    | step _ ih => intro y e; exact hm _ _ (ih y e)
  have hx : ∃ n, (f n).isSome = true := ⟨n, by rw [h]; rfl⟩
  unfold pm_lim
  rw [dif_pos hx]
  obtain ⟨y, hy⟩ := Option.isSome_iff_exists.mp (Classical.choose_spec hx)
  rw [hy]
  rcases Nat.le_total n (Classical.choose hx) with q | q
  · rw [← hy]; exact hle q x h
  · rw [← hle q y hy]; exact h
theorem pm_lim_some {f : Nat → pm_R} {x : Outcome × pm_H} (h : pm_lim f = some x) : ∃ n, f n = some x := by
  unfold pm_lim at h
  split at h
  · exact ⟨_, h⟩
  · cases h
/-- the run of method k from its block j on -/
noncomputable def pm_go (P : pm_P) (cl : pm_C) (k j : Nat) (ls st : List Value) (h : pm_H) : pm_R := pm_lim (fun n => pm_X P cl k n j ls st h)
/-- the run of a piece of block j, then of what it jumps to -/
noncomputable def pm_ev (P : pm_P) (cl : pm_C) (k j : Nat) (r : List Instr) (ls st : List Value) (h : pm_H) : pm_R := pm_int (pm_go P cl k) ((P.2 k).2.1 j) (pm_s P.1 cl r ls st h)
theorem pm_go_some {P : pm_P} {cl : pm_C} {k j : Nat} {ls st : List Value} {h : pm_H} {x : Outcome × pm_H} : pm_go P cl k j ls st h = some x ↔ ∃ n, pm_X P cl k n j ls st h = some x :=
  ⟨pm_lim_some, fun ⟨_, e⟩ => pm_lim_eq (fun m y e => pm_X_mono P cl k m j ls st h y e) e⟩
theorem pm_int_go {P : pm_P} {cl : pm_C} {k : Nat} {hs : List (List Nat × Nat × Nat)} {y : pm_N} {x : Outcome × pm_H} : pm_int (pm_go P cl k) hs y = some x ↔ ∃ n, pm_int (pm_X P cl k n) hs y = some x := by
  constructor
  · intro h
    rcases y with r | ⟨j, ls, st, g⟩ | ⟨ls, a, g⟩
    · exact ⟨0, h⟩
    · exact pm_go_some.mp h
    · simp only [pm_int] at h ⊢
      split at h
      · obtain ⟨n, e⟩ := pm_go_some.mp h
        exact ⟨n, e⟩
      · exact ⟨0, h⟩
  · rintro ⟨n, h⟩
    exact pm_int_mono (fun j ls st h x e => pm_go_some.mpr ⟨n, e⟩) h
theorem pm_opt_ext {a b : pm_R} (h : ∀ x, a = some x ↔ b = some x) : a = b := by
  cases a with
  | none => cases b with
    | none => rfl
    | some y => exact ((h y).mpr rfl)
  | some y => exact ((h y).mp rfl).symm
theorem pm_go_eq (P : pm_P) (cl : pm_C) (k j : Nat) (ls st : List Value) (h : pm_H) : pm_go P cl k j ls st h = pm_ev P cl k j ((P.2 k).1 j) ls st h := by
  refine pm_opt_ext fun x => ?_
  unfold pm_ev
  rw [pm_int_go, pm_go_some]
  constructor
  · rintro ⟨n, e⟩
    cases n with
    | zero => simp [pm_X] at e
    | succ n => exact ⟨n, e⟩
  · rintro ⟨n, e⟩
    exact ⟨n + 1, e⟩
/-- the locals at a method's entry: a long takes two places -/
def pm_ent : List Value → List Value
  | [] => []
  | v :: l => if v.category = 2 then v :: pm_junk :: pm_ent l else v :: pm_ent l
def pm_entry (n : Nat) (as : List Value) : List Value := pm_ent as ++ List.replicate (n - (pm_ent as).length) pm_junk
/-- the receiver is of the method's class -/
def pm_rc (T : pm_T) (c : Nat) (as : List Value) (h : pm_H) : Bool := match as with
  | .ref a :: _ => c == 0 || (match pm_cls h a with | some b => T.2.2.1 b c | none => false)
  | _ => c == 0
noncomputable def pm_call (P : pm_P) : Nat → pm_C
  | 0 => fun _ _ _ => none
  | d + 1 => fun k as h => if pm_rc P.1 (P.2 k).2.2.1 as h = true ∧ (pm_ent as).length ≤ (P.2 k).2.2.2 then pm_go P (pm_call P d) k 0 (pm_entry (P.2 k).2.2.2 as) [] h else none
