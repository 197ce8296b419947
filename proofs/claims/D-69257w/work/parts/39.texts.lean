/-! ===== SOUNDNESS, 23: texts ===== -/
def tx_len : List Nat := [3, 1, 4, 4, 8]
def tx_byt : List (List Int32) := [[71, 48, 88], [89], [59, 71, 49, 90], [59, 71, 49, 88], [59, 71, 48, 90, 49, 48, 48, 59]]
def tx_S (a8 adV : Nat → Nat) (A : Nat → Prop) (U : State) (H : Heap) : Prop := vk_S 5 tx_len tx_byt (fun i => a8 (3 + i)) adV A U H ∧ va_Z "java/lang/String" "COMPACT_STRINGS" "Z" (.int 1) A U H ∧ va_Zq "jdk/internal/util/Preconditions" "SIOOBE_FORMATTER" "Ljava/util/function/BiFunction;" A U H
theorem tx_S_moved {a8 adV : Nat → Nat} {A : Nat → Prop} {u U : State} (hvm : u.vm.Alike U.vm) (hq : ∀ a : Nat, a < u.heap.size → ¬ A a → U.heap[a]? = u.heap[a]?) (h : tx_S a8 adV A u u.heap) : tx_S a8 adV A U U.heap := by
  obtain ⟨h1, h2, h3⟩ := h
  exact ⟨vk_S.moved hvm (h1.kept hq), va_Z.moved hvm (h2.kept hq), va_Zq.moved hvm (h3.kept hq)⟩
/-- a world that is only looked at: its heap, the texts -/
def tx_Pc (a8 adV : Nat → Nat) (A : Nat → Prop) (Hs : Heap) (av : List Value) : Array Value → State → Prop := va_Pc av (fun U => U.heap = Hs ∧ tx_S a8 adV A U U.heap)
def tx_Q (Hs : Heap) (r : Int32) : Array Value → State → Outcome → State → Prop := va_Qi (fun x (_ : Unit) => x = r) (fun _ t => t.heap = Hs) (fun _ => False)
def tx_Qv (Hs : Heap) : Array Value → State → Outcome → State → Prop := va_Qv (fun (_ : Unit) => True) (fun _ t => t.heap = Hs) (fun _ => False)
theorem tx_blind {a8 adV : Nat → Nat} {A : Nat → Prop} {Hs : Heap} {av : List Value} : FrameBlind (tx_Pc a8 adV A Hs av) := by
  intro a U g mk hp
  exact ⟨hp.1, hp.2.1, tx_S_moved (u := U) (U := U.calling g mk a) (State.WarmedH.refl U).alike (fun _ _ _ => rfl) hp.2.2⟩
theorem tx_pre {a8 adV : Nat → Nat} {A : Nat → Prop} {s : State} {Hs : Heap} {av : List Value} (h0 : s.heap = Hs) (h : tx_S a8 adV A s s.heap) : ∀ U : State, U.heap = Hs → s.WarmedH U.vm → tx_Pc a8 adV A Hs av av.toArray U :=
  fun U hU hW => ⟨rfl, hU, tx_S_moved hW.alike (fun a _ _ => by rw [hU, h0]) h⟩
def tx_rm (k : Nat) : Room := { frames := k, cells := 0, slots := 0, locals := 40 * k }
theorem tx_F {s t : State} {Hs : Heap} (h0 : s.heap = Hs) (ht : t.heap = Hs) : va_F (fun _ => False) s t := ⟨by rw [ht, h0]; exact Nat.le_refl _, fun q _ _ => by rw [ht, h0]⟩
section
variable {l : Launch} {a8 adV : Nat → Nat} {A : Nat → Prop} {Hs : Heap}
theorem tx_pci {k n : Int32} {f : Value} (hf : f = .null ∨ ∃ t, f = .ref t) (h1 : ¬ k < 0) (h2 : k < n) : Met l ⟨"jdk/internal/util/Preconditions", "checkIndex", "(IILjava/util/function/BiFunction;)I"⟩ (ws_ ⟨"jdk/internal/util/Preconditions", "checkIndex", "(IILjava/util/function/BiFunction;)I"⟩ prog_90_method_11_code 3 (some .int)) (tx_rm 1) (tx_Pc a8 adV A Hs [.int k, .int n, f]) (tx_Q Hs k) 0 0 (fun _ => False) := by
  refine Met.ofW (cc := prog_90_method_11_code) (maxL := 3) (ret := (some .int)) (by decide) rfl ?_
  intro p e s m args below meth c s₁ B hml hv
  obtain ⟨rfl, hs0, hK5, hZ, hZq⟩ := hv
  have hx := B.exec
  have hb := B.bytes
  have hr := B.returns
  have hlk := B.notSynchronized
  have hown := findClass_of_methodNamed B.named
  have hts0 := atoms_spec (ws := ws_ ⟨"jdk/internal/util/Preconditions", "checkIndex", "(IILjava/util/function/BiFunction;)I"⟩ prog_90_method_11_code 3 (some .int)) B.pre
  have hts : ∀ w ∈ lw_all, w.before _ s = true := fun w h => hts0 w (List.mem_cons_of_mem _ h)
  have hS : va_S A s.heap s.heap [] := va_S.rf
  have hSF : va_S (fun _ => False) s.heap s.heap [] := va_S.rf
  have hl := lv_entry ([.int k, .int n, f]) (n := 3) (by rcases hf with e | ⟨t, e⟩ <;> subst e <;> exact Nat.le_of_ble_eq_true rfl)
  rw [lg_entry_eq]
  generalize (lg_sl ([.int k, .int n, f]) ++ List.replicate (3 - (lg_sl ([.int k, .int n, f])).length) Slot.unset).toArray = ls at hl ⊢
  have d0 : decode prog_90_method_11_code 0 = .ok (.iload_n 0, 1) := by decide +kernel
  have d1 : decode prog_90_method_11_code 1 = .ok (.ifCond .lt 8, 3) := by decide +kernel
  have d4 : decode prog_90_method_11_code 4 = .ok (.iload_n 0, 1) := by decide +kernel
  have d5 : decode prog_90_method_11_code 5 = .ok (.iload_n 1, 1) := by decide +kernel
  have d6 : decode prog_90_method_11_code 6 = .ok (.if_icmp .lt 10, 3) := by decide +kernel
  have d16 : decode prog_90_method_11_code 16 = .ok (.iload_n 0, 1) := by decide +kernel
  have d17 : decode prog_90_method_11_code 17 = .ok (.ireturn, 1) := by decide +kernel
  have hl : lv_has ls 3 [(0, .int k), (1, .int n), (2, f)] := by rcases hf with e | ⟨t, e⟩ <;> (subst e; exact hl)
  refine lv_iload_n hx hb d0 rfl (lv_at hl 0 rfl) ?_
  refine lv_if_lt hx hb d1 (tgt := 9) rfl (fun q => absurd q h1) (fun _ => ?_)
  refine lv_iload_n hx hb d4 rfl (lv_at hl 0 rfl) ?_
  refine lv_iload_n hx hb d5 rfl (lv_at hl 1 rfl) ?_
  refine lv_icmp_lt hx hb d6 (tgt := 16) rfl (fun _ => ?_) (fun q => absurd h2 q)
  refine lv_iload_n hx hb d16 rfl (lv_at hl 0 rfl) ?_
  exact W.iret hx hb hr (fun t ht _ => ⟨⟨k, (), rfl, rfl, ht.trans hs0⟩, tx_F hs0 (ht.trans hs0)⟩) (fun _ h => by cases h) d17
theorem tx_sci {k n : Int32} (h1 : ¬ k < 0) (h2 : k < n) : Met l ⟨"java/lang/String", "checkIndex", "(II)V"⟩ (ws_ ⟨"java/lang/String", "checkIndex", "(II)V"⟩ prog_73_method_155_code 2 none) (tx_rm 2) (tx_Pc a8 adV A Hs [.int k, .int n]) (tx_Qv Hs) 0 0 (fun _ => False) := by
  refine Met.ofW (cc := prog_73_method_155_code) (maxL := 2) (ret := none) (by decide) rfl ?_
  intro p e s m args below meth c s₁ B hml hv
  obtain ⟨rfl, hs0, hK5, hZ, hZq⟩ := hv
  have hx := B.exec
  have hb := B.bytes
  have hr := B.returns
  have hlk := B.notSynchronized
  have hown := findClass_of_methodNamed B.named
  have hts0 := atoms_spec (ws := ws_ ⟨"java/lang/String", "checkIndex", "(II)V"⟩ prog_73_method_155_code 2 none) B.pre
  have hts : ∀ w ∈ lw_all, w.before _ s = true := fun w h => hts0 w (List.mem_cons_of_mem _ h)
  have hS : va_S A s.heap s.heap [] := va_S.rf
  have hSF : va_S (fun _ => False) s.heap s.heap [] := va_S.rf
  have hl := lv_entry ([.int k, .int n]) (n := 2) (Nat.le_of_ble_eq_true rfl)
  rw [lg_entry_eq]
  generalize (lg_sl ([.int k, .int n]) ++ List.replicate (2 - (lg_sl ([.int k, .int n])).length) Slot.unset).toArray = ls at hl ⊢
  have d0 : decode prog_73_method_155_code 0 = .ok (.iload_n 0, 1) := by decide +kernel
  have d1 : decode prog_73_method_155_code 1 = .ok (.iload_n 1, 1) := by decide +kernel
  have d2 : decode prog_73_method_155_code 2 = .ok (.getstatic 1053, 3) := by decide +kernel
  have d5 : decode prog_73_method_155_code 5 = .ok (.invokestatic 1059, 3) := by decide +kernel
  have d8 : decode prog_73_method_155_code 8 = .ok (.pop, 1) := by decide +kernel
  have d9 : decode prog_73_method_155_code 9 = .ok (.return_, 1) := by decide +kernel
  have hl : lv_has ls 2 [(0, .int k), (1, .int n)] := hl
  refine lv_iload_n hx hb d0 rfl (lv_at hl 0 rfl) ?_
  refine lv_iload_n hx hb d1 rfl (lv_at hl 1 rfl) ?_
  have hZq9 := hZq
  rcases hZq9 with hz | ⟨t0, hz⟩
  · refine va_gets hx hb hz hS hown (hts _ (lw_g (lw_at lw_m27 223 rfl) rfl)) (fun _ h9 => h9) d2 ?_
    refine va_calli (A0 := fun _ => False) (H0 := s.heap) (va_runS (As := [.int k, .int n, .null]) (rest := []) ⟨hx, hb, hml, hown, hts⟩ (tx_pci (a8 := a8) (adV := adV) (A := A) (Hs := Hs) (f := .null) (by first | exact Or.inl rfl | exact Or.inr ⟨_, rfl⟩) h1 h2) (va_cwS 3 hts (lw_S (lw_g (lw_at lw_m27 225 rfl) rfl) (lw_g (lw_at lw_m7 34 rfl) rfl) (lw_g (lw_at lw_m1 60 rfl) rfl) (lw_g (lw_at lw_m7 35 rfl) rfl)) rfl rfl rfl ⟨by decide, by decide, by decide +kernel⟩ ⟨by decide, by decide⟩) ⟨tx_blind, fun U hU hW => tx_pre hs0 ⟨hK5, hZ, hZq⟩ U (by rw [hU]; exact hs0) hW⟩ rfl rfl (by rw [hl.1]) rfl (Nat.le_of_ble_eq_true rfl) d5 ⟨by decide, by decide⟩) hSF (fun q _ h => h) (fun q h => h) (fun r u t H1 locs1 e1 _ er hB _ _ hS1 => ?_)
    refine lv_pop hx hb d8 rfl ?_
    exact W.vret hx hb hr (fun t2 ht _ => ⟨⟨(), rfl, trivial, ht.trans (e1.symm.trans hB)⟩, tx_F hs0 (ht.trans (e1.symm.trans hB))⟩) hS1.2.2 d9
  · refine va_gets hx hb hz hS hown (hts _ (lw_g (lw_at lw_m27 223 rfl) rfl)) (fun _ h9 => h9) d2 ?_
    refine va_calli (A0 := fun _ => False) (H0 := s.heap) (va_runS (As := [.int k, .int n, .ref t0]) (rest := []) ⟨hx, hb, hml, hown, hts⟩ (tx_pci (a8 := a8) (adV := adV) (A := A) (Hs := Hs) (f := .ref t0) (by first | exact Or.inl rfl | exact Or.inr ⟨_, rfl⟩) h1 h2) (va_cwS 3 hts (lw_S (lw_g (lw_at lw_m27 225 rfl) rfl) (lw_g (lw_at lw_m7 34 rfl) rfl) (lw_g (lw_at lw_m1 60 rfl) rfl) (lw_g (lw_at lw_m7 35 rfl) rfl)) rfl rfl rfl ⟨by decide, by decide, by decide +kernel⟩ ⟨by decide, by decide⟩) ⟨tx_blind, fun U hU hW => tx_pre hs0 ⟨hK5, hZ, hZq⟩ U (by rw [hU]; exact hs0) hW⟩ rfl rfl (by rw [hl.1]) rfl (Nat.le_of_ble_eq_true rfl) d5 ⟨by decide, by decide⟩) hSF (fun q _ h => h) (fun q h => h) (fun r u t H1 locs1 e1 _ er hB _ _ hS1 => ?_)
    refine lv_pop hx hb d8 rfl ?_
    exact W.vret hx hb hr (fun t2 ht _ => ⟨⟨(), rfl, trivial, ht.trans (e1.symm.trans hB)⟩, tx_F hs0 (ht.trans (e1.symm.trans hB))⟩) hS1.2.2 d9
theorem tx_l1c {i : Nat} {k v : Int32} (hi : i < 5) (h1 : ¬ k < 0) (h2 : k < Int32.ofNat (tx_len.getD i 0)) (hin : vp_in k (tx_len.getD i 0)) (hv : (((tx_byt.getD i []).getD k.toNatClampNeg 0 &&& 255).toUInt32 % 65536).toInt32 = v) (hnar : narrow .char (.int v) = .int v) : Met l ⟨"java/lang/StringLatin1", "charAt", "([BI)C"⟩ (ws_ ⟨"java/lang/StringLatin1", "charAt", "([BI)C"⟩ prog_74_method_2_code 2 (some .char)) (tx_rm 3) (tx_Pc a8 adV A Hs [.ref (adV i), .int k]) (tx_Q Hs v) 0 0 (fun _ => False) := by
  refine Met.ofW (cc := prog_74_method_2_code) (maxL := 2) (ret := (some .char)) (by decide) rfl ?_
  intro p e s m args below meth c s₁ B hml hv
  obtain ⟨rfl, hs0, hK5, hZ, hZq⟩ := hv
  have hx := B.exec
  have hb := B.bytes
  have hr := B.returns
  have hlk := B.notSynchronized
  have hown := findClass_of_methodNamed B.named
  have hts0 := atoms_spec (ws := ws_ ⟨"java/lang/StringLatin1", "charAt", "([BI)C"⟩ prog_74_method_2_code 2 (some .char)) B.pre
  have hts : ∀ w ∈ lw_all, w.before _ s = true := fun w h => hts0 w (List.mem_cons_of_mem _ h)
  have hS : va_S A s.heap s.heap [] := va_S.rf
  have hSF : va_S (fun _ => False) s.heap s.heap [] := va_S.rf
  have hl := lv_entry ([.ref (adV i), .int k]) (n := 2) (Nat.le_of_ble_eq_true rfl)
  rw [lg_entry_eq]
  generalize (lg_sl ([.ref (adV i), .int k]) ++ List.replicate (2 - (lg_sl ([.ref (adV i), .int k])).length) Slot.unset).toArray = ls at hl ⊢
  have d0 : decode prog_74_method_2_code 0 = .ok (.iload_n 1, 1) := by decide +kernel
  have d1 : decode prog_74_method_2_code 1 = .ok (.aload_n 0, 1) := by decide +kernel
  have d2 : decode prog_74_method_2_code 2 = .ok (.arraylength, 1) := by decide +kernel
  have d3 : decode prog_74_method_2_code 3 = .ok (.invokestatic 9, 3) := by decide +kernel
  have d6 : decode prog_74_method_2_code 6 = .ok (.aload_n 0, 1) := by decide +kernel
  have d7 : decode prog_74_method_2_code 7 = .ok (.iload_n 1, 1) := by decide +kernel
  have d8 : decode prog_74_method_2_code 8 = .ok (.baload, 1) := by decide +kernel
  have d9 : decode prog_74_method_2_code 9 = .ok (.sipush 255, 3) := by decide +kernel
  have d12 : decode prog_74_method_2_code 12 = .ok (.iand, 1) := by decide +kernel
  have d13 : decode prog_74_method_2_code 13 = .ok (.i2c, 1) := by decide +kernel
  have d14 : decode prog_74_method_2_code 14 = .ok (.ireturn, 1) := by decide +kernel
  have hl : lv_has ls 2 [(0, .ref (adV i)), (1, .int k)] := hl
  have hTs := (hK5.1 i hi).2.2.2
  refine lv_iload_n hx hb d0 rfl (lv_at hl 1 rfl) ?_
  refine lv_aload_n hx hb d1 rfl (lv_at hl 0 rfl) ?_
  refine va_tlen hx hb hTs hS rfl d2 ?_
  refine va_callv (A0 := fun _ => False) (H0 := s.heap) (va_runS (As := [.int k, .int (Int32.ofNat (tx_len.getD i 0))]) (rest := []) ⟨hx, hb, hml, hown, hts⟩ (tx_sci (a8 := a8) (adV := adV) (A := A) (Hs := Hs) h1 h2) (va_cwS 2 hts (lw_S (lw_g (lw_at lw_m27 220 rfl) rfl) (lw_g (lw_at lw_m27 221 rfl) rfl) (lw_g (lw_at lw_m1 45 rfl) rfl) (lw_g (lw_at lw_m27 222 rfl) rfl)) rfl rfl rfl ⟨by decide, by decide, by decide +kernel⟩ ⟨by decide, by decide⟩) ⟨tx_blind, fun U hU hW => tx_pre hs0 ⟨hK5, hZ, hZq⟩ U (by rw [hU]; exact hs0) hW⟩ rfl rfl (by rw [hl.1]) rfl (Nat.le_of_ble_eq_true rfl) d3 ⟨by decide, by decide⟩) hSF (fun q _ h => h) (fun q h => h) (fun u t H1 locs1 e1 _ _ hB _ _ hS1 => ?_)
  have eH : H1 = s.heap := by rw [← e1, hB, hs0]
  subst eH
  have hS : va_S A s.heap s.heap locs1 := ⟨Nat.le_refl _, fun _ _ _ => rfl, fun l hl => (hS1.2.2 l hl).elim⟩
  have hSF := hS1
  refine lv_aload_n hx hb d6 rfl (lv_at hl 0 rfl) ?_
  refine lv_iload_n hx hb d7 rfl (lv_at hl 1 rfl) ?_
  refine va_tb hx hb hTs hS hin rfl d8 ?_
  refine lv_sipush hx hb d9 (v := 255) (by decide +kernel) ?_
  refine lv_iand hx hb d12 ?_
  refine lv_i2c hx hb d13 hv ?_
  exact W.zret hx hb hr hnar (fun t2 ht _ => ⟨⟨v, (), rfl, rfl, ht.trans hs0⟩, tx_F hs0 (ht.trans hs0)⟩) hS1.2.2 d14
theorem tx_cod {i : Nat} (hi : i < 5) : Met l ⟨"java/lang/String", "coder", "()B"⟩ (ws_ ⟨"java/lang/String", "coder", "()B"⟩ prog_73_method_152_code 1 (some .byte)) (tx_rm 1) (tx_Pc a8 adV A Hs [.ref (a8 (3 + i))]) (tx_Q Hs 0) 0 0 (fun _ => False) := by
  refine Met.ofW (cc := prog_73_method_152_code) (maxL := 1) (ret := (some .byte)) (by decide) rfl ?_
  intro p e s m args below meth c s₁ B hml hv
  obtain ⟨rfl, hs0, hK5, hZ, hZq⟩ := hv
  have hx := B.exec
  have hb := B.bytes
  have hr := B.returns
  have hlk := B.notSynchronized
  have hown := findClass_of_methodNamed B.named
  have hts0 := atoms_spec (ws := ws_ ⟨"java/lang/String", "coder", "()B"⟩ prog_73_method_152_code 1 (some .byte)) B.pre
  have hts : ∀ w ∈ lw_all, w.before _ s = true := fun w h => hts0 w (List.mem_cons_of_mem _ h)
  have hS : va_S A s.heap s.heap [] := va_S.rf
  have hSF : va_S (fun _ => False) s.heap s.heap [] := va_S.rf
  have hl := lv_entry ([.ref (a8 (3 + i))]) (n := 1) (Nat.le_of_ble_eq_true rfl)
  rw [lg_entry_eq]
  generalize (lg_sl ([.ref (a8 (3 + i))]) ++ List.replicate (1 - (lg_sl ([.ref (a8 (3 + i))])).length) Slot.unset).toArray = ls at hl ⊢
  have d0 : decode prog_73_method_152_code 0 = .ok (.getstatic 38, 3) := by decide +kernel
  have d3 : decode prog_73_method_152_code 3 = .ok (.ifCond .eq 10, 3) := by decide +kernel
  have d6 : decode prog_73_method_152_code 6 = .ok (.aload_n 0, 1) := by decide +kernel
  have d7 : decode prog_73_method_152_code 7 = .ok (.getfield 15, 3) := by decide +kernel
  have d10 : decode prog_73_method_152_code 10 = .ok (.goto 4, 3) := by decide +kernel
  have d14 : decode prog_73_method_152_code 14 = .ok (.ireturn, 1) := by decide +kernel
  have hl : lv_has ls 1 [(0, .ref (a8 (3 + i)))] := hl
  refine va_gets hx hb hZ hS hown (hts _ (lw_g (lw_at lw_m27 207 rfl) rfl)) (fun _ h9 => h9) d0 ?_
  refine lv_if_eq hx hb d3 (tgt := 13) rfl (fun q => absurd q (by decide)) (fun _ => ?_)
  refine lv_aload_n hx hb d6 rfl (lv_at hl 0 rfl) ?_
  refine vk_getf hx hb (hK5.1 i hi).2.1 hS hown (hts _ (lw_g (lw_at lw_m28 147 rfl) rfl)) (fun _ h9 => h9) d7 ?_
  refine lv_goto hx hb d10 (tgt := 14) rfl ?_
  exact W.zret hx hb hr (by decide) (fun t2 ht _ => ⟨⟨0, (), rfl, rfl, ht.trans hs0⟩, tx_F hs0 (ht.trans hs0)⟩) (fun _ h => by cases h) d14
theorem tx_isl {i : Nat} (hi : i < 5) : Met l ⟨"java/lang/String", "isLatin1", "()Z"⟩ (ws_ ⟨"java/lang/String", "isLatin1", "()Z"⟩ prog_73_method_154_code 1 (some .boolean)) (tx_rm 1) (tx_Pc a8 adV A Hs [.ref (a8 (3 + i))]) (tx_Q Hs 1) 0 0 (fun _ => False) := by
  refine Met.ofW (cc := prog_73_method_154_code) (maxL := 1) (ret := (some .boolean)) (by decide) rfl ?_
  intro p e s m args below meth c s₁ B hml hv
  obtain ⟨rfl, hs0, hK5, hZ, hZq⟩ := hv
  have hx := B.exec
  have hb := B.bytes
  have hr := B.returns
  have hlk := B.notSynchronized
  have hown := findClass_of_methodNamed B.named
  have hts0 := atoms_spec (ws := ws_ ⟨"java/lang/String", "isLatin1", "()Z"⟩ prog_73_method_154_code 1 (some .boolean)) B.pre
  have hts : ∀ w ∈ lw_all, w.before _ s = true := fun w h => hts0 w (List.mem_cons_of_mem _ h)
  have hS : va_S A s.heap s.heap [] := va_S.rf
  have hSF : va_S (fun _ => False) s.heap s.heap [] := va_S.rf
  have hl := lv_entry ([.ref (a8 (3 + i))]) (n := 1) (Nat.le_of_ble_eq_true rfl)
  rw [lg_entry_eq]
  generalize (lg_sl ([.ref (a8 (3 + i))]) ++ List.replicate (1 - (lg_sl ([.ref (a8 (3 + i))])).length) Slot.unset).toArray = ls at hl ⊢
  have d0 : decode prog_73_method_154_code 0 = .ok (.getstatic 38, 3) := by decide +kernel
  have d3 : decode prog_73_method_154_code 3 = .ok (.ifCond .eq 14, 3) := by decide +kernel
  have d6 : decode prog_73_method_154_code 6 = .ok (.aload_n 0, 1) := by decide +kernel
  have d7 : decode prog_73_method_154_code 7 = .ok (.getfield 15, 3) := by decide +kernel
  have d10 : decode prog_73_method_154_code 10 = .ok (.ifCond .ne 7, 3) := by decide +kernel
  have d13 : decode prog_73_method_154_code 13 = .ok (.iconst 1, 1) := by decide +kernel
  have d14 : decode prog_73_method_154_code 14 = .ok (.goto 4, 3) := by decide +kernel
  have d18 : decode prog_73_method_154_code 18 = .ok (.ireturn, 1) := by decide +kernel
  have hl : lv_has ls 1 [(0, .ref (a8 (3 + i)))] := hl
  refine va_gets hx hb hZ hS hown (hts _ (lw_g (lw_at lw_m27 207 rfl) rfl)) (fun _ h9 => h9) d0 ?_
  refine lv_if_eq hx hb d3 (tgt := 17) rfl (fun q => absurd q (by decide)) (fun _ => ?_)
  refine lv_aload_n hx hb d6 rfl (lv_at hl 0 rfl) ?_
  refine vk_getf hx hb (hK5.1 i hi).2.1 hS hown (hts _ (lw_g (lw_at lw_m28 147 rfl) rfl)) (fun _ h9 => h9) d7 ?_
  refine lv_if_ne hx hb d10 (tgt := 17) rfl (fun q => absurd rfl q) (fun _ => ?_)
  refine lv_iconst hx hb d13 rfl ?_
  refine lv_goto hx hb d14 (tgt := 18) rfl ?_
  exact W.zret hx hb hr (by decide) (fun t2 ht _ => ⟨⟨1, (), rfl, rfl, ht.trans hs0⟩, tx_F hs0 (ht.trans hs0)⟩) (fun _ h => by cases h) d18
theorem tx_lng {i : Nat} (hi : i < 5) : Met l ⟨"java/lang/String", "length", "()I"⟩ (ws_ ⟨"java/lang/String", "length", "()I"⟩ prog_73_method_54_code 1 (some .int)) (tx_rm 2) (tx_Pc a8 adV A Hs [.ref (a8 (3 + i))]) (tx_Q Hs (Int32.ofNat (tx_len.getD i 0))) 0 0 (fun _ => False) := by
  refine Met.ofW (cc := prog_73_method_54_code) (maxL := 1) (ret := (some .int)) (by decide) rfl ?_
  intro p e s m args below meth c s₁ B hml hv
  obtain ⟨rfl, hs0, hK5, hZ, hZq⟩ := hv
  have hx := B.exec
  have hb := B.bytes
  have hr := B.returns
  have hlk := B.notSynchronized
  have hown := findClass_of_methodNamed B.named
  have hts0 := atoms_spec (ws := ws_ ⟨"java/lang/String", "length", "()I"⟩ prog_73_method_54_code 1 (some .int)) B.pre
  have hts : ∀ w ∈ lw_all, w.before _ s = true := fun w h => hts0 w (List.mem_cons_of_mem _ h)
  have hS : va_S A s.heap s.heap [] := va_S.rf
  have hSF : va_S (fun _ => False) s.heap s.heap [] := va_S.rf
  have hl := lv_entry ([.ref (a8 (3 + i))]) (n := 1) (Nat.le_of_ble_eq_true rfl)
  rw [lg_entry_eq]
  generalize (lg_sl ([.ref (a8 (3 + i))]) ++ List.replicate (1 - (lg_sl ([.ref (a8 (3 + i))])).length) Slot.unset).toArray = ls at hl ⊢
  have d0 : decode prog_73_method_54_code 0 = .ok (.aload_n 0, 1) := by decide +kernel
  have d1 : decode prog_73_method_54_code 1 = .ok (.getfield 9, 3) := by decide +kernel
  have d4 : decode prog_73_method_54_code 4 = .ok (.arraylength, 1) := by decide +kernel
  have d5 : decode prog_73_method_54_code 5 = .ok (.aload_n 0, 1) := by decide +kernel
  have d6 : decode prog_73_method_54_code 6 = .ok (.invokevirtual 335, 3) := by decide +kernel
  have d9 : decode prog_73_method_54_code 9 = .ok (.ishr, 1) := by decide +kernel
  have d10 : decode prog_73_method_54_code 10 = .ok (.ireturn, 1) := by decide +kernel
  have hl : lv_has ls 1 [(0, .ref (a8 (3 + i)))] := hl
  refine lv_aload_n hx hb d0 rfl (lv_at hl 0 rfl) ?_
  refine vk_getf hx hb (hK5.1 i hi).2.2.1 hS hown (hts _ (lw_g (lw_at lw_m28 146 rfl) rfl)) (fun _ h9 => h9) d1 ?_
  refine va_tlen hx hb (hK5.1 i hi).2.2.2 hS rfl d4 ?_
  refine lv_aload_n hx hb d5 rfl (lv_at hl 0 rfl) ?_
  refine va_calli (A0 := fun _ => False) (H0 := s.heap) (va_runV (As := []) (b := a8 (3 + i)) (rest := [.int (Int32.ofNat (tx_len.getD i 0))]) ⟨hx, hb, hml, hown, hts⟩ (tx_cod (a8 := a8) (adV := adV) (A := A) (Hs := Hs) hi) (cwV 0 hts (lw_V (lw_g (lw_at lw_m27 203 rfl) rfl) (lw_g (lw_at lw_m27 204 rfl) rfl) (lw_g (lw_at lw_m27 205 rfl) rfl) (lw_g (lw_at lw_m1 45 rfl) rfl) (lw_g (lw_at lw_m27 206 rfl) rfl)) rfl rfl rfl ⟨rfl, by decide, by decide, by decide +kernel⟩ ⟨by decide, by decide⟩) ⟨tx_blind, vk_recv (adK := fun j => a8 (3 + j)) hK5 hi hS, fun U hU hW => tx_pre hs0 ⟨hK5, hZ, hZq⟩ U (by rw [hU]; exact hs0) hW⟩ rfl rfl (by rw [hl.1]) rfl (Nat.le_of_ble_eq_true rfl) d6 ⟨by decide, by decide⟩) hSF (fun q _ h => h) (fun q h => h) (fun r u t H1 locs1 e1 _ er hB _ _ hS1 => ?_)
  subst er
  refine lv_ishr hx hb d9 ?_
  have es : ∀ j, j < 5 → Int32.ofNat (tx_len.getD j 0) >>> ((0 : Int32) &&& 31) = Int32.ofNat (tx_len.getD j 0) := by decide +kernel
  rw [es i hi]
  exact W.iret hx hb hr (fun t2 ht _ => ⟨⟨_, (), rfl, rfl, ht.trans (e1.symm.trans hB)⟩, tx_F hs0 (ht.trans (e1.symm.trans hB))⟩) hS1.2.2 d10
theorem tx_chr {i : Nat} {k : Int32} (hi : i < 5) (hk : 0 ≤ k.toInt ∧ k.toInt < tx_len.getD i 0) : Met l ⟨"java/lang/String", "charAt", "(I)C"⟩ (ws_ ⟨"java/lang/String", "charAt", "(I)C"⟩ prog_73_method_56_code 2 (some .char)) (tx_rm 4) (tx_Pc a8 adV A Hs [.ref (a8 (3 + i)), .int k]) (tx_Q Hs ((tx_byt.getD i []).getD k.toNatClampNeg 0)) 0 0 (fun _ => False) := by
  refine Met.ofW (cc := prog_73_method_56_code) (maxL := 2) (ret := (some .char)) (by decide) rfl ?_
  intro p e s m args below meth c s₁ B hml hv
  obtain ⟨rfl, hs0, hK5, hZ, hZq⟩ := hv
  have hx := B.exec
  have hb := B.bytes
  have hr := B.returns
  have hlk := B.notSynchronized
  have hown := findClass_of_methodNamed B.named
  have hts0 := atoms_spec (ws := ws_ ⟨"java/lang/String", "charAt", "(I)C"⟩ prog_73_method_56_code 2 (some .char)) B.pre
  have hts : ∀ w ∈ lw_all, w.before _ s = true := fun w h => hts0 w (List.mem_cons_of_mem _ h)
  have hS : va_S A s.heap s.heap [] := va_S.rf
  have hSF : va_S (fun _ => False) s.heap s.heap [] := va_S.rf
  have hl := lv_entry ([.ref (a8 (3 + i)), .int k]) (n := 2) (Nat.le_of_ble_eq_true rfl)
  rw [lg_entry_eq]
  generalize (lg_sl ([.ref (a8 (3 + i)), .int k]) ++ List.replicate (2 - (lg_sl ([.ref (a8 (3 + i)), .int k])).length) Slot.unset).toArray = ls at hl ⊢
  have d0 : decode prog_73_method_56_code 0 = .ok (.aload_n 0, 1) := by decide +kernel
  have d1 : decode prog_73_method_56_code 1 = .ok (.invokevirtual 492, 3) := by decide +kernel
  have d4 : decode prog_73_method_56_code 4 = .ok (.ifCond .eq 12, 3) := by decide +kernel
  have d7 : decode prog_73_method_56_code 7 = .ok (.aload_n 0, 1) := by decide +kernel
  have d8 : decode prog_73_method_56_code 8 = .ok (.getfield 9, 3) := by decide +kernel
  have d11 : decode prog_73_method_56_code 11 = .ok (.iload_n 1, 1) := by decide +kernel
  have d12 : decode prog_73_method_56_code 12 = .ok (.invokestatic 495, 3) := by decide +kernel
  have d15 : decode prog_73_method_56_code 15 = .ok (.ireturn, 1) := by decide +kernel
  have hl : lv_has ls 2 [(0, .ref (a8 (3 + i))), (1, .int k)] := hl
  refine lv_aload_n hx hb d0 rfl (lv_at hl 0 rfl) ?_
  refine va_calli (A0 := fun _ => False) (H0 := s.heap) (va_runV (As := []) (b := a8 (3 + i)) (rest := []) ⟨hx, hb, hml, hown, hts⟩ (tx_isl (a8 := a8) (adV := adV) (A := A) (Hs := Hs) hi) (cwV 0 hts (lw_V (lw_g (lw_at lw_m27 213 rfl) rfl) (lw_g (lw_at lw_m27 214 rfl) rfl) (lw_g (lw_at lw_m27 215 rfl) rfl) (lw_g (lw_at lw_m1 45 rfl) rfl) (lw_g (lw_at lw_m27 216 rfl) rfl)) rfl rfl rfl ⟨rfl, by decide, by decide, by decide +kernel⟩ ⟨by decide, by decide⟩) ⟨tx_blind, vk_recv (adK := fun j => a8 (3 + j)) hK5 hi hS, fun U hU hW => tx_pre hs0 ⟨hK5, hZ, hZq⟩ U (by rw [hU]; exact hs0) hW⟩ rfl rfl (by rw [hl.1]) rfl (Nat.le_of_ble_eq_true rfl) d1 ⟨by decide, by decide⟩) hSF (fun q _ h => h) (fun q h => h) (fun r u t H1 locs1 e1 _ er hB _ _ hS1 => ?_)
  subst er
  have eH : H1 = s.heap := by rw [← e1, hB, hs0]
  subst eH
  have hS : va_S A s.heap s.heap locs1 := ⟨Nat.le_refl _, fun _ _ _ => rfl, fun l hl => (hS1.2.2 l hl).elim⟩
  have hSF := hS1
  refine lv_if_eq hx hb d4 (tgt := 16) rfl (fun q => absurd q (by decide)) (fun _ => ?_)
  refine lv_aload_n hx hb d7 rfl (lv_at hl 0 rfl) ?_
  refine vk_getf hx hb (hK5.1 i hi).2.2.1 hS hown (hts _ (lw_g (lw_at lw_m28 146 rfl) rfl)) (fun _ h9 => h9) d8 ?_
  refine lv_iload_n hx hb d11 rfl (lv_at hl 1 rfl) ?_
  have hlen : tx_len.getD i 0 ≤ 8 := (by decide : ∀ j, j < 5 → tx_len.getD j 0 ≤ 8) i hi
  have hkc : (k.toNatClampNeg : Int) = k.toInt := by show ((k.toInt.toNat : Nat) : Int) = k.toInt; omega
  have hb9 : ∀ j, j < 5 → ∀ z, z < 8 → (((tx_byt.getD j []).getD z 0 &&& 255).toUInt32 % 65536).toInt32 = (tx_byt.getD j []).getD z 0 ∧ narrow .char (.int ((tx_byt.getD j []).getD z 0)) = .int ((tx_byt.getD j []).getD z 0) := by decide +kernel
  have hz9 := hb9 i hi k.toNatClampNeg (by omega)
  have hlt : k < Int32.ofNat (tx_len.getD i 0) := by rw [Int32.lt_iff_toInt_lt, nu_nat, nu_i (by omega) (by omega)]; omega
  have hn0 : ¬ k < 0 := by rw [Int32.lt_iff_toInt_lt]; simp; omega
  refine va_calli (A0 := fun _ => False) (H0 := s.heap) (va_runS (As := [.ref (adV i), .int k]) (rest := []) ⟨hx, hb, hml, hown, hts⟩ (tx_l1c (a8 := a8) (adV := adV) (A := A) (Hs := Hs) (v := (tx_byt.getD i []).getD k.toNatClampNeg 0) hi hn0 hlt (pm_in_vp.mp ⟨hk.1, hk.2⟩) hz9.1 hz9.2) (va_cwS 2 hts (lw_S (lw_g (lw_at lw_m27 217 rfl) rfl) (lw_g (lw_at lw_m27 218 rfl) rfl) (lw_g (lw_at lw_m1 77 rfl) rfl) (lw_g (lw_at lw_m27 219 rfl) rfl)) rfl rfl rfl ⟨by decide, by decide, by decide +kernel⟩ ⟨by decide, by decide⟩) ⟨tx_blind, fun U hU hW => tx_pre hs0 ⟨hK5, hZ, hZq⟩ U (by rw [hU]; exact hs0) hW⟩ rfl rfl (by rw [hl.1]) rfl (Nat.le_of_ble_eq_true rfl) d12 ⟨by decide, by decide⟩) hSF (fun q _ h => h) (fun q h => h) (fun r2 u2 t2 H2 locs2 e2 _ er2 hB2 _ _ hS2 => ?_)
  subst er2
  exact W.zret hx hb hr hz9.2 (fun t3 ht _ => ⟨⟨_, (), rfl, rfl, ht.trans (e2.symm.trans hB2)⟩, tx_F hs0 (ht.trans (e2.symm.trans hB2))⟩) hS2.2.2 d15
end
