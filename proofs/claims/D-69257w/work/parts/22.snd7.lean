/-! ===== SOUNDNESS, 8: references compared, switches, arraycopy ===== -/
section
variable {p : Program} {l : Launch} {e : Env} {R : Room} {s : State} {m : MethodId} {args : Array Value} {below : List Frame} {meth : Method} {c : Code} {Q : State → Prop} {D : va_G} {κ : FieldType → ClassId} {A : Nat → Prop} {k8 : Nat → pm_E} {a8 : Nat → Nat} {nL : Nat} {ad0 : Nat → Nat} {h0 : pm_H} {cc : ByteArray} {own : String} {pc : Nat} {ls st : List Value} {h : pm_H} {L : Nat} {xs : Nat → Int32}
theorem sn_arr1 {s : State} {c1 : Cell} {t1 t2 : FieldType} (h1 : s.isArrayOf c1 t1) (h2 : s.isArrayOf c1 t2) : t1 = t2 := by
  obtain ⟨-, k, hk, comp, e1⟩ := h1
  obtain ⟨-, k', hk', comp', e2⟩ := h2
  rw [hk] at hk'; cases hk'
  rw [e1] at e2; cases e2; rfl
theorem sn_cats {ad : Nat → Nat} {st : List Value} : ((st.map (sn_V ad)).map fun v => v.category).sum = pm_cats st := by
  unfold pm_cats
  rw [List.map_map]
  refine congrArg List.sum (List.map_congr_left fun v _ => sn_V_cat)
theorem sn_ltl {h : pm_H} (hh : sn_h h) {x : Nat} (hx : (pm_len h x).isSome = true) : x < h.1 := by
  refine Nat.lt_of_not_le fun q => ?_
  unfold pm_len at hx
  rw [hh.2.2.1 x q] at hx
  cases hx
theorem sn_inj {ad : Nat → Nat} {H : Heap} (h8k : sn_K8 k8 L xs) (hC : sn_C8 a8 L xs A s) (hR : sn_R D κ A k8 ad h H) (h8 : ∀ k, k < 8 → ad k = a8 k) {x y : Nat} (hx : (pm_len h x).isSome = true) (hy : (pm_len h y).isSome = true) (hxy : ad x = ad y) : x = y := by
  have lx := sn_ltl hR.1 hx
  have ly := sn_ltl hR.1 hy
  have hbig : ∀ z, 8 ≤ z → z < h.1 → A (ad z) := fun z hz1 hz2 => hR.2.2.1.2 _ _ (sn_ws_at (κ := κ) (ad := ad) hz1 hz2)
  have hsm : ∀ z, z < 8 → (pm_len h z).isSome = true → z = 0 ∨ z = 1 ∨ z = 2 := by
    intro z hz hl
    rcases (show z = 0 ∨ z = 1 ∨ z = 2 ∨ 3 ≤ z by omega) with q | q | q | q
    · exact Or.inl q
    · exact Or.inr (Or.inl q)
    · exact Or.inr (Or.inr q)
    · obtain ⟨n, f, e⟩ := h8k.2.2.2 z q hz
      unfold pm_len at hl
      rw [hR.2.2.2 z hz, e] at hl
      exact absurd hl (by simp)
  have hnA : ∀ z, z = 0 ∨ z = 1 ∨ z = 2 → ¬ A (a8 z) := by
    rintro z (rfl | rfl | rfl)
    · exact hC.1.2.2
    · obtain ⟨_, _, _, _, _, _, _, q⟩ := hC.2.1; exact q
    · obtain ⟨_, _, _, _, _, _, _, q⟩ := hC.2.2; exact q
  have htype : ∀ z, z = 0 ∨ z = 1 ∨ z = 2 → ∃ cell, s.heap[a8 z]? = some cell ∧ s.isArrayOf cell (([.int, .char, .object "java/lang/Object"] : List FieldType).getD z .int) := by
    rintro z (rfl | rfl | rfl)
    · obtain ⟨⟨cl, e1, e2, _⟩, _⟩ := hC.1; exact ⟨cl, e1, e2⟩
    · obtain ⟨cl, e1, e2, _⟩ := hC.2.1; exact ⟨cl, e1, e2⟩
    · obtain ⟨cl, e1, e2, _⟩ := hC.2.2; exact ⟨cl, e1, e2⟩
  rcases Nat.lt_or_ge x 8 with hx8 | hx8 <;> rcases Nat.lt_or_ge y 8 with hy8 | hy8
  · have qx := hsm x hx8 hx
    have qy := hsm y hy8 hy
    obtain ⟨cx, ex, tx⟩ := htype x qx
    obtain ⟨cy, ey, ty⟩ := htype y qy
    rw [h8 x hx8, h8 y hy8] at hxy
    rw [hxy, ey] at ex
    cases ex
    have := sn_arr1 tx ty
    rcases qx with rfl | rfl | rfl <;> rcases qy with rfl | rfl | rfl <;> first | rfl | (exact absurd this (by decide))
  · have := hbig y hy8 ly
    rw [← hxy, h8 x hx8] at this
    exact absurd this (hnA x (hsm x hx8 hx))
  · have := hbig x hx8 lx
    rw [hxy, h8 y hy8] at this
    exact absurd this (hnA y (hsm y hy8 hy))
  · have := hR.2.2.1.1 (x - 8) (y - 8) _ _ (sn_ws_at (κ := κ) (ad := ad) hx8 lx) (sn_ws_at (κ := κ) (ad := ad) hy8 ly) hxy
    omega
theorem sg_acmp_eq {x y : Nat} {off : Int} {t : Nat} (S : CallFix p m c cc nL s args lw_all own) (h8k : sn_K8 k8 L xs) (hC : sn_C8 a8 L xs A s) (hx : (pm_len h x).isSome = true) (hy : (pm_len h y).isSome = true) (d : decode cc pc = .ok (.if_acmp .eq off, 3)) (ht : (pc : Int) + off = (t : Int)) (kt : x = y → sn_G p l e R s m args below meth c Q D κ A k8 a8 nL ad0 h0 t ls st h) (kf : ¬ x = y → sn_G p l e R s m args below meth c Q D κ A k8 a8 nL ad0 h0 (pc + 3) ls st h) : sn_G p l e R s m args below meth c Q D κ A k8 a8 nL ad0 h0 pc ls (.ref y :: .ref x :: st) h := by
  intro ad H locs la cells slots hR h8 hE hS hF hs c1 c2
  have hxy : (some (ad x) : Option Nat) = some (ad y) ↔ x = y := ⟨fun q => sn_inj h8k hC hR h8 hx hy (Option.some.inj q), fun q => by rw [q]⟩
  have hs2 := sn_S_tl (sn_S_tl hs)
  exact lv_acmp_eq (rx := some (ad x)) (ry := some (ad y)) S.1 S.2.1 d ht (fun q => kt (hxy.mp q) ad H locs la cells slots hR h8 hE hS hF hs2 c1 c2) (fun q => kf (fun r => q (hxy.mpr r)) ad H locs la cells slots hR h8 hE hS hF hs2 c1 c2)
theorem sg_acmp_ne {x y : Nat} {off : Int} {t : Nat} (S : CallFix p m c cc nL s args lw_all own) (h8k : sn_K8 k8 L xs) (hC : sn_C8 a8 L xs A s) (hx : (pm_len h x).isSome = true) (hy : (pm_len h y).isSome = true) (d : decode cc pc = .ok (.if_acmp .ne off, 3)) (ht : (pc : Int) + off = (t : Int)) (kt : ¬ x = y → sn_G p l e R s m args below meth c Q D κ A k8 a8 nL ad0 h0 t ls st h) (kf : x = y → sn_G p l e R s m args below meth c Q D κ A k8 a8 nL ad0 h0 (pc + 3) ls st h) : sn_G p l e R s m args below meth c Q D κ A k8 a8 nL ad0 h0 pc ls (.ref y :: .ref x :: st) h := by
  intro ad H locs la cells slots hR h8 hE hS hF hs c1 c2
  have hxy : (some (ad x) : Option Nat) = some (ad y) ↔ x = y := ⟨fun q => sn_inj h8k hC hR h8 hx hy (Option.some.inj q), fun q => by rw [q]⟩
  have hs2 := sn_S_tl (sn_S_tl hs)
  exact lv_acmp_ne (rx := some (ad x)) (ry := some (ad y)) S.1 S.2.1 d ht (fun q => kt (fun r => q (hxy.mpr r)) ad H locs la cells slots hR h8 hE hS hF hs2 c1 c2) (fun q => kf (hxy.mp q) ad H locs la cells slots hR h8 hE hS hF hs2 c1 c2)
theorem sg_tableswitch {x : Int32} {B : Nat → Nat} {d1 d2 lo hi : Int} {o1 o2 : Array Int} {len : Nat} (S : CallFix p m c cc nL s args lw_all own) (hd : (pc : Int) + d1 = (B d2.toNat : Int)) (ho : ∀ j, j < o1.size → ∃ z, o1[j]? = some z ∧ (pc : Int) + z = (B (o2.toList.getD j 0).toNat : Int)) (hh : hi < lo + o1.size) (d : decode cc pc = .ok (.tableswitch d1 lo hi o1, len)) (k : sn_G p l e R s m args below meth c Q D κ A k8 a8 nL ad0 h0 (B (pm_sw d2 lo hi o2.toList x)) ls st h) : sn_G p l e R s m args below meth c Q D κ A k8 a8 nL ad0 h0 pc ls (.int x :: st) h := by
  intro ad H locs la cells slots hR h8 hE hS hF hs c1 c2
  have kk := k ad H locs la cells slots hR h8 hE hS hF (sn_S_tl hs) c1 c2
  unfold pm_sw at kk
  split at kk
  · rename_i hc
    exact lv_tableOut S.1 S.2.1 d hc hd kk
  · rename_i hc
    obtain ⟨z, hz1, hz2⟩ := ho (x.toInt - lo).toNat (by omega)
    exact lv_tableIn S.1 S.2.1 d (by omega) (by omega) hz1 hz2 kk
theorem sn_lk {B : Nat → Nat} {pc : Int} {d1 d2 : Int} (hd : pc + d1 = (B d2.toNat : Int)) {x : Int32} : ∀ (a b : List (Int × Int)), a.map (fun q => (q.1, pc + q.2)) = b.map (fun q => (q.1, (B q.2.toNat : Int))) → pc + Op.lookupswitch.offset a d1 x.toInt = (B (pm_lk d2 b x) : Int)
  | [], [], _ => hd
  | [], _ :: _, h => by simp at h
  | _ :: _, [], h => by simp at h
  | (u, v) :: a, (u', v') :: b, h => by
    simp only [List.map_cons, List.cons.injEq, Prod.mk.injEq] at h
    obtain ⟨⟨rfl, h2⟩, h3⟩ := h
    rw [Op.lookupswitch.offset_cons, pm_lk]
    by_cases q : u = x.toInt
    · rw [if_pos q, if_pos q.symm]; exact h2
    · rw [if_neg q, if_neg (fun r => q r.symm)]; exact sn_lk hd a b h3
theorem sg_lookupswitch {x : Int32} {B : Nat → Nat} {d1 d2 : Int} {o1 o2 : Array (Int × Int)} {len : Nat} (S : CallFix p m c cc nL s args lw_all own) (hd : (pc : Int) + d1 = (B d2.toNat : Int)) (ho : o1.toList.map (fun q => (q.1, (pc : Int) + q.2)) = o2.toList.map (fun q => (q.1, (B q.2.toNat : Int)))) (hp : (o1.toList.zip (o1.toList.drop 1)).all (fun (a, next) => a.1 < next.1) = true) (d : decode cc pc = .ok (.lookupswitch d1 o1, len)) (k : sn_G p l e R s m args below meth c Q D κ A k8 a8 nL ad0 h0 (B (pm_lk d2 o2.toList x)) ls st h) : sn_G p l e R s m args below meth c Q D κ A k8 a8 nL ad0 h0 pc ls (.int x :: st) h := by
  intro ad H locs la cells slots hR h8 hE hS hF hs c1 c2
  exact lv_lookup S.1 S.2.1 d hp rfl (sn_lk hd _ _ ho) (k ad H locs la cells slots hR h8 hE hS hF (sn_S_tl hs) c1 c2)
set_option maxHeartbeats 1000000 in
theorem sg_arraycopy {a b : Nat} {i j n : Int32} {h' : pm_H} {ix : Nat} (S : CallFix p m c cc nL s args lw_all own) (hK : va_K D sn_cl (sn_tys κ) s) (h8k : sn_K8 k8 L xs) (hlink : Cond.methodLink own ix arraycopyName ∈ lw_all) (hnat : Cond.native arraycopyName ∈ lw_all) (hstat : Cond.static arraycopyName ∈ lw_all) (hini : Cond.initialized "java/lang/System" ∈ lw_all) (hcat : pm_cats st ≤ 8) (hf : 1 ≤ R.frames) (hlo : 200 ≤ R.locals) (hv : pm_cpy h a i b j n = some h') (d : decode cc pc = .ok (.invokestatic ix, 3)) (k : sn_G p l e R s m args below meth c Q D κ A k8 a8 nL ad0 h0 (pc + 3) ls st h') : sn_G p l e R s m args below meth c Q D κ A k8 a8 nL ad0 h0 pc ls (.int n :: .int j :: .ref b :: .int i :: .ref a :: st) h := by
  intro ad H locs la cells slots hR h8 hE hS hF hs c1 c2
  have hs5 := sn_S_tl (sn_S_tl (sn_S_tl (sn_S_tl (sn_S_tl hs))))
  unfold pm_cpy at hv
  split at hv
  · rename_i n0 f n1 g ea eb
    split at hv
    · rename_i hc
      obtain ⟨g1, g2, g3, g4, g5⟩ := hc
      cases hv
      have hbig : ∀ (z q : Nat) (f : Nat → Int32), h.2.2 z = .inl (.int, q, .inl f) → 8 ≤ z := by
        intro z q f ez
        refine Nat.le_of_not_lt fun hz => ?_
        rw [hR.2.2.2 z hz] at ez
        rcases (show z = 0 ∨ z = 1 ∨ z = 2 ∨ 3 ≤ z by omega) with rfl | rfl | rfl | h3
        · rw [h8k.1] at ez; cases ez
        · rw [h8k.2.1] at ez; cases ez
        · rw [h8k.2.2.1] at ez; cases ez
        · obtain ⟨_, _, e'⟩ := h8k.2.2.2 z h3 hz
          rw [e'] at ez; cases ez
      have ha := hbig _ _ _ ea
      have hb := hbig _ _ _ eb
      have la1 := sn_lt hR.1 ea
      have lb1 := sn_lt hR.1 eb
      have hti : (FieldType.int) ∈ sn_ats := by simp [sn_ats]
      obtain ⟨t0, ht0⟩ := sn_ty_at (κ := κ) hti
      have wa := sn_ws_at (κ := κ) (ad := ad) ha la1
      have wb := sn_ws_at (κ := κ) (ad := ad) hb lb1
      rw [ea] at wa
      rw [eb] at wb
      have z0 : ∀ {q : Int32}, 0 ≤ q.toInt → ¬ q < 0 := fun {q} hq r => by
        have r2 := Int32.lt_iff_toInt_lt.mp r
        rw [show (0 : Int32).toInt = 0 from rfl] at r2
        omega
      refine va_copyi S.1 S.2.1 (by rw [S.2.2.1]; exact hF.2.1.symm) S.2.2.2.1 (S.2.2.2.2 _ hlink) (S.2.2.2.2 _ hnat) (S.2.2.2.2 _ hstat) (S.2.2.2.2 _ hini) hK hR.2.1 hR.2.2.1 hS (a - 8) (b - 8) t0 t0 wa wb ht0 ht0 rfl (z0 g1) (z0 g2) (z0 g3) (by simp only [sn_cl_i]; omega) (by simp only [sn_cl_i]; omega) (fun _ _ => rfl) hf ?_ d (fun H1 locs1 hP1 hD1 hS1 => ?_)
      · rw [sn_cats]
        have : nativeFrameWords "java/lang/System" "arraycopy" 5 + 11 ≤ 192 := by decide
        omega
      · refine k ad H1 locs1 la cells slots ⟨sn_h_up hR.1 lb1 (by first | trivial | exact True.intro) (fun _ => hti), ?_, ?_, fun z hz => ?_⟩ h8 hE hS1 hF hs5 c1 c2
        · rw [sn_ws_up hb lb1]; exact hP1
        · rw [sn_ws_up hb lb1]; exact hD1
        · show va_up h.2.2 b _ z = _
          rw [va_up_ne _ _ (by omega)]; exact hR.2.2.2 z hz
    · cases hv
  · cases hv
end
