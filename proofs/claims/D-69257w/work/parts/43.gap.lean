/-! ===== SOUNDNESS, 27: all of the gaps ===== -/
theorem sn_gap {l : Launch} {D : va_G} {κ : FieldType → ClassId} {A : Nat → Prop} {k8 : Nat → pm_E} {a8 : Nat → Nat} {L : Nat} {xs : Nat → Int32} {cl : pm_C} {d0 : Nat} (h8k : sn_K8 k8 L xs) (h8t : sn_K8t k8) (hv0 : sn_vmok 0) (hv1 : sn_vmok 1) (hIH : sn_IH l (sn_TX a8 A) D κ A k8 a8 L xs cl d0) : sn_Gap l (sn_TX a8 A) D κ A k8 a8 L xs cl d0 := by
  intro p e R s m args below meth c Q nL ad0 h0 cc own lk B rt ini o h' S T hEnv hR hroom jp hs hjp pc K ls st h i n pi hle hpi htr hlen d hthr hk hrun
  rcases hpi with rfl | rfl | rfl | ⟨v, rfl⟩ | ⟨v, rfl⟩ | ⟨v, w, rfl⟩
  · obtain ⟨x, v, rfl, hv⟩ := tr_inv_mx htr
    obtain rfl : 3 = n := hlen
    exact st_copyOf S sn_TX_ok (fun U hU => hU.2.2) hEnv h8k hR hk hle hroom (lk_at T (kind := 13) (by decide) hv) d hrun
  · obtain ⟨x, v, rfl, hv⟩ := tr_inv_len htr
    obtain rfl : 3 = n := hlen
    exact st_strlen S hEnv h8k h8t hR hk hle hroom (lk_at T (kind := 14) (by decide) hv) d hrun
  · obtain ⟨x, v, rfl, hv⟩ := tr_inv_chr htr
    obtain rfl : 3 = n := hlen
    exact st_strchr S hEnv h8k h8t hR hk hle hroom (lk_at T (kind := 15) (by decide) hv) d hrun
  · obtain ⟨x, hi, hv⟩ := tr_inv_ldc htr
    have hin : (own, x, v) ∈ sn_strs := lk_at T (kind := 24) (by decide) hv
    have hZ := hEnv.2.2.2.2.2.2.2.2.2.2.2.1 _ hin
    have hv5 : v < 5 := by
      have : ∀ q ∈ sn_strs, q.2.2 < 5 := by decide
      exact this _ hin
    obtain ⟨hg, kk⟩ := hk _ _ _ hle (show pm_int jp hs (K ls (.ref (3 + v) :: st) h) = some (o, h') from hrun)
    intro ad H locs la cells slots hR9 h8 hE hS hF hs9 c1 c2
    rcases hi with rfl | rfl
    · obtain rfl : 2 = n := hlen
      exact sg_ldcS hZ hv5 S d hR9.1.1 kk ad H locs la cells slots hR9 h8 hE hS hF hs9 c1 c2
    · obtain rfl : 3 = n := hlen
      exact sg_ldcSW hZ hv5 S d hR9.1.1 kk ad H locs la cells slots hR9 h8 hE hS hF hs9 c1 c2
  · obtain ⟨x, rfl, hv⟩ := tr_inv_dyn htr
    obtain rfl : 3 = n := hlen
    rcases lk_at T (kind := 16) (by decide) hv with ⟨rfl, q⟩ | ⟨rfl, q⟩
    · exact st_callD (q := 0) S sn_TX_ok hEnv h8k hIH hR hthr hk hle hroom q rfl hv0 d hrun
    · exact st_callD (q := 1) S sn_TX_ok hEnv h8k hIH hR hthr hk hle hroom q rfl hv1 d hrun
  · obtain ⟨x, rfl, hv⟩ := tr_inv_mul htr
    obtain rfl : 4 = n := hlen
    exact st_multi S T hEnv hk hle hroom hv d hrun
