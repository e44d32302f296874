/-! the model: put, across -/
theorem in_iff {v : Int32} {n : Nat} (hn : n < 2 ^ 29) : (0 ≤ v ∧ v ≤ nI n) ↔ inN v (n + 1) := by
  have h := inN_iff (v := v) (n := n + 1) (by omega)
  have e : nI (n + 1) - 1 = nI n := nI_pred n
  rw [e] at h
  exact h
theorem s_put {a : Ab} (ha : AWf a) {S : MS} (h : MR a S) {x v : Int32} {post : Int32 → MS → Prop} (h0 : ¬ (inN x (7 * aP a) ∧ inN v 1001) → post (-2) S) (h1 : ∀ i k, x = nI i → v = nI k → i < 7 * aP a → k < 1001 → ∀ S', MR (aP a, aG a, aW a, fun j => if j = i then k else aS a j) S' → post (nI (aS a i)) S') : M_put x v S post := by
  apply M_put_ok
  unfold M_put_VC M_put_w0 M_put_w28
  have hP := ha.1
  rw [h.1]
  have e7 : (7 : Int32) * nI (aP a) = nI (7 * aP a) := by simp (disch := omega) only [n0, n1, n2, n3, n4, n5, n6, n7, n8, n9, n10, n11, n12, n14, n16, n18, n21, n22, n36, n48, n63, n100, n108, n400, n1000, pk_mul, nI_add, pk_div, nI_subm, nI_ltE, nI_leE, nI_eqE, nI_clamp, vp_inE, nIm1, nIm1', nIm1n, nIm1n', nI_addn]
  rw [e7]
  apply s_in
  by_cases hx : inN x (7 * aP a)
  · rw [if_pos ((inN_iff (by omega)).mpr hx)]
    refine ⟨fun c => absurd c (by decide), fun _ => ?_⟩
    apply s_in
    by_cases hv : inN v 1001
    · rw [if_pos (show (0 : Int32) ≤ v ∧ v ≤ 1000 from (in_iff (n := 1000) (by decide)).mpr hv)]
      refine ⟨fun _ => ?_, fun c => absurd c (by decide)⟩
      obtain ⟨i, hi, rfl⟩ := hx
      obtain ⟨k, hk, rfl⟩ := hv
      simp (disch := omega) only [n0, n1, n2, n3, n4, n5, n6, n7, n8, n9, n10, n11, n12, n14, n16, n18, n21, n22, n36, n48, n63, n100, n108, n400, n1000, pk_mul, nI_add, pk_div, nI_subm, nI_ltE, nI_leE, nI_eqE, nI_clamp, vp_inE, nIm1, nIm1', nIm1n, nIm1n', nI_addn]
      refine ⟨by omega, by omega, ?_⟩
      rw [h.2.2.2.2 i (by omega)]
      refine h1 i k rfl rfl hi hk _ (MR_sheet h (keepI_s keepI_rf) (fun j hj => ?_))
      rw [gI_sI]
      by_cases hji : j = i
      · rw [if_pos ⟨rfl, hji⟩, if_pos hji]
      · rw [if_neg (fun q => hji q.2), if_neg hji]
        exact h.2.2.2.2 j hj
    · rw [if_neg (show ¬ ((0 : Int32) ≤ v ∧ v ≤ 1000) from fun q => hv ((in_iff (n := 1000) (by decide)).mp q))]
      exact ⟨fun c => absurd rfl c, fun _ => h0 (fun q => hv q.2)⟩
  · rw [if_neg (fun q => hx ((inN_iff (by omega)).mp q))]
    exact ⟨fun _ => h0 (fun q => hx q.1), fun c => absurd rfl c⟩
