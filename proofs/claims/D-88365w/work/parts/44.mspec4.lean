/-! the model: drop, put, across -/
def nz (sh : Nat → Nat) : Nat → Nat
  | 0 => 0
  | n + 1 => nz sh n + (if sh n = 0 then 0 else 1)
theorem nz_le (sh : Nat → Nat) (n : Nat) : nz sh n ≤ n := by
  induction n with
  | zero => exact Nat.le_refl 0
  | succ n ih => unfold nz; split <;> omega
theorem s_drop {a : Ab} (ha : AWf a) {S : MS} (h : MR a S) {post : Int32 → MS → Prop} (hp : ∀ S', MR (aP a, aG a, aW a, fun _ => 0) S' → post (nI (nz (aS a) 21)) S') : M_drop S post := by
  apply M_drop_ok
  intro T r
  have L : ∀ n i, i + n = 21 → T (nI (nz (aS a) i)) (nI i) S := by
    intro n
    induction n with
    | zero =>
      intro i hi
      have hi : i = 21 := by omega
      subst hi
      apply r
      unfold M_drop_w4
      simp (disch := omega) only [n0, n1, n2, n3, n4, n5, n6, n7, n8, n9, n10, n11, n12, n14, n16, n18, n21, n22, n36, n48, n63, n100, n108, n400, n1000, pk_mul, nI_add, pk_div, nI_subm, nI_ltE, nI_leE, nI_eqE, nI_clamp, vp_inE, nIm1, nIm1', nIm1n, nIm1n', nI_addn]
      refine ⟨fun _ => ?_, fun c => absurd (Nat.le_refl 21) c⟩
      apply s_empty
      intro S' hk hz
      exact hp S' (MR_sheet h hk (fun i hi => by rw [hz i hi]; rfl))
    | succ n ih =>
      intro i hi
      have ih := ih (i + 1) (by omega)
      have hle := nz_le (aS a) i
      have hs := ha.2.2.1 i
      apply r
      unfold M_drop_w4 M_drop_w25
      simp (disch := omega) only [n0, n1, n2, n3, n4, n5, n6, n7, n8, n9, n10, n11, n12, n14, n16, n18, n21, n22, n36, n48, n63, n100, n108, n400, n1000, pk_mul, nI_add, pk_div, nI_subm, nI_ltE, nI_leE, nI_eqE, nI_clamp, vp_inE, nIm1, nIm1', nIm1n, nIm1n', nI_addn]
      rw [h.2.2.2.2 i (by omega)]
      simp (disch := omega) only [n0, n1, n2, n3, n4, n5, n6, n7, n8, n9, n10, n11, n12, n14, n16, n18, n21, n22, n36, n48, n63, n100, n108, n400, n1000, pk_mul, nI_add, pk_div, nI_subm, nI_ltE, nI_leE, nI_eqE, nI_clamp, vp_inE, nIm1, nIm1', nIm1n, nIm1n', nI_addn]
      unfold nz at ih
      refine ⟨fun c => by omega, fun _ => ⟨by omega, fun c => ?_, fun c => ?_⟩⟩
      · rw [if_pos c] at ih; exact ih
      · rw [if_neg c] at ih; exact ih
  exact L 21 0 rfl
