/-! the model's small methods, on -/
theorem in03 {w : Int32} : ((0 : Int32) ≤ w ∧ w ≤ 3) ↔ inN w 4 := by
  have h := inN_iff (v := w) (n := 4) (by decide)
  have e : nI 4 - 1 = (3 : Int32) := by decide
  rw [e] at h
  exact h
theorem s_isSide {v w : Int32} {S : MS} {P : Nat} (hP : gF S 0 = nI P) (h3 : P ≤ 3) {post : Int32 → MS → Prop} (h1 : inN v P → inN w 4 → post 1 S) (h0 : ¬ (inN v P ∧ inN w 4) → post 0 S) : M_isSide v w S post := by
  apply M_isSide_ok
  unfold M_isSide_VC M_isSide_w0 M_isSide_w21 M_isSide_w22
  refine s_isPiece hP h3 (fun h => ⟨fun c => absurd c (by decide), fun _ => ?_⟩) (fun h => ⟨fun _ => ⟨zok0, h0 (fun q => h q.1)⟩, fun c => absurd rfl c⟩)
  apply s_in
  by_cases hw : inN w 4
  · rw [if_pos (in03.mpr hw)]
    exact ⟨fun c => absurd c (by decide), fun _ => ⟨zok1, h1 h hw⟩⟩
  · rw [if_neg (fun q => hw (in03.mp q))]
    exact ⟨fun _ => ⟨zok0, h0 (fun q => hw q.2)⟩, fun c => absurd rfl c⟩
def endN (p a b : Nat) : Nat := 12 * p + 2 * edgeN a b + (if a < b then 0 else 1)
theorem s_endOf {p a b : Nat} (hp : p < 1000) (ha : a < 4) (hb : b < 4) (hne : a ≠ b) {S : MS} (hS : MTab S) {post : Int32 → MS → Prop} (h : post (nI (endN p a b)) S) : M_endOf (nI p) (nI a) (nI b) S post := by
  apply M_endOf_ok
  unfold M_endOf_VC M_endOf_w0 M_endOf_w23
  apply s_edgeOf ha hb hne hS
  have h1 := (edgeN_spec a ha b hb hne).1
  unfold endN at h
  simp (disch := omega) only [n0, n1, n2, n3, n4, n5, n6, n7, n8, n9, n10, n11, n12, n14, n16, n18, n21, n22, n36, n48, n63, n100, n108, n400, n1000, pk_mul, nI_add, pk_div, nI_subm, nI_ltE, nI_leE, nI_eqE, nI_clamp, vp_inE, nIm1, nIm1', nIm1n, nIm1n', nI_addn]
  refine ⟨fun c => ?_, fun c => ?_⟩
  · rw [if_neg (by omega)] at h; exact h
  · rw [if_pos (by omega)] at h; exact h
