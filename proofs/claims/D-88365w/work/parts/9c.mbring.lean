/-! the model: cell, bring -/
def hasM (S : MS) (M : Mx) (m n : Nat) : Prop := gF S 11 = nI m ∧ gF S 12 = nI n ∧ ∀ r, r < m → ∀ j, j < n → gL S (6 * r + j) = lZ (M r j)
/-- all entries are small -/
def bdM (M : Mx) (m n : Nat) : Prop := ∀ r, r < m → ∀ j, j < n → (M r j).natAbs < 2 ^ 62
/-- only the long array may differ -/
def oLw (S S' : MS) : Prop := (∀ k, gF S' k = gF S k) ∧ ∀ b j, gI S' b j = gI S b j
theorem oLw_rf {S : MS} : oLw S S := ⟨fun _ => rfl, fun _ _ => rfl⟩
theorem oLw_tr {S S' S'' : MS} (h : oLw S S') (h' : oLw S' S'') : oLw S S'' := ⟨fun k => by rw [h'.1, h.1], fun b j => by rw [h'.2, h.2]⟩
theorem oLw_s {S S' : MS} {j : Nat} {v : Int64} (h : oLw S S') : oLw S (sL S' j v) := ⟨h.1, h.2⟩
theorem s_cell {S : MS} {M : Mx} {m n : Nat} (hm : m ≤ 18) (hn : n ≤ 6) (hM : hasM S M m n) {r j : Nat} (hr : r < m) (hj : j < n) {post : Int64 → MS → Prop} (h : post (lZ (M r j)) S) : M_cell (nI r) (nI j) S post := by
  apply M_cell_ok
  unfold M_cell_VC M_cell_w0
  have e : (6 : Int32) * nI r + nI j = nI (6 * r + j) := by simp (disch := omega) only [n0, n1, n2, n3, n4, n5, n6, n7, n8, n9, n10, n11, n12, n14, n16, n18, n21, n22, n36, n48, n63, n100, n108, n400, n1000, pk_mul, nI_add, pk_div, nI_subm, nI_ltE, nI_leE, nI_eqE, nI_clamp, vp_inE, nIm1, nIm1', nIm1n, nIm1n', nI_addn]
  rw [e, vp_inE (by omega) (by omega), nI_clamp (by omega), hM.2.2 r hr j hj]
  exact ⟨by omega, h⟩
