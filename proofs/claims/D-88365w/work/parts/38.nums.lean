/-! numbers: literals as nI -/
theorem n0 : (0 : Int32) = nI 0 := rfl
theorem n1 : (1 : Int32) = nI 1 := rfl
theorem n2 : (2 : Int32) = nI 2 := rfl
theorem n3 : (3 : Int32) = nI 3 := rfl
theorem n4 : (4 : Int32) = nI 4 := rfl
theorem n5 : (5 : Int32) = nI 5 := rfl
theorem n6 : (6 : Int32) = nI 6 := rfl
theorem n7 : (7 : Int32) = nI 7 := rfl
theorem n8 : (8 : Int32) = nI 8 := rfl
theorem n9 : (9 : Int32) = nI 9 := rfl
theorem n10 : (10 : Int32) = nI 10 := rfl
theorem n11 : (11 : Int32) = nI 11 := rfl
theorem n12 : (12 : Int32) = nI 12 := rfl
theorem n14 : (14 : Int32) = nI 14 := rfl
theorem n16 : (16 : Int32) = nI 16 := rfl
theorem n18 : (18 : Int32) = nI 18 := rfl
theorem n21 : (21 : Int32) = nI 21 := rfl
theorem n22 : (22 : Int32) = nI 22 := rfl
theorem n36 : (36 : Int32) = nI 36 := rfl
theorem n48 : (48 : Int32) = nI 48 := rfl
theorem n63 : (63 : Int32) = nI 63 := rfl
theorem n100 : (100 : Int32) = nI 100 := rfl
theorem n108 : (108 : Int32) = nI 108 := rfl
theorem n400 : (400 : Int32) = nI 400 := rfl
theorem n1000 : (1000 : Int32) = nI 1000 := rfl
theorem nIm1 {n : Nat} (h : n < 2 ^ 31) : (nI n = -1) = False := by
  simp only [eq_iff_iff, iff_false]
  intro e
  have := congrArg Int32.toInt e
  rw [nI_toInt h] at this
  have h2 : (-1 : Int32).toInt = -1 := rfl
  omega
theorem nIm1' {n : Nat} (h : n < 2 ^ 31) : ((-1 : Int32) = nI n) = False := by
  simp only [eq_iff_iff, iff_false]
  intro e
  have h1 := nIm1 h
  rw [← h1]
  exact e.symm
theorem nI_ltE {a b : Nat} (ha : a < 2 ^ 31) (hb : b < 2 ^ 31) : (nI a < nI b) = (a < b) := propext (nI_ltI ha hb)
theorem nI_leE {a b : Nat} (ha : a < 2 ^ 31) (hb : b < 2 ^ 31) : (nI a ≤ nI b) = (a ≤ b) := propext (nI_leI ha hb)
theorem nI_eqE {a b : Nat} (ha : a < 2 ^ 31) (hb : b < 2 ^ 31) : (nI a = nI b) = (a = b) := propext (nI_eq ha hb)
theorem vp_inE {a b : Nat} (ha : a < 2 ^ 31) (hb : b < 2 ^ 31) : (vp_in (nI a) b) = (a < b) := propext ⟨fun h => by have := vp_in_iff.mp h; rw [nI_toInt ha] at this; omega, fun h => vp_in_nI h hb⟩
theorem nI_subm {a b : Nat} (h : b ≤ a) : nI a - nI b = nI (a - b) := pk_sub h
theorem nIm1n {n : Nat} (h : n < 2 ^ 31) : (nI n = -nI 1) = False := nIm1 h
theorem nIm1n' {n : Nat} (h : n < 2 ^ 31) : (-nI 1 = nI n) = False := nIm1' h
theorem nI_addn {a b : Nat} (h : b ≤ a) : nI a + -nI b = nI (a - b) := by
  rw [← Int32.sub_eq_add_neg]
  exact nI_subm h
