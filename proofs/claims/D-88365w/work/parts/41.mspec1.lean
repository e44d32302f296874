/-! the abstract state: pieces P, glued sides G (side 4p+f), where corners go W, the sheet; and how the model holds it -/
abbrev Ab : Type := Nat × (Nat → Option Nat) × (Nat → Nat → Nat) × (Nat → Nat)
abbrev aP (a : Ab) : Nat := a.1
abbrev aG (a : Ab) : Nat → Option Nat := a.2.1
abbrev aW (a : Ab) : Nat → Nat → Nat := a.2.2.1
abbrev aS (a : Ab) : Nat → Nat := a.2.2.2
def glN (g : Option Nat) : Int32 := match g with
  | none => -1
  | some t => nI t
/-- a gluing is one: sides come in pairs, corners go to corners, the side to the side -/
def AWf (a : Ab) : Prop := aP a ≤ 3 ∧ (∀ s t, s < 4 * aP a → aG a s = some t → t < 4 * aP a ∧ t ≠ s ∧ aG a t = some s ∧ aW a s (s % 4) = t % 4 ∧ ∀ c, c < 4 → aW a s c < 4 ∧ aW a t (aW a s c) = c) ∧ (∀ i, aS a i ≤ 1000) ∧ ∀ i, 7 * aP a ≤ i → aS a i = 0
/-- the model's state holds it -/
def MR (a : Ab) (S : MS) : Prop := gF S 0 = nI (aP a) ∧ MTab S ∧ (∀ s, s < 4 * aP a → gI S 1 s = glN (aG a s)) ∧ (∀ s t, s < 4 * aP a → aG a s = some t → ∀ c, c < 4 → gI S 2 (4 * s + c) = nI (aW a s c)) ∧ ∀ i, i < 21 → gI S 3 i = nI (aS a i)
/-- v is a number below n, as an Int32 -/
def inN (v : Int32) (n : Nat) : Prop := ∃ k, k < n ∧ v = nI k
theorem inN_iff {v : Int32} {n : Nat} (hn : n < 2 ^ 30) : (0 ≤ v ∧ v ≤ nI n - 1) ↔ inN v n := by
  constructor
  · rintro ⟨h1, h2⟩
    obtain ⟨k, hk, rfl⟩ := nI_of (Int32.not_lt.mpr h1)
    refine ⟨k, ?_, rfl⟩
    have h3 := Int32.le_iff_toInt_le.mp h2
    rw [nI_toInt hk, n1, pk_sub_toInt (by omega) (by omega)] at h3
    omega
  · rintro ⟨k, hk, rfl⟩
    refine ⟨by simp (disch := omega) only [n0, n1, n2, n3, n4, n5, n6, n7, n8, n9, n10, n11, n12, n14, n16, n18, n21, n22, n36, n48, n63, n100, n108, n400, n1000, pk_mul, nI_add, pk_div, nI_subm, nI_ltE, nI_leE, nI_eqE, nI_clamp, vp_inE, nIm1, nIm1', nIm1n, nIm1n', nI_addn]; omega, ?_⟩
    simp (disch := omega) only [n0, n1, n2, n3, n4, n5, n6, n7, n8, n9, n10, n11, n12, n14, n16, n18, n21, n22, n36, n48, n63, n100, n108, n400, n1000, pk_mul, nI_add, pk_div, nI_subm, nI_ltE, nI_leE, nI_eqE, nI_clamp, vp_inE, nIm1, nIm1', nIm1n, nIm1n', nI_addn]
    omega
theorem s_isPiece {v : Int32} {S : MS} {P : Nat} (hP : gF S 0 = nI P) (h3 : P ≤ 3) {post : Int32 → MS → Prop} (h1 : inN v P → post 1 S) (h0 : ¬ inN v P → post 0 S) : M_isPiece v S post := by
  apply M_isPiece_ok
  unfold M_isPiece_VC M_isPiece_w0
  rw [hP]
  apply s_in
  by_cases h : inN v P
  · rw [if_pos ((inN_iff (by omega)).mpr h)]
    exact ⟨zok1, h1 h⟩
  · rw [if_neg (fun q => h ((inN_iff (by omega)).mp q))]
    exact ⟨zok0, h0 h⟩
