/-! the model's small methods: what they answer -/
theorem s_in {v a b : Int32} {S : MS} {post : Int32 → MS → Prop} (h : post (if a ≤ v ∧ v ≤ b then 1 else 0) S) : M_in v a b S post := by
  apply M_in_ok
  unfold M_in_VC M_in_w0 M_in_w14 M_in_w15
  constructor
  · intro c
    rw [if_neg (by rintro ⟨h1, h2⟩; exact absurd c (Int32.not_lt.mpr h1))] at h
    exact ⟨zok0, h⟩
  · intro c
    constructor
    · intro c2
      rw [if_neg (by rintro ⟨h1, h2⟩; exact absurd c2 (Int32.not_lt.mpr h2))] at h
      exact ⟨zok0, h⟩
    · intro c2
      rw [if_pos ⟨Int32.not_lt.mp c, Int32.not_lt.mp c2⟩] at h
      exact ⟨zok1, h⟩
theorem s_lesser {a b : Nat} (ha : a < 2 ^ 31) (hb : b < 2 ^ 31) {S : MS} {post : Int32 → MS → Prop} (h : post (nI (min a b)) S) : M_lesser (nI a) (nI b) S post := by
  apply M_lesser_ok
  unfold M_lesser_VC M_lesser_w0 M_lesser_w10
  simp (disch := omega) only [n0, n1, n2, n3, n4, n5, n6, n7, n8, n9, n10, n11, n12, n14, n16, n18, n21, n22, n36, n48, n63, n100, n108, n400, n1000, pk_mul, nI_add, pk_div, nI_subm, nI_ltE, nI_leE, nI_eqE, nI_clamp, vp_inE, nIm1, nIm1', nIm1n, nIm1n', nI_addn]
  refine ⟨fun c => ?_, fun c => ?_⟩
  · rw [Nat.min_eq_right c] at h; exact h
  · rw [Nat.min_eq_left (by omega)] at h; exact h
/-- the kind of fours beside two corners -/
def kindN (a b : Nat) : Nat := if a = 0 ∨ b = 0 then a + b - 1 else 5 - (a + b)
theorem s_kindOf {a b : Nat} (ha : a < 4) (hb : b < 4) (hne : a ≠ b) {S : MS} {post : Int32 → MS → Prop} (h : post (nI (kindN a b)) S) : M_kindOf (nI a) (nI b) S post := by
  apply M_kindOf_ok
  unfold M_kindOf_VC M_kindOf_w0 M_kindOf_w12 M_kindOf_w21
  unfold kindN at h
  simp (disch := omega) only [n0, n1, n2, n3, n4, n5, n6, n7, n8, n9, n10, n11, n12, n14, n16, n18, n21, n22, n36, n48, n63, n100, n108, n400, n1000, pk_mul, nI_add, pk_div, nI_subm, nI_ltE, nI_leE, nI_eqE, nI_clamp, vp_inE, nIm1, nIm1', nIm1n, nIm1n', nI_addn]
  refine ⟨fun c => ?_, fun c => ⟨fun c2 => ?_, fun c2 => ?_⟩⟩
  · rw [if_pos (Or.inl c)] at h; exact h
  · rw [if_neg (by omega)] at h; exact h
  · rw [if_pos (Or.inr c2)] at h; exact h
def eFrom (e : Nat) : Nat := match e with
  | 3 => 1
  | 4 => 1
  | 5 => 2
  | _ => 0
def eTo (e : Nat) : Nat := match e with
  | 0 => 1
  | 1 => 2
  | 3 => 2
  | _ => 3
def edgeN (a b : Nat) : Nat := if min a b = 0 then max a b - 1 else max a b + min a b
/-- the model's tables of edges -/
def MTab (S : MS) : Prop := ∀ e, e < 6 → gI S 4 e = nI (eFrom e) ∧ gI S 5 e = nI (eTo e)
theorem edgeN_spec0 : ∀ a b : Fin 4, a.val ≠ b.val → edgeN a.val b.val < 6 ∧ ((eFrom (edgeN a.val b.val) = a.val ∧ eTo (edgeN a.val b.val) = b.val) ∨ (eFrom (edgeN a.val b.val) = b.val ∧ eTo (edgeN a.val b.val) = a.val)) ∧ ∀ e : Fin 6, e.val < edgeN a.val b.val → ¬ (eFrom e.val = a.val ∧ eTo e.val = b.val) ∧ ¬ (eFrom e.val = b.val ∧ eTo e.val = a.val) := by decide
theorem edgeN_spec (a : Nat) (ha : a < 4) (b : Nat) (hb : b < 4) (hne : a ≠ b) : edgeN a b < 6 ∧ ((eFrom (edgeN a b) = a ∧ eTo (edgeN a b) = b) ∨ (eFrom (edgeN a b) = b ∧ eTo (edgeN a b) = a)) ∧ ∀ e, e < edgeN a b → ¬ (eFrom e = a ∧ eTo e = b) ∧ ¬ (eFrom e = b ∧ eTo e = a) := by
  obtain ⟨h1, h2, h3⟩ := edgeN_spec0 ⟨a, ha⟩ ⟨b, hb⟩ hne
  exact ⟨h1, h2, fun e he => h3 ⟨e, Nat.lt_trans he h1⟩ he⟩
theorem eFT_lt (e : Nat) : eFrom e < 4 ∧ eTo e < 4 := by
  unfold eFrom eTo
  constructor <;> split <;> decide
theorem s_edgeOf {a b : Nat} (ha : a < 4) (hb : b < 4) (hne : a ≠ b) {S : MS} (hS : MTab S) {post : Int32 → MS → Prop} (h : post (nI (edgeN a b)) S) : M_edgeOf (nI a) (nI b) S post := by
  apply M_edgeOf_ok
  intro T r
  obtain ⟨h1, h2, h3⟩ := edgeN_spec a ha b hb hne
  have L : ∀ n e, e + n = edgeN a b → T (nI a) (nI b) (nI e) S := by
    intro n
    induction n with
    | zero =>
      intro e he
      have he : e = edgeN a b := by omega
      apply r
      obtain ⟨q1, q2⟩ := hS e (by omega)
      have l1 := eFT_lt e
      unfold M_edgeOf_w2 M_edgeOf_w22 M_edgeOf_w42 M_edgeOf_w48
      simp (disch := omega) only [n0, n1, n2, n3, n4, n5, n6, n7, n8, n9, n10, n11, n12, n14, n16, n18, n21, n22, n36, n48, n63, n100, n108, n400, n1000, pk_mul, nI_add, pk_div, nI_subm, nI_ltE, nI_leE, nI_eqE, nI_clamp, vp_inE, nIm1, nIm1', nIm1n, nIm1n', nI_addn]
      rw [q1, q2]
      simp (disch := omega) only [n0, n1, n2, n3, n4, n5, n6, n7, n8, n9, n10, n11, n12, n14, n16, n18, n21, n22, n36, n48, n63, n100, n108, n400, n1000, pk_mul, nI_add, pk_div, nI_subm, nI_ltE, nI_leE, nI_eqE, nI_clamp, vp_inE, nIm1, nIm1', nIm1n, nIm1n', nI_addn]
      subst he
      refine ⟨by omega, fun c => ⟨by omega, fun c2 => absurd c2 (by omega), fun c2 => ⟨by omega, fun c3 => h, fun c3 => absurd c3 (by omega)⟩⟩, fun c => ⟨by omega, fun c2 => h, fun c2 => ⟨by omega, fun c3 => absurd c3 (by omega), fun c3 => ⟨by omega, fun c4 => h, fun c4 => absurd c4 (by omega)⟩⟩⟩⟩
    | succ n ih =>
      intro e he
      apply r
      obtain ⟨q1, q2⟩ := hS e (by omega)
      have l1 := eFT_lt e
      have l2 := h3 e (by omega)
      have ih := ih (e + 1) (by omega)
      unfold M_edgeOf_w2 M_edgeOf_w22 M_edgeOf_w42 M_edgeOf_w48
      simp (disch := omega) only [n0, n1, n2, n3, n4, n5, n6, n7, n8, n9, n10, n11, n12, n14, n16, n18, n21, n22, n36, n48, n63, n100, n108, n400, n1000, pk_mul, nI_add, pk_div, nI_subm, nI_ltE, nI_leE, nI_eqE, nI_clamp, vp_inE, nIm1, nIm1', nIm1n, nIm1n', nI_addn]
      rw [q1, q2]
      simp (disch := omega) only [n0, n1, n2, n3, n4, n5, n6, n7, n8, n9, n10, n11, n12, n14, n16, n18, n21, n22, n36, n48, n63, n100, n108, n400, n1000, pk_mul, nI_add, pk_div, nI_subm, nI_ltE, nI_leE, nI_eqE, nI_clamp, vp_inE, nIm1, nIm1', nIm1n, nIm1n', nI_addn]
      refine ⟨by omega, fun c => ⟨by omega, fun c2 => ih, fun c2 => ⟨by omega, fun c3 => absurd c3 (by omega), fun c3 => ih⟩⟩, fun c => ⟨by omega, fun c2 => absurd c2 (by omega), fun c2 => ⟨by omega, fun c3 => ih, fun c3 => ⟨by omega, fun c4 => absurd c4 (by omega), fun c4 => ih⟩⟩⟩⟩
  exact L _ 0 (Nat.zero_add _)
