/-! the model: bring -/
def bR (b : Option (Nat × Nat)) : Int32 := match b with
  | none => -1
  | some (r, _) => nI r
def bC (b : Option (Nat × Nat)) : Int32 := match b with
  | none => -1
  | some (_, c) => nI c
def bV (M : Mx) (b : Option (Nat × Nat)) : Int64 := match b with
  | none => 0
  | some (r, c) => lI (M r c).natAbs
def inB (d m n : Nat) (b : Option (Nat × Nat)) : Prop := ∀ r c, b = some (r, c) → d ≤ r ∧ r < m ∧ d ≤ c ∧ c < n
theorem inB_better {M : Mx} {d m n : Nat} {b : Option (Nat × Nat)} (h : inB d m n b) {i j : Nat} (hi : d ≤ i ∧ i < m) (hj : d ≤ j ∧ j < n) : inB d m n (better M b i j) := by
  intro r c e
  unfold better at e
  by_cases z : M i j = 0
  · rw [if_pos z] at e; exact h r c e
  · rw [if_neg z] at e
    cases b with
    | none =>
      injection e with e
      injection e with e1 e2
      subst e1; subst e2
      exact ⟨hi.1, hi.2, hj.1, hj.2⟩
    | some rc =>
      obtain ⟨r', c'⟩ := rc
      have e : (if (M i j).natAbs < (M r' c').natAbs then some (i, j) else some (r', c')) = some (r, c) := e
      by_cases y : (M i j).natAbs < (M r' c').natAbs
      · rw [if_pos y] at e
        injection e with e
        injection e with e1 e2
        subst e1; subst e2
        exact ⟨hi.1, hi.2, hj.1, hj.2⟩
      · rw [if_neg y] at e
        exact h r c e
