/-! the model: bring -/
def bR (b : Option (Nat × Nat)) : Int32 := match b with
  | none => -1
  | some (r, _) => nI r
def bC (b : Option (Nat × Nat)) : Int32 := match b with
  | none => -1
  | some (_, c) => nI c
def bV (M : Mx) (b : Option (Nat × Nat)) : Int64 := match b with
  | none => 0
  | some (r, c) => lI (M r c).natAbs
def inB (d m n : Nat) (b : Option (Nat × Nat)) : Prop := ∀ r c, b = some (r, c) → d ≤ r ∧ r < m ∧ d ≤ c ∧ c < n
theorem inB_better {M : Mx} {d m n : Nat} {b : Option (Nat × Nat)} (h : inB d m n b) {i j : Nat} (hi : d ≤ i ∧ i < m) (hj : d ≤ j ∧ j < n) : inB d m n (better M b i j) := by
  intro r c e
  unfold better at e
  by_cases z : M i j = 0
  · rw [if_pos z] at e; exact h r c e
  · rw [if_neg z] at e
    cases b with
    | none =>
      injection e with e
      injection e with e1 e2
      subst e1; subst e2
      exact ⟨hi.1, hi.2, hj.1, hj.2⟩
    | some rc =>
      obtain ⟨r', c'⟩ := rc
      have e : (if (M i j).natAbs < (M r' c').natAbs then some (i, j) else some (r', c')) = some (r, c) := e
      by_cases y : (M i j).natAbs < (M r' c').natAbs
      · rw [if_pos y] at e
        injection e with e
        injection e with e1 e2
        subst e1; subst e2
        exact ⟨hi.1, hi.2, hj.1, hj.2⟩
      · rw [if_neg y] at e
        exact h r c e
theorem lZ_abs (v : Int) : (if 0 ≤ v then lZ v else -lZ v) = lI v.natAbs := by
  by_cases c : 0 ≤ v
  · rw [if_pos c, ← lZ_nat]
    congr 1
    omega
  · rw [if_neg c, lZ_neg, ← lZ_nat]
    congr 1
    omega
theorem scC_s (M : Mx) (i : Nat) (b : Option (Nat × Nat)) (d k : Nat) : scC M i b d (k + 1) = better M (scC M i b d k) i (d + k) := rfl
theorem scR_s (M : Mx) (d n k : Nat) : scR M d n (k + 1) = scC M (d + k) (scR M d n k) d (n - d) := rfl
theorem inB_scC {M : Mx} {d m n i : Nat} {b : Option (Nat × Nat)} (h : inB d m n b) (hi : d ≤ i ∧ i < m) (k : Nat) (hk : d + k ≤ n) : inB d m n (scC M i b d k) := by
  induction k with
  | zero => exact h
  | succ k ih => rw [scC_s]; exact inB_better (ih (by omega)) hi ⟨by omega, by omega⟩
theorem inB_scR {M : Mx} {d m n : Nat} (hn : d ≤ n) (k : Nat) (hk : d + k ≤ m) : inB d m n (scR M d n k) := by
  induction k with
  | zero => intro r c e; exact absurd e (by simp [scR])
  | succ k ih => rw [scR_s]; exact inB_scC (ih (by omega)) ⟨by omega, by omega⟩ _ (by omega)
