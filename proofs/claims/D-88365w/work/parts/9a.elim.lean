/-! elimination, purely: the pivot -/
abbrev Mx : Type := Nat → Nat → Int
def better (M : Mx) (b : Option (Nat × Nat)) (i j : Nat) : Option (Nat × Nat) :=
  if M i j = 0 then b else match b with
    | none => some (i, j)
    | some (r, c) => if (M i j).natAbs < (M r c).natAbs then some (i, j) else some (r, c)
def scC (M : Mx) (i : Nat) (b : Option (Nat × Nat)) (d : Nat) : Nat → Option (Nat × Nat)
  | 0 => b
  | k + 1 => better M (scC M i b d k) i (d + k)
def scR (M : Mx) (d n : Nat) : Nat → Option (Nat × Nat)
  | 0 => none
  | k + 1 => scC M (d + k) (scR M d n k) d (n - d)
/-- the least entry's place in the block from d on -/
def pvt (M : Mx) (d m n : Nat) : Option (Nat × Nat) := scR M d n (m - d)
/-- b is the least nonzero entry among the places P -/
def isLst (M : Mx) (P : Nat → Nat → Prop) (b : Option (Nat × Nat)) : Prop := match b with
  | none => ∀ i j, P i j → M i j = 0
  | some (r, c) => P r c ∧ M r c ≠ 0 ∧ ∀ i j, P i j → M i j ≠ 0 → (M r c).natAbs ≤ (M i j).natAbs
theorem isLst_better {M : Mx} {P Q : Nat → Nat → Prop} {b : Option (Nat × Nat)} {i j : Nat} (h : isLst M P b) (hQ : ∀ i' j', Q i' j' ↔ P i' j' ∨ (i' = i ∧ j' = j)) : isLst M Q (better M b i j) := by
  unfold better
  by_cases c : M i j = 0
  · rw [if_pos c]
    cases b with
    | none =>
      intro i' j' hq
      rcases (hQ i' j').mp hq with z | ⟨z1, z2⟩
      · exact h i' j' z
      · rw [z1, z2]; exact c
    | some rc =>
      obtain ⟨r, s⟩ := rc
      obtain ⟨h1, h2, h3⟩ := h
      refine ⟨(hQ r s).mpr (Or.inl h1), h2, fun i' j' hq hne => ?_⟩
      rcases (hQ i' j').mp hq with z | ⟨z1, z2⟩
      · exact h3 i' j' z hne
      · rw [z1, z2] at hne; exact absurd c hne
  · rw [if_neg c]
    cases b with
    | none =>
      refine ⟨(hQ i j).mpr (Or.inr ⟨rfl, rfl⟩), c, fun i' j' hq hne => ?_⟩
      rcases (hQ i' j').mp hq with z | ⟨z1, z2⟩
      · exact absurd (h i' j' z) hne
      · rw [z1, z2]; exact Nat.le_refl _
    | some rc =>
      obtain ⟨r, s⟩ := rc
      obtain ⟨h1, h2, h3⟩ := h
      show isLst M Q (if (M i j).natAbs < (M r s).natAbs then some (i, j) else some (r, s))
      by_cases c2 : (M i j).natAbs < (M r s).natAbs
      · rw [if_pos c2]
        refine ⟨(hQ i j).mpr (Or.inr ⟨rfl, rfl⟩), c, fun i' j' hq hne => ?_⟩
        rcases (hQ i' j').mp hq with z | ⟨z1, z2⟩
        · have := h3 i' j' z hne; omega
        · rw [z1, z2]; exact Nat.le_refl _
      · rw [if_neg c2]
        refine ⟨(hQ r s).mpr (Or.inl h1), h2, fun i' j' hq hne => ?_⟩
        rcases (hQ i' j').mp hq with z | ⟨z1, z2⟩
        · exact h3 i' j' z hne
        · rw [z1, z2]; omega
theorem scC_lst {M : Mx} {i : Nat} {b : Option (Nat × Nat)} {d : Nat} {P : Nat → Nat → Prop} (h : isLst M P b) (k : Nat) : isLst M (fun i' j' => P i' j' ∨ (i' = i ∧ d ≤ j' ∧ j' < d + k)) (scC M i b d k) := by
  induction k with
  | zero =>
    have e : (fun i' j' => P i' j' ∨ (i' = i ∧ d ≤ j' ∧ j' < d + 0)) = P := by
      funext i' j'
      exact propext ⟨fun z => z.elim id (fun z => by omega), Or.inl⟩
    rw [e]; exact h
  | succ k ih =>
    refine isLst_better ih (fun i' j' => ?_)
    constructor
    · intro z
      rcases z with z | ⟨z1, z2, z3⟩
      · exact Or.inl (Or.inl z)
      · by_cases c : j' = d + k
        · exact Or.inr ⟨z1, c⟩
        · exact Or.inl (Or.inr ⟨z1, z2, by omega⟩)
    · intro z
      rcases z with (z | ⟨z1, z2, z3⟩) | ⟨z1, z2⟩
      · exact Or.inl z
      · exact Or.inr ⟨z1, z2, by omega⟩
      · exact Or.inr ⟨z1, by omega, by omega⟩
theorem scR_lst (M : Mx) (d n : Nat) (hd : d ≤ n) (k : Nat) : isLst M (fun i' j' => d ≤ i' ∧ i' < d + k ∧ d ≤ j' ∧ j' < n) (scR M d n k) := by
  induction k with
  | zero => intro i' j' z; omega
  | succ k ih =>
    have := scC_lst (i := d + k) (d := d) ih (n - d)
    have e : (fun i' j' => (d ≤ i' ∧ i' < d + k ∧ d ≤ j' ∧ j' < n) ∨ (i' = d + k ∧ d ≤ j' ∧ j' < d + (n - d))) = (fun i' j' => d ≤ i' ∧ i' < d + (k + 1) ∧ d ≤ j' ∧ j' < n) := by
      funext i' j'
      apply propext
      omega
    rw [e] at this
    exact this
theorem pvt_lst (M : Mx) {d m n : Nat} (hm : d ≤ m) (hn : d ≤ n) : isLst M (fun i' j' => d ≤ i' ∧ i' < m ∧ d ≤ j' ∧ j' < n) (pvt M d m n) := by
  have := scR_lst M d n hn (m - d)
  rw [show d + (m - d) = m by omega] at this
  exact this
