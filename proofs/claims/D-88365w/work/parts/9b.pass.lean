/-! elimination, purely: the passes -/
def swx (a b x : Nat) : Nat := if x = a then b else if x = b then a else x
/-- rows d, r and columns d, c change places -/
def swp (M : Mx) (d r c : Nat) : Mx := fun i j => M (swx d r i) (swx d c j)
/-- rows below d, as far as row k -/
def rwP (M : Mx) (d k : Nat) : Mx := fun i j => if d < i ∧ i < k ∧ d ≤ j then M i j - (M i d).tdiv (M d d) * M d j else M i j
/-- columns right of d, as far as column k -/
def clP (M : Mx) (d k : Nat) : Mx := fun i j => if d ≤ i ∧ d < j ∧ j < k then M i j - (M d j).tdiv (M d d) * M i d else M i j
/-- row i is added to row d -/
def adP (M : Mx) (d i : Nat) : Mx := fun r j => if r = d ∧ d ≤ j then M r j + M i j else M r j
theorem rwP_d {M : Mx} {d k j : Nat} : rwP M d k d j = M d j := if_neg (fun z => Nat.lt_irrefl _ z.1)
theorem clP_d {M : Mx} {d k i : Nat} : clP M d k i d = M i d := if_neg (fun z => Nat.lt_irrefl _ z.2.1)
