/-! the component: part, the sums -/
def inK (a : Ab) (k x : Nat) : Nat := if bP (fpF a (cf a (7 * aP a))).1 x = some k then 1 else 0
/-- the cuts of sort j that are of part k -/
def nk (a : Ab) (k j : Nat) : Nat := sumN (fun i => inK a k (cf a j + i)) (aS a j)
theorem sum_cf (a : Ab) (f : Nat → Nat) (n : Nat) : sumN f (cf a n) = sumN (fun j => sumN (fun i => f (cf a j + i)) (aS a j)) n := by
  induction n with
  | zero => rfl
  | succ n ih => rw [cf_s, sumN_split, ih]; rfl
theorem sumN_mulr (f : Nat → Nat) (m n : Nat) : sumN (fun i => f i * m) n = sumN f n * m := by
  induction n with
  | zero => exact (Nat.zero_mul m).symm
  | succ n ih => unfold sumN; rw [ih, Nat.add_mul]
theorem sumN_mull (f : Nat → Nat) (m n : Nat) : m * sumN f n = sumN (fun i => m * f i) n := by
  induction n with
  | zero => rfl
  | succ n ih => unfold sumN; rw [← ih, Nat.mul_add]
theorem sumN_rev (f : Nat → Nat) (n : Nat) : sumN (fun i => f (n - 1 - i)) n = sumN f n := by
  induction n with
  | zero => rfl
  | succ n ih =>
    have e : sumN (fun i => f (n + 1 - 1 - i)) (1 + n) = sumN (fun i => f (n + 1 - 1 - i)) 1 + sumN (fun k => f (n + 1 - 1 - (1 + k))) n := sumN_split _ 1 n
    rw [Nat.add_comm n 1, ← Nat.add_comm n 1] at e
    rw [e, show sumN (fun k => f (n + 1 - 1 - (1 + k))) n = sumN (fun i => f (n - 1 - i)) n from sumN_eq n (fun k _ => by rw [show n + 1 - 1 - (1 + k) = n - 1 - k by omega]), ih]
    show 0 + f (n + 1 - 1 - 0) + sumN f n = sumN f n + f n
    rw [show n + 1 - 1 - 0 = n by omega]
    omega
theorem inK_sort (a : Ab) (k : Nat) (W : Nat → Nat) : sumN (fun x => inK a k x * W (sortN a x)) (cf a (7 * aP a)) = sumN (fun j => nk a k j * W j) (7 * aP a) := by
  rw [sum_cf]
  refine sumN_eq _ (fun j hj => ?_)
  unfold nk
  rw [← sumN_mulr]
  refine sumN_eq _ (fun i hi => ?_)
  rw [sortN_at hj (Nat.le_add_right _ _) (by rw [cf_s]; omega)]
def ptF (a : Ab) (k x : Nat) : Nat := sumN (fun i => if mts i (x % 6) = true then nk a k (7 * (x / 6) + i) else 0) 7
theorem pt_sum (a : Ab) (L : Lb) (k : Nat) : sumN (fun x => if eL L x = x then ptF a k x else 0) (6 * aP a) = sumN (fun j => nk a k j * wE L j 6) (7 * aP a) := by
  rw [sumN_block, sumN_block]
  refine sumN_eq _ (fun p _ => ?_)
  have e1 : sumN (fun i => nk a k (7 * p + i) * wE L (7 * p + i) 6) 7 = sumN (fun i => sumN (fun e => if eL L (6 * p + e) = 6 * p + e ∧ mts i e = true then nk a k (7 * p + i) else 0) 6) 7 := by
    refine sumN_eq _ (fun i hi => ?_)
    unfold wE
    rw [sumN_mull, show (7 * p + i) / 7 = p by omega, show (7 * p + i) % 7 = i by omega]
    refine sumN_eq _ (fun e _ => ?_)
    by_cases c : eL L (6 * p + e) = 6 * p + e ∧ mts i e = true
    · rw [if_pos c, if_pos c, Nat.mul_one]
    · rw [if_neg c, if_neg c, Nat.mul_zero]
  rw [e1, sumN_comm]
  refine sumN_eq _ (fun e he => ?_)
  unfold ptF
  rw [show (6 * p + e) / 6 = p by omega, show (6 * p + e) % 6 = e by omega]
  by_cases c : eL L (6 * p + e) = 6 * p + e
  · rw [if_pos c]
    refine sumN_eq _ (fun i _ => ?_)
    by_cases c2 : mts i e = true
    · rw [if_pos c2, if_pos ⟨c, c2⟩]
    · rw [if_neg c2, if_neg (fun z => c2 z.2)]
  · rw [if_neg c]
    exact (sumN_zero _ (fun i _ => if_neg (fun z => c z.1))).symm
def arF (a : Ab) (k s c : Nat) : Nat := sumN (fun i => inK a k (cutN a s c i)) (arcN a (s / 4) (s % 4) c)
theorem arF_eq (a : Ab) (k s c : Nat) : arF a k s c = nk a k (7 * (s / 4) + c) + nk a k (7 * (s / 4) + 4 + kindN c (s % 4)) := by
  unfold arF arcN nk
  rw [sumN_split]
  congr 1
  · exact sumN_eq _ (fun i hi => by unfold cutN; rw [if_pos hi])
  · by_cases c0 : c = 0 ∨ s % 4 = 0
    · refine sumN_eq _ (fun i hi => ?_)
      unfold cutN
      rw [if_neg (by omega), if_pos c0, show aS a (7 * (s / 4) + c) + i - aS a (7 * (s / 4) + c) = i by omega]
    · rw [← sumN_rev (fun i => inK a k (cf a (7 * (s / 4) + 4 + kindN c (s % 4)) + i))]
      refine sumN_eq _ (fun i hi => ?_)
      unfold cutN
      rw [if_neg (by omega), if_neg c0, show aS a (7 * (s / 4) + c) + i - aS a (7 * (s / 4) + c) = i by omega]
def arS (a : Ab) (k s n : Nat) : Nat := sumN (fun c => if c ≠ s % 4 ∧ cnd a s = 1 then arF a k s c else 0) n
theorem ar_sum (a : Ab) (k : Nat) : sumN (fun s => arS a k s 4) (4 * aP a) = sumN (fun j => nk a k j * wA a j 4) (7 * aP a) := by
  rw [sumN_block, sumN_block]
  refine sumN_eq _ (fun p _ => ?_)
  have e1 : sumN (fun i => nk a k (7 * p + i) * wA a (7 * p + i) 4) 7 = sumN (fun i => sumN (fun f => if (3 < i ∨ f ≠ i) ∧ cnd a (4 * p + f) = 1 then nk a k (7 * p + i) else 0) 4) 7 := by
    refine sumN_eq _ (fun i hi => ?_)
    unfold wA
    rw [sumN_mull, show (7 * p + i) / 7 = p by omega, show (7 * p + i) % 7 = i by omega]
    refine sumN_eq _ (fun e _ => ?_)
    by_cases c : (3 < i ∨ e ≠ i) ∧ cnd a (4 * p + e) = 1
    · rw [if_pos c, if_pos c, Nat.mul_one]
    · rw [if_neg c, if_neg c, Nat.mul_zero]
  rw [e1, sumN_comm]
  refine sumN_eq _ (fun f hf => ?_)
  unfold arS
  have e2 : sumN (fun c => if c ≠ (4 * p + f) % 4 ∧ cnd a (4 * p + f) = 1 then arF a k (4 * p + f) c else 0) 4 = sumN (fun c => if c ≠ f ∧ cnd a (4 * p + f) = 1 then nk a k (7 * p + c) + nk a k (7 * p + 4 + kindN c f) else 0) 4 := by
    refine sumN_eq _ (fun c _ => ?_)
    rw [arF_eq, show (4 * p + f) / 4 = p by omega, show (4 * p + f) % 4 = f by omega]
  rw [e2]
  by_cases c1 : cnd a (4 * p + f) = 1
  · have hf : f = 0 ∨ f = 1 ∨ f = 2 ∨ f = 3 := by omega
    simp only [c1, and_true]
    rcases hf with e | e | e | e <;> subst e <;> simp [sumN, kindN, Nat.add_assoc] <;> omega
  · rw [sumN_zero _ (fun c _ => if_neg (fun z => c1 z.2)), sumN_zero _ (fun c _ => if_neg (fun z => c1 z.2))]
theorem i32_pw (x y u v : Nat) : (nI x - nI y) + (nI u - nI v) = nI (x + u) - nI (y + v) := by
  rw [← nI_add, ← nI_add]
  simp only [Int32.sub_eq_add_neg, Int32.neg_add]
  ac_rfl
theorem pwR_eq (a : Ab) (L : Lb) (k n : Nat) : pwR a L k n = nI (sumN (fun x => inK a k x * (1 + wE L (sortN a x) 6)) n) - nI (sumN (fun x => inK a k x * wA a (sortN a x) 4) n) := by
  induction n with
  | zero =>
    show (0 : Int32) = nI 0 - nI 0
    decide
  | succ n ih =>
    unfold pwR sumN
    rw [ih]
    unfold inK
    by_cases c : bP (fpF a (cf a (7 * aP a))).1 n = some k
    · rw [if_pos c, if_pos c, Nat.one_mul, Nat.one_mul]
      exact i32_pw _ _ _ _
    · rw [if_neg c, if_neg c, Nat.zero_mul, Nat.zero_mul, Nat.add_zero, Nat.add_zero, Int32.add_zero]
theorem pwR_parts (a : Ab) (L : Lb) (k : Nat) : pwR a L k (cf a (7 * aP a)) = (nI (sumN (fun x => if eL L x = x then ptF a k x else 0) (6 * aP a)) - nI (sumN (fun s => arS a k s 4) (4 * aP a))) + nI (pcN a k (cf a (7 * aP a))) := by
  rw [pwR_eq, pt_sum, ar_sum, ← inK_sort, ← inK_sort]
  have e : sumN (fun x => inK a k x * (1 + wE L (sortN a x) 6)) (cf a (7 * aP a)) = pcN a k (cf a (7 * aP a)) + sumN (fun x => inK a k x * wE L (sortN a x) 6) (cf a (7 * aP a)) := by
    unfold pcN
    rw [← sumN_add]
    refine sumN_eq _ (fun x _ => ?_)
    rw [Nat.mul_add, Nat.mul_one]
    rfl
  rw [e, ← nI_add]
  simp only [Int32.sub_eq_add_neg]
  ac_rfl
