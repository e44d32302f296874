/-! ===== Int32 by its bits: bt x i ===== -/
def bt (x : Int32) (i : Nat) : Bool := x.toBitVec.getLsbD i
theorem b_ext {x y : Int32} (h : ∀ i, i < 32 → bt x i = bt y i) : x = y := Int32.toBitVec_inj.mp (BitVec.eq_of_getLsbD_eq (fun i hi => h i hi))
theorem b_or (x y : Int32) (i : Nat) : bt (x ||| y) i = (bt x i || bt y i) := by unfold bt; rw [Int32.toBitVec_or, BitVec.getLsbD_or]
theorem b_and (x y : Int32) (i : Nat) : bt (x &&& y) i = (bt x i && bt y i) := by unfold bt; rw [Int32.toBitVec_and, BitVec.getLsbD_and]
theorem b_xor (x y : Int32) (i : Nat) : bt (x ^^^ y) i = (bt x i ^^ bt y i) := by unfold bt; rw [Int32.toBitVec_xor, BitVec.getLsbD_xor]
theorem b_big {x : Int32} {i : Nat} (h : 32 ≤ i) : bt x i = false := BitVec.getLsbD_of_ge _ _ h
theorem b_m1 : ∀ i, i < 32 → bt (-1) i = true := by decide +kernel
theorem b_0 (i : Nat) : bt 0 i = false := BitVec.getLsbD_zero
theorem s_l : ∀ n, n < 32 → ((nI n &&& 31).toBitVec.smod 32).toNat = n := by decide +kernel
theorem b_shl (n : Nat) (hn : n < 32) (x : Int32) {i : Nat} (hi : i < 32) : bt (x <<< (nI n &&& 31)) i = (decide (n ≤ i) && bt x (i - n)) := by
  unfold bt
  rw [Int32.toBitVec_shiftLeft]
  show (x.toBitVec <<< ((nI n &&& 31).toBitVec.smod 32).toNat).getLsbD i = _
  rw [s_l n hn, BitVec.getLsbD_shiftLeft]
  rcases Nat.lt_or_ge i n with h | h
  · simp [h, Nat.not_le.mpr h]
  · simp [hi, h, Nat.not_lt.mpr h]
theorem b_sshr (n : Nat) (hn : n < 32) (x : Int32) {i : Nat} (hi : i < 32) : bt (x >>> (nI n &&& 31)) i = if n + i < 32 then bt x (n + i) else bt x 31 := by
  unfold bt
  rw [Int32.toBitVec_shiftRight]
  show (x.toBitVec.sshiftRight ((nI n &&& 31).toBitVec.smod 32).toNat).getLsbD i = _
  rw [s_l n hn, BitVec.getLsbD_sshiftRight, BitVec.msb_eq_getLsbD_last]
  simp [hi]
/-! sets of places as bits -/
def isSet (x : Int32) (f : Nat → Prop) : Prop := ∀ i, i < 32 → (bt x i = true ↔ f i)
theorem isSet_0 : isSet 0 (fun _ => False) := fun i _ => by rw [b_0]; simp
theorem isSet_or {x y : Int32} {f g : Nat → Prop} (hx : isSet x f) (hy : isSet y g) : isSet (x ||| y) (fun i => f i ∨ g i) := fun i hi => by
  rw [b_or, Bool.or_eq_true, hx i hi, hy i hi]
theorem bt_1 (i : Nat) (hi : i < 32) : bt 1 i = decide (i = 0) := (by decide +kernel : ∀ i, i < 32 → bt 1 i = decide (i = 0)) i hi
theorem isSet_one {k : Nat} (hk : k < 32) : isSet (1 <<< (nI k &&& 31)) (fun i => i = k) := fun i hi => by
  rw [b_shl k hk 1 hi]
  by_cases c : k ≤ i
  · rw [bt_1 _ (by omega)]
    simp only [c, decide_true, Bool.true_and, decide_eq_true_eq]
    omega
  · simp only [c, decide_false, Bool.false_and]
    constructor
    · intro h; exact absurd h (by decide)
    · intro h; omega
theorem isSet_cg {x : Int32} {f g : Nat → Prop} (h : ∀ i, i < 32 → (f i ↔ g i)) (hx : isSet x f) : isSet x g := fun i hi => (hx i hi).trans (h i hi)
theorem isSet_eq {x y : Int32} {f : Nat → Prop} (hx : isSet x f) (hy : isSet y f) : x = y := b_ext (fun i hi => by
  have h := (hx i hi).trans (hy i hi).symm
  cases e : bt x i <;> cases e2 : bt y i <;> simp [e, e2] at h ⊢)
/-- none of the one but in the other -/
theorem isSet_sub {x y : Int32} {f g : Nat → Prop} (hx : isSet x f) (hy : isSet y g) : (x &&& (y ^^^ -1)) = 0 ↔ ∀ i, i < 32 → f i → g i := by
  constructor
  · intro h i hi hf
    have e := congrArg (fun z => bt z i) h
    simp only [b_and, b_xor, b_0, b_m1 i hi] at e
    have q := (hx i hi).mpr hf
    rw [q] at e
    refine (hy i hi).mp ?_
    cases e2 : bt y i
    · rw [e2] at e; exact absurd e (by decide)
    · rfl
  · intro h
    refine b_ext (fun i hi => ?_)
    rw [b_and, b_xor, b_0, b_m1 i hi]
    by_cases c : f i
    · have q := (hy i hi).mpr (h i hi c)
      rw [q]
      simp
    · have q : bt x i = false := by
        cases e : bt x i
        · rfl
        · exact absurd ((hx i hi).mp e) c
      rw [q]
      rfl
/-- three bits from a place on -/
theorem bt_7 (i : Nat) (hi : i < 32) : bt 7 i = decide (i < 3) := (by decide +kernel : ∀ i, i < 32 → bt 7 i = decide (i < 3)) i hi
def b3 (u v w : Bool) : Nat := (if u then 1 else 0) + (if v then 2 else 0) + (if w then 4 else 0)
theorem bt_b3 : ∀ (u v w : Bool) (i : Fin 32), bt (nI (b3 u v w)) i.val = if i.val = 0 then u else if i.val = 1 then v else if i.val = 2 then w else false := by decide +kernel
theorem three_bits (x : Int32) {k : Nat} (hk : k + 2 < 32) : (x >>> (nI k &&& 31)) &&& 7 = nI (b3 (bt x k) (bt x (k + 1)) (bt x (k + 2))) := by
  refine b_ext (fun i hi => ?_)
  rw [b_and, b_sshr k (by omega) x hi, bt_7 i hi, bt_b3 _ _ _ ⟨i, hi⟩]
  show _ = if i = 0 then bt x k else if i = 1 then bt x (k + 1) else if i = 2 then bt x (k + 2) else false
  by_cases c0 : i = 0
  · subst c0
    rw [if_pos (by omega), if_pos rfl]
    simp
  · rw [if_neg c0]
    by_cases c1 : i = 1
    · subst c1
      rw [if_pos (by omega), if_pos rfl]
      simp
    · rw [if_neg c1]
      by_cases c2 : i = 2
      · subst c2
        rw [if_pos (by omega), if_pos rfl]
        simp
      · rw [if_neg c2]
        rw [decide_eq_false (by omega), Bool.and_false]
theorem b3_one : ∀ u v w : Bool, (nI (b3 u v w) &&& (nI (b3 u v w) - 1) = 0) ↔ ((u && v) = false ∧ (u && w) = false ∧ (v && w) = false) := by decide +kernel
/-- no piece has two kinds of fours -/
def oneKind (f : Nat → Prop) (n : Nat) : Prop := ∀ p, p < n → ¬ (f (7 * p + 4) ∧ f (7 * p + 5)) ∧ ¬ (f (7 * p + 4) ∧ f (7 * p + 6)) ∧ ¬ (f (7 * p + 5) ∧ f (7 * p + 6))
theorem oneKind_cg {f g : Nat → Prop} {n : Nat} (h : ∀ i, i < 7 * n → (f i ↔ g i)) : oneKind f n ↔ oneKind g n := by
  unfold oneKind
  constructor
  · intro k p hp
    have := k p hp
    rw [h _ (by omega), h _ (by omega), h _ (by omega)] at this
    exact this
  · intro k p hp
    have := k p hp
    rw [← h _ (by omega), ← h _ (by omega), ← h _ (by omega)] at this
    exact this
theorem isSet_b3 {x : Int32} {f : Nat → Prop} (hx : isSet x f) {k : Nat} (hk : k + 2 < 32) : (bt x k && bt x (k + 1)) = false ∧ (bt x k && bt x (k + 2)) = false ∧ (bt x (k + 1) && bt x (k + 2)) = false ↔ ¬ (f k ∧ f (k + 1)) ∧ ¬ (f k ∧ f (k + 2)) ∧ ¬ (f (k + 1) ∧ f (k + 2)) := by
  rw [← hx k (by omega), ← hx (k + 1) (by omega), ← hx (k + 2) (by omega)]
  cases bt x k <;> cases bt x (k + 1) <;> cases bt x (k + 2) <;> simp
theorem s_hasOneKind {x : Int32} {f : Nat → Prop} (hx : isSet x f) {n : Nat} (hn : n ≤ 3) {S : MS} (hP : gF S 0 = nI n) {post : Int32 → MS → Prop} (h1 : oneKind f n → post 1 S) (h0 : ¬ oneKind f n → post 0 S) : M_hasOneKind x S post := by
  apply M_hasOneKind_ok
  intro T r
  have K0 : ¬ oneKind f n → ∀ p, p ≤ n → T x 0 (nI p) S := by
    intro hno
    refine loopUp (P := fun p => T x 0 (nI p) S) n (fun p hp ih => ?_)
    apply r
    unfold M_hasOneKind_w4 M_hasOneKind_w43 M_hasOneKind_w44
    rw [hP]
    simp (disch := omega) only [n0, n1, n2, n3, n4, n5, n6, n7, n8, n9, n10, n11, n12, n14, n16, n18, n21, n22, n36, n48, n63, n100, n108, n400, n1000, pk_mul, nI_add, pk_div, nI_subm, nI_ltE, nI_leE, nI_eqE, nI_clamp, vp_inE, nIm1, nIm1', nIm1n, nIm1n', nI_addn]
    exact ⟨fun _ => ⟨zok0, h0 hno⟩, fun _ => ⟨fun _ => ih (by omega), fun q => absurd trivial q⟩⟩
  have K1 : ∀ p, p ≤ n → oneKind f p → T x 1 (nI p) S := by
    refine loopUp (P := fun p => oneKind f p → T x 1 (nI p) S) n (fun p hp ih ho => ?_)
    apply r
    unfold M_hasOneKind_w4 M_hasOneKind_w43 M_hasOneKind_w44
    rw [hP]
    have e : p < n → ((x >>> (((7 : Int32) * nI p + 4) &&& 31)) &&& 7) = nI (b3 (bt x (7 * p + 4)) (bt x (7 * p + 4 + 1)) (bt x (7 * p + 4 + 2))) := fun hpn => by
      have := three_bits x (k := 7 * p + 4) (by omega)
      rw [← this]
      congr 3
      simp (disch := omega) only [n0, n1, n2, n3, n4, n5, n6, n7, n8, n9, n10, n11, n12, n14, n16, n18, n21, n22, n36, n48, n63, n100, n108, n400, n1000, pk_mul, nI_add, pk_div, nI_subm, nI_ltE, nI_leE, nI_eqE, nI_clamp, vp_inE, nIm1, nIm1', nIm1n, nIm1n', nI_addn]
    refine ⟨fun q => ⟨zok1, h1 ?_⟩, fun q => ⟨fun c => absurd c (by decide), fun _ => ?_⟩⟩
    · rw [nI_leE (by omega) (by omega)] at q
      rw [show n = p by omega]
      exact ho
    · rw [nI_leE (by omega) (by omega)] at q
      rw [e (by omega), b3_one, isSet_b3 hx (by omega)]
      rw [show nI p + 1 = nI (p + 1) from nI_add p 1]
      refine ⟨fun c => K0 (fun o => c (o p (by omega))) (p + 1) (by omega), fun c => ih (by omega) (fun p' hp' => ?_)⟩
      by_cases e2 : p' = p
      · subst e2; exact c
      · exact ho p' (by omega)
  exact K1 0 (by omega) (fun p hp => absurd hp (Nat.not_lt_zero _))
