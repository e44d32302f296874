/-! loops upward; what stays of the model's state beside its scratch; labels -/
theorem loopUp {P : Nat → Prop} (n : Nat) (h : ∀ i, i ≤ n → (i < n → P (i + 1)) → P i) (i : Nat) (hi : i ≤ n) : P i := by
  have L : ∀ m i, i + m = n → P i := by
    intro m
    induction m with
    | zero => intro i hi; exact h i (by omega) (fun c => absurd c (by omega))
    | succ m ih => intro i hi; exact h i (by omega) (fun _ => ih (i + 1) (by omega))
  exact L (n - i) i (by omega)
/-- the fields that the law's state stands in are the same -/
def sameB (S S' : MS) : Prop := gF S' 0 = gF S 0 ∧ ∀ b j, b < 6 → gI S' b j = gI S b j
theorem sameB_rf {S : MS} : sameB S S := ⟨rfl, fun _ _ _ => rfl⟩
theorem sameB_tr {S S' S'' : MS} (h : sameB S S') (h' : sameB S' S'') : sameB S S'' := ⟨by rw [h'.1, h.1], fun b j hb => by rw [h'.2 b j hb, h.2 b j hb]⟩
theorem sameB_F {S S' : MS} {k : Nat} {v : Int32} (hk : k ≠ 0) (h : sameB S S') : sameB S (sF S' k v) :=
  ⟨by rw [gF_sF, if_neg (Ne.symm hk)]; exact h.1, fun b j hb => h.2 b j hb⟩
theorem sameB_I {S S' : MS} {b j : Nat} {v : Int32} (hb : 6 ≤ b) (h : sameB S S') : sameB S (sI S' b j v) :=
  ⟨h.1, fun b' j' hb' => by rw [gI_sI, if_neg (by omega)]; exact h.2 b' j' hb'⟩
theorem sameB_L {S S' : MS} {j : Nat} {v : Int64} (h : sameB S S') : sameB S (sL S' j v) := ⟨h.1, h.2⟩
theorem MR_same {a : Ab} {S S' : MS} (h : MR a S) (hs : sameB S S') : MR a S' := by
  obtain ⟨h1, h2, h3, h4, h5⟩ := h
  refine ⟨by rw [hs.1]; exact h1, fun e he => ⟨by rw [hs.2 4 e (by decide)]; exact (h2 e he).1, by rw [hs.2 5 e (by decide)]; exact (h2 e he).2⟩, fun s hs' => by rw [hs.2 1 s (by decide)]; exact h3 s hs', fun s t hs' ht c hc => by rw [hs.2 2 _ (by decide)]; exact h4 s t hs' ht c hc, fun i hi => by rw [hs.2 3 i (by decide)]; exact h5 i hi⟩
/-! connected by links -/
def cnx (E : Nat → Nat → Prop) (x y : Nat) : Prop := ∀ Q : Nat → Prop, Q x → (∀ u v, E u v → (Q u ↔ Q v)) → Q y
theorem cnx_rf {E : Nat → Nat → Prop} {x : Nat} : cnx E x x := fun _ h _ => h
theorem cnx_tr {E : Nat → Nat → Prop} {x y z : Nat} (h : cnx E x y) (h' : cnx E y z) : cnx E x z := fun Q q c => h' Q (h Q q c) c
theorem cnx_sy {E : Nat → Nat → Prop} {x y : Nat} (h : cnx E x y) : cnx E y x := fun Q q c =>
  h (fun z => Q z → Q x) id (fun u v e => ⟨fun k hv => k ((c u v e).mpr hv), fun k hu => k ((c u v e).mp hu)⟩) q
theorem cnx_E {E : Nat → Nat → Prop} {x y : Nat} (h : E x y) : cnx E x y := fun Q q c => (c x y h).mp q
/-- L gives the least member of each class -/
def isLab (n : Nat) (E : Nat → Nat → Prop) (L : Nat → Nat) : Prop := (∀ x, x < n → L x ≤ x) ∧ (∀ x, x < n → cnx E x (L x)) ∧ ∀ x y, E x y → L x = L y
theorem isLab_le {n : Nat} {E : Nat → Nat → Prop} {L L' : Nat → Nat} (h : isLab n E L) (h' : isLab n E L') {x : Nat} (hx : x < n) : L' x ≤ L x := by
  have e := h.2.1 x hx (fun y => L' y = L' x) rfl (fun u v e => by rw [h'.2.2 u v e])
  have q := h'.1 (L x) (Nat.lt_of_le_of_lt (h.1 x hx) hx)
  have e : L' (L x) = L' x := e
  omega
theorem isLab_eq {n : Nat} {E : Nat → Nat → Prop} {L L' : Nat → Nat} (h : isLab n E L) (h' : isLab n E L') {x : Nat} (hx : x < n) : L x = L' x :=
  Nat.le_antisymm (isLab_le h' h hx) (isLab_le h h' hx)
def lk8 (a : Ab) (x y : Nat) : Prop := ∃ s t, s < 4 * aP a ∧ aG a s = some t ∧ x = s / 4 ∧ y = t / 4
def lk7 (a : Ab) (x y : Nat) : Prop := ∃ s t c, s < 4 * aP a ∧ aG a s = some t ∧ c < 4 ∧ c ≠ s % 4 ∧ x = 4 * (s / 4) + c ∧ y = 4 * (t / 4) + aW a s c
def lk6 (a : Ab) (x y : Nat) : Prop := ∃ s t c d, s < 4 * aP a ∧ aG a s = some t ∧ c < 4 ∧ d < 4 ∧ c ≠ d ∧ c ≠ s % 4 ∧ d ≠ s % 4 ∧ x = endN (s / 4) c d ∧ y = endN (t / 4) (aW a s c) (aW a s d)
theorem endN_lt {p a b : Nat} (hp : p < 3) (ha : a < 4) (hb : b < 4) (hne : a ≠ b) : endN p a b < 36 := by
  have h := (edgeN_spec a ha b hb hne).1
  unfold endN
  split <;> omega
theorem AWf_inj {a : Ab} (ha : AWf a) {s t : Nat} (hs : s < 4 * aP a) (ht : aG a s = some t) {c d : Nat} (hc : c < 4) (hd : d < 4) (hne : c ≠ d) : aW a s c ≠ aW a s d := by
  intro e
  have h1 := ((ha.2.1 s t hs ht).2.2.2.2 c hc).2
  have h2 := ((ha.2.1 s t hs ht).2.2.2.2 d hd).2
  rw [e] at h1
  exact hne (h1.symm.trans h2)
/-! sums and labels -/
def sumN (f : Nat → Nat) : Nat → Nat
  | 0 => 0
  | n + 1 => sumN f n + f n
theorem sumN_le {f g : Nat → Nat} (n : Nat) (h : ∀ k, k < n → f k ≤ g k) : sumN f n ≤ sumN g n := by
  induction n with
  | zero => exact Nat.le_refl 0
  | succ n ih => exact Nat.add_le_add (ih (fun k hk => h k (by omega))) (h n (by omega))
theorem sumN_lt {f g : Nat → Nat} (n : Nat) (h : ∀ k, k < n → f k ≤ g k) {j : Nat} (hj : j < n) (hlt : f j < g j) : sumN f n < sumN g n := by
  induction n with
  | zero => exact absurd hj (Nat.not_lt_zero _)
  | succ n ih =>
    by_cases e : j = n
    · subst e
      exact Nat.add_lt_add_of_le_of_lt (sumN_le j (fun k hk => h k (by omega))) hlt
    · exact Nat.add_lt_add_of_lt_of_le (ih (fun k hk => h k (by omega)) (by omega)) (h n (by omega))
theorem sumN_eq {f g : Nat → Nat} (n : Nat) (h : ∀ k, k < n → f k = g k) : sumN f n = sumN g n := by
  induction n with
  | zero => rfl
  | succ n ih => unfold sumN; rw [ih (fun k hk => h k (by omega)), h n (by omega)]
def jn (L : Nat → Nat) (x y : Nat) : Nat → Nat := fun k => if k = x ∨ k = y then min (L x) (L y) else L k
theorem jn_same {L : Nat → Nat} {x y : Nat} (h : L x = L y) : jn L x y = L := by
  funext k
  unfold jn
  split
  · rename_i c
    rcases c with c | c <;> subst c <;> omega
  · rfl
theorem jn_le (L : Nat → Nat) (x y k : Nat) : jn L x y k ≤ L k := by
  unfold jn
  split
  · rename_i c
    rcases c with c | c <;> subst c <;> omega
  · exact Nat.le_refl _
theorem jn_sum (L : Nat → Nat) (x y n : Nat) : sumN (jn L x y) n ≤ sumN L n := sumN_le n (fun k _ => jn_le L x y k)
theorem jn_sumlt {L : Nat → Nat} {x y n : Nat} (hx : x < n) (hy : y < n) (h : L x ≠ L y) : sumN (jn L x y) n < sumN L n := by
  by_cases c : L x < L y
  · refine sumN_lt n (fun k _ => jn_le L x y k) hy ?_
    unfold jn
    rw [if_pos (Or.inr rfl)]
    omega
  · refine sumN_lt n (fun k _ => jn_le L x y k) hx ?_
    unfold jn
    rw [if_pos (Or.inl rfl)]
    omega
/-- labels under way: at most themselves, and of their class -/
def lbOk (n : Nat) (E : Nat → Nat → Prop) (L : Nat → Nat) : Prop := ∀ k, k < n → L k ≤ k ∧ cnx E k (L k)
theorem lbOk_jn {n : Nat} {E : Nat → Nat → Prop} {L : Nat → Nat} {x y : Nat} (h : lbOk n E L) (hx : x < n) (hy : y < n) (e : E x y) : lbOk n E (jn L x y) := by
  intro k hk
  refine ⟨Nat.le_trans (jn_le L x y k) (h k hk).1, ?_⟩
  unfold jn
  split
  · rename_i c
    have hx' := (h x hx).2
    have hy' := (h y hy).2
    have q : cnx E x (min (L x) (L y)) := by
      by_cases c2 : L x ≤ L y
      · rw [Nat.min_eq_left c2]; exact hx'
      · rw [Nat.min_eq_right (by omega)]; exact cnx_tr (cnx_E e) hy'
    rcases c with c | c
    · subst c; exact q
    · subst c; exact cnx_tr (cnx_sy (cnx_E e)) q
  · exact (h k hk).2
def hasL (S : MS) (b n : Nat) (L : Nat → Nat) : Prop := ∀ k, k < n → gI S b k = nI (L k)
theorem s_join6 {x y : Nat} {S : MS} {L : Nat → Nat} (hL : hasL S 6 36 L) (hb : ∀ k, k < 36 → L k ≤ k) (hx : x < 36) (hy : y < 36) {post : MS → Prop} (h : ∀ S', sameB S S' → (∀ b j, b ≠ 6 → gI S' b j = gI S b j) → hasL S' 6 36 (jn L x y) → (gF S' 9 = 0 → gF S 9 = 0 ∧ L x = L y) → (gF S' 9 ≠ 0 → gF S 9 ≠ 0 ∨ L x ≠ L y) → post S') : M_join6 (nI x) (nI y) S post := by
  apply M_join6_ok
  unfold M_join6_VC M_join6_w0 M_join6_w35 M_join6_w40
  have lx := hb x hx
  have ly := hb y hy
  simp (disch := omega) only [n0, n1, n2, n3, n4, n5, n6, n7, n8, n9, n10, n11, n12, n14, n16, n18, n21, n22, n36, n48, n63, n100, n108, n400, n1000, pk_mul, nI_add, pk_div, nI_subm, nI_ltE, nI_leE, nI_eqE, nI_clamp, vp_inE, nIm1, nIm1', nIm1n, nIm1n', nI_addn]
  rw [hL x hx, hL y hy]
  refine ⟨hx, hy, s_lesser (by omega) (by omega) ?_⟩
  rw [hL x hx, hL y hy]
  simp (disch := omega) only [n0, n1, n2, n3, n4, n5, n6, n7, n8, n9, n10, n11, n12, n14, n16, n18, n21, n22, n36, n48, n63, n100, n108, n400, n1000, pk_mul, nI_add, pk_div, nI_subm, nI_ltE, nI_leE, nI_eqE, nI_clamp, vp_inE, nIm1, nIm1', nIm1n, nIm1n', nI_addn]
  have K : ∀ m : Int32, (m = 0 → gF S 9 = 0 ∧ L x = L y) → (m ≠ 0 → gF S 9 ≠ 0 ∨ L x ≠ L y) → post (sI (sI (sF S 9 m) 6 x (nI (min (L x) (L y)))) 6 y (nI (min (L x) (L y)))) := by
    intro m h0 h1
    refine h _ (sameB_I (by decide) (sameB_I (by decide) (sameB_F (by decide) sameB_rf))) (fun b j hb => ?_) (fun k hk => ?_) h0 h1
    · rw [gI_sI, if_neg (fun q => hb q.1), gI_sI, if_neg (fun q => hb q.1), gI_sF]
    · rw [gI_sI, gI_sI, gI_sF]
      unfold jn
      by_cases c1 : k = y
      · rw [if_pos ⟨rfl, c1⟩, if_pos (Or.inr c1)]
      · rw [if_neg (fun q => c1 q.2)]
        by_cases c2 : k = x
        · rw [if_pos ⟨rfl, c2⟩, if_pos (Or.inl c2)]
        · rw [if_neg (fun q => c2 q.2), if_neg (by omega)]
          exact hL k hk
  have K1 := K 1 (fun c => absurd c (by decide))
  have K0 := K 0
  refine ⟨fun c => ⟨zok1, hx, hy, K1 (fun _ => Or.inl c)⟩, fun c => ⟨hx, fun c2 => ⟨zok1, hx, hy, K1 (fun _ => Or.inr (by omega))⟩, fun c2 => ⟨hy, fun c3 => ⟨zok0, hx, hy, K0 (fun _ => ⟨c, by omega⟩) (fun q => absurd rfl q)⟩, fun c3 => ⟨zok1, hx, hy, K1 (fun _ => Or.inr (by omega))⟩⟩⟩⟩
theorem s_join7 {x y : Nat} {S : MS} {L : Nat → Nat} (hL : hasL S 7 12 L) (hb : ∀ k, k < 12 → L k ≤ k) (hx : x < 12) (hy : y < 12) {post : MS → Prop} (h : ∀ S', sameB S S' → (∀ b j, b ≠ 7 → gI S' b j = gI S b j) → hasL S' 7 12 (jn L x y) → (gF S' 9 = 0 → gF S 9 = 0 ∧ L x = L y) → (gF S' 9 ≠ 0 → gF S 9 ≠ 0 ∨ L x ≠ L y) → post S') : M_join7 (nI x) (nI y) S post := by
  apply M_join7_ok
  unfold M_join7_VC M_join7_w0 M_join7_w35 M_join7_w40
  have lx := hb x hx
  have ly := hb y hy
  simp (disch := omega) only [n0, n1, n2, n3, n4, n5, n6, n7, n8, n9, n10, n11, n12, n14, n16, n18, n21, n22, n36, n48, n63, n100, n108, n400, n1000, pk_mul, nI_add, pk_div, nI_subm, nI_ltE, nI_leE, nI_eqE, nI_clamp, vp_inE, nIm1, nIm1', nIm1n, nIm1n', nI_addn]
  rw [hL x hx, hL y hy]
  refine ⟨hx, hy, s_lesser (by omega) (by omega) ?_⟩
  rw [hL x hx, hL y hy]
  simp (disch := omega) only [n0, n1, n2, n3, n4, n5, n6, n7, n8, n9, n10, n11, n12, n14, n16, n18, n21, n22, n36, n48, n63, n100, n108, n400, n1000, pk_mul, nI_add, pk_div, nI_subm, nI_ltE, nI_leE, nI_eqE, nI_clamp, vp_inE, nIm1, nIm1', nIm1n, nIm1n', nI_addn]
  have K : ∀ m : Int32, (m = 0 → gF S 9 = 0 ∧ L x = L y) → (m ≠ 0 → gF S 9 ≠ 0 ∨ L x ≠ L y) → post (sI (sI (sF S 9 m) 7 x (nI (min (L x) (L y)))) 7 y (nI (min (L x) (L y)))) := by
    intro m h0 h1
    refine h _ (sameB_I (by decide) (sameB_I (by decide) (sameB_F (by decide) sameB_rf))) (fun b j hb => ?_) (fun k hk => ?_) h0 h1
    · rw [gI_sI, if_neg (fun q => hb q.1), gI_sI, if_neg (fun q => hb q.1), gI_sF]
    · rw [gI_sI, gI_sI, gI_sF]
      unfold jn
      by_cases c1 : k = y
      · rw [if_pos ⟨rfl, c1⟩, if_pos (Or.inr c1)]
      · rw [if_neg (fun q => c1 q.2)]
        by_cases c2 : k = x
        · rw [if_pos ⟨rfl, c2⟩, if_pos (Or.inl c2)]
        · rw [if_neg (fun q => c2 q.2), if_neg (by omega)]
          exact hL k hk
  have K1 := K 1 (fun c => absurd c (by decide))
  have K0 := K 0
  refine ⟨fun c => ⟨zok1, hx, hy, K1 (fun _ => Or.inl c)⟩, fun c => ⟨hx, fun c2 => ⟨zok1, hx, hy, K1 (fun _ => Or.inr (by omega))⟩, fun c2 => ⟨hy, fun c3 => ⟨zok0, hx, hy, K0 (fun _ => ⟨c, by omega⟩) (fun q => absurd rfl q)⟩, fun c3 => ⟨zok1, hx, hy, K1 (fun _ => Or.inr (by omega))⟩⟩⟩⟩
theorem s_join8 {x y : Nat} {S : MS} {L : Nat → Nat} (hL : hasL S 8 3 L) (hb : ∀ k, k < 3 → L k ≤ k) (hx : x < 3) (hy : y < 3) {post : MS → Prop} (h : ∀ S', sameB S S' → (∀ b j, b ≠ 8 → gI S' b j = gI S b j) → hasL S' 8 3 (jn L x y) → (gF S' 9 = 0 → gF S 9 = 0 ∧ L x = L y) → (gF S' 9 ≠ 0 → gF S 9 ≠ 0 ∨ L x ≠ L y) → post S') : M_join8 (nI x) (nI y) S post := by
  apply M_join8_ok
  unfold M_join8_VC M_join8_w0 M_join8_w35 M_join8_w40
  have lx := hb x hx
  have ly := hb y hy
  simp (disch := omega) only [n0, n1, n2, n3, n4, n5, n6, n7, n8, n9, n10, n11, n12, n14, n16, n18, n21, n22, n36, n48, n63, n100, n108, n400, n1000, pk_mul, nI_add, pk_div, nI_subm, nI_ltE, nI_leE, nI_eqE, nI_clamp, vp_inE, nIm1, nIm1', nIm1n, nIm1n', nI_addn]
  rw [hL x hx, hL y hy]
  refine ⟨hx, hy, s_lesser (by omega) (by omega) ?_⟩
  rw [hL x hx, hL y hy]
  simp (disch := omega) only [n0, n1, n2, n3, n4, n5, n6, n7, n8, n9, n10, n11, n12, n14, n16, n18, n21, n22, n36, n48, n63, n100, n108, n400, n1000, pk_mul, nI_add, pk_div, nI_subm, nI_ltE, nI_leE, nI_eqE, nI_clamp, vp_inE, nIm1, nIm1', nIm1n, nIm1n', nI_addn]
  have K : ∀ m : Int32, (m = 0 → gF S 9 = 0 ∧ L x = L y) → (m ≠ 0 → gF S 9 ≠ 0 ∨ L x ≠ L y) → post (sI (sI (sF S 9 m) 8 x (nI (min (L x) (L y)))) 8 y (nI (min (L x) (L y)))) := by
    intro m h0 h1
    refine h _ (sameB_I (by decide) (sameB_I (by decide) (sameB_F (by decide) sameB_rf))) (fun b j hb => ?_) (fun k hk => ?_) h0 h1
    · rw [gI_sI, if_neg (fun q => hb q.1), gI_sI, if_neg (fun q => hb q.1), gI_sF]
    · rw [gI_sI, gI_sI, gI_sF]
      unfold jn
      by_cases c1 : k = y
      · rw [if_pos ⟨rfl, c1⟩, if_pos (Or.inr c1)]
      · rw [if_neg (fun q => c1 q.2)]
        by_cases c2 : k = x
        · rw [if_pos ⟨rfl, c2⟩, if_pos (Or.inl c2)]
        · rw [if_neg (fun q => c2 q.2), if_neg (by omega)]
          exact hL k hk
  have K1 := K 1 (fun c => absurd c (by decide))
  have K0 := K 0
  refine ⟨fun c => ⟨zok1, hx, hy, K1 (fun _ => Or.inl c)⟩, fun c => ⟨hx, fun c2 => ⟨zok1, hx, hy, K1 (fun _ => Or.inr (by omega))⟩, fun c2 => ⟨hy, fun c3 => ⟨zok0, hx, hy, K0 (fun _ => ⟨c, by omega⟩) (fun q => absurd rfl q)⟩, fun c3 => ⟨zok1, hx, hy, K1 (fun _ => Or.inr (by omega))⟩⟩⟩⟩
