/-! the model's rows that fit: equation, side, support, neighbours, divisor, one row -/
def zI (z : Int) : Int32 := Int32.ofInt z
theorem zI_nat (n : Nat) : zI (n : Int) = nI n := rfl
theorem zI_add (a b : Int) : zI a + zI b = zI (a + b) := (Int32.ofInt_add a b).symm
theorem zI_sub (a b : Int) : zI a - zI b = zI (a - b) := (Int32.ofInt_sub a b).symm
theorem zI_mul (a b : Int) : zI a * zI b = zI (a * b) := (Int32.ofInt_mul a b).symm
theorem zI_neg (a : Int) : -zI a = zI (-a) := (Int32.ofInt_neg a).symm
theorem zI_toInt {a : Int} (h1 : -2 ^ 31 ≤ a) (h2 : a < 2 ^ 31) : (zI a).toInt = a := Int32.toInt_ofInt_of_le h1 h2
theorem zI_le {a b : Int} (a1 : -2 ^ 31 ≤ a) (a2 : a < 2 ^ 31) (b1 : -2 ^ 31 ≤ b) (b2 : b < 2 ^ 31) : zI a ≤ zI b ↔ a ≤ b := by
  rw [Int32.le_iff_toInt_le, zI_toInt a1 a2, zI_toInt b1 b2]
theorem zI_eq {a b : Int} (a1 : -2 ^ 31 ≤ a) (a2 : a < 2 ^ 31) (b1 : -2 ^ 31 ≤ b) (b2 : b < 2 ^ 31) : zI a = zI b ↔ a = b := by
  rw [← Int32.toInt_inj, zI_toInt a1 a2, zI_toInt b1 b2]
theorem zI_pos {a : Int} (h : 0 ≤ a) : zI a = nI a.toNat := by
  have : a = (a.toNat : Int) := (Int.toNat_of_nonneg h).symm
  rw [this]
  rfl
def sumZ (f : Nat → Int) : Nat → Int
  | 0 => 0
  | n + 1 => sumZ f n + f n
theorem sumZ_eq {f g : Nat → Int} (n : Nat) (h : ∀ k, k < n → f k = g k) : sumZ f n = sumZ g n := by
  induction n with
  | zero => rfl
  | succ n ih => unfold sumZ; rw [ih (fun k hk => h k (by omega)), h n (by omega)]
theorem sumZ_add (f g : Nat → Int) (n : Nat) : sumZ (fun k => f k + g k) n = sumZ f n + sumZ g n := by
  induction n with
  | zero => rfl
  | succ n ih => unfold sumZ; rw [ih]; omega
theorem sumZ_neg (f : Nat → Int) (n : Nat) : sumZ (fun k => - f k) n = - sumZ f n := by
  induction n with
  | zero => rfl
  | succ n ih => unfold sumZ; rw [ih]; omega
theorem sumZ_one (x : Vec) {n j : Nat} (h : j < n) : sumZ (fun k => (if k = j then 1 else 0) * (x k : Int)) n = x j := by
  have Z : ∀ m, m ≤ j → sumZ (fun k => (if k = j then 1 else 0) * (x k : Int)) m = 0 := by
    intro m
    induction m with
    | zero => intro _; rfl
    | succ m ih =>
      intro hm
      unfold sumZ
      rw [ih (by omega), if_neg (by omega), Int.zero_mul]
      rfl
  induction n with
  | zero => exact absurd h (Nat.not_lt_zero _)
  | succ n ih =>
    by_cases e : j = n
    · subst e
      unfold sumZ
      rw [Z j (Nat.le_refl _), if_pos rfl, Int.one_mul, Int.zero_add]
    · unfold sumZ
      rw [ih (by omega), if_neg (Ne.symm e), Int.zero_mul, Int.add_zero]
def ind (i j : Nat) : Int := if i = j then 1 else 0
def coef (a : Ab) (s t c : Nat) (i : Nat) : Int := ((ind i (eqA s c) + ind i (eqB s c)) - ind i (eqA t (aW a s c))) - ind i (eqB t (aW a s c))
theorem coef_sum {a : Ab} {s t c : Nat} {n : Nat} (h1 : eqA s c < n) (h2 : eqB s c < n) (h3 : eqA t (aW a s c) < n) (h4 : eqB t (aW a s c) < n) (x : Vec) : sumZ (fun i => coef a s t c i * x i) n = eqn a s t c x := by
  have e : ∀ i, coef a s t c i * (x i : Int) = ((ind i (eqA s c) * (x i : Int) + ind i (eqB s c) * (x i : Int)) + -(ind i (eqA t (aW a s c)) * (x i : Int))) + -(ind i (eqB t (aW a s c)) * (x i : Int)) := by
    intro i
    unfold coef
    rw [Int.sub_mul, Int.sub_mul, Int.add_mul]
    omega
  rw [sumZ_eq n (fun i _ => e i), sumZ_add, sumZ_add, sumZ_add, sumZ_neg, sumZ_neg]
  unfold ind
  rw [sumZ_one x h1, sumZ_one x h2, sumZ_one x h3, sumZ_one x h4]
  unfold eqn
  omega
def hasQ (S : MS) (f : Nat → Int) : Prop := ∀ i, i < 21 → gI S 17 i = zI (f i)
/-- all but one int array -/
def butI (b : Nat) (S S' : MS) : Prop := (∀ k, gF S' k = gF S k) ∧ ∀ b' j, b' ≠ b → gI S' b' j = gI S b' j
theorem butI_rf {b : Nat} {S : MS} : butI b S S := ⟨fun _ => rfl, fun _ _ _ => rfl⟩
theorem butI_s {b j : Nat} {v : Int32} {S S' : MS} (h : butI b S S') : butI b S (sI S' b j v) := ⟨h.1, fun b' i hb => by rw [gI_sI, if_neg (fun q => hb q.1)]; exact h.2 b' i hb⟩
theorem butI_sameB {b : Nat} {S S' : MS} (hb : 6 ≤ b) (h : butI b S S') : sameB S S' := ⟨h.1 0, fun b' j hb' => h.2 b' j (by omega)⟩
theorem hasQ_up {S : MS} {f : Nat → Int} {j : Nat} {d : Int} (h : hasQ S f) (hj : j < 21) {v : Int32} (hv : v = gI S 17 j + zI d) : hasQ (sI S 17 j v) (fun i => f i + d * ind i j) := by
  intro i hi
  rw [gI_sI]
  show _ = zI (f i + d * ind i j)
  unfold ind
  by_cases e : i = j
  · rw [if_pos ⟨rfl, e⟩, if_pos e, Int.mul_one, hv, h j hj, zI_add, e]
  · rw [if_neg (fun q => e q.2), if_neg e, Int.mul_zero, Int.add_zero]
    exact h i hi
theorem eq_lt {s c P : Nat} (hs : s < 4 * P) (hc : c < 4) (hne : c ≠ s % 4) : eqA s c < 7 * P ∧ eqB s c < 7 * P := by
  have hk := kindN_lt hc (show s % 4 < 4 by omega) hne
  unfold eqA eqB
  omega
theorem s_layEquation {a : Ab} (ha : AWf a) {S : MS} (hR : MR a S) {s t c : Nat} (hs : s < 4 * aP a) (ht : aG a s = some t) (hc : c < 4) (hne : c ≠ s % 4) {post : MS → Prop} (h : ∀ S', butI 17 S S' → hasQ S' (coef a s t c) → post S') : M_layEquation (nI s) (nI c) S post := by
  apply M_layEquation_ok
  intro T r
  have hP := ha.1
  obtain ⟨ht1, ht2, ht3, ht4, hw⟩ := ha.2.1 s t hs ht
  have hwc := (hw c hc).1
  have hwne : aW a s c ≠ t % 4 := by
    rw [← ht4]
    exact AWf_inj ha hs ht hc (by omega) hne
  have hk := kindN_lt hc (show s % 4 < 4 by omega) hne
  have hk2 := kindN_lt hwc (show t % 4 < 4 by omega) hwne
  have hgl : glN (some t) = nI t := rfl
  have K : ∀ i, i ≤ 21 → ∀ S', butI 17 S S' → (∀ j, j < i → gI S' 17 j = 0) → T (nI s) (nI c) (nI (s / 4)) (nI (t / 4)) (nI (aW a s c)) (nI i) S' := by
    refine loopUp (P := fun i => ∀ S', butI 17 S S' → (∀ j, j < i → gI S' 17 j = 0) → T (nI s) (nI c) (nI (s / 4)) (nI (t / 4)) (nI (aW a s c)) (nI i) S') 21 (fun i hi ih S' hb hz => ?_)
    apply r
    have l1 := eq_lt hs hc hne
    have l2 := eq_lt ht1 hwc hwne
    unfold eqA eqB at l1 l2
    unfold M_layEquation_w29
    simp (disch := omega) only [n0, n1, n2, n3, n4, n5, n6, n7, n8, n9, n10, n11, n12, n14, n16, n18, n21, n22, n36, n48, n63, n100, n108, n400, n1000, pk_mul, nI_add, pk_div, nI_subm, nI_ltE, nI_leE, nI_eqE, nI_clamp, vp_inE, nIm1, nIm1', nIm1n, nIm1n', nI_addn]
    rw [show s - s / 4 * 4 = s % 4 by omega]
    refine ⟨fun q => ⟨by omega, by omega, s_kindOf hc (by omega) hne ?_⟩, fun q => ⟨by omega, ih (by omega) _ (butI_s hb) (fun j hj => ?_)⟩⟩
    · have b4 : ∀ v1 v2 v3 : Int32, butI 17 S (sI (sI (sI S' 17 (eqA s c) v1) 17 (eqB s c) v2) 17 (eqA t (aW a s c)) v3) := fun _ _ _ => butI_s (butI_s (butI_s hb))
      unfold eqA eqB at b4
      simp (disch := omega) only [n0, n1, n2, n3, n4, n5, n6, n7, n8, n9, n10, n11, n12, n14, n16, n18, n21, n22, n36, n48, n63, n100, n108, n400, n1000, pk_mul, nI_add, pk_div, nI_subm, nI_ltE, nI_leE, nI_eqE, nI_clamp, vp_inE, nIm1, nIm1', nIm1n, nIm1n', nI_addn]
      refine ⟨by omega, by omega, by omega, by omega, by omega, ?_⟩
      rw [(b4 _ _ _).2 1 s (by decide), hR.2.2.1 s hs, ht, hgl]
      simp (disch := omega) only [n0, n1, n2, n3, n4, n5, n6, n7, n8, n9, n10, n11, n12, n14, n16, n18, n21, n22, n36, n48, n63, n100, n108, n400, n1000, pk_mul, nI_add, pk_div, nI_subm, nI_ltE, nI_leE, nI_eqE, nI_clamp, vp_inE, nIm1, nIm1', nIm1n, nIm1n', nI_addn]
      rw [show t - t / 4 * 4 = t % 4 by omega]
      refine s_kindOf hwc (by omega) hwne ?_
      simp (disch := omega) only [n0, n1, n2, n3, n4, n5, n6, n7, n8, n9, n10, n11, n12, n14, n16, n18, n21, n22, n36, n48, n63, n100, n108, n400, n1000, pk_mul, nI_add, pk_div, nI_subm, nI_ltE, nI_leE, nI_eqE, nI_clamp, vp_inE, nIm1, nIm1', nIm1n, nIm1n', nI_addn]
      refine ⟨by omega, by omega, h _ (butI_s (b4 _ _ _)) ?_⟩
      have q0 : hasQ S' (fun _ => 0) := fun j hj => hz j (by omega)
      have q1 := hasQ_up (j := 7 * (s / 4) + c) (d := 1) q0 (by omega) (v := gI S' 17 (7 * (s / 4) + c) + nI 1) rfl
      have q2 := hasQ_up (j := 7 * (s / 4) + 4 + kindN c (s % 4)) (d := 1) q1 (by omega) (v := gI _ 17 (7 * (s / 4) + 4 + kindN c (s % 4)) + nI 1) rfl
      have q3 := hasQ_up (j := 7 * (t / 4) + aW a s c) (d := -1) q2 (by omega) (v := gI _ 17 (7 * (t / 4) + aW a s c) - nI 1) (by rw [Int32.sub_eq_add_neg]; rfl)
      have q4 := hasQ_up (j := 7 * (t / 4) + 4 + kindN (aW a s c) (t % 4)) (d := -1) q3 (by omega) (v := gI _ 17 (7 * (t / 4) + 4 + kindN (aW a s c) (t % 4)) - nI 1) (by rw [Int32.sub_eq_add_neg]; rfl)
      intro i hi
      rw [q4 i hi]
      congr 1
      unfold coef eqA eqB
      show 0 + 1 * _ + 1 * _ + -1 * _ + -1 * _ = _
      omega
    · rw [gI_sI]
      by_cases e : j = i
      · rw [if_pos ⟨rfl, e⟩]; rfl
      · rw [if_neg (fun q => e q.2)]; exact hz j (by omega)
  unfold M_layEquation_w0
  have ei : (4 : Int32) * nI s + nI c = nI (4 * s + c) := by simp (disch := omega) only [n0, n1, n2, n3, n4, n5, n6, n7, n8, n9, n10, n11, n12, n14, n16, n18, n21, n22, n36, n48, n63, n100, n108, n400, n1000, pk_mul, nI_add, pk_div, nI_subm, nI_ltE, nI_leE, nI_eqE, nI_clamp, vp_inE, nIm1, nIm1', nIm1n, nIm1n', nI_addn]
  rw [ei, nI_clamp (by omega), nI_clamp (by omega), vp_inE (by omega) (by omega), vp_inE (by omega) (by omega), hR.2.2.1 s hs, ht, hgl, hR.2.2.2.1 s t hs ht c hc]
  have ed : nI s / 4 = nI (s / 4) := by simp (disch := omega) only [n0, n1, n2, n3, n4, n5, n6, n7, n8, n9, n10, n11, n12, n14, n16, n18, n21, n22, n36, n48, n63, n100, n108, n400, n1000, pk_mul, nI_add, pk_div, nI_subm, nI_ltE, nI_leE, nI_eqE, nI_clamp, vp_inE, nIm1, nIm1', nIm1n, nIm1n', nI_addn]
  have ed2 : nI t / 4 = nI (t / 4) := by simp (disch := omega) only [n0, n1, n2, n3, n4, n5, n6, n7, n8, n9, n10, n11, n12, n14, n16, n18, n21, n22, n36, n48, n63, n100, n108, n400, n1000, pk_mul, nI_add, pk_div, nI_subm, nI_ltE, nI_leE, nI_eqE, nI_clamp, vp_inE, nIm1, nIm1', nIm1n, nIm1n', nI_addn]
  rw [ed, ed2]
  exact ⟨by omega, by omega, K 0 (by omega) S butI_rf (fun j hj => absurd hj (Nat.not_lt_zero _))⟩
/-- row r of the rays -/
def rowI (S : MS) (b r n : Nat) (u : Vec) : Prop := ∀ i, i < n → gI S b (21 * r + i) = nI (u i)
theorem s_side {P : Nat} (hP : P ≤ 3) {S : MS} (h0 : gF S 0 = nI P) {f : Nat → Int} (hQ : hasQ S f) {r : Nat} (hr : r < 2000) {u : Vec} (hu : rowI S 15 r (7 * P) u) {post : Int32 → MS → Prop} (h : post (zI (sumZ (fun i => f i * u i) (7 * P))) S) : M_side (nI r) S post := by
  apply M_side_ok
  intro T rr
  refine loopUp (P := fun i => T (nI r) (zI (sumZ (fun i => f i * u i) i)) (nI i) S) (7 * P) (fun i hi ih => ?_) 0 (by omega)
  apply rr
  unfold M_side_w4
  rw [h0]
  have e7 : (7 : Int32) * nI P = nI (7 * P) := by simp (disch := omega) only [n0, n1, n2, n3, n4, n5, n6, n7, n8, n9, n10, n11, n12, n14, n16, n18, n21, n22, n36, n48, n63, n100, n108, n400, n1000, pk_mul, nI_add, pk_div, nI_subm, nI_ltE, nI_leE, nI_eqE, nI_clamp, vp_inE, nIm1, nIm1', nIm1n, nIm1n', nI_addn]
  have e21 : (21 : Int32) * nI r + nI i = nI (21 * r + i) := by simp (disch := omega) only [n0, n1, n2, n3, n4, n5, n6, n7, n8, n9, n10, n11, n12, n14, n16, n18, n21, n22, n36, n48, n63, n100, n108, n400, n1000, pk_mul, nI_add, pk_div, nI_subm, nI_ltE, nI_leE, nI_eqE, nI_clamp, vp_inE, nIm1, nIm1', nIm1n, nIm1n', nI_addn]
  rw [e7, e21, nI_leE (by omega) (by omega), nI_clamp (by omega), nI_clamp (by omega), vp_inE (by omega) (by omega), vp_inE (by omega) (by omega), show (nI i : Int32) + 1 = nI (i + 1) from nI_add i 1]
  refine ⟨fun q => by rw [show i = 7 * P by omega]; exact h, fun q => ⟨by omega, by omega, ?_⟩⟩
  have ih := ih (by omega)
  unfold sumZ at ih
  rw [hQ i (by omega), hu i (by omega), ← zI_nat (u i), zI_mul, zI_add]
  exact ih
def supS (n : Nat) (u : Vec) (i : Nat) : Prop := i < n ∧ u i ≠ 0
theorem s_supportOf {P : Nat} (hP : P ≤ 3) {S : MS} (h0 : gF S 0 = nI P) {r : Nat} (hr : r < 2000) {u : Vec} (hu : rowI S 15 r (7 * P) u) (hb : ∀ i, i < 7 * P → u i < 2 ^ 31) {post : Int32 → MS → Prop} (h : ∀ x, isSet x (supS (7 * P) u) → post x S) : M_supportOf (nI r) S post := by
  apply M_supportOf_ok
  intro T rr
  suffices K : ∀ i, i ≤ 7 * P → ∀ x, isSet x (fun j => j < i ∧ u j ≠ 0) → T (nI r) x (nI i) S from K 0 (by omega) 0 (isSet_cg (fun j _ => ⟨fun h => absurd h id, fun h => absurd h.1 (Nat.not_lt_zero _)⟩) isSet_0)
  refine loopUp (P := fun i => ∀ x, isSet x (fun j => j < i ∧ u j ≠ 0) → T (nI r) x (nI i) S) (7 * P) (fun i hi ih x hx => ?_)
  apply rr
  unfold M_supportOf_w4 M_supportOf_w37
  rw [h0]
  have e7 : (7 : Int32) * nI P = nI (7 * P) := by simp (disch := omega) only [n0, n1, n2, n3, n4, n5, n6, n7, n8, n9, n10, n11, n12, n14, n16, n18, n21, n22, n36, n48, n63, n100, n108, n400, n1000, pk_mul, nI_add, pk_div, nI_subm, nI_ltE, nI_leE, nI_eqE, nI_clamp, vp_inE, nIm1, nIm1', nIm1n, nIm1n', nI_addn]
  have e21 : (21 : Int32) * nI r + nI i = nI (21 * r + i) := by simp (disch := omega) only [n0, n1, n2, n3, n4, n5, n6, n7, n8, n9, n10, n11, n12, n14, n16, n18, n21, n22, n36, n48, n63, n100, n108, n400, n1000, pk_mul, nI_add, pk_div, nI_subm, nI_ltE, nI_leE, nI_eqE, nI_clamp, vp_inE, nIm1, nIm1', nIm1n, nIm1n', nI_addn]
  rw [e7, e21, nI_leE (by omega) (by omega), nI_clamp (by omega), vp_inE (by omega) (by omega), show (nI i : Int32) + 1 = nI (i + 1) from nI_add i 1]
  refine ⟨fun q => h x (by rw [show 7 * P = i by omega]; exact hx), fun q => ⟨by omega, ?_⟩⟩
  have hbi := hb i (by omega)
  rw [hu i (by omega), show (0 : Int32) = nI 0 from rfl, nI_eqE hbi (by omega)]
  refine ⟨fun e => ih (by omega) _ (isSet_cg (fun j hj => ?_) (isSet_or hx isSet_0)), fun e => ih (by omega) _ (isSet_cg (fun j hj => ?_) (isSet_or hx (isSet_one (show i < 32 by omega))))⟩
  · constructor
    · rintro (⟨h1, h2⟩ | h)
      · exact ⟨by omega, h2⟩
      · exact absurd h id
    · rintro ⟨h1, h2⟩
      by_cases e2 : j = i
      · subst e2; exact absurd e h2
      · exact Or.inl ⟨by omega, h2⟩
  · constructor
    · rintro (⟨h1, h2⟩ | h)
      · exact ⟨by omega, h2⟩
      · subst h; exact ⟨by omega, e⟩
    · rintro ⟨h1, h2⟩
      by_cases e2 : j = i
      · exact Or.inr e2
      · exact Or.inl ⟨by omega, h2⟩
theorem s_divisor {S : MS} {post : Int32 → MS → Prop} {x y : Nat} (hx : x < 2 ^ 31) (hy : y < 2 ^ 31) (h : post (nI (Nat.gcd x y)) S) : M_divisor (nI x) (nI y) S post := by
  apply M_divisor_ok
  intro T r
  have K : ∀ n x y, y < n → x < 2 ^ 31 → y < 2 ^ 31 → post (nI (Nat.gcd x y)) S → T (nI x) (nI y) S := by
    intro n
    induction n with
    | zero => intro x y hn; exact absurd hn (Nat.not_lt_zero _)
    | succ n ih =>
      intro x y hn hx hy hp
      apply r
      unfold M_divisor_w4
      rw [show (0 : Int32) = nI 0 from rfl, nI_eqE hy (by omega)]
      refine ⟨fun c => ?_, fun c => ⟨c, ?_⟩⟩
      · rw [c, Nat.gcd_zero_right] at hp; exact hp
      · have hlt := Nat.mod_lt x (show 0 < y by omega)
        have e : nI x - nI x / nI y * nI y = nI (x % y) := by
          rw [pk_div hx (by omega) hy, pk_mul, nI_subm (Nat.div_mul_le_self x y)]
          congr 1
          have := Nat.div_add_mod x y
          rw [Nat.mul_comm] at this
          omega
        rw [e]
        refine ih y (x % y) (by omega) hy (by omega) ?_
        rw [Nat.gcd_comm x y, Nat.gcd_rec y x, Nat.gcd_comm] at hp
        exact hp
  exact K (y + 1) x y (Nat.lt_succ_self _) hx hy h
