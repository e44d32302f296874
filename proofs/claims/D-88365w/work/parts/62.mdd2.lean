/-! the model: neighbours, one row laid -/
theorem s_areBeside {P : Nat} (hP : P ≤ 3) {S : MS} (h0 : gF S 0 = nI P) {R : Nat → Vec} {m : Nat} (hm : m ≤ 2000) (h14 : gF S 14 = nI m) (hR : ∀ r, r < m → rowI S 15 r (7 * P) (R r)) (hb : ∀ r i, r < m → i < 7 * P → R r i < 2 ^ 31) {x : Int32} {f : Nat → Prop} (hx : isSet x f) {u v : Nat} (hu : u < m) (hv : v < m) {post : Int32 → MS → Prop} (h1 : (∀ r, r < m → r = u ∨ r = v ∨ ¬ ∀ i, i < 32 → supS (7 * P) (R r) i → f i) → post 1 S) (h2 : ¬ (∀ r, r < m → r = u ∨ r = v ∨ ¬ ∀ i, i < 32 → supS (7 * P) (R r) i → f i) → post 0 S) : M_areBeside (nI u) (nI v) x S post := by
  apply M_areBeside_ok
  intro T r
  have K0 : ¬ (∀ r, r < m → r = u ∨ r = v ∨ ¬ ∀ i, i < 32 → supS (7 * P) (R r) i → f i) → ∀ k, k ≤ m → T (nI u) (nI v) x 0 (nI k) S := by
    intro hn k hk
    apply r
    unfold M_areBeside_w6 M_areBeside_w58
    exact ⟨fun _ => ⟨zok0, h2 hn⟩, fun _ => ⟨fun _ => ⟨zok0, h2 hn⟩, fun q => absurd rfl q⟩⟩
  suffices K1 : ∀ k, k ≤ m → (∀ r, r < k → r = u ∨ r = v ∨ ¬ ∀ i, i < 32 → supS (7 * P) (R r) i → f i) → T (nI u) (nI v) x 1 (nI k) S from K1 0 (by omega) (fun r hr => absurd hr (Nat.not_lt_zero _))
  refine loopUp (P := fun k => (∀ r, r < k → r = u ∨ r = v ∨ ¬ ∀ i, i < 32 → supS (7 * P) (R r) i → f i) → T (nI u) (nI v) x 1 (nI k) S) m (fun k hk ih ho => ?_)
  apply r
  unfold M_areBeside_w6 M_areBeside_w45 M_areBeside_w50 M_areBeside_w58
  rw [h14, nI_leE (by omega) (by omega), nI_eqE (by omega) (by omega), nI_eqE (by omega) (by omega), show (nI k : Int32) + 1 = nI (k + 1) from nI_add k 1]
  have nx : k < m → (k = u ∨ k = v ∨ ¬ ∀ i, i < 32 → supS (7 * P) (R k) i → f i) → T (nI u) (nI v) x 1 (nI (k + 1)) S := fun hk2 hh => ih hk2 (fun r hr => by
    by_cases e : r = k
    · subst e; exact hh
    · exact ho r (by omega))
  refine ⟨fun q => ⟨zok1, h1 (fun r hr => ho r (by omega))⟩, fun q => ⟨fun c => absurd c (by decide), fun _ => ⟨fun c => nx (by omega) (Or.inl c), fun c => ⟨fun c2 => nx (by omega) (Or.inr (Or.inl c2)), fun c2 => ?_⟩⟩⟩⟩
  refine s_supportOf hP h0 (by omega) (hR k (by omega)) (fun i hi => hb k i (by omega) hi) (fun y hy => ?_)
  rw [isSet_sub hy hx]
  refine ⟨fun c3 => K0 (fun o => ?_) (k + 1) (by omega), fun c3 => nx (by omega) (Or.inr (Or.inr c3))⟩
  rcases o k (by omega) with z | z | z
  · exact c z
  · exact c2 z
  · exact z c3
theorem s_layRay {P : Nat} (hP : P ≤ 3) {S : MS} (h0 : gF S 0 = nI P) {u v k x y : Nat} (hu : u < 2000) (hv : v < 2000) (hk : k < 2000) (h18 : gF S 18 = nI k) {U V : Vec} (hU : rowI S 15 u (7 * P) U) (hV : rowI S 15 v (7 * P) V) (hb : ∀ i, i < 7 * P → lin x y U V i < 2 ^ 31) (hne : ∃ i, i < 7 * P ∧ lin x y U V i ≠ 0) {post : MS → Prop} (h : ∀ S', (∀ j, j ≠ 18 → gF S' j = gF S j) → gF S' 18 = nI (k + 1) → (∀ b j, b ≠ 16 → gI S' b j = gI S b j) → (∀ j, (j < 21 * k ∨ 21 * k + 21 ≤ j) → gI S' 16 j = gI S 16 j) → rowI S' 16 k (7 * P) (nrm (7 * P) (lin x y U V)) → post S') : M_layRay (nI u) (nI v) (nI x) (nI y) S post := by
  apply M_layRay_ok
  intro T6 T85 r6 r85
  have e7 : (7 : Int32) * nI P = nI (7 * P) := by simp (disch := omega) only [n0, n1, n2, n3, n4, n5, n6, n7, n8, n9, n10, n11, n12, n14, n16, n18, n21, n22, n36, n48, n63, n100, n108, n400, n1000, pk_mul, nI_add, pk_div, nI_subm, nI_ltE, nI_leE, nI_eqE, nI_clamp, vp_inE, nIm1, nIm1', nIm1n, nIm1n', nI_addn]
  obtain ⟨j0, hj0, hjn⟩ := hne
  have hg0 := gcdN_pos hj0 hjn
  have hgl : gcdN (lin x y U V) (7 * P) < 2 ^ 31 := Nat.lt_of_le_of_lt (gcdN_le (m := 2 ^ 31 - 1) (fun i hi => by have := hb i hi; omega)) (by decide)
  have K85 : ∀ i, i ≤ 7 * P → ∀ S', butI 16 S S' → (∀ j, (j < 21 * k ∨ 21 * k + 21 ≤ j) → gI S' 16 j = gI S 16 j) → (∀ j, j < i → gI S' 16 (21 * k + j) = nI (nrm (7 * P) (lin x y U V) j)) → (∀ j, i ≤ j → j < 7 * P → gI S' 16 (21 * k + j) = nI (lin x y U V j)) → T85 (nI (gcdN (lin x y U V) (7 * P))) (nI i) S' := by
    refine loopUp (P := fun i => ∀ S', butI 16 S S' → (∀ j, (j < 21 * k ∨ 21 * k + 21 ≤ j) → gI S' 16 j = gI S 16 j) → (∀ j, j < i → gI S' 16 (21 * k + j) = nI (nrm (7 * P) (lin x y U V) j)) → (∀ j, i ≤ j → j < 7 * P → gI S' 16 (21 * k + j) = nI (lin x y U V j)) → T85 (nI (gcdN (lin x y U V) (7 * P))) (nI i) S') (7 * P) (fun i hi ih S' g1 g2 g3 g4 => ?_)
    apply r85
    unfold M_layRay_w85
    rw [g1.1 0, g1.1 18, h0, h18, e7]
    have e21 : (21 : Int32) * nI k + nI i = nI (21 * k + i) := by simp (disch := omega) only [n0, n1, n2, n3, n4, n5, n6, n7, n8, n9, n10, n11, n12, n14, n16, n18, n21, n22, n36, n48, n63, n100, n108, n400, n1000, pk_mul, nI_add, pk_div, nI_subm, nI_ltE, nI_leE, nI_eqE, nI_clamp, vp_inE, nIm1, nIm1', nIm1n, nIm1n', nI_addn]
    rw [e21, nI_leE (by omega) (by omega), nI_clamp (by omega), vp_inE (by omega) (by omega), show (nI i : Int32) + 1 = nI (i + 1) from nI_add i 1, show (nI k : Int32) + 1 = nI (k + 1) from nI_add k 1]
    refine ⟨fun q => h _ (fun j hj => by rw [gF_sF, if_neg hj]; exact g1.1 j) (by rw [gF_sF, if_pos rfl]) (fun b j hb' => g1.2 b j hb') (fun j hj => g2 j hj) (fun j hj => g3 j (by omega)), fun q => ⟨by omega, ?_, by omega, ?_⟩⟩
    · rw [show (0 : Int32) = nI 0 from rfl, nI_eqE hgl (by omega)]; omega
    · rw [g4 i (Nat.le_refl _) (by omega), pk_div (hb i (by omega)) hg0 hgl]
      refine ih (by omega) _ (butI_s g1) (fun j hj => by rw [gI_sI, if_neg (by omega)]; exact g2 j hj) (fun j hj => ?_) (fun j hj1 hj2 => by rw [gI_sI, if_neg (by omega)]; exact g4 j (by omega) hj2)
      rw [gI_sI]
      by_cases e : j = i
      · rw [if_pos ⟨rfl, by omega⟩, e]; rfl
      · rw [if_neg (by omega)]; exact g3 j (by omega)
  suffices K6 : ∀ i, i ≤ 7 * P → ∀ S', butI 16 S S' → (∀ j, (j < 21 * k ∨ 21 * k + 21 ≤ j) → gI S' 16 j = gI S 16 j) → (∀ j, j < i → gI S' 16 (21 * k + j) = nI (lin x y U V j)) → T6 (nI u) (nI v) (nI x) (nI y) (nI (gcdN (lin x y U V) i)) (nI i) S' from K6 0 (by omega) S butI_rf (fun j _ => rfl) (fun j hj => absurd hj (Nat.not_lt_zero _))
  refine loopUp (P := fun i => ∀ S', butI 16 S S' → (∀ j, (j < 21 * k ∨ 21 * k + 21 ≤ j) → gI S' 16 j = gI S 16 j) → (∀ j, j < i → gI S' 16 (21 * k + j) = nI (lin x y U V j)) → T6 (nI u) (nI v) (nI x) (nI y) (nI (gcdN (lin x y U V) i)) (nI i) S') (7 * P) (fun i hi ih S' g1 g2 g3 => ?_)
  apply r6
  unfold M_layRay_w6
  rw [g1.1 0, g1.1 18, h0, h18, e7]
  have e1 : (21 : Int32) * nI k + nI i = nI (21 * k + i) := by simp (disch := omega) only [n0, n1, n2, n3, n4, n5, n6, n7, n8, n9, n10, n11, n12, n14, n16, n18, n21, n22, n36, n48, n63, n100, n108, n400, n1000, pk_mul, nI_add, pk_div, nI_subm, nI_ltE, nI_leE, nI_eqE, nI_clamp, vp_inE, nIm1, nIm1', nIm1n, nIm1n', nI_addn]
  have e2 : (21 : Int32) * nI u + nI i = nI (21 * u + i) := by simp (disch := omega) only [n0, n1, n2, n3, n4, n5, n6, n7, n8, n9, n10, n11, n12, n14, n16, n18, n21, n22, n36, n48, n63, n100, n108, n400, n1000, pk_mul, nI_add, pk_div, nI_subm, nI_ltE, nI_leE, nI_eqE, nI_clamp, vp_inE, nIm1, nIm1', nIm1n, nIm1n', nI_addn]
  have e3 : (21 : Int32) * nI v + nI i = nI (21 * v + i) := by simp (disch := omega) only [n0, n1, n2, n3, n4, n5, n6, n7, n8, n9, n10, n11, n12, n14, n16, n18, n21, n22, n36, n48, n63, n100, n108, n400, n1000, pk_mul, nI_add, pk_div, nI_subm, nI_ltE, nI_leE, nI_eqE, nI_clamp, vp_inE, nIm1, nIm1', nIm1n, nIm1n', nI_addn]
  rw [e1, e2, e3, nI_leE (by omega) (by omega), nI_clamp (by omega), nI_clamp (by omega), nI_clamp (by omega), vp_inE (by omega) (by omega), vp_inE (by omega) (by omega), vp_inE (by omega) (by omega), show (nI i : Int32) + 1 = nI (i + 1) from nI_add i 1]
  refine ⟨fun q => ?_, fun q => ⟨by omega, by omega, by omega, ?_⟩⟩
  · have e : i = 7 * P := by omega
    rw [e] at g3 ⊢
    exact K85 0 (by omega) S' g1 g2 (fun j hj => absurd hj (Nat.not_lt_zero _)) (fun j _ hj => g3 j hj)
  · rw [g1.2 15 _ (by decide), g1.2 15 _ (by decide), hU i (by omega), hV i (by omega), pk_mul, pk_mul, nI_add]
    have hbi := hb i (by omega)
    unfold lin at hbi
    have hgi : gcdN (lin x y U V) i < 2 ^ 31 := Nat.lt_of_le_of_lt (gcdN_le (m := 2 ^ 31 - 1) (fun j hj => by have := hb j (by omega); omega)) (by decide)
    refine s_divisor hgi hbi ?_
    refine ih (by omega) _ (butI_s g1) (fun j hj => by rw [gI_sI, if_neg (by omega)]; exact g2 j hj) (fun j hj => ?_)
    rw [gI_sI]
    by_cases e : j = i
    · rw [if_pos ⟨rfl, by omega⟩, e]; rfl
    · rw [if_neg (by omega)]; exact g3 j (by omega)
