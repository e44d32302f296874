/-! the model: least, number, add -/
/-- the least rows in their order -/
def isLs (a : Ab) (Ls : List Vec) : Prop := List.Perm Ls (rowsS a (4 * aP a)) ∧ srt (7 * aP a) Ls
theorem isLs_good {a : Ab} (hD : ddB a) {Ls : List Vec} (h : isLs a Ls) : goodR (aP a) Ls := goodR_perm h.1 (hD.1 _ (Nat.le_refl _))
theorem isLs_eq {a : Ab} (hD : ddB a) {L L' : List Vec} (h : isLs a L) (h' : isLs a L') : L = L' :=
  srt_eq (h.1.trans h'.1.symm) (fun u hu => ((isLs_good hD h).2.1 u hu).1) h.2 h'.2
theorem s_findLeast' {a : Ab} (ha : AWf a) (hD : ddB a) {Ls : List Vec} (hL : isLs a Ls) {S : MS} (hR : MR a S) {post : MS → Prop} (h : ∀ S', MR a S' → gF S' 14 = nI Ls.length → holdR S' 15 (7 * aP a) Ls → post S') : M_findLeast S post := by
  refine s_findLeast ha hD hR (fun S' M h1 h2 h3 h4 h5 => ?_)
  have e := isLs_eq hD ⟨h2, h3⟩ hL
  subst e
  exact h S' h1 h4 h5
theorem s_least {a : Ab} (ha : AWf a) (hD : ddB a) {Ls : List Vec} (hL : isLs a Ls) {S : MS} (hR : MR a S) {post : Int32 → MS → Prop} (h : ∀ S', MR a S' → post (nI Ls.length) S') : M_least S post := by
  apply M_least_ok
  unfold M_least_VC M_least_w0
  refine s_findLeast' ha hD hL hR (fun S' h1 h2 h3 => ?_)
  rw [h2]
  exact h S' h1
theorem s_number {a : Ab} (ha : AWf a) (hD : ddB a) {Ls : List Vec} (hL : isLs a Ls) {S : MS} (hR : MR a S) {x1 x2 : Int32} {post : Int32 → MS → Prop} (h0 : ¬ (inN x1 Ls.length ∧ inN x2 (7 * aP a)) → ∀ S', MR a S' → post (-2) S') (h1 : inN x1 Ls.length → inN x2 (7 * aP a) → ∀ S', MR a S' → post (nI (Ls.getD x1.toNatClampNeg (fun _ => 0) x2.toNatClampNeg)) S') : M_number x1 x2 S post := by
  apply M_number_ok
  unfold M_number_VC M_number_w0 M_number_w49 M_number_w51
  have hP := ha.1
  have hl := (isLs_good hD hL).1
  refine s_findLeast' ha hD hL hR (fun S' g1 g2 g3 => ?_)
  rw [g2]
  apply s_in
  by_cases i1 : inN x1 Ls.length
  · rw [if_pos ((inN_iff (by omega)).mpr i1)]
    refine ⟨fun c => absurd c (by decide), fun _ => ?_⟩
    have e7 : (7 : Int32) * nI (aP a) = nI (7 * aP a) := by simp (disch := omega) only [n0, n1, n2, n3, n4, n5, n6, n7, n8, n9, n10, n11, n12, n14, n16, n18, n21, n22, n36, n48, n63, n100, n108, n400, n1000, pk_mul, nI_add, pk_div, nI_subm, nI_ltE, nI_leE, nI_eqE, nI_clamp, vp_inE, nIm1, nIm1', nIm1n, nIm1n', nI_addn]
    rw [g1.1, e7]
    apply s_in
    by_cases i2 : inN x2 (7 * aP a)
    · rw [if_pos ((inN_iff (by omega)).mpr i2)]
      have h1 := h1 i1 i2 S' g1
      obtain ⟨k, hk, rfl⟩ := i1
      obtain ⟨i, hi, rfl⟩ := i2
      rw [nI_clamp (by omega), nI_clamp (by omega), getD_at hk] at h1
      refine ⟨fun c => absurd c (by decide), fun _ => ?_⟩
      simp (disch := omega) only [n0, n1, n2, n3, n4, n5, n6, n7, n8, n9, n10, n11, n12, n14, n16, n18, n21, n22, n36, n48, n63, n100, n108, n400, n1000, pk_mul, nI_add, pk_div, nI_subm, nI_ltE, nI_leE, nI_eqE, nI_clamp, vp_inE, nIm1, nIm1', nIm1n, nIm1n', nI_addn]
      rw [g3 k hk i hi]
      exact ⟨by omega, h1⟩
    · rw [if_neg (fun q => i2 ((inN_iff (by omega)).mp q))]
      exact ⟨fun _ => h0 (fun k => i2 k.2) S' g1, fun c => absurd rfl c⟩
  · rw [if_neg (fun q => i1 ((inN_iff (by omega)).mp q))]
    exact ⟨fun _ => h0 (fun k => i1 k.1) S' g1, fun c => absurd rfl c⟩
theorem in100 {w : Int32} : ((0 : Int32) ≤ w ∧ w ≤ 100) ↔ inN w 101 := in_iff (n := 100) (by decide)
/-- the sheet after adding u, n times -/
def shA (a : Ab) (u : Vec) (n : Nat) : Nat → Nat := fun i => if i < 7 * aP a then aS a i + n * u i else aS a i
def addOk (a : Ab) (u : Vec) (n : Nat) : Prop := ∀ i, i < 7 * aP a → aS a i + n * u i ≤ 1000
theorem s_add {a : Ab} (ha : AWf a) (hD : ddB a) {Ls : List Vec} (hL : isLs a Ls) {S : MS} (hR : MR a S) {x1 x2 : Int32} {post : Int32 → MS → Prop} (h0 : ¬ (inN x1 Ls.length ∧ inN x2 101) → ∀ S', MR a S' → post (-2) S')
    (h1 : inN x1 Ls.length → inN x2 101 → ¬ addOk a (Ls.getD x1.toNatClampNeg (fun _ => 0)) x2.toNatClampNeg → ∀ S', MR a S' → post (-4) S') (h2 : inN x1 Ls.length → inN x2 101 → addOk a (Ls.getD x1.toNatClampNeg (fun _ => 0)) x2.toNatClampNeg → ∀ S', MR (aP a, aG a, aW a, shA a (Ls.getD x1.toNatClampNeg (fun _ => 0)) x2.toNatClampNeg) S' → post 1 S') : M_add x1 x2 S post := by
  apply M_add_ok
  intro T33 T81 r33 r81
  unfold M_add_w0 M_add_w28
  have hP := ha.1
  have hg := isLs_good hD hL
  have hl := hg.1
  refine s_findLeast' ha hD hL hR (fun S0 g1 g2 g3 => ?_)
  rw [g2]
  apply s_in
  by_cases i1 : inN x1 Ls.length
  · rw [if_pos ((inN_iff (by omega)).mpr i1)]
    refine ⟨fun c => absurd c (by decide), fun _ => ?_⟩
    apply s_in
    by_cases i2 : inN x2 101
    · rw [if_pos (in100.mpr i2)]
      have h1 := h1 i1 i2
      have h2 := h2 i1 i2
      obtain ⟨k, hk, rfl⟩ := i1
      obtain ⟨n, hn, rfl⟩ := i2
      rw [nI_clamp (by omega), nI_clamp (by omega), getD_at hk] at h1 h2
      have hu := hg.2.1 _ (List.getElem_mem hk)
      refine ⟨fun _ => ?_, fun c => absurd c (by decide)⟩
      have e7 : (7 : Int32) * nI (aP a) = nI (7 * aP a) := by simp (disch := omega) only [n0, n1, n2, n3, n4, n5, n6, n7, n8, n9, n10, n11, n12, n14, n16, n18, n21, n22, n36, n48, n63, n100, n108, n400, n1000, pk_mul, nI_add, pk_div, nI_subm, nI_ltE, nI_leE, nI_eqE, nI_clamp, vp_inE, nIm1, nIm1', nIm1n, nIm1n', nI_addn]
      have K81 : addOk a Ls[k] n → ∀ i, i ≤ 7 * aP a → ∀ S', butI 3 S0 S' → (∀ j, j < i → gI S' 3 j = nI (aS a j + n * Ls[k] j)) → (∀ j, i ≤ j → j < 21 → gI S' 3 j = nI (aS a j)) → T81 (nI k) (nI n) (nI i) S' := by
        intro hok
        refine loopUp (P := fun i => ∀ S', butI 3 S0 S' → (∀ j, j < i → gI S' 3 j = nI (aS a j + n * Ls[k] j)) → (∀ j, i ≤ j → j < 21 → gI S' 3 j = nI (aS a j)) → T81 (nI k) (nI n) (nI i) S') (7 * aP a) (fun i hi ih S' b1 b2 b3 => ?_)
        apply r81
        unfold M_add_w81
        rw [b1.1 0, g1.1, e7]
        have e21 : (21 : Int32) * nI k + nI i = nI (21 * k + i) := by simp (disch := omega) only [n0, n1, n2, n3, n4, n5, n6, n7, n8, n9, n10, n11, n12, n14, n16, n18, n21, n22, n36, n48, n63, n100, n108, n400, n1000, pk_mul, nI_add, pk_div, nI_subm, nI_ltE, nI_leE, nI_eqE, nI_clamp, vp_inE, nIm1, nIm1', nIm1n, nIm1n', nI_addn]
        rw [e21, nI_leE (by omega) (by omega), nI_clamp (by omega), nI_clamp (by omega), vp_inE (by omega) (by omega), vp_inE (by omega) (by omega), show (nI i : Int32) + 1 = nI (i + 1) from nI_add i 1]
        refine ⟨fun q => h2 hok S' ⟨by rw [b1.1 0]; exact g1.1, fun e he => by rw [b1.2 4 e (by decide), b1.2 5 e (by decide)]; exact g1.2.1 e he, fun s hs => by rw [b1.2 1 s (by decide)]; exact g1.2.2.1 s hs, fun s t hs ht c hc => by rw [b1.2 2 _ (by decide)]; exact g1.2.2.2.1 s t hs ht c hc, fun j hj => ?_⟩, fun q => ⟨by omega, by omega, by omega, ?_⟩⟩
        · show gI S' 3 j = nI (shA a Ls[k] n j)
          unfold shA
          by_cases c : j < 7 * aP a
          · rw [if_pos c]; exact b2 j (by omega)
          · rw [if_neg c]; exact b3 j (by omega) hj
        · rw [b3 i (Nat.le_refl _) (by omega), b1.2 15 _ (by decide), g3 k hk i (by omega), pk_mul, nI_add]
          refine ih (by omega) _ (butI_s b1) (fun j hj => ?_) (fun j hj1 hj2 => by rw [gI_sI, if_neg (by omega)]; exact b3 j (by omega) hj2)
          rw [gI_sI]
          by_cases c : j = i
          · rw [if_pos ⟨rfl, c⟩, c]
          · rw [if_neg (fun z => c z.2)]; exact b2 j (by omega)
      suffices K33 : ∀ i, i ≤ 7 * aP a → (∀ j, j < i → aS a j + n * Ls[k] j ≤ 1000) → T33 (nI k) (nI n) (nI i) S0 from K33 0 (by omega) (fun j hj => absurd hj (Nat.not_lt_zero _))
      refine loopUp (P := fun i => (∀ j, j < i → aS a j + n * Ls[k] j ≤ 1000) → T33 (nI k) (nI n) (nI i) S0) (7 * aP a) (fun i hi ih hj => ?_)
      apply r33
      unfold M_add_w33
      rw [g1.1, e7]
      have e21 : (21 : Int32) * nI k + nI i = nI (21 * k + i) := by simp (disch := omega) only [n0, n1, n2, n3, n4, n5, n6, n7, n8, n9, n10, n11, n12, n14, n16, n18, n21, n22, n36, n48, n63, n100, n108, n400, n1000, pk_mul, nI_add, pk_div, nI_subm, nI_ltE, nI_leE, nI_eqE, nI_clamp, vp_inE, nIm1, nIm1', nIm1n, nIm1n', nI_addn]
      rw [e21, nI_leE (by omega) (by omega), nI_clamp (by omega), nI_clamp (by omega), vp_inE (by omega) (by omega), vp_inE (by omega) (by omega), show (nI i : Int32) + 1 = nI (i + 1) from nI_add i 1]
      refine ⟨fun q => K81 (fun j hj2 => hj j (by omega)) 0 (by omega) S0 butI_rf (fun j hj2 => absurd hj2 (Nat.not_lt_zero _)) (fun j _ hj2 => g1.2.2.2.2 j hj2), fun q => ⟨by omega, by omega, ?_⟩⟩
      have hs := ha.2.2.1 i
      have hm := Nat.mul_le_mul (show n ≤ 100 by omega) (hu.2.2.2 i)
      rw [g1.2.2.2.2 i (by omega), g3 k hk i (by omega), pk_mul, nI_add, show (1000 : Int32) = nI 1000 from rfl, nI_leE (by omega) (by omega)]
      refine ⟨fun c => ih (by omega) (fun j hj2 => ?_), fun c => h1 (fun z => c (z i (by omega))) S0 g1⟩
      by_cases c2 : j = i
      · rw [c2]; exact c
      · exact hj j (by omega)
    · rw [if_neg (fun q => i2 (in100.mp q))]
      exact ⟨fun c => absurd rfl c, fun _ => h0 (fun k => i2 k.2) S0 g1⟩
  · rw [if_neg (fun q => i1 ((inN_iff (by omega)).mp q))]
    exact ⟨fun _ => h0 (fun k => i1 k.1) S0 g1, fun c => absurd rfl c⟩
theorem AWf_add {a : Ab} (ha : AWf a) {u : Vec} {n : Nat} (h : addOk a u n) : AWf (aP a, aG a, aW a, shA a u n) := by
  refine AWf_sheet ha (fun i => ?_) (fun i hi => ?_)
  · unfold shA
    by_cases c : i < 7 * aP a
    · rw [if_pos c]; exact h i c
    · rw [if_neg c]; exact ha.2.2.1 i
  · unfold shA
    rw [if_neg (by omega)]
    exact ha.2.2.2 i hi
