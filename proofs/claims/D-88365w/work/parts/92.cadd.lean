/-! the component: least, number, add -/
def needC (a : Ab) (mc ms : Nat) : Prop := mdS a (4 * aP a) + 176 ≤ mc ∧ 21 * mdS a (4 * aP a) + 16384 ≤ ms
theorem c_least {κ : Prop} {a : Ab} (ha : AWf a) (hD : ddB a) {Ls : List Vec} (hL : isLs a Ls) {mc ms : Nat} {S : CS} (hI : CI κ a S) (hb : ¬ κ → needC a mc ms) {post : Int32 → CS → Prop} (h : ∀ S', CI True a S' → Ls.length ≤ kN S' (kA S' 8) → holdC S' (kA S' 8) (7 * aP a) Ls → post (nI Ls.length) S') : C_least mc ms S post := by
  apply C_least_ok
  unfold C_least_VC C_least_w0
  refine ⟨mc, ms, by omega, by omega, c_findSheets ha hD hL hI hb (fun S' h1 h2 h3 h4 h5 => ?_)⟩
  rw [h2]
  exact h S' h1 h3 h4
theorem c_number {κ : Prop} {a : Ab} (ha : AWf a) (hD : ddB a) {Ls : List Vec} (hL : isLs a Ls) {mc ms : Nat} {S : CS} (hI : CI κ a S) (hb : ¬ κ → needC a mc ms) {x1 x2 : Int32} {post : Int32 → CS → Prop} (h0 : ¬ (inN x1 Ls.length ∧ inN x2 (7 * aP a)) → ∀ S', CI True a S' → post (-2) S') (h1 : inN x1 Ls.length → inN x2 (7 * aP a) → ∀ S', CI True a S' → post (nI (Ls.getD x1.toNatClampNeg (fun _ => 0) x2.toNatClampNeg)) S') : C_number mc ms x1 x2 S post := by
  apply C_number_ok
  unfold C_number_VC C_number_w0 C_number_w34 C_number_w36
  have hP := ha.1
  have hl := (isLs_good hD hL).1
  refine ⟨mc, ms, by omega, by omega, c_least ha hD hL hI hb (fun S' g1 g2 g3 => c_isIn ?_)⟩
  have n8 := g1.2.1.2.2.2.2.2.2.2.2.1
  by_cases i1 : inN x1 Ls.length
  · rw [if_pos ((inN_iff (by omega)).mpr i1)]
    refine ⟨fun c => absurd c (by decide), fun _ => c_isNumber g1.1.1 hP (fun i2 => ⟨fun c => absurd c (by decide), fun _ => ?_⟩) (fun i2 => ⟨fun _ => h0 (fun k => i2 k.2) S' g1, fun c => absurd rfl c⟩)⟩
    have h1 := h1 i1 i2 S' g1
    obtain ⟨k, hk, rfl⟩ := i1
    obtain ⟨i, hi, rfl⟩ := i2
    rw [nI_clamp (by omega), nI_clamp (by omega), getD_at hk] at h1
    obtain ⟨q, q1, q2⟩ := g3 k hk
    rw [nI_clamp (by omega), nI_clamp (by omega), vp_inE (by omega) (by omega)]
    refine ⟨g1.2.1.2.1, by omega, q, q1, q2.1, ?_⟩
    rw [q2.2.1, q2.2.2.1 i hi, lI_toI, vp_inE (by omega) (by omega)]
    exact ⟨hi, h1⟩
  · rw [if_neg (fun q => i1 ((inN_iff (by omega)).mp q))]
    exact ⟨fun _ => h0 (fun k => i1 k.1) S' g1, fun c => absurd rfl c⟩
theorem c_add {κ : Prop} {a : Ab} (ha : AWf a) (hD : ddB a) {Ls : List Vec} (hL : isLs a Ls) {mc ms : Nat} {S : CS} (hI : CI κ a S) (hb : ¬ κ → needC a mc ms) {x1 x2 : Int32} {post : Int32 → CS → Prop} (h0 : ¬ (inN x1 Ls.length ∧ inN x2 101) → ∀ S', CI True a S' → post (-2) S')
    (h1 : inN x1 Ls.length → inN x2 101 → ¬ addOk a (Ls.getD x1.toNatClampNeg (fun _ => 0)) x2.toNatClampNeg → ∀ S', CI True a S' → post (-4) S') (h2 : inN x1 Ls.length → inN x2 101 → addOk a (Ls.getD x1.toNatClampNeg (fun _ => 0)) x2.toNatClampNeg → ∀ S', CI True (aP a, aG a, aW a, shA a (Ls.getD x1.toNatClampNeg (fun _ => 0)) x2.toNatClampNeg) S' → post 1 S') : C_add mc ms x1 x2 S post := by
  apply C_add_ok
  intro T29 T77 r29 r77
  unfold C_add_w0 C_add_w24
  have hP := ha.1
  have hg := isLs_good hD hL
  have hl := hg.1
  refine ⟨mc, ms, by omega, by omega, c_least ha hD hL hI hb (fun S0 g1 g2 g3 => c_isIn ?_)⟩
  have n8 := g1.2.1.2.2.2.2.2.2.2.2.1
  by_cases i1 : inN x1 Ls.length
  · rw [if_pos ((inN_iff (by omega)).mpr i1)]
    refine ⟨fun c => absurd c (by decide), fun _ => c_isIn ?_⟩
    by_cases i2 : inN x2 101
    · rw [if_pos (in100.mpr i2)]
      have h1 := h1 i1 i2
      have h2 := h2 i1 i2
      obtain ⟨k, hk, rfl⟩ := i1
      obtain ⟨n, hn, rfl⟩ := i2
      rw [nI_clamp (by omega), nI_clamp (by omega), getD_at hk] at h1 h2
      have hu := hg.2.1 _ (List.getElem_mem hk)
      obtain ⟨q, q1, q2⟩ := g3 k hk
      refine ⟨fun _ => ?_, fun c => absurd c (by decide)⟩
      have e7 : (7 : Int32) * nI (aP a) = nI (7 * aP a) := by simp (disch := omega) only [n0, n1, n2, n3, n4, n5, n6, n7, n8, n9, n10, n11, n12, n14, n16, n18, n21, n22, n36, n48, n63, n100, n108, n400, n1000, pk_mul, nI_add, pk_div, nI_subm, nI_ltE, nI_leE, nI_eqE, nI_clamp, vp_inE, nIm1, nIm1', nIm1n, nIm1n', nI_addn]
      have K77 : addOk a Ls[k] n → ∀ i, i ≤ 7 * aP a → ∀ S', poolE S0 S' → (∀ j, kF S' j = kF S0 j) → kGl S' = kGl S0 → (∀ j, j < i → kI S' 13 j = nI (aS a j + n * Ls[k] j)) → (∀ j, i ≤ j → j < 21 → kI S' 13 j = nI (aS a j)) → T77 (nI k) (nI n) (nI i) (0 + mc) (0 + ms) S' := by
        intro hok
        refine loopUp (P := fun i => ∀ S', poolE S0 S' → (∀ j, kF S' j = kF S0 j) → kGl S' = kGl S0 → (∀ j, j < i → kI S' 13 j = nI (aS a j + n * Ls[k] j)) → (∀ j, i ≤ j → j < 21 → kI S' 13 j = nI (aS a j)) → T77 (nI k) (nI n) (nI i) (0 + mc) (0 + ms) S') (7 * aP a) (fun i hi ih S' b1 b2 b3 b4 b5 => ?_)
        apply r77
        unfold C_add_w77
        have e8 := b1.1 _ g1.2.1.2.1.1
        have q2' := rowC_pool g1.2.1 b1 q2
        rw [b2 1, g1.1.1, e7, b1.2, e8.2.2.2.1, e8.2.2.2.2.2.1, nI_leE (by omega) (by omega), nI_clamp (by omega), nI_clamp (by omega), vp_inE (by omega) (by omega), vp_inE (by omega) (by omega), show (nI i : Int32) + 1 = nI (i + 1) from nI_add i 1]
        refine ⟨fun c => h2 hok S' (CI_sheet g1 b1 b2 b3 (fun j hj => ?_)), fun c => ⟨by omega, poolE_pk b1 g1.2.1.2.1, by omega, q, q1, q2'.1, by rw [q2'.2.1, vp_inE (by omega) (by omega)]; omega, by omega, ?_⟩⟩
        · unfold shA
          by_cases c : j < 7 * aP a
          · rw [if_pos c]; exact b4 j (by omega)
          · rw [if_neg c]; exact b5 j (by omega) hj
        · rw [b5 i (Nat.le_refl _) (by omega), q2'.2.2.1 i (by omega), lI_toI, pk_mul, nI_add]
          refine ih (by omega) _ (poolE_tI b1) b2 b3 (fun j hj => ?_) (fun j hj1 hj2 => by rw [kI_tI, if_neg (by omega)]; exact b5 j (by omega) hj2)
          rw [kI_tI]
          by_cases c : j = i
          · rw [if_pos ⟨rfl, c⟩, c]
          · rw [if_neg (fun z => c z.2)]; exact b4 j (by omega)
      suffices K29 : ∀ i, i ≤ 7 * aP a → (∀ j, j < i → aS a j + n * Ls[k] j ≤ 1000) → T29 (nI k) (nI n) (nI i) (0 + mc) (0 + ms) S0 from K29 0 (by omega) (fun j hj => absurd hj (Nat.not_lt_zero _))
      refine loopUp (P := fun i => (∀ j, j < i → aS a j + n * Ls[k] j ≤ 1000) → T29 (nI k) (nI n) (nI i) (0 + mc) (0 + ms) S0) (7 * aP a) (fun i hi ih hj => ?_)
      apply r29
      unfold C_add_w29
      rw [g1.1.1, e7, nI_leE (by omega) (by omega), nI_clamp (by omega), nI_clamp (by omega), vp_inE (by omega) (by omega), vp_inE (by omega) (by omega), show (nI i : Int32) + 1 = nI (i + 1) from nI_add i 1]
      refine ⟨fun c => K77 (fun j hj2 => hj j (by omega)) 0 (by omega) S0 poolE_rf (fun _ => rfl) rfl (fun j hj2 => absurd hj2 (Nat.not_lt_zero _)) (fun j _ hj2 => g1.1.2.2 j hj2), fun c => ⟨by omega, g1.2.1.2.1, by omega, q, q1, q2.1, by rw [q2.2.1, vp_inE (by omega) (by omega)]; omega, ?_⟩⟩
      have hs := ha.2.2.1 i
      have hm := Nat.mul_le_mul (show n ≤ 100 by omega) (hu.2.2.2 i)
      rw [g1.1.2.2 i (by omega), q2.2.2.1 i (by omega), nI_toL (by omega), nI_toL (by omega), lI_mul, lI_add, show (1000 : Int64) = lI 1000 from rfl, lI_leE (by omega) (by omega)]
      refine ⟨fun c => ih (by omega) (fun j hj2 => ?_), fun c => h1 (fun z => c (z i (by omega))) S0 g1⟩
      by_cases c2 : j = i
      · rw [c2]; exact c
      · exact hj j (by omega)
    · rw [if_neg (fun q => i2 (in100.mp q))]
      exact ⟨fun c => absurd rfl c, fun _ => h0 (fun k => i2 k.2) S0 g1⟩
  · rw [if_neg (fun q => i1 ((inN_iff (by omega)).mp q))]
    exact ⟨fun _ => h0 (fun k => i1 k.1) S0 g1, fun c => absurd rfl c⟩
