/-! the component: pointsOf, arcsOf, part -/
/-- the first j sorts' points on an edge, of part k -/
def ptG (a : Ab) (k x n : Nat) : Nat := sumN (fun i => if mts i (x % 6) = true then nk a k (7 * (x / 6) + i) else 0) n
theorem nk_le {a : Ab} (ha : AWf a) (k j : Nat) : nk a k j ≤ 1000 := by
  have h1 := ha.2.2.1 j
  have : nk a k j ≤ 1 * aS a j := sumN_ub 1 _ (fun i _ => by unfold inK; split <;> omega)
  omega
theorem c_pointsOf {κ : Prop} {a : Ab} (ha : AWf a) (hfit : fitA a) {L : Lb} (hl : labs a L) (hn : cf a (7 * aP a) ≤ 400) {S : CS} (hI : CI κ a S) (hB : hasB S a) (hF : foundC S a (cf a (7 * aP a))) {k : Nat} (hk : k < 400) {post : Int32 → CS → Prop} (h : ∀ S', CI κ a S' → hasB S' a → foundC S' a (cf a (7 * aP a)) → post (nI (sumN (fun x => if eL L x = x then ptF a k x else 0) (6 * aP a))) S') : C_pointsOf (nI k) S post := by
  apply C_pointsOf_ok
  intro T13 T62 T133 r13 r62 r133
  have hP := ha.1
  have l3 := lab3 ha hl
  have hm := cnL_le (eL L) (6 * aP a)
  unfold C_pointsOf_w0
  refine c_findS3 ha l3 (fun x y => lk3_sy ha) hI (fun S1 f1 f2 f3 => ?_)
  have hI1 := CI_ext hI f1.1
  have hB1 : hasB S1 a := fun i hi => by rw [f1.2.1 14 i (by decide)]; exact hB i hi
  have hF1 : foundC S1 a (cf a (7 * aP a)) := ⟨fun j hj => by rw [f1.2.1 15 j (by decide)]; exact hF.1 j hj, fun j hj hv => by rw [f1.2.1 16 j (by decide)]; exact hF.2.1 j hj hv, fun j hj => by rw [f1.2.1 18 j (by decide)]; exact hF.2.2 j hj⟩
  have h := h S1 hI1 hB1 hF1
  suffices K13 : ∀ e, e ≤ cnL (eL L) (6 * aP a) → T13 (nI k) (nI (sumN (fun e => ptF a k (fsN (eL L) (6 * aP a) e)) e)) (nI (cnL (eL L) (6 * aP a))) (nI e) S1 from K13 0 (by omega)
  refine loopUp (P := fun e => T13 (nI k) (nI (sumN (fun e => ptF a k (fsN (eL L) (6 * aP a) e)) e)) (nI (cnL (eL L) (6 * aP a))) (nI e) S1) (cnL (eL L) (6 * aP a)) (fun e he ih => ?_)
  apply r13
  unfold C_pointsOf_w13
  rw [nI_leE (by omega) (by omega)]
  refine ⟨fun q => ?_, fun q => ?_⟩
  · rw [show e = cnL (eL L) (6 * aP a) by omega, fsN_sum (eL L) (6 * aP a) (ptF a k) (6 * aP a) (Nat.le_refl _)]
    exact h
  · obtain ⟨k1, k2, k3⟩ := fsN_spec (show e < cnL (eL L) (6 * aP a) by omega)
    have ih := ih (by omega)
    have ih : T13 (nI k) (nI (sumN (fun e => ptF a k (fsN (eL L) (6 * aP a) e)) e + ptF a k (fsN (eL L) (6 * aP a) e))) (nI (cnL (eL L) (6 * aP a))) (nI (e + 1)) S1 := ih
    generalize hz : fsN (eL L) (6 * aP a) e = z at k1 k2 k3 ih
    generalize hb : sumN (fun e => ptF a k (fsN (eL L) (6 * aP a) e)) e = base at ih
    have call := c_firstS3 (k := z) f2 (by omega) (lab_le l3) k1 k2 (post := fun r1 S1 => (vp_in (r1 - r1 / 6 * 6) 6 ∧ (vp_in (r1 - r1 / 6 * 6) 6 ∧ T62 (nI k) (nI base) (nI (cnL (eL L) (6 * aP a))) (nI e) (r1 / 6) (lowF ((r1 - r1 / 6 * 6)).toNatClampNeg) (highF ((r1 - r1 / 6 * 6)).toNatClampNeg) 0 S1))) ?_
    · rw [k3] at call
      exact call
    · have e1 : nI z - nI z / 6 * 6 = nI (z % 6) := by
        simp (disch := omega) only [n0, n1, n2, n3, n4, n5, n6, n7, n8, n9, n10, n11, n12, n14, n16, n18, n21, n22, n36, n48, n63, n100, n108, n400, n1000, pk_mul, nI_add, pk_div, nI_subm, nI_ltE, nI_leE, nI_eqE, nI_clamp, vp_inE, nIm1, nIm1', nIm1n, nIm1n', nI_addn]
        rw [show z - z / 6 * 6 = z % 6 by omega]
      have e2 : nI z / 6 = nI (z / 6) := by simp (disch := omega) only [n0, n1, n2, n3, n4, n5, n6, n7, n8, n9, n10, n11, n12, n14, n16, n18, n21, n22, n36, n48, n63, n100, n108, n400, n1000, pk_mul, nI_add, pk_div, nI_subm, nI_ltE, nI_leE, nI_eqE, nI_clamp, vp_inE, nIm1, nIm1', nIm1n, nIm1n', nI_addn]
      obtain ⟨q1, q2⟩ := lowF_nI (z % 6) (by omega)
      have l := eFT_lt (z % 6)
      rw [e1, e2, nI_clamp (by omega), q1, q2, vp_inE (by omega) (by omega)]
      refine ⟨by omega, by omega, ?_⟩
      have hkd := kindN_lt l.1 l.2 (eFT_ne _ (by omega))
      have ih : T13 (nI k) (nI (base + ptG a k z 7)) (nI (cnL (eL L) (6 * aP a))) (nI (e + 1)) S1 := ih
      refine loopUp (P := fun i => T62 (nI k) (nI (base + ptG a k z i)) (nI (cnL (eL L) (6 * aP a))) (nI e) (nI (z / 6)) (nI (eFrom (z % 6))) (nI (eTo (z % 6))) (nI i) S1) 7 (fun i hi ihi => ?_) 0 (by omega)
      apply r62
      unfold C_pointsOf_w62 C_pointsOf_w89
      rw [show (7 : Int32) = nI 7 from rfl, nI_leE (by omega) (by omega), show (nI e : Int32) + 1 = nI (e + 1) from nI_add e 1]
      refine ⟨fun y => by rw [show i = 7 by omega]; exact ih, fun y => ?_⟩
      have ihi := ihi (by omega)
      have ihi : T62 (nI k) (nI (base + (ptG a k z i + (if mts i (z % 6) = true then nk a k (7 * (z / 6) + i) else 0)))) (nI (cnL (eL L) (6 * aP a))) (nI e) (nI (z / 6)) (nI (eFrom (z % 6))) (nI (eTo (z % 6))) (nI (i + 1)) S1 := ihi
      rw [← Nat.add_assoc] at ihi
      generalize hb2 : base + ptG a k z i = b2 at ihi ⊢
      have ei : (7 : Int32) * nI (z / 6) + nI i = nI (7 * (z / 6) + i) := by simp (disch := omega) only [n0, n1, n2, n3, n4, n5, n6, n7, n8, n9, n10, n11, n12, n14, n16, n18, n21, n22, n36, n48, n63, n100, n108, n400, n1000, pk_mul, nI_add, pk_div, nI_subm, nI_ltE, nI_leE, nI_eqE, nI_clamp, vp_inE, nIm1, nIm1', nIm1n, nIm1n', nI_addn]
      have hj : 7 * (z / 6) + i < 7 * aP a := by omega
      have W : ∀ m : Bool, m = mts i (z % 6) → C_pointsOf_w116 post T13 T62 T133 (zB m) (nI k) (nI b2) (nI (cnL (eL L) (6 * aP a))) (nI e) (nI (z / 6)) (nI (eFrom (z % 6))) (nI (eTo (z % 6))) (nI i) S1 := by
        intro m hmm
        rw [← hmm] at ihi
        unfold C_pointsOf_w116
        have mo := cf_mono a (show 7 * (z / 6) + i + 1 ≤ 7 * aP a by omega)
        have es := cf_s a (7 * (z / 6) + i)
        rw [ei, vp_inE (by omega) (by omega), nI_clamp (by omega), hB1 _ (by omega)]
        refine ⟨by omega, ?_⟩
        cases m with
        | false =>
          have ihi : T62 (nI k) (nI b2) (nI (cnL (eL L) (6 * aP a))) (nI e) (nI (z / 6)) (nI (eFrom (z % 6))) (nI (eTo (z % 6))) (nI (i + 1)) S1 := ihi
          apply r133
          unfold C_pointsOf_w133 C_pointsOf_w183
          rw [ei, show (nI (7 * (z / 6) + i) : Int32) + 1 = nI (7 * (z / 6) + i + 1) from nI_add _ 1, vp_inE (by omega) (by omega), show (nI i : Int32) + 1 = nI (i + 1) from nI_add i 1]
          exact ⟨by omega, fun _ => ihi, fun _ => ⟨fun _ => ihi, fun c => absurd rfl c⟩⟩
        | true =>
          have ihi : T62 (nI k) (nI (b2 + nk a k (7 * (z / 6) + i))) (nI (cnL (eL L) (6 * aP a))) (nI e) (nI (z / 6)) (nI (eFrom (z % 6))) (nI (eTo (z % 6))) (nI (i + 1)) S1 := ihi
          refine loopUp (P := fun x => T133 (nI k) (nI (b2 + sumN (fun i' => inK a k (cf a (7 * (z / 6) + i) + i')) x)) (nI (cnL (eL L) (6 * aP a))) (nI e) (nI (z / 6)) (nI (eFrom (z % 6))) (nI (eTo (z % 6))) (nI i) 1 (nI (cf a (7 * (z / 6) + i) + x)) S1) (aS a (7 * (z / 6) + i)) (fun x hx ihx => ?_) 0 (by omega)
          apply r133
          unfold C_pointsOf_w133 C_pointsOf_w183 C_pointsOf_w175
          rw [ei, show (nI (7 * (z / 6) + i) : Int32) + 1 = nI (7 * (z / 6) + i + 1) from nI_add _ 1, vp_inE (by omega) (by omega), show (nI i : Int32) + 1 = nI (i + 1) from nI_add i 1, nI_clamp (n := 7 * (z / 6) + i + 1) (by omega), hB1 _ (by omega), nI_leE (by omega) (by omega), nI_clamp (by omega), vp_inE (by omega) (by omega), show (nI (cf a (7 * (z / 6) + i) + x) : Int32) + 1 = nI (cf a (7 * (z / 6) + i) + (x + 1)) from nI_add _ 1]
          refine ⟨by omega, fun c => by rw [show x = aS a (7 * (z / 6) + i) by omega]; exact ihi, fun c => ⟨fun c2 => absurd c2 (by decide), fun _ => ⟨by omega, ?_⟩⟩⟩
          have ihx := ihx (by omega)
          have ihx : T133 (nI k) (nI (b2 + (sumN (fun i' => inK a k (cf a (7 * (z / 6) + i) + i')) x + inK a k (cf a (7 * (z / 6) + i) + x)))) (nI (cnL (eL L) (6 * aP a))) (nI e) (nI (z / 6)) (nI (eFrom (z % 6))) (nI (eTo (z % 6))) (nI i) 1 (nI (cf a (7 * (z / 6) + i) + (x + 1))) S1 := ihx
          rw [← Nat.add_assoc, ← nI_add] at ihx
          rw [hF1.1 _ (by omega), glN_some (fun v hv => (fpF_ok ha hfit hn _ (Nat.le_refl _)).1 _ v hv) hk]
          unfold inK at ihx
          refine ⟨fun c3 => ?_, fun c3 => ?_⟩
          · rw [if_neg c3] at ihx; exact ihx
          · rw [if_pos c3] at ihx; exact ihx
      have M : mts i (z % 6) = if i < 4 then (eFrom (z % 6) == i || eTo (z % 6) == i) else !(kindN (eFrom (z % 6)) (eTo (z % 6)) == i - 4) := rfl
      rw [show (4 : Int32) = nI 4 from rfl, nI_leE (by omega) (by omega), nI_eqE (by omega) (by omega), nI_eqE (by omega) (by omega)]
      refine ⟨fun c => c_kindOf l.1 l.2 (eFT_ne _ (by omega)) ?_, fun c => ?_⟩
      · rw [if_neg (by omega)] at M
        rw [nI_subm (by omega), nI_eqE (by omega) (by omega)]
        refine ⟨fun c2 => W false ?_, fun c2 => W true ?_⟩
        · rw [M, c2]; simp
        · rw [M]; simpa using fun e => c2 e.symm
      · rw [if_pos (by omega)] at M
        refine ⟨fun c2 => W true ?_, fun c2 => ⟨fun c3 => W false ?_, fun c3 => W true ?_⟩⟩
        · rw [M, c2]; simp
        · rw [M]
          have w1 : (eFrom (z % 6) == i) = false := by simpa using fun e => c2 e.symm
          have w2 : (eTo (z % 6) == i) = false := by simpa using fun e => c3 e.symm
          rw [w1, w2]; rfl
        · rw [M, c3]; simp
