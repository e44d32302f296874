/-! the component: euler, count -/
/-- the points of a cut's sorts on an edge -/
def pE (a : Ab) (k : Nat) : Nat := sumN (fun i => if mts i (k % 6) = true then aS a (7 * (k / 6) + i) else 0) 7
theorem pE_split (a : Ab) {k : Nat} : pE a k = (aS a (7 * (k / 6) + eFrom (k % 6)) + aS a (7 * (k / 6) + eTo (k % 6))) + sumN (fun j => if j = kindN (eFrom (k % 6)) (eTo (k % 6)) then 0 else aS a (7 * (k / 6) + 4 + j)) 3 := by
  unfold pE
  generalize k / 6 = p
  have h : k % 6 = 0 ∨ k % 6 = 1 ∨ k % 6 = 2 ∨ k % 6 = 3 ∨ k % 6 = 4 ∨ k % 6 = 5 := by omega
  rcases h with e | e | e | e | e | e <;> rw [e] <;> simp [sumN, mts, eFrom, eTo, kindN, Nat.add_assoc] <;> omega
theorem eu1s_pE (a : Ab) (L : Lb) (n : Nat) : eu1s a L n = sumN (fun x => if eL L x = x then pE a x else 0) n := by
  unfold eu1s
  refine sumN_eq n (fun k _ => ?_)
  by_cases c : eL L k = k
  · rw [if_pos c]
    unfold eu1 pE
    refine sumN_eq 7 (fun i _ => ?_)
    by_cases c2 : mts i (k % 6) = true
    · rw [if_pos ⟨c, c2⟩, if_pos c2]
    · rw [if_neg (fun q => c2 q.2), if_neg c2]
  · rw [if_neg c]; exact eu1_none c 7
theorem c_euler {κ : Prop} {a : Ab} (ha : AWf a) {L : Lb} (hl : labs a L) {S : CS} (hI : CI κ a S) {post : Int32 → CS → Prop} (h0 : ¬ (fitA a ∧ oneKind (shSet a) (aP a)) → ∀ S', CI κ a S' → post (-2147483648) S') (h1 : fitA a → oneKind (shSet a) (aP a) → ∀ S', CI κ a S' → post (eulR a L) S') : C_euler S post := by
  apply C_euler_ok
  intro T28 T98 T146 T158 T190 T199 r28 r98 r146 r158 r190 r199
  have hP := ha.1
  unfold C_euler_w0
  refine c_legal ha hI (fun q => ⟨fun c => absurd c (by decide), fun _ => h0 (fun k => q k.1) S hI⟩) (fun q1 q2 => ⟨fun c => absurd c (by decide), fun _ => h0 (fun k => q2 k.2) S hI⟩) (fun q1 q2 => ⟨fun _ => ?_, fun c => absurd rfl c⟩)
  have l3 := lab3 ha hl
  have hm := cnL_le (eL L) (6 * aP a)
  refine c_findS3 ha l3 (fun x y => lk3_sy ha) hI (fun S1 f1 f2 f3 => ?_)
  have hI1 := CI_ext hI f1.1
  have h1 := h1 q1 q2 S1 hI1
  have K146 : ∀ p, p ≤ aP a → T146 (nI (eu1s a L (6 * aP a))) (nI (eu2s a (4 * p))) (nI (sumN (aS a) (7 * p))) (nI p) S1 := by
    refine loopUp (P := fun p => T146 (nI (eu1s a L (6 * aP a))) (nI (eu2s a (4 * p))) (nI (sumN (aS a) (7 * p))) (nI p) S1) (aP a) (fun p hp ih => ?_)
    apply r146
    unfold C_euler_w146
    rw [hI1.1.1, nI_leE (by omega) (by omega)]
    refine ⟨fun q => by rw [show p = aP a by omega]; exact h1, fun q => ?_⟩
    have ih := ih (by omega)
    have K190 : ∀ f, f ≤ 4 → T190 (nI (eu1s a L (6 * aP a))) (nI (eu2s a (4 * p + f))) (nI (sumN (aS a) (7 * (p + 1)))) (nI p) (nI f) S1 := by
      refine loopUp (P := fun f => T190 (nI (eu1s a L (6 * aP a))) (nI (eu2s a (4 * p + f))) (nI (sumN (aS a) (7 * (p + 1)))) (nI p) (nI f) S1) 4 (fun f hf ihf => ?_)
      apply r190
      unfold C_euler_w190
      rw [show (4 : Int32) = nI 4 from rfl, nI_leE (by omega) (by omega), show (nI p : Int32) + 1 = nI (p + 1) from nI_add p 1]
      refine ⟨fun q2 => by rw [show f = 4 by omega]; exact ih, fun q2 => ?_⟩
      have ihf := ihf (by omega)
      have ihf : T190 (nI (eu1s a L (6 * aP a))) (nI (eu2s a (4 * p + f) + eu2 a (4 * p + f) 4)) (nI (sumN (aS a) (7 * (p + 1)))) (nI p) (nI (f + 1)) S1 := ihf
      have e1 : (4 * p + f) / 4 = p := by omega
      have e2 : (4 * p + f) % 4 = f := by omega
      refine loopUp (P := fun c => T199 (nI (eu1s a L (6 * aP a))) (nI (eu2s a (4 * p + f) + eu2 a (4 * p + f) c)) (nI (sumN (aS a) (7 * (p + 1)))) (nI p) (nI f) (nI c) S1) 4 (fun c hc ihc => ?_) 0 (by omega)
      apply r199
      unfold C_euler_w199 C_euler_w238 C_euler_w246
      rw [show (4 : Int32) = nI 4 from rfl, nI_leE (by omega) (by omega), nI_eqE (by omega) (by omega), show (nI f : Int32) + 1 = nI (f + 1) from nI_add f 1, show (nI c : Int32) + 1 = nI (c + 1) from nI_add c 1]
      refine ⟨fun q3 => by rw [show c = 4 by omega]; exact ihf, fun q3 => c_isCounted ha hI1 (by omega) (by omega) (fun hcn => ⟨fun z => absurd z (by decide), fun _ => ?_⟩) (fun hcn => ⟨fun _ => ?_, fun z => absurd rfl z⟩)⟩
      · have ihc := ihc (by omega)
        have ihc : T199 (nI (eu1s a L (6 * aP a))) (nI (eu2s a (4 * p + f) + (eu2 a (4 * p + f) c + (if c ≠ (4 * p + f) % 4 ∧ cnd a (4 * p + f) = 1 then arcN a ((4 * p + f) / 4) ((4 * p + f) % 4) c else 0)))) (nI (sumN (aS a) (7 * (p + 1)))) (nI p) (nI f) (nI (c + 1)) S1 := ihc
        rw [e1, e2, ← Nat.add_assoc, ← nI_add] at ihc
        refine ⟨fun z => ?_, fun z => ?_⟩
        · rw [if_pos ⟨z, hcn⟩] at ihc
          exact c_arcs hI1 (by omega) (by omega) (by omega) z ihc
        · rw [if_neg (fun y => y.1 z)] at ihc
          exact ihc
      · have z0 : ∀ n, eu2 a (4 * p + f) n = 0 := fun n => sumN_zero n (fun k _ => if_neg (fun y => by have := y.2; omega))
        rw [z0 4] at ihf
        rw [z0 c]
        exact ihf
    refine loopUp (P := fun i => T158 (nI (eu1s a L (6 * aP a))) (nI (eu2s a (4 * p))) (nI (sumN (aS a) (7 * p + i))) (nI p) (nI i) S1) 7 (fun i hi ihi => ?_) 0 (by omega)
    apply r158
    unfold C_euler_w158
    have ei : (7 : Int32) * nI p + nI i = nI (7 * p + i) := by simp (disch := omega) only [n0, n1, n2, n3, n4, n5, n6, n7, n8, n9, n10, n11, n12, n14, n16, n18, n21, n22, n36, n48, n63, n100, n108, n400, n1000, pk_mul, nI_add, pk_div, nI_subm, nI_ltE, nI_leE, nI_eqE, nI_clamp, vp_inE, nIm1, nIm1', nIm1n, nIm1n', nI_addn]
    rw [ei, show (7 : Int32) = nI 7 from rfl, nI_leE (by omega) (by omega), nI_clamp (by omega), vp_inE (by omega) (by omega), show (nI i : Int32) + 1 = nI (i + 1) from nI_add i 1]
    refine ⟨fun q2 => by rw [show 7 * p + i = 7 * (p + 1) by omega]; exact K190 0 (by omega), fun q2 => ⟨by omega, ?_⟩⟩
    rw [hI1.1.2.2 _ (by omega), nI_add]
    exact ihi (by omega)
  suffices K28 : ∀ e, e ≤ cnL (eL L) (6 * aP a) → T28 (nI (sumN (fun e => pE a (fsN (eL L) (6 * aP a) e)) e)) 0 0 (nI (cnL (eL L) (6 * aP a))) (nI e) S1 from K28 0 (by omega)
  refine loopUp (P := fun e => T28 (nI (sumN (fun e => pE a (fsN (eL L) (6 * aP a) e)) e)) 0 0 (nI (cnL (eL L) (6 * aP a))) (nI e) S1) (cnL (eL L) (6 * aP a)) (fun e he ih => ?_)
  apply r28
  unfold C_euler_w28
  rw [nI_leE (by omega) (by omega)]
  refine ⟨fun q => ?_, fun q => ?_⟩
  · rw [show e = cnL (eL L) (6 * aP a) by omega, fsN_sum (eL L) (6 * aP a) (pE a) (6 * aP a) (Nat.le_refl _), ← eu1s_pE]
    exact K146 0 (by omega)
  · obtain ⟨k1, k2, k3⟩ := fsN_spec (show e < cnL (eL L) (6 * aP a) by omega)
    have ih := ih (by omega)
    have ih : T28 (nI (sumN (fun e => pE a (fsN (eL L) (6 * aP a) e)) e + pE a (fsN (eL L) (6 * aP a) e))) 0 0 (nI (cnL (eL L) (6 * aP a))) (nI (e + 1)) S1 := ih
    generalize hz : fsN (eL L) (6 * aP a) e = z at k1 k2 k3 ih
    have call := c_firstS3 (k := z) f2 (by omega) (lab_le l3) k1 k2 (post := fun r1 S1 => (vp_in (r1 - r1 / 6 * 6) 6 ∧ (vp_in (r1 - r1 / 6 * 6) 6 ∧ C_threes (r1 / 6) (lowF ((r1 - r1 / 6 * 6)).toNatClampNeg) S1 (fun r2 S2 => C_threes (r1 / 6) (highF ((r1 - r1 / 6 * 6)).toNatClampNeg) S2 (fun r3 S3 => T98 (nI (sumN (fun e => pE a (fsN (eL L) (6 * aP a) e)) e) + (r2 + r3)) 0 0 (nI (cnL (eL L) (6 * aP a))) (nI e) (lowF ((r1 - r1 / 6 * 6)).toNatClampNeg) (highF ((r1 - r1 / 6 * 6)).toNatClampNeg) (r1 / 6) 0 S3))))) ?_
    · rw [k3] at call
      exact call
    · have e1 : nI z - nI z / 6 * 6 = nI (z % 6) := by
        simp (disch := omega) only [n0, n1, n2, n3, n4, n5, n6, n7, n8, n9, n10, n11, n12, n14, n16, n18, n21, n22, n36, n48, n63, n100, n108, n400, n1000, pk_mul, nI_add, pk_div, nI_subm, nI_ltE, nI_leE, nI_eqE, nI_clamp, vp_inE, nIm1, nIm1', nIm1n, nIm1n', nI_addn]
        rw [show z - z / 6 * 6 = z % 6 by omega]
      have e2 : nI z / 6 = nI (z / 6) := by simp (disch := omega) only [n0, n1, n2, n3, n4, n5, n6, n7, n8, n9, n10, n11, n12, n14, n16, n18, n21, n22, n36, n48, n63, n100, n108, n400, n1000, pk_mul, nI_add, pk_div, nI_subm, nI_ltE, nI_leE, nI_eqE, nI_clamp, vp_inE, nIm1, nIm1', nIm1n, nIm1n', nI_addn]
      obtain ⟨q1, q2⟩ := lowF_nI (z % 6) (by omega)
      have l := eFT_lt (z % 6)
      rw [e1, e2, nI_clamp (by omega), q1, q2, vp_inE (by omega) (by omega)]
      refine ⟨by omega, by omega, c_threes hI1 (by omega) l.1 (c_threes hI1 (by omega) l.2 ?_)⟩
      rw [nI_add, nI_add]
      rw [pE_split, ← Nat.add_assoc] at ih
      have hk := kindN_lt l.1 l.2 (eFT_ne _ (by omega))
      refine loopUp (P := fun j => T98 (nI (sumN (fun e => pE a (fsN (eL L) (6 * aP a) e)) e + (aS a (7 * (z / 6) + eFrom (z % 6)) + aS a (7 * (z / 6) + eTo (z % 6))) + sumN (fun j => if j = kindN (eFrom (z % 6)) (eTo (z % 6)) then 0 else aS a (7 * (z / 6) + 4 + j)) j)) 0 0 (nI (cnL (eL L) (6 * aP a))) (nI e) (nI (eFrom (z % 6))) (nI (eTo (z % 6))) (nI (z / 6)) (nI j) S1) 3 (fun j hj ihj => ?_) 0 (by omega)
      apply r98
      unfold C_euler_w98 C_euler_w129
      rw [show (3 : Int32) = nI 3 from rfl, nI_leE (by omega) (by omega), show (nI e : Int32) + 1 = nI (e + 1) from nI_add e 1, show (nI j : Int32) + 1 = nI (j + 1) from nI_add j 1]
      refine ⟨fun y => by rw [show j = 3 by omega]; exact ih, fun y => c_kindOf l.1 l.2 (eFT_ne _ (by omega)) ?_⟩
      have ihj := ihj (by omega)
      have ihj : T98 (nI (sumN (fun e => pE a (fsN (eL L) (6 * aP a) e)) e + (aS a (7 * (z / 6) + eFrom (z % 6)) + aS a (7 * (z / 6) + eTo (z % 6))) + (sumN (fun j => if j = kindN (eFrom (z % 6)) (eTo (z % 6)) then 0 else aS a (7 * (z / 6) + 4 + j)) j + (if j = kindN (eFrom (z % 6)) (eTo (z % 6)) then 0 else aS a (7 * (z / 6) + 4 + j))))) 0 0 (nI (cnL (eL L) (6 * aP a))) (nI e) (nI (eFrom (z % 6))) (nI (eTo (z % 6))) (nI (z / 6)) (nI (j + 1)) S1 := ihj
      rw [← Nat.add_assoc, ← nI_add] at ihj
      rw [nI_eqE (by omega) (by omega)]
      refine ⟨fun y2 => ?_, fun y2 => ?_⟩
      · rw [if_neg y2] at ihj
        exact c_fours hI1 (by omega) (by omega) ihj
      · rw [if_pos y2] at ihj
        exact ihj
theorem c_count {κ : Prop} {a : Ab} (ha : AWf a) {L : Lb} (hl : labs a L) {S : CS} (hI : CI κ a S) {x : Int32} {post : Int32 → CS → Prop} (h0 : x = 0 → ∀ S', CI κ a S' → post (nI (aP a)) S') (h1 : x = 1 → ∀ S', CI κ a S' → post (nI (nC L (4 * aP a))) S') (h2 : x = 2 → ∀ S', CI κ a S' → post (nI (nE L (6 * aP a))) S') (h3 : x = 3 → ∀ S', CI κ a S' → post (nI (sumN (cnd a) (4 * aP a))) S') (h4 : x = 4 → ∀ S', CI κ a S' → post (nI (sumN (opi a) (4 * aP a))) S')
    (h5 : x = 5 → ∀ S', CI κ a S' → post (((nI (nC L (4 * aP a)) - nI (nE L (6 * aP a))) + nI (sumN (cnd a) (4 * aP a))) - nI (aP a)) S') (h6 : x = 6 → wholeP a L → ∀ S', CI κ a S' → post 1 S') (h6' : x = 6 → ¬ wholeP a L → ∀ S', CI κ a S' → post 0 S') (h7 : x = 7 → evenP a → ∀ S', CI κ a S' → post 1 S') (h7' : x = 7 → ¬ evenP a → ∀ S', CI κ a S' → post 0 S') (h8 : x = 8 → ∀ S', CI κ a S' → post (nI (nS L (aP a))) S')
    (h9 : ¬ x = 0 → ¬ x = 1 → ¬ x = 2 → ¬ x = 3 → ¬ x = 4 → ¬ x = 5 → ¬ x = 6 → ¬ x = 7 → ¬ x = 8 → ∀ S', CI κ a S' → post (-2147483648) S') : C_count x S post := by
  apply C_count_ok
  unfold C_count_VC C_count_w0 C_count_w131 C_count_w150 C_count_w151
  have hP := ha.1
  have sp := (side_pair ha).2
  have l3 := lab3 ha hl
  refine ⟨fun e => by rw [hI.1.1]; exact h0 e S hI, fun e => c_findS2 ha (lab2 ha hl) (sym2 ha) hI (fun S' f1 f2 f3 => h1 e S' (CI_ext hI f1.1)), fun e => c_findS3 ha l3 (fun x y => lk3_sy ha) hI (fun S' f1 f2 f3 => h2 e S' (CI_ext hI f1.1)), fun e => c_pairs ha hI (c_openOnes ha hI ?_), fun e => c_openOnes ha hI (h4 e S hI), fun e => c_findS2 ha (lab2 ha hl) (sym2 ha) hI (fun S' f1 f2 f3 => c_findS3 ha l3 (fun x y => lk3_sy ha) (CI_ext hI f1.1) (fun S2 g1 g2 g3 => ?_)), fun e => c_isWhole ha hl hI (fun w S' hI' => ⟨fun c => absurd c (by decide), fun _ => h6 e w S' hI'⟩) (fun w S' hI' => ⟨fun _ => h6' e w S' hI', fun c => absurd rfl c⟩), fun e => c_sets ha hl hI (fun S' b hI' hb hb2 => ?_), fun e => c_sets ha hl hI (fun S' b hI' hb hb2 => h8 e S' hI'), fun e0 e1 e2 e3 e4 e5 e6 e7 e8 => h9 e0 e1 e2 e3 e4 e5 e6 e7 e8 S hI⟩
  · rw [nI_add, Nat.add_comm, ← sp]
    exact h3 e S hI
  · have hI2 := CI_ext (CI_ext hI f1.1) g1.1
    refine c_pairs ha hI2 (c_openOnes ha hI2 ?_)
    rw [hI2.1.1]
    have := h5 e S2 hI2
    rw [sp, Nat.add_comm (sumN (opi a) (4 * aP a)), ← nI_add, ← Int32.add_assoc] at this
    exact this
  · have hn := nS_le L (aP a)
    rw [show (0 : Int32) = nI 0 from rfl, nI_ltE (by omega) (by omega), hb]
    refine ⟨fun c => absurd c (by omega), fun _ => ?_⟩
    cases eb : b with
    | true => exact ⟨fun c => absurd c (by decide), fun _ => h7 e (hb2.mp eb) S' hI'⟩
    | false => exact ⟨fun _ => h7' e (fun k => by have := hb2.mpr k; rw [eb] at this; exact absurd this (by decide)) S' hI', fun c => absurd rfl c⟩
