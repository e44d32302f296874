/-! the component: goAround -/
/-- only the long row q may differ -/
def oRw (q : Nat) (S S' : CS) : Prop := (∀ k, kF S' k = kF S k) ∧ kI S' = kI S ∧ kGl S' = kGl S ∧ kA S' = kA S ∧ kLP S' = kLP S ∧ kK S' = kK S ∧ kG S' = kG S ∧ kN S' = kN S ∧ kT S' = kT S ∧ kO S' = kO S ∧ ∀ p, p ≠ q → kR S' p = kR S p
theorem oRw_rf {q : Nat} {S : CS} : oRw q S S := ⟨fun _ => rfl, rfl, rfl, rfl, rfl, rfl, rfl, rfl, rfl, rfl, fun _ _ => rfl⟩
theorem oRw_tR {q j : Nat} {v : Int64} {S S' : CS} (h : oRw q S S') : oRw q S (tR S' q j v) := by
  obtain ⟨h1, h2, h3, h4, h5, h6, h7, h8, h9, h10, h11⟩ := h
  refine ⟨h1, h2, h3, h4, h5, h6, h7, h8, h9, h10, fun p hp => ?_⟩
  funext i
  rw [kR_tR, if_neg (fun z => hp z.1), h11 p hp]
theorem oRw_hol {q : Nat} {S S' : CS} (h : oRw q S S') {p : Nat} (hp : holC S p) : holC S' p := by
  unfold holC at *
  rw [h.2.2.2.1, h.2.2.2.2.2.2.2.2.2.1]
  exact hp
theorem oRw_pk {q : Nat} {S S' : CS} (h : oRw q S S') {p k : Nat} (hp : pk S p k) : pk S' p k := by
  unfold pk at *
  rw [h.2.2.2.2.1, h.2.2.2.2.2.1]
  exact hp
theorem c_goAround {κ : Prop} {a : Ab} (ha : AWf a) {S : CS} (hI : CI κ a S) {k q : Nat} (hk : k < 6 * aP a) (hq : holC S q) (hq3 : pk S q 3) (hq6 : kN S q = 6) {post : Int32 → CS → Prop} (h : ∀ S', CI κ a S' → oRw q S S' → ((lpF a k).1 = true → ∀ j, j < 6 → kR S' q j = lZ ((lpF a k).2 j)) → post (zB (lpF a k).1) S') : C_goAround (nI k) q S post := by
  apply C_goAround_ok
  intro T2 T46 T81 r2 r46 r81
  have hP := ha.1
  have hnp := prN_le ha
  obtain ⟨o1, o2, o3, o4⟩ := off_all (k % 6) (by omega)
  have l := eFT_lt (k % 6)
  have hx0 := begS_ok hk
  have K81 : ∀ n x r, stOk a x → endW a (begS k) n x → goF a (begS k) n x r = lpF a k → ∀ S', CI κ a S' → oRw q S S' → (∀ j, j < 6 → kR S' q j = lZ (r j)) → T81 q (nI (k / 6)) (nI (eFrom (k % 6))) (nI (eTo (k % 6))) (nI (offC (k % 6))) (nI x.2.2.2) (nI x.1) (nI x.2.1) (nI x.2.2.1) S' := by
    intro n
    induction n with
    | zero => intro x r _ he; exact absurd he id
    | succ n ih =>
      intro x r hx he hgo S' hI' g1 g4
      have hsd : sdS x < 4 * aP a := by have := hx.1; have := hx.2.2.2.1; unfold sdS; omega
      have sdef : sdS x = 4 * x.1 + x.2.2.2 := rfl
      have b1 := hx.1
      have b2 := hx.2.1
      have b3 := hx.2.2.1
      have b4 := hx.2.2.2.1
      have es4 : sdS x / 4 = x.1 := by omega
      have es5 : sdS x % 4 = x.2.2.2 := by omega
      apply r81
      unfold C_goAround_w81
      rw [nI_clamp (n := x.1) (by omega), nI_clamp (n := x.2.2.2) (by omega), vp_inE (by omega) (by omega), vp_inE (by omega) (by omega)]
      refine ⟨by omega, by omega, ?_⟩
      cases e : aG a (sdS x) with
      | none =>
        have hnn := CR_none hI'.1 hsd e
        rw [es4, es5] at hnn
        have hgo : (false, r) = lpF a k := by
          rw [← hgo]
          show _ = (match aG a (sdS x) with | none => (false, r) | some t => _)
          rw [e]
        have h := h S' hI' g1 (fun z => by rw [← hgo] at z; exact absurd z Bool.false_ne_true)
        rw [← hgo] at h
        exact ⟨fun g hg => absurd (hnn.symm.trans hg) (by simp), fun _ => h⟩
      | some t =>
        obtain ⟨g, w1, w2, w3, w4, w5, w6, w7⟩ := CR_some hI'.1 hsd e
        rw [es4, es5] at w1
        obtain ⟨t1, t2, t3, t4, hw⟩ := ha.2.1 _ t hsd e
        obtain ⟨y1, y2, y3, y4⟩ := nxS_ok ha hx e
        have c1l := (hw x.2.1 b2).1
        have c2l := (hw x.2.2.1 b3).1
        have hpx := pIx_lt ha hsd e
        have hst : stepS a x = some (nxS a x t) := by unfold stepS; rw [e]
        have hgo : (if nxS a x t = begS k then (true, addR r (pIx a (sdS x) t) (if sdS x < t then 1 else -1)) else goF a (begS k) n (nxS a x t) (addR r (pIx a (sdS x) t) (if sdS x < t then 1 else -1))) = lpF a k := by
          rw [← hgo]
          show _ = (match aG a (sdS x) with | none => (false, r) | some t => _)
          rw [e]
        refine ⟨fun g' hg => ?_, fun y => absurd (w1.symm.trans y) (by simp)⟩
        have eg : g' = g := by rw [w1] at hg; injection hg with hg; exact hg.symm
        subst eg
        have x1 : ((kG S' g').1 * 4 + (kG S' g').2.1 : Int32) = nI t := by
          rw [w3, w4, show (4 : Int32) = nI 4 from rfl, pk_mul, nI_add]
          congr 1
          omega
        have x2 : (nI x.1 * 4 + nI x.2.2.2 : Int32) = nI (sdS x) := by
          rw [show (4 : Int32) = nI 4 from rfl, pk_mul, nI_add]
          congr 1
          omega
        rw [x1, x2, nI_leE (by omega) (by omega)]
        have q3 : pk S' q 3 := oRw_pk g1 hq3
        have q6 : kN S' q = 6 := by rw [g1.2.2.2.2.2.2.2.1]; exact hq6
        have fin : ∀ (d : Int) (dl : Int64), dl = lZ d → d = (if sdS x < t then 1 else -1) → C_goAround_w153 post T2 T46 T81 dl (kR S' q (nI (pIx a (sdS x) t)).toNatClampNeg) (nI (pIx a (sdS x) t)) q q (nI (k / 6)) (nI (eFrom (k % 6))) (nI (eTo (k % 6))) (nI (offC (k % 6))) (nI x.2.1) (nI x.2.2.1) (some g') S' := by
          intro d dl hdl hd
          rw [← hd] at hgo
          rw [hdl]
          unfold C_goAround_w153
          have q6' : kN S' q = 6 := q6
          have hol := oRw_hol g1 hq
          have hv : kR S' q (pIx a (sdS x) t) + lZ d = lZ (addR r (pIx a (sdS x) t) d (pIx a (sdS x) t)) := by
            rw [g4 _ (by omega), lZ_add]
            unfold addR
            rw [if_pos rfl]
          rw [nI_clamp (n := pIx a (sdS x) t) (by omega), hv, q6', vp_inE (by omega) (by omega)]
          refine ⟨q3, by omega, ?_⟩
          have hI2 : CI κ a (tR S' q (pIx a (sdS x) t) (lZ (addR r (pIx a (sdS x) t) d (pIx a (sdS x) t)))) := CI_tR hI' hol
          have g1' : oRw q S (tR S' q (pIx a (sdS x) t) (lZ (addR r (pIx a (sdS x) t) d (pIx a (sdS x) t)))) := oRw_tR g1
          have g4' : ∀ j, j < 6 → kR (tR S' q (pIx a (sdS x) t) (lZ (addR r (pIx a (sdS x) t) d (pIx a (sdS x) t)))) q j = lZ (addR r (pIx a (sdS x) t) d j) := fun j hj => by
            rw [kR_tR]
            by_cases c : j = pIx a (sdS x) t
            · rw [if_pos ⟨rfl, c⟩, c]
            · rw [if_neg (fun z => c z.2), g4 j hj]
              unfold addR
              rw [if_neg c, Int.add_zero]
          generalize hS2 : tR S' q (pIx a (sdS x) t) (lZ (addR r (pIx a (sdS x) t) d (pIx a (sdS x) t))) = S2 at hI2 g1' g4'
          have kg : kG S2 = kG S' := by rw [← hS2]; rfl
          have kt : kT S2 = kT S' := by rw [← hS2]; rfl
          have kn : kN S2 = kN S' := by rw [← hS2]; rfl
          have p2 : pk S2 g' 0 := by rw [← hS2]; exact w2
          have p5 : pk S2 (kG S' g').2.2 1 := by rw [← hS2]; exact w5
          dsimp only
          rw [kg, kt, kn]
          refine ⟨g', rfl, p2, p5, by rw [w6, vp_inE (by omega) (by omega)]; omega, g', rfl, p2, p5, by rw [w6, vp_inE (by omega) (by omega)]; omega, g', rfl, p2, g', rfl, p2, ?_⟩
          rw [nI_clamp (n := x.2.1) (by omega), nI_clamp (n := x.2.2.1) (by omega), w7 _ b2, w7 _ b3, w3, w4]
          have y2' : (nxS a x t).2.2.2 = 6 - aW a (sdS x) x.2.1 - aW a (sdS x) x.2.2.1 - t % 4 := rfl
          have ef : ((6 : Int32) - nI (aW a (sdS x) x.2.1)) - nI (aW a (sdS x) x.2.2.1) - nI (t % 4) = nI (nxS a x t).2.2.2 := by
            rw [y2', show (6 : Int32) = nI 6 from rfl, nI_subm (by omega), nI_subm (by omega), nI_subm (by omega)]
          have yl := y1.2.2.2.1
          rw [ef, nI_eqE (by omega) (by omega), nI_eqE (by omega) (by omega), nI_eqE (by omega) (by omega), nI_eqE (by omega) (by omega)]
          have nxd : nxS a x t = (t / 4, aW a (sdS x) x.2.1, aW a (sdS x) x.2.2.1, (nxS a x t).2.2.2) := rfl
          have go : ¬ nxS a x t = begS k → T81 q (nI (k / 6)) (nI (eFrom (k % 6))) (nI (eTo (k % 6))) (nI (offC (k % 6))) (nI (nxS a x t).2.2.2) (nI (t / 4)) (nI (aW a (sdS x) x.2.1)) (nI (aW a (sdS x) x.2.2.1)) S2 := by
            intro hn
            rw [if_neg hn] at hgo
            rcases he _ hst with z | z
            · exact absurd z hn
            · exact ih (nxS a x t) _ y1 z hgo _ hI2 g1' g4'
          refine ⟨fun c => go (fun z => c ?_), fun c => ⟨fun c2 => go (fun z => c2 ?_), fun c2 => ⟨fun c3 => go (fun z => c3 ?_), fun c3 => ⟨fun c4 => go (fun z => c4 ?_), fun c4 => ?_⟩⟩⟩⟩
          · exact congrArg (fun v : St => v.1) z
          · exact congrArg (fun v : St => v.2.1) z
          · exact congrArg (fun v : St => v.2.2.1) z
          · exact congrArg (fun v : St => v.2.2.2) z
          · have hyes : nxS a x t = begS k := by
              rw [nxd, c, c2, c3, c4]
              rfl
            rw [if_pos hyes] at hgo
            have h := h S2 hI2 g1' (fun _ => by rw [← hgo]; exact g4')
            rw [← hgo] at h
            exact h
        unfold C_goAround_w128
        have call : ∀ v0 : Int32, (v0 = if t ≤ sdS x then 0 else 1) → C_pairOf (nI x.1) (nI x.2.2.2) S' (fun r1 S1 => (pk S1 q 3 ∧ vp_in r1 (kN S1 q) ∧ ((v0 = 0 → C_goAround_w153 post T2 T46 T81 (-1) (kR S1 q r1.toNatClampNeg) r1 q q (nI (k / 6)) (nI (eFrom (k % 6))) (nI (eTo (k % 6))) (nI (offC (k % 6))) (nI x.2.1) (nI x.2.2.1) (some g') S1) ∧ (¬ v0 = 0 → C_goAround_w153 post T2 T46 T81 1 (kR S1 q r1.toNatClampNeg) r1 q q (nI (k / 6)) (nI (eFrom (k % 6))) (nI (eTo (k % 6))) (nI (offC (k % 6))) (nI x.2.1) (nI x.2.2.1) (some g') S1)))) := by
          intro v0 hv0
          have cl := c_pairOf ha hI' hsd e (post := (fun r1 S1 => (pk S1 q 3 ∧ vp_in r1 (kN S1 q) ∧ ((v0 = 0 → C_goAround_w153 post T2 T46 T81 (-1) (kR S1 q r1.toNatClampNeg) r1 q q (nI (k / 6)) (nI (eFrom (k % 6))) (nI (eTo (k % 6))) (nI (offC (k % 6))) (nI x.2.1) (nI x.2.2.1) (some g') S1) ∧ (¬ v0 = 0 → C_goAround_w153 post T2 T46 T81 1 (kR S1 q r1.toNatClampNeg) r1 q q (nI (k / 6)) (nI (eFrom (k % 6))) (nI (eTo (k % 6))) (nI (offC (k % 6))) (nI x.2.1) (nI x.2.2.1) (some g') S1))))) (by
            rw [q6]
            refine ⟨q3, by rw [vp_inE (by omega) (by omega)]; omega, fun z => fin (-1) (-1) (by decide) ?_, fun z => fin 1 1 (by decide) ?_⟩
            · by_cases c : t ≤ sdS x
              · rw [if_neg (by omega)]
              · rw [if_neg c] at hv0; rw [hv0] at z; exact absurd z (by decide)
            · by_cases c : t ≤ sdS x
              · rw [if_pos c] at hv0; exact absurd hv0 z
              · rw [if_pos (by omega)])
          rw [es4, es5] at cl
          exact cl
        exact ⟨w2, w2, fun c => call 0 (by rw [if_pos c]), fun c => call 1 (by rw [if_neg c])⟩
  have em : nI k - nI k / 6 * 6 = nI (k % 6) := by
    simp (disch := omega) only [n0, n1, n2, n3, n4, n5, n6, n7, n8, n9, n10, n11, n12, n14, n16, n18, n21, n22, n36, n48, n63, n100, n108, n400, n1000, pk_mul, nI_add, pk_div, nI_subm, nI_ltE, nI_leE, nI_eqE, nI_clamp, vp_inE, nIm1, nIm1', nIm1n, nIm1n', nI_addn]
    rw [show k - k / 6 * 6 = k % 6 by omega]
  have ed : nI k / 6 = nI (k / 6) := by simp (disch := omega) only [n0, n1, n2, n3, n4, n5, n6, n7, n8, n9, n10, n11, n12, n14, n16, n18, n21, n22, n36, n48, n63, n100, n108, n400, n1000, pk_mul, nI_add, pk_div, nI_subm, nI_ltE, nI_leE, nI_eqE, nI_clamp, vp_inE, nIm1, nIm1', nIm1n, nIm1n', nI_addn]
  obtain ⟨q1, q2⟩ := lowF_nI (k % 6) (by omega)
  have K46 : ∀ S', CI κ a S' → oRw q S S' → (∀ j, j < 6 → kR S' q j = lZ 0) → ∀ j, j ≤ offC (k % 6) → T46 q (nI (k / 6)) (nI (eFrom (k % 6))) (nI (eTo (k % 6))) (nI j) S' := by
    intro S' g0 g1 g2
    refine loopUp (P := fun j => T46 q (nI (k / 6)) (nI (eFrom (k % 6))) (nI (eTo (k % 6))) (nI j) S') (offC (k % 6)) (fun j hj ih => ?_)
    apply r46
    unfold C_goAround_w46 C_goAround_w60
    rw [nI_eqE (by omega) (by omega), nI_eqE (by omega) (by omega), show (nI j : Int32) + 1 = nI (j + 1) from nI_add j 1]
    refine ⟨fun c => ih ?_, fun c => ⟨fun c2 => ?_, fun c2 => ih ?_⟩⟩
    · rcases Nat.lt_or_ge j (offC (k % 6)) with z | z
      · exact z
      · exact absurd (by omega) o2
    · have e : j = offC (k % 6) := by
        rcases Nat.lt_or_ge j (offC (k % 6)) with z | z
        · rcases o4 j (by omega) z with y | y
          · exact absurd y c
          · exact absurd y c2
        · omega
      rw [e]
      exact K81 200 (begS k) (fun _ => 0) hx0 (walk_ends ha hx0) rfl S' g0 g1 (fun i hi => g2 i hi)
    · rcases Nat.lt_or_ge j (offC (k % 6)) with z | z
      · exact z
      · exact absurd (by omega) o3
  unfold C_goAround_w0
  suffices K2 : ∀ j, j ≤ 6 → ∀ S', CI κ a S' → oRw q S S' → (∀ i, i < j → kR S' q i = lZ 0) → T2 (nI k) q (nI j) S' from K2 0 (by omega) S hI oRw_rf (fun i hi => absurd hi (Nat.not_lt_zero _))
  refine loopUp (P := fun j => ∀ S', CI κ a S' → oRw q S S' → (∀ i, i < j → kR S' q i = lZ 0) → T2 (nI k) q (nI j) S') 6 (fun j hj ih S' g0 g1 g2 => ?_)
  apply r2
  unfold C_goAround_w2
  have q6 : kN S' q = 6 := by rw [g1.2.2.2.2.2.2.2.1]; exact hq6
  rw [em, ed, nI_clamp (n := k % 6) (by omega), q1, q2, q6, vp_inE (by omega) (by omega), vp_inE (by omega) (by omega), show (6 : Int32) = nI 6 from rfl, nI_leE (by omega) (by omega), nI_clamp (n := j) (by omega), show (nI j : Int32) + 1 = nI (j + 1) from nI_add j 1]
  refine ⟨fun c => ⟨by omega, by omega, K46 S' g0 g1 (fun i hi => g2 i (by omega)) 0 (by omega)⟩, fun c => ⟨oRw_pk g1 hq3, by omega, ih (by omega) _ (CI_tR g0 (oRw_hol g1 hq)) (oRw_tR g1) (fun i hi => ?_)⟩⟩
  rw [kR_tR]
  by_cases c2 : i = j
  · rw [if_pos ⟨rfl, c2⟩]; rfl
  · rw [if_neg (fun z => c2 z.2)]; exact g2 i (by omega)
