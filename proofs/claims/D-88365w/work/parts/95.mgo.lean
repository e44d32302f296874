/-! the model: goAround -/
def addR (r : Nat → Int) (c : Nat) (d : Int) : Nat → Int := fun j => r j + (if j = c then d else 0)
def goF (a : Ab) (x0 : St) : Nat → St → (Nat → Int) → Bool × (Nat → Int)
  | 0, _, r => (false, r)
  | k + 1, x, r => match aG a (sdS x) with
    | none => (false, r)
    | some t => if nxS a x t = x0 then (true, addR r (pIx a (sdS x) t) (if sdS x < t then 1 else -1)) else goF a x0 k (nxS a x t) (addR r (pIx a (sdS x) t) (if sdS x < t then 1 else -1))
/-- the first corner off the edge -/
def offC (e : Nat) : Nat := if e = 0 then 2 else if e = 1 ∨ e = 2 then 1 else 0
def begS (k : Nat) : St := (k / 6, eFrom (k % 6), eTo (k % 6), offC (k % 6))
theorem off_all : ∀ e, e < 6 → offC e < 4 ∧ offC e ≠ eFrom e ∧ offC e ≠ eTo e ∧ ∀ j, j < 4 → j < offC e → j = eFrom e ∨ j = eTo e := by decide
theorem begS_ok {a : Ab} {k : Nat} (hk : k < 6 * aP a) : stOk a (begS k) := by
  obtain ⟨o1, o2, o3, _⟩ := off_all (k % 6) (by omega)
  have l := eFT_lt (k % 6)
  exact ⟨by show k / 6 < aP a; omega, l.1, l.2, o1, eFT_ne _ (by omega), o2, o3⟩
/-- loop k: does it close, and its row -/
def lpF (a : Ab) (k : Nat) : Bool × (Nat → Int) := goF a (begS k) 200 (begS k) (fun _ => 0)
theorem pIx_lt {a : Ab} (ha : AWf a) {s t : Nat} (hs : s < 4 * aP a) (ht : aG a s = some t) : pIx a s t < prN a (4 * aP a) := by
  obtain ⟨t1, t2, t3, _⟩ := ha.2.1 s t hs ht
  unfold pIx
  by_cases c : s < t
  · rw [if_pos c]
    have := prN_mono a (show s + 1 ≤ 4 * aP a by omega)
    rw [prN_s, prB_one ht c] at this
    omega
  · rw [if_neg c]
    have := prN_mono a (show t + 1 ≤ 4 * aP a by omega)
    rw [prN_s, prB_one t3 (by omega)] at this
    omega
theorem prN_le {a : Ab} (ha : AWf a) : prN a (4 * aP a) ≤ 6 := by
  have h := side_pair ha
  have hP := ha.1
  have e : sumN (lsr a) (4 * aP a) = prN a (4 * aP a) := by
    have h2 := pair_sum (n := 4 * aP a) (aG a) (fun z z' hz hzz => ⟨(ha.2.1 z z' hz hzz).1, (ha.2.1 z z' hz hzz).2.2.1⟩) (fun z z' => decide (z < z')) (fun _ => 1) (fun _ _ _ _ => rfl)
    have e1 : prN a (4 * aP a) = sumN (fun z => match aG a z with | none => 0 | some z' => if decide (z < z') = true then 1 else 0) (4 * aP a) := by
      refine sumN_eq _ (fun s _ => ?_)
      unfold prB
      cases aG a s with
      | none => rfl
      | some t =>
        show (if s < t then 1 else 0) = (if decide (s < t) = true then 1 else 0)
        by_cases c : s < t
        · rw [if_pos c, if_pos (decide_eq_true c)]
        · rw [if_neg c, if_neg (by rw [decide_eq_false c]; decide)]
    have e2 : sumN (lsr a) (4 * aP a) = prN a (4 * aP a) ∨ sumN (lsr a) (4 * aP a) = sumN (fun z => match aG a z with | none => 0 | some z' => if decide (z' < z) = true then 1 else 0) (4 * aP a) := by
      first
        | exact Or.inl (sumN_eq _ (fun s _ => by unfold lsr prB; cases aG a s <;> rfl))
        | exact Or.inr (sumN_eq _ (fun s _ => by
            unfold lsr
            cases aG a s with
            | none => rfl
            | some t =>
              show (if t < s then 1 else 0) = (if decide (t < s) = true then 1 else 0)
              by_cases c : t < s
              · rw [if_pos c, if_pos (decide_eq_true c)]
              · rw [if_neg c, if_neg (by rw [decide_eq_false c]; decide)]))
    rcases e2 with z | z
    · exact z
    · rw [z, e1]; exact h2.symm
  omega
theorem s_goAround {a : Ab} (ha : AWf a) {S : MS} (hR : MR a S) {k m : Nat} (hk : k < 6 * aP a) (hm : m < 18) (h11 : gF S 11 = nI m) (h12 : gF S 12 = nI (prN a (4 * aP a))) (h13 : ∀ s t, s < 4 * aP a → aG a s = some t → gI S 13 s = nI (pIx a s t)) {post : Int32 → MS → Prop} (h : ∀ S', (∀ j, gF S' j = gF S j) → (∀ b j, gI S' b j = gI S b j) → (∀ j, j < 6 * m → gL S' j = gL S j) → ((lpF a k).1 = true → ∀ j, j < prN a (4 * aP a) → gL S' (6 * m + j) = lZ ((lpF a k).2 j)) → post (zB (lpF a k).1) S') : M_goAround (nI k) S post := by
  apply M_goAround_ok
  intro T29 T68 T102 r29 r68 r102
  have hP := ha.1
  have hnp := prN_le ha
  obtain ⟨o1, o2, o3, o4⟩ := off_all (k % 6) (by omega)
  have l := eFT_lt (k % 6)
  have hx0 := begS_ok hk
  have K102 : ∀ n x r, stOk a x → endW a (begS k) n x → goF a (begS k) n x r = lpF a k → ∀ S', (∀ j, gF S' j = gF S j) → (∀ b j, gI S' b j = gI S b j) → (∀ j, j < 6 * m → gL S' j = gL S j) → (∀ j, j < prN a (4 * aP a) → gL S' (6 * m + j) = lZ (r j)) → T102 (nI x.1) (nI x.2.1) (nI x.2.2.1) (nI x.2.2.2) (nI (16 * (k / 6) + 4 * eFrom (k % 6) + eTo (k % 6))) (nI (offC (k % 6))) 1 S' := by
    intro n
    induction n with
    | zero => intro x r _ he; exact absurd he id
    | succ n ih =>
      intro x r hx he hgo S' g1 g2 g3 g4
      have hsd : sdS x < 4 * aP a := by have := hx.1; have := hx.2.2.2.1; unfold sdS; omega
      have sdef : sdS x = 4 * x.1 + x.2.2.2 := rfl
      have b1 := hx.1
      have b2 := hx.2.1
      have b3 := hx.2.2.1
      have b4 := hx.2.2.2.1
      apply r102
      unfold M_goAround_w102
      have e1 : (4 : Int32) * nI x.1 + nI x.2.2.2 = nI (sdS x) := by
        rw [sdef]
        simp (disch := omega) only [n0, n1, n2, n3, n4, n5, n6, n7, n8, n9, n10, n11, n12, n14, n16, n18, n21, n22, n36, n48, n63, n100, n108, n400, n1000, pk_mul, nI_add, pk_div, nI_subm, nI_ltE, nI_leE, nI_eqE, nI_clamp, vp_inE, nIm1, nIm1', nIm1n, nIm1n', nI_addn]
      rw [e1, nI_clamp (by omega), vp_inE (by omega) (by omega), g2 1, hR.2.2.1 _ hsd]
      refine ⟨fun c => absurd c (by decide), fun _ => ⟨by omega, ?_⟩⟩
      cases e : aG a (sdS x) with
      | none =>
        have hgo : (false, r) = lpF a k := by
          rw [← hgo]
          show _ = (match aG a (sdS x) with | none => (false, r) | some t => _)
          rw [e]
        have h := h S' g1 g2 g3 (fun z => by rw [← hgo] at z; exact absurd z Bool.false_ne_true)
        rw [← hgo] at h
        exact ⟨fun c => absurd rfl c, fun _ => h⟩
      | some t =>
        obtain ⟨t1, t2, t3, t4, hw⟩ := ha.2.1 _ t hsd e
        obtain ⟨y1, y2, y3, y4⟩ := nxS_ok ha hx e
        have w1 := (hw x.2.1 b2).1
        have w2 := (hw x.2.2.1 b3).1
        have hpx := pIx_lt ha hsd e
        have hgl : glN (some t) = nI t := rfl
        have hst : stepS a x = some (nxS a x t) := by unfold stepS; rw [e]
        have hgo : (if nxS a x t = begS k then (true, addR r (pIx a (sdS x) t) (if sdS x < t then 1 else -1)) else goF a (begS k) n (nxS a x t) (addR r (pIx a (sdS x) t) (if sdS x < t then 1 else -1))) = lpF a k := by
          rw [← hgo]
          show _ = (match aG a (sdS x) with | none => (false, r) | some t => _)
          rw [e]
        rw [hgl, g1 11, h11, g2 13, h13 _ t hsd e, nIm1 (by omega), nI_leE (by omega) (by omega)]
        have e2 : (6 : Int32) * nI m + nI (pIx a (sdS x) t) = nI (6 * m + pIx a (sdS x) t) := by simp (disch := omega) only [n0, n1, n2, n3, n4, n5, n6, n7, n8, n9, n10, n11, n12, n14, n16, n18, n21, n22, n36, n48, n63, n100, n108, n400, n1000, pk_mul, nI_add, pk_div, nI_subm, nI_ltE, nI_leE, nI_eqE, nI_clamp, vp_inE, nIm1, nIm1', nIm1n, nIm1n', nI_addn]
        rw [e2, nI_clamp (by omega), vp_inE (by omega) (by omega)]
        have fin : ∀ d : Int, d = (if sdS x < t then 1 else -1) → M_goAround_w168 post T29 T68 T102 (lZ d) (gL S' (6 * m + pIx a (sdS x) t)) (nI (6 * m + pIx a (sdS x) t)) (nI x.2.1) (nI x.2.2.1) (nI (16 * (k / 6) + 4 * eFrom (k % 6) + eTo (k % 6))) (nI (offC (k % 6))) (nI (sdS x)) S' := by
          intro d hd
          rw [← hd] at hgo
          unfold M_goAround_w168 M_goAround_w265 M_goAround_w270
          have e3 : (4 : Int32) * nI (sdS x) + nI x.2.1 = nI (4 * sdS x + x.2.1) := by simp (disch := omega) only [n0, n1, n2, n3, n4, n5, n6, n7, n8, n9, n10, n11, n12, n14, n16, n18, n21, n22, n36, n48, n63, n100, n108, n400, n1000, pk_mul, nI_add, pk_div, nI_subm, nI_ltE, nI_leE, nI_eqE, nI_clamp, vp_inE, nIm1, nIm1', nIm1n, nIm1n', nI_addn]
          have e4 : (4 : Int32) * nI (sdS x) + nI x.2.2.1 = nI (4 * sdS x + x.2.2.1) := by simp (disch := omega) only [n0, n1, n2, n3, n4, n5, n6, n7, n8, n9, n10, n11, n12, n14, n16, n18, n21, n22, n36, n48, n63, n100, n108, n400, n1000, pk_mul, nI_add, pk_div, nI_subm, nI_ltE, nI_leE, nI_eqE, nI_clamp, vp_inE, nIm1, nIm1', nIm1n, nIm1n', nI_addn]
          have S1r : ∀ v, (∀ j, gF (sL S' (6 * m + pIx a (sdS x) t) v) j = gF S j) ∧ (∀ b j, gI (sL S' (6 * m + pIx a (sdS x) t) v) b j = gI S b j) := fun v => ⟨fun j => g1 j, fun b j => g2 b j⟩
          have k1 : gI S' 1 (sdS x) = nI t := by rw [g2 1, hR.2.2.1 _ hsd, e]; rfl
          have k2 : gI S' 2 (4 * sdS x + x.2.1) = nI (aW a (sdS x) x.2.1) := by rw [g2 2, hR.2.2.2.1 _ t hsd e _ b2]
          have k3 : gI S' 2 (4 * sdS x + x.2.2.1) = nI (aW a (sdS x) x.2.2.1) := by rw [g2 2, hR.2.2.2.1 _ t hsd e _ b3]
          have d4 : nI t / 4 = nI (t / 4) := by simp (disch := omega) only [n0, n1, n2, n3, n4, n5, n6, n7, n8, n9, n10, n11, n12, n14, n16, n18, n21, n22, n36, n48, n63, n100, n108, n400, n1000, pk_mul, nI_add, pk_div, nI_subm, nI_ltE, nI_leE, nI_eqE, nI_clamp, vp_inE, nIm1, nIm1', nIm1n, nIm1n', nI_addn]
          have r4 : nI t - nI t / 4 * 4 = nI (t % 4) := by
            simp (disch := omega) only [n0, n1, n2, n3, n4, n5, n6, n7, n8, n9, n10, n11, n12, n14, n16, n18, n21, n22, n36, n48, n63, n100, n108, n400, n1000, pk_mul, nI_add, pk_div, nI_subm, nI_ltE, nI_leE, nI_eqE, nI_clamp, vp_inE, nIm1, nIm1', nIm1n, nIm1n', nI_addn]
            rw [show t - t / 4 * 4 = t % 4 by omega]
          have hv : gL S' (6 * m + pIx a (sdS x) t) + lZ d = lZ (addR r (pIx a (sdS x) t) d (pIx a (sdS x) t)) := by
            rw [g4 _ hpx, lZ_add]
            unfold addR
            rw [if_pos rfl]
          rw [e3, e4, hv, nI_clamp (n := 6 * m + pIx a (sdS x) t) (by omega), nI_clamp (n := sdS x) (by omega), nI_clamp (n := 4 * sdS x + x.2.1) (by omega), nI_clamp (n := 4 * sdS x + x.2.2.1) (by omega), vp_inE (by omega) (by omega)]
          refine ⟨by omega, ?_⟩
          dsimp only
          rw [gI_sL, gI_sL, gI_sL, k1, k2, k3, r4, d4]
          have y2' : (nxS a x t).2.2.2 = 6 - aW a (sdS x) x.2.1 - aW a (sdS x) x.2.2.1 - t % 4 := rfl
          have ef : ((6 : Int32) - nI (aW a (sdS x) x.2.1)) - nI (aW a (sdS x) x.2.2.1) - nI (t % 4) = nI (nxS a x t).2.2.2 := by
            rw [y2', show (6 : Int32) = nI 6 from rfl, nI_subm (by omega), nI_subm (by omega), nI_subm (by omega)]
          have ec : ((16 : Int32) * nI (t / 4) + 4 * nI (aW a (sdS x) x.2.1)) + nI (aW a (sdS x) x.2.2.1) = nI (16 * (t / 4) + 4 * aW a (sdS x) x.2.1 + aW a (sdS x) x.2.2.1) := by simp (disch := omega) only [n0, n1, n2, n3, n4, n5, n6, n7, n8, n9, n10, n11, n12, n14, n16, n18, n21, n22, n36, n48, n63, n100, n108, n400, n1000, pk_mul, nI_add, pk_div, nI_subm, nI_ltE, nI_leE, nI_eqE, nI_clamp, vp_inE, nIm1, nIm1', nIm1n, nIm1n', nI_addn]
          have yl := y1.2.2.2.1
          rw [ef, ec, vp_inE (by omega) (by omega), vp_inE (by omega) (by omega), vp_inE (by omega) (by omega), nI_eqE (by omega) (by omega), nI_eqE (by omega) (by omega)]
          have g3' : ∀ v j, j < 6 * m → gL (sL S' (6 * m + pIx a (sdS x) t) v) j = gL S j := fun v j hj => by rw [gL_sL, if_neg (by omega)]; exact g3 j hj
          have g4' : ∀ j, j < prN a (4 * aP a) → gL (sL S' (6 * m + pIx a (sdS x) t) (lZ (addR r (pIx a (sdS x) t) d (pIx a (sdS x) t)))) (6 * m + j) = lZ (addR r (pIx a (sdS x) t) d j) := fun j hj => by
            rw [gL_sL]
            by_cases c : j = pIx a (sdS x) t
            · rw [if_pos (by omega), c]
            · rw [if_neg (by omega), g4 j hj]
              unfold addR
              rw [if_neg c, Int.add_zero]
          have nxd : nxS a x t = (t / 4, aW a (sdS x) x.2.1, aW a (sdS x) x.2.2.1, (nxS a x t).2.2.2) := rfl
          have go : ¬ nxS a x t = begS k → T102 (nI (t / 4)) (nI (aW a (sdS x) x.2.1)) (nI (aW a (sdS x) x.2.2.1)) (nI (nxS a x t).2.2.2) (nI (16 * (k / 6) + 4 * eFrom (k % 6) + eTo (k % 6))) (nI (offC (k % 6))) 1 (sL S' (6 * m + pIx a (sdS x) t) (lZ (addR r (pIx a (sdS x) t) d (pIx a (sdS x) t)))) := by
            intro hn
            rw [if_neg hn] at hgo
            have he' := he _ hst
            rcases he' with z | z
            · exact absurd z hn
            · exact ih (nxS a x t) _ y1 z hgo _ (S1r _).1 (S1r _).2 (g3' _) g4'
          refine ⟨by omega, by omega, by omega, by omega, fun c => go (fun z => c ?_), fun c => ⟨fun c2 => ?_, fun c2 => go (fun z => c2 ?_)⟩⟩
          · have z1 := congrArg (fun v : St => 16 * v.1 + 4 * v.2.1 + v.2.2.1) z
            exact z1
          · have hyes : nxS a x t = begS k := by
              have f1 : t / 4 = k / 6 := by omega
              have f2 : aW a (sdS x) x.2.1 = eFrom (k % 6) := by omega
              have f3 : aW a (sdS x) x.2.2.1 = eTo (k % 6) := by omega
              rw [nxd, f1, f2, f3, c2]
              rfl
            rw [if_pos hyes] at hgo
            apply r102
            unfold M_goAround_w102
            have h := h (sL S' (6 * m + pIx a (sdS x) t) (lZ (addR r (pIx a (sdS x) t) d (pIx a (sdS x) t)))) (S1r _).1 (S1r _).2 (g3' _) (fun _ => by rw [← hgo]; exact g4')
            rw [← hgo] at h
            exact ⟨fun _ => h, fun c3 => absurd rfl c3⟩
          · exact congrArg (fun v : St => v.2.2.2) z
        refine ⟨fun _ => ⟨by omega, by omega, by omega, fun c => ?_, fun c => ?_⟩, fun c => absurd c id⟩
        · have f := fin (-1) (by rw [if_neg (by omega)])
          rw [show lZ (-1) = (-1 : Int64) by decide] at f
          exact f
        · have f := fin 1 (by rw [if_pos (by omega)])
          rw [show lZ 1 = (1 : Int64) by decide] at f
          exact f
  have em : nI k - nI k / 6 * 6 = nI (k % 6) := by
    simp (disch := omega) only [n0, n1, n2, n3, n4, n5, n6, n7, n8, n9, n10, n11, n12, n14, n16, n18, n21, n22, n36, n48, n63, n100, n108, n400, n1000, pk_mul, nI_add, pk_div, nI_subm, nI_ltE, nI_leE, nI_eqE, nI_clamp, vp_inE, nIm1, nIm1', nIm1n, nIm1n', nI_addn]
    rw [show k - k / 6 * 6 = k % 6 by omega]
  have ed : nI k / 6 = nI (k / 6) := by simp (disch := omega) only [n0, n1, n2, n3, n4, n5, n6, n7, n8, n9, n10, n11, n12, n14, n16, n18, n21, n22, n36, n48, n63, n100, n108, n400, n1000, pk_mul, nI_add, pk_div, nI_subm, nI_ltE, nI_leE, nI_eqE, nI_clamp, vp_inE, nIm1, nIm1', nIm1n, nIm1n', nI_addn]
  obtain ⟨q1, q2⟩ := hR.2.1 (k % 6) (by omega)
  unfold M_goAround_w0
  rw [em, ed, nI_clamp (by omega), q1, q2, vp_inE (by omega) (by omega)]
  refine ⟨by omega, by omega, ?_⟩
  have ecode : ((16 : Int32) * nI (k / 6) + 4 * nI (eFrom (k % 6))) + nI (eTo (k % 6)) = nI (16 * (k / 6) + 4 * eFrom (k % 6) + eTo (k % 6)) := by simp (disch := omega) only [n0, n1, n2, n3, n4, n5, n6, n7, n8, n9, n10, n11, n12, n14, n16, n18, n21, n22, n36, n48, n63, n100, n108, n400, n1000, pk_mul, nI_add, pk_div, nI_subm, nI_ltE, nI_leE, nI_eqE, nI_clamp, vp_inE, nIm1, nIm1', nIm1n, nIm1n', nI_addn]
  have K68 : T68 (nI (k / 6)) (nI (eFrom (k % 6))) (nI (eTo (k % 6))) (nI (offC (k % 6))) (nI (16 * (k / 6) + 4 * eFrom (k % 6) + eTo (k % 6))) (nI (offC (k % 6))) 0 S := by
    suffices K : ∀ j, j ≤ prN a (4 * aP a) → ∀ S', (∀ j, gF S' j = gF S j) → (∀ b j, gI S' b j = gI S b j) → (∀ j, j < 6 * m → gL S' j = gL S j) → (∀ i, i < j → gL S' (6 * m + i) = lZ 0) → T68 (nI (k / 6)) (nI (eFrom (k % 6))) (nI (eTo (k % 6))) (nI (offC (k % 6))) (nI (16 * (k / 6) + 4 * eFrom (k % 6) + eTo (k % 6))) (nI (offC (k % 6))) (nI j) S' from K 0 (by omega) S (fun _ => rfl) (fun _ _ => rfl) (fun _ _ => rfl) (fun i hi => absurd hi (Nat.not_lt_zero _))
    refine loopUp (P := fun j => ∀ S', (∀ j, gF S' j = gF S j) → (∀ b j, gI S' b j = gI S b j) → (∀ j, j < 6 * m → gL S' j = gL S j) → (∀ i, i < j → gL S' (6 * m + i) = lZ 0) → T68 (nI (k / 6)) (nI (eFrom (k % 6))) (nI (eTo (k % 6))) (nI (offC (k % 6))) (nI (16 * (k / 6) + 4 * eFrom (k % 6) + eTo (k % 6))) (nI (offC (k % 6))) (nI j) S') (prN a (4 * aP a)) (fun j hj ih S' g1 g2 g3 g4 => ?_)
    apply r68
    unfold M_goAround_w68
    have e2 : (6 : Int32) * nI m + nI j = nI (6 * m + j) := by simp (disch := omega) only [n0, n1, n2, n3, n4, n5, n6, n7, n8, n9, n10, n11, n12, n14, n16, n18, n21, n22, n36, n48, n63, n100, n108, n400, n1000, pk_mul, nI_add, pk_div, nI_subm, nI_ltE, nI_leE, nI_eqE, nI_clamp, vp_inE, nIm1, nIm1', nIm1n, nIm1n', nI_addn]
    rw [g1 12, h12, g1 11, h11, e2, nI_leE (by omega) (by omega), nI_clamp (by omega), vp_inE (by omega) (by omega), show (nI j : Int32) + 1 = nI (j + 1) from nI_add j 1]
    refine ⟨fun c => ?_, fun c => ⟨by omega, ih (by omega) _ g1 g2 (fun i hi => by rw [gL_sL, if_neg (by omega)]; exact g3 i hi) (fun i hi => ?_)⟩⟩
    · exact K102 200 (begS k) (fun _ => 0) hx0 (walk_ends ha hx0) rfl S' g1 g2 g3 (fun i hi => g4 i (by omega))
    · rw [gL_sL]
      by_cases c2 : i = j
      · rw [if_pos (by omega)]; rfl
      · rw [if_neg (by omega)]; exact g4 i (by omega)
  suffices K29 : ∀ j, j ≤ offC (k % 6) → T29 (nI (k / 6)) (nI (eFrom (k % 6))) (nI (eTo (k % 6))) (nI j) S from K29 0 (by omega)
  refine loopUp (P := fun j => T29 (nI (k / 6)) (nI (eFrom (k % 6))) (nI (eTo (k % 6))) (nI j) S) (offC (k % 6)) (fun j hj ih => ?_)
  apply r29
  unfold M_goAround_w29 M_goAround_w42
  rw [nI_eqE (by omega) (by omega), nI_eqE (by omega) (by omega), ecode, show (nI j : Int32) + 1 = nI (j + 1) from nI_add j 1]
  refine ⟨fun c => ih ?_, fun c => ⟨fun c2 => ?_, fun c2 => ih ?_⟩⟩
  · rcases Nat.lt_or_ge j (offC (k % 6)) with z | z
    · exact z
    · exact absurd (by omega) o2
  · have e : j = offC (k % 6) := by
      rcases Nat.lt_or_ge j (offC (k % 6)) with z | z
      · rcases o4 j (by omega) z with y | y
        · exact absurd y c
        · exact absurd y c2
      · omega
    rw [e]
    exact K68
  · rcases Nat.lt_or_ge j (offC (k % 6)) with z | z
    · exact z
    · exact absurd (by omega) o3
