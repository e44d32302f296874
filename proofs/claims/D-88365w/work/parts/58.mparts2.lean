/-! the model's findParts, parts, part -/
def frP (S S' : MS) : Prop := (∀ k, k ≠ 19 → k ≠ 24 → gF S' k = gF S k) ∧ ∀ b j, b < 20 → gI S' b j = gI S b j
theorem frP_rf {S : MS} : frP S S := ⟨fun _ _ _ => rfl, fun _ _ _ => rfl⟩
theorem frP_B {S S' S'' : MS} (h : frP S S') (h' : frB S' S'') : frP S S'' := ⟨fun k h1 h2 => by rw [h'.1 k h2, h.1 k h1 h2], fun b j hb => by rw [h'.2 b j (by omega) (by omega) (by omega), h.2 b j hb]⟩
theorem frP_F {S S' : MS} {k : Nat} {v : Int32} (hk : k = 19 ∨ k = 24) (h : frP S S') : frP S (sF S' k v) := ⟨fun k' h1 h2 => by rw [gF_sF, if_neg (by omega)]; exact h.1 k' h1 h2, h.2⟩
theorem frP_I {S S' : MS} {b j : Nat} {v : Int32} (hb : 20 ≤ b) (h : frP S S') : frP S (sI S' b j v) := ⟨h.1, fun b' j' hb' => by rw [gI_sI, if_neg (by omega)]; exact h.2 b' j' hb'⟩
theorem frP_sameB {S S' : MS} (h : frP S S') : sameB S S' := ⟨h.1 0 (by decide) (by decide), fun b j hb => h.2 b j (by omega)⟩
theorem frP_hold {S S' : MS} {L : Lb} (h : frP S S') (hS : hold S L) : hold S' L := ⟨fun k hk => by rw [h.2 6 k (by decide)]; exact hS.1 k hk, fun k hk => by rw [h.2 7 k (by decide)]; exact hS.2.1 k hk, fun k hk => by rw [h.2 8 k (by decide)]; exact hS.2.2 k hk⟩
/-- what is found: cuts begin there, parts, twisted ones -/
def found (S : MS) (a : Ab) (k : Nat) : Prop := (∀ j, j < cf a (7 * aP a) → gI S 21 j = glN (bP (fpF a k).1 j)) ∧ (∀ j, j < cf a (7 * aP a) → bP (fpF a k).1 j ≠ none → gI S 22 j = sgI (bS (fpF a k).1 j)) ∧ ∀ j, j < (fpF a k).2.1 → gI S 25 j = zB ((fpF a k).2.2 j)
theorem zB_ok (b : Bool) : zok (zB b) := by
  cases b
  · exact zok0
  · exact zok1
theorem bfsF_s (a : Ab) (f i : Nat) (B : Bf) : bfsF a (f + 1) i B = if i < bT B then bfsF a f (i + 1) (spreadF a B (bQ B i)) else B := rfl
theorem s_findParts {a : Ab} (ha : AWf a) (hfit : fitA a) {L : Lb} (hl : labs a L) {S : MS} (hR : MR a S) {post : Int32 → MS → Prop} (h : ∀ r S', MR a S' → hold S' L → gF S' 19 = nI (cf a (7 * aP a)) → hasCF S' a → (cf a (7 * aP a) ≤ 400 → r = nI (fpF a (cf a (7 * aP a))).2.1 ∧ found S' a (cf a (7 * aP a))) → post r S') : M_findParts S post := by
  apply M_findParts_ok
  intro T11 T73 T106 T165 r11 r73 r106 r165
  have hP := ha.1
  have hcl := cf_le ha (7 * aP a)
  unfold M_findParts_w0
  refine s_label ha hR hl (fun S0 hsb hS => ?_)
  have hR0 := MR_same hR hsb
  have fin : ∀ r S', frP S0 S' → gF S' 19 = nI (cf a (7 * aP a)) → hasCF S' a → (cf a (7 * aP a) ≤ 400 → r = nI (fpF a (cf a (7 * aP a))).2.1 ∧ found S' a (cf a (7 * aP a))) → post r S' := fun r S' h1 h2 h3 h4 => h r S' (MR_same hR0 (frP_sameB h1)) (frP_hold h1 hS) h2 h3 h4
  have K106 : cf a (7 * aP a) ≤ 400 → ∀ k, k ≤ cf a (7 * aP a) → ∀ S', frP S0 S' → gF S' 19 = nI (cf a (7 * aP a)) → hasCF S' a → found S' a k → T106 (nI (fpF a k).2.1) (nI k) S' := by
    intro hn
    refine loopUp (P := fun k => ∀ S', frP S0 S' → gF S' 19 = nI (cf a (7 * aP a)) → hasCF S' a → found S' a k → T106 (nI (fpF a k).2.1) (nI k) S') (cf a (7 * aP a)) (fun k hk ih S' h1 h2 h3 h4 => ?_)
    apply r106
    obtain ⟨f1, f2, f3⟩ := fpF_ok ha hfit hn k hk
    unfold M_findParts_w106 M_findParts_w203 M_findParts_w209
    rw [h2]
    rw [nI_leE (by omega) (by omega), show (400 : Int32) = nI 400 from rfl, nI_ltE (by omega) (by omega), nI_clamp (by omega), show (nI k : Int32) + 1 = nI (k + 1) from nI_add k 1]
    refine ⟨fun q => ?_, fun q => ⟨fun q2 => absurd q2 (by omega), fun _ => ⟨by rw [vp_inE (by omega) (by omega)]; omega, ?_⟩⟩⟩
    · have e : k = cf a (7 * aP a) := by omega
      rw [e] at h4 ⊢
      exact fin _ S' h1 h2 h3 (fun _ => ⟨rfl, h4⟩)
    · have ih := ih (by omega)
      rw [h4.1 k (by omega), glN_none (fun v hv => f1 k v hv)]
      rw [fpF_s] at ih
      refine ⟨fun c => ?_, fun c => ?_⟩
      · have ihc : ∀ S', frP S0 S' → gF S' 19 = nI (cf a (7 * aP a)) → hasCF S' a → found S' a (k + 1) → T106 (nI (fpF a k).2.1) (nI (k + 1)) S' := by
          rw [if_neg c] at ih
          exact ih
        refine ihc S' h1 h2 h3 ?_
        unfold found
        rw [fpF_s, if_neg c]
        exact h4
      · rw [vp_inE (by omega) (by omega)]
        refine ⟨by omega, by omega, ?_⟩
        rw [if_pos c] at ih
        have ih : ∀ S', frP S0 S' → gF S' 19 = nI (cf a (7 * aP a)) → hasCF S' a → found S' a (k + 1) → T106 (nI ((fpF a k).2.1 + 1)) (nI (k + 1)) S' := ih
        have hb := beg_ok (n := cf a (7 * aP a)) (k := k) (m := (fpF a k).2.1) f1 (by omega) (by omega)
        have K165 : ∀ f i B, i + f = cf a (7 * aP a) → BI B (cf a (7 * aP a)) → bfsF a f i B = bfsF a (cf a (7 * aP a)) 0 (beg (fpF a k).1 k (fpF a k).2.1) → ∀ S2, frP S0 S2 → gF S2 19 = nI (cf a (7 * aP a)) → hasCF S2 a → bM S2 B (cf a (7 * aP a)) → (∀ j, j < (fpF a k).2.1 → gI S2 25 j = zB ((fpF a k).2.2 j)) → T165 (nI (fpF a k).2.1) (nI k) (nI (bT B)) (nI i) S2 := by
          intro f
          induction f with
          | zero =>
            intro i B hi hB hbf S2 g1 g2 g3 g4 g5
            have hT := hB.2.1
            have hv := vcN_le B (cf a (7 * aP a))
            apply r165
            unfold M_findParts_w165 M_findParts_w203
            rw [nI_leE (by omega) (by omega)]
            refine ⟨fun _ => ⟨by rw [vp_inE (by omega) (by omega)]; omega, by rw [g4.2.2.2]; exact zB_ok _, ?_⟩, fun q3 => absurd (by omega) q3⟩
            rw [nI_clamp (by omega), show (nI k : Int32) + 1 = nI (k + 1) from nI_add k 1, show (nI (fpF a k).2.1 : Int32) + 1 = nI ((fpF a k).2.1 + 1) from nI_add _ 1]
            refine ih _ (frP_I (by omega) g1) g2 (fun j hj => by rw [gI_sI, if_neg (by omega)]; exact g3 j hj) ?_
            unfold found
            rw [fpF_s, if_pos c, ← hbf]
            refine ⟨fun j hj => by rw [gI_sI, if_neg (by omega)]; exact g4.1 j hj, fun j hj hv => by rw [gI_sI, if_neg (by omega)]; exact g4.2.1 j hj hv, fun j hj => ?_⟩
            show _ = zB (upF (fpF a k).2.2 (fpF a k).2.1 (bW B) j)
            rw [gI_sI]
            by_cases e : j = (fpF a k).2.1
            · rw [if_pos ⟨rfl, e⟩, e, upF_at]; exact g4.2.2.2
            · rw [if_neg (fun q => e q.2), upF_ne _ _ e]
              have hj : j < (fpF a k).2.1 + 1 := hj
              exact g5 j (by omega)
          | succ f ihf =>
            intro i B hi hB hbf S2 g1 g2 g3 g4 g5
            have hT := hB.2.1
            have hv := vcN_le B (cf a (7 * aP a))
            apply r165
            unfold M_findParts_w165 M_findParts_w203
            rw [nI_leE (by omega) (by omega)]
            rw [bfsF_s] at hbf
            refine ⟨fun q3 => ⟨by rw [vp_inE (by omega) (by omega)]; omega, by rw [g4.2.2.2]; exact zB_ok _, ?_⟩, fun q3 => ⟨by rw [vp_inE (by omega) (by omega)]; omega, ?_⟩⟩
            · rw [if_neg (by omega)] at hbf
              rw [nI_clamp (by omega), show (nI k : Int32) + 1 = nI (k + 1) from nI_add k 1, show (nI (fpF a k).2.1 : Int32) + 1 = nI ((fpF a k).2.1 + 1) from nI_add _ 1]
              refine ih _ (frP_I (by omega) g1) g2 (fun j hj => by rw [gI_sI, if_neg (by omega)]; exact g3 j hj) ?_
              unfold found
              rw [fpF_s, if_pos c, ← hbf]
              refine ⟨fun j hj => by rw [gI_sI, if_neg (by omega)]; exact g4.1 j hj, fun j hj hv => by rw [gI_sI, if_neg (by omega)]; exact g4.2.1 j hj hv, fun j hj => ?_⟩
              show _ = zB (upF (fpF a k).2.2 (fpF a k).2.1 (bW B) j)
              rw [gI_sI]
              by_cases e : j = (fpF a k).2.1
              · rw [if_pos ⟨rfl, e⟩, e, upF_at]; exact g4.2.2.2
              · rw [if_neg (fun q => e q.2), upF_ne _ _ e]
                have hj : j < (fpF a k).2.1 + 1 := hj
                exact g5 j (by omega)
            · rw [if_pos (by omega)] at hbf
              rw [nI_clamp (by omega), g4.2.2.1 i (by omega), show (nI i : Int32) + 1 = nI (i + 1) from nI_add i 1]
              obtain ⟨q4, q5⟩ := hB.1 i (by omega)
              have hs := spreadF_ok ha hB q5 q4 hfit
              refine s_spread ha hfit (MR_same hR0 (frP_sameB g1)) g3 hn hB g4 q4 q5 (fun S3 k1 k2 => ?_)
              refine ihf (i + 1) _ (by omega) hs.1 hbf S3 (frP_B g1 k1) (by rw [k1.1 19 (by decide)]; exact g2) (frB_cf k1 g3) k2 (fun j hj => by rw [k1.2 25 j (by decide) (by decide) (by decide)]; exact g5 j hj)
        refine K165 (cf a (7 * aP a)) 0 (beg (fpF a k).1 k (fpF a k).2.1) (by omega) hb rfl _ (frP_F (by omega) (frP_I (by omega) (frP_I (by omega) (frP_I (by omega) h1)))) h2 (fun j hj => by rw [gI_sF, gI_sI, if_neg (by omega), gI_sI, if_neg (by omega), gI_sI, if_neg (by omega)]; exact h3 j hj) ⟨fun j hj => ?_, fun j hj hv => ?_, fun j hj => ?_, rfl⟩ (fun j hj => by rw [gI_sF, gI_sI, if_neg (by omega), gI_sI, if_neg (by omega), gI_sI, if_neg (by omega)]; exact h4.2.2 j hj)
        · show _ = glN (upF (bP (fpF a k).1) k (some (fpF a k).2.1) j)
          rw [gI_sF, gI_sI, if_neg (by omega), gI_sI, if_neg (by omega), gI_sI]
          by_cases e : j = k
          · rw [if_pos ⟨rfl, e⟩, e, upF_at]; rfl
          · rw [if_neg (fun q => e q.2), upF_ne _ _ e]; exact h4.1 j hj
        · have hv : upF (bP (fpF a k).1) k (some (fpF a k).2.1) j ≠ none := hv
          show _ = sgI (upF (bS (fpF a k).1) k true j)
          rw [gI_sF, gI_sI, if_neg (by omega), gI_sI]
          by_cases e : j = k
          · rw [if_pos ⟨rfl, e⟩, e, upF_at]; rfl
          · rw [if_neg (fun q => e q.2), gI_sI, if_neg (by omega), upF_ne _ _ e]
            rw [upF_ne _ _ e] at hv
            exact h4.2.1 j hj hv
        · have hj : j < 1 := hj
          show _ = nI (upF (bQ (fpF a k).1) 0 k j)
          rw [show j = 0 by omega, upF_at, gI_sF, gI_sI]
          rw [if_pos ⟨rfl, rfl⟩]
  have K73 : cf a (7 * aP a) ≤ 400 → ∀ k, k ≤ cf a (7 * aP a) → ∀ S', frP S0 S' → gF S' 19 = nI (cf a (7 * aP a)) → hasCF S' a → (∀ j, j < k → gI S' 21 j = -1) → T73 0 (nI k) S' := by
    intro hn
    refine loopUp (P := fun k => ∀ S', frP S0 S' → gF S' 19 = nI (cf a (7 * aP a)) → hasCF S' a → (∀ j, j < k → gI S' 21 j = -1) → T73 0 (nI k) S') (cf a (7 * aP a)) (fun k hk ih S' h1 h2 h3 h4 => ?_)
    apply r73
    unfold M_findParts_w73 M_findParts_w104
    rw [h2]
    rw [nI_leE (by omega) (by omega), show (400 : Int32) = nI 400 from rfl, nI_ltE (by omega) (by omega), nI_clamp (by omega), show (nI k : Int32) + 1 = nI (k + 1) from nI_add k 1, vp_inE (by omega) (by omega)]
    refine ⟨fun q => ?_, fun q => ⟨fun q2 => absurd q2 (by omega), fun _ => ⟨by omega, ih (by omega) _ (frP_I (by omega) h1) h2 (fun j hj => by rw [gI_sI, if_neg (by omega)]; exact h3 j hj) (fun j hj => ?_)⟩⟩⟩
    · exact K106 hn 0 (by omega) S' h1 h2 h3 ⟨fun j hj => h4 j (by omega), fun j _ hv => absurd rfl hv, fun j hj => absurd hj (Nat.not_lt_zero _)⟩
    · rw [gI_sI]
      by_cases e : j = k
      · rw [if_pos ⟨rfl, e⟩]
      · rw [if_neg (fun q => e q.2)]; exact h4 j (by omega)
  suffices K11 : ∀ i, i ≤ 7 * aP a → ∀ S', frP S0 S' → gF S' 19 = nI (cf a i) → (∀ j, j < i → gI S' 20 j = nI (cf a j)) → T11 (nI i) S' from K11 0 (by omega) _ (frP_F (by omega) frP_rf) rfl (fun j hj => absurd hj (Nat.not_lt_zero _))
  refine loopUp (P := fun i => ∀ S', frP S0 S' → gF S' 19 = nI (cf a i) → (∀ j, j < i → gI S' 20 j = nI (cf a j)) → T11 (nI i) S') (7 * aP a) (fun i hi ih S' h1 h2 h3 => ?_)
  apply r11
  have hR' := MR_same hR0 (frP_sameB h1)
  unfold M_findParts_w11
  rw [hR'.1, h2]
  have e7 : (7 : Int32) * nI (aP a) = nI (7 * aP a) := by simp (disch := omega) only [n0, n1, n2, n3, n4, n5, n6, n7, n8, n9, n10, n11, n12, n14, n16, n18, n21, n22, n36, n48, n63, n100, n108, n400, n1000, pk_mul, nI_add, pk_div, nI_subm, nI_ltE, nI_leE, nI_eqE, nI_clamp, vp_inE, nIm1, nIm1', nIm1n, nIm1n', nI_addn]
  rw [e7, nI_leE (by omega) (by omega), nI_clamp (by omega), nI_clamp (by omega), show (nI i : Int32) + 1 = nI (i + 1) from nI_add i 1, vp_inE (by omega) (by omega), vp_inE (by omega) (by omega), vp_inE (by omega) (by omega)]
  refine ⟨fun q => ⟨by omega, ?_⟩, fun q => ⟨by omega, by omega, ?_⟩⟩
  · have e : i = 7 * aP a := by omega
    rw [e] at h2 h3 ⊢
    have hcf : hasCF (sI S' 20 (7 * aP a) (nI (cf a (7 * aP a)))) a := by
      intro j hj
      rw [gI_sI]
      by_cases e2 : j = 7 * aP a
      · rw [if_pos ⟨rfl, e2⟩, e2]
      · rw [if_neg (fun q => e2 q.2)]; exact h3 j (by omega)
    by_cases hn : cf a (7 * aP a) ≤ 400
    · exact K73 hn 0 (by omega) _ (frP_I (by omega) h1) h2 hcf (fun j hj => absurd hj (Nat.not_lt_zero _))
    · have fr := frP_I (b := 20) (j := 7 * aP a) (v := nI (cf a (7 * aP a))) (by omega) h1
      have big : T106 0 0 (sI S' 20 (7 * aP a) (nI (cf a (7 * aP a)))) := by
        apply r106
        unfold M_findParts_w106 M_findParts_w209
        have P := fin 0 _ fr h2 hcf (fun q => absurd q hn)
        refine ⟨fun _ => P, fun _ => ⟨fun _ => P, fun q3 => absurd ?_ q3⟩⟩
        rw [gF_sI, h2, show (400 : Int32) = nI 400 from rfl, nI_ltE (by omega) (by omega)]
        omega
      apply r73
      unfold M_findParts_w73 M_findParts_w104
      refine ⟨fun _ => big, fun _ => ⟨fun _ => big, fun q3 => absurd ?_ q3⟩⟩
      rw [gF_sI, h2, show (400 : Int32) = nI 400 from rfl, nI_ltE (by omega) (by omega)]
      omega
  · have hR1 := MR_same hR' (sameB_I (b := 20) (j := i) (v := nI (cf a i)) (by omega) sameB_rf)
    rw [gF_sI, h2, hR1.2.2.2.2 i (by omega), nI_add]
    refine ih (by omega) _ (frP_F (by omega) (frP_I (by omega) h1)) (by rw [gF_sF, if_pos rfl]; rfl) (fun j hj => ?_)
    rw [gI_sF, gI_sI]
    by_cases e2 : j = i
    · rw [if_pos ⟨rfl, e2⟩, e2]
    · rw [if_neg (fun q => e2 q.2)]; exact h3 j (by omega)
