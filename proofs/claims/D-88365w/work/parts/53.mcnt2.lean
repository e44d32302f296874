/-! the model: classOf, bent, link, count -/
theorem s_classOf {a : Ab} (ha : AWf a) {L : Lb} (hl : labs a L) {S : MS} (hR : MR a S) {x1 x2 x3 : Int32} {post : Int32 → MS → Prop} (h0 : ¬ (inN x1 2 ∧ inN x2 (aP a) ∧ inN x3 (if x1 = 0 then 4 else 6)) → post (-2) S)
    (h1 : inN x2 (aP a) → x1 = 0 → inN x3 4 → ∀ S', MR a S' → post (nI (nC L (L.2.1 (4 * x2.toNatClampNeg + x3.toNatClampNeg)))) S') (h2 : inN x2 (aP a) → x1 = 1 → inN x3 6 → ∀ S', MR a S' → post (nI (nE L (eL L (6 * x2.toNatClampNeg + x3.toNatClampNeg)))) S') : M_classOf x1 x2 x3 S post := by
  apply M_classOf_ok
  intro T51 T100 r51 r100
  have hP := ha.1
  unfold M_classOf_w0 M_classOf_w28 M_classOf_w34
  apply s_in
  by_cases i1 : inN x1 2
  · rw [if_pos (in01.mpr i1)]
    refine ⟨fun c => absurd c (by decide), fun _ => s_isPiece hR.1 hP (fun i2 => ⟨fun c => absurd c (by decide), fun _ => ⟨fun c => ?_, fun c => ?_⟩⟩) (fun i2 => ⟨fun _ => h0 (fun k => i2 k.2.1), fun c => absurd rfl c⟩)⟩
    · apply s_in
      rw [if_neg c] at h0
      by_cases i3 : inN x3 6
      · rw [if_pos (show (0 : Int32) ≤ x3 ∧ x3 ≤ 5 from (in_iff (n := 5) (by decide)).mpr i3)]
        refine ⟨fun _ => s_label ha hR hl (fun S' hsb hS => ⟨fun _ => ?_, fun q => absurd q c⟩), fun q => absurd q (by decide)⟩
        have e1 : x1 = 1 := by
          obtain ⟨k, hk, rfl⟩ := i1
          have : k ≠ 0 := fun e => c (by rw [e]; rfl)
          rw [show k = 1 by omega]; rfl
        have h2 := h2 i2 e1 i3
        obtain ⟨p, hp, rfl⟩ := i2
        obtain ⟨e, he, rfl⟩ := i3
        rw [nI_clamp (by omega), nI_clamp (by omega)] at h2
        have hR' := MR_same hR hsb
        have hle := eL_le hl (show 6 * p + e < 18 by omega)
        refine loopUp (P := fun i => T100 (nI p) (nI e) (nI (nE L i)) (nI i) S') (eL L (6 * p + e)) (fun i hi ih => ?_) 0 (by omega)
        apply r100
        unfold M_classOf_w100 M_classOf_w127
        refine s_edgeLabel hl hS (by omega) he ?_
        simp (disch := omega) only [n0, n1, n2, n3, n4, n5, n6, n7, n8, n9, n10, n11, n12, n14, n16, n18, n21, n22, n36, n48, n63, n100, n108, n400, n1000, pk_mul, nI_add, pk_div, nI_subm, nI_ltE, nI_leE, nI_eqE, nI_clamp, vp_inE, nIm1, nIm1', nIm1n, nIm1n', nI_addn]
        refine ⟨fun q => by rw [show i = eL L (6 * p + e) by omega]; exact h2 S' hR', fun q => s_isFirstEdge hl hS (by omega) ?_⟩
        have ih := ih (by omega)
        rw [nE_s] at ih
        by_cases e2 : eL L i = i
        · rw [if_pos e2] at ih ⊢
          exact ⟨fun q => absurd q (by decide), fun _ => ih⟩
        · rw [if_neg e2] at ih ⊢
          exact ⟨fun _ => ih, fun q => absurd rfl q⟩
      · rw [if_neg (show ¬ ((0 : Int32) ≤ x3 ∧ x3 ≤ 5) from fun q => i3 ((in_iff (n := 5) (by decide)).mp q))]
        exact ⟨fun q => absurd rfl q, fun _ => h0 (fun k => i3 k.2.2)⟩
    · apply s_in
      rw [if_pos c] at h0
      by_cases i3 : inN x3 4
      · rw [if_pos (in03.mpr i3)]
        refine ⟨fun _ => s_label ha hR hl (fun S' hsb hS => ⟨fun q => absurd c q, fun _ => ?_⟩), fun q => absurd q (by decide)⟩
        have h1 := h1 i2 c i3
        obtain ⟨p, hp, rfl⟩ := i2
        obtain ⟨e, he, rfl⟩ := i3
        rw [nI_clamp (by omega), nI_clamp (by omega)] at h1
        have hR' := MR_same hR hsb
        have hle := hl.2.1.1 (4 * p + e) (by omega)
        refine loopUp (P := fun i => T51 (nI p) (nI e) (nI (nC L i)) (nI i) S') (L.2.1 (4 * p + e)) (fun i hi ih => ?_) 0 (by omega)
        apply r51
        unfold M_classOf_w51 M_classOf_w85
        simp (disch := omega) only [n0, n1, n2, n3, n4, n5, n6, n7, n8, n9, n10, n11, n12, n14, n16, n18, n21, n22, n36, n48, n63, n100, n108, n400, n1000, pk_mul, nI_add, pk_div, nI_subm, nI_ltE, nI_leE, nI_eqE, nI_clamp, vp_inE, nIm1, nIm1', nIm1n, nIm1n', nI_addn]
        rw [hS.2.1 (4 * p + e) (by omega), hS.2.1 i (by omega)]
        have hi' := labs_lt7 hl (show i < 12 by omega)
        simp (disch := omega) only [n0, n1, n2, n3, n4, n5, n6, n7, n8, n9, n10, n11, n12, n14, n16, n18, n21, n22, n36, n48, n63, n100, n108, n400, n1000, pk_mul, nI_add, pk_div, nI_subm, nI_ltE, nI_leE, nI_eqE, nI_clamp, vp_inE, nIm1, nIm1', nIm1n, nIm1n', nI_addn]
        refine ⟨by omega, fun q => by rw [show i = L.2.1 (4 * p + e) by omega]; exact h1 S' hR', fun q => ⟨by omega, ?_⟩⟩
        have ih := ih (by omega)
        rw [nC_s] at ih
        refine ⟨fun e2 => ?_, fun e2 => ?_⟩
        · rw [if_neg e2] at ih; exact ih
        · rw [if_pos e2] at ih; exact ih
      · rw [if_neg (fun q => i3 (in03.mp q))]
        exact ⟨fun q => absurd rfl q, fun _ => h0 (fun k => i3 k.2.2)⟩
  · rw [if_neg (fun q => i1 (in01.mp q))]
    exact ⟨fun _ => h0 (fun k => i1 k.1), fun c => absurd rfl c⟩
theorem s_bent {a : Ab} (ha : AWf a) {L : Lb} (hl : labs a L) {S : MS} (hR : MR a S) {x : Int32} {post : Int32 → MS → Prop} (h0 : ¬ inN x (nE L (6 * aP a)) → ∀ S', MR a S' → post (-2) S')
    (h1 : ∀ k, k < 6 * aP a → eL L k = k → x = nI (nE L k) → bentE L k → ∀ S', MR a S' → post 1 S') (h2 : ∀ k, k < 6 * aP a → eL L k = k → x = nI (nE L k) → ¬ bentE L k → ∀ S', MR a S' → post 0 S') : M_bent x S post := by
  apply M_bent_ok
  unfold M_bent_VC M_bent_w0 M_bent_w33
  have hP := ha.1
  refine s_label ha hR hl (fun S' hsb hS => ?_)
  have hR' := MR_same hR hsb
  refine s_edgeOfClass ha hl hR' hS (fun j k hx hk e1 e2 => ⟨fun _ => ?_, fun q => absurd q (by rw [nIm1 (by omega)]; exact id)⟩) (fun q => ⟨fun c => absurd rfl c, fun _ => h0 q S' hR'⟩)
  subst e2
  refine s_isBent hl hS (by omega) (fun b => ⟨fun c => absurd c (by decide), fun _ => h1 k hk e1 hx b S' hR'⟩) (fun b => ⟨fun _ => h2 k hk e1 hx b S' hR', fun c => absurd rfl c⟩)
theorem s_link {a : Ab} (ha : AWf a) {L : Lb} (hl : labs a L) {S : MS} (hR : MR a S) {x : Int32} {post : Int32 → MS → Prop} (h0 : ¬ inN x (nC L (4 * aP a)) → ∀ S', MR a S' → post (-2147483648) S')
    (h1 : ∀ k, k < 4 * aP a → L.2.1 k = k → x = nI (nC L k) → ∀ S', MR a S' → post (lnkR a L k) S') : M_link x S post := by
  apply M_link_ok
  unfold M_link_VC M_link_w0 M_link_w25
  have hP := ha.1
  refine s_label ha hR hl (fun S' hsb hS => ?_)
  have hR' := MR_same hR hsb
  refine s_cornerOfClass ha hl hR' hS (fun j k hx hk e1 e2 => ⟨fun _ => ?_, fun q => absurd q (by rw [nIm1 (by omega)]; exact id)⟩) (fun q => ⟨fun c => absurd rfl c, fun _ => h0 q S' hR'⟩)
  subst e2
  exact s_linkOf ha hl hR' hS (by omega) (h1 k hk e1 hx S' hR')
def wholeP (a : Ab) (L : Lb) : Prop := 0 < aP a ∧ sumN (opi a) (4 * aP a) = 0 ∧ (¬ ∃ k, k < 6 * aP a ∧ bentE L k) ∧ ∀ k, k < 4 * aP a → L.2.1 k = k → lnkR a L k = 2
theorem s_isWhole {a : Ab} (ha : AWf a) {L : Lb} (hl : labs a L) {S : MS} (hR : MR a S) (hS : hold S L) {post : Int32 → MS → Prop} (h1 : wholeP a L → post 1 S) (h0 : ¬ wholeP a L → post 0 S) : M_isWhole S post := by
  apply M_isWhole_ok
  intro T r
  have hP := ha.1
  have K0 : ¬ wholeP a L → ∀ k, k ≤ 4 * aP a → T 0 (nI k) S := by
    intro hn
    refine loopUp (P := fun k => T 0 (nI k) S) (4 * aP a) (fun k hk ih => ?_)
    apply r
    unfold M_isWhole_w30 M_isWhole_w63 M_isWhole_w67 M_isWhole_w68
    rw [hR.1]
    simp (disch := omega) only [n0, n1, n2, n3, n4, n5, n6, n7, n8, n9, n10, n11, n12, n14, n16, n18, n21, n22, n36, n48, n63, n100, n108, n400, n1000, pk_mul, nI_add, pk_div, nI_subm, nI_ltE, nI_leE, nI_eqE, nI_clamp, vp_inE, nIm1, nIm1', nIm1n, nIm1n', nI_addn]
    exact ⟨fun _ => ⟨zok0, h0 hn⟩, fun _ => ⟨fun _ => ih (by omega), fun q => absurd trivial q⟩⟩
  have K1 : (0 < aP a ∧ sumN (opi a) (4 * aP a) = 0 ∧ ¬ ∃ k, k < 6 * aP a ∧ bentE L k) → ∀ k, k ≤ 4 * aP a → (∀ j, j < k → L.2.1 j = j → lnkR a L j = 2) → T 1 (nI k) S := by
    intro hw
    refine loopUp (P := fun k => (∀ j, j < k → L.2.1 j = j → lnkR a L j = 2) → T 1 (nI k) S) (4 * aP a) (fun k hk ih hj => ?_)
    apply r
    unfold M_isWhole_w30 M_isWhole_w63 M_isWhole_w67 M_isWhole_w68
    rw [hR.1]
    simp (disch := omega) only [n0, n1, n2, n3, n4, n5, n6, n7, n8, n9, n10, n11, n12, n14, n16, n18, n21, n22, n36, n48, n63, n100, n108, n400, n1000, pk_mul, nI_add, pk_div, nI_subm, nI_ltE, nI_leE, nI_eqE, nI_clamp, vp_inE, nIm1, nIm1', nIm1n, nIm1n', nI_addn]
    refine ⟨fun _ => ⟨zok1, h1 ⟨hw.1, hw.2.1, hw.2.2, fun j h1 h2 => hj j (by omega) h2⟩⟩, fun c => ⟨fun q => absurd q (by decide), fun _ => ⟨by omega, ?_⟩⟩⟩
    have hk' := labs_lt7 hl (show k < 12 by omega)
    rw [hS.2.1 k (by omega)]
    simp (disch := omega) only [n0, n1, n2, n3, n4, n5, n6, n7, n8, n9, n10, n11, n12, n14, n16, n18, n21, n22, n36, n48, n63, n100, n108, n400, n1000, pk_mul, nI_add, pk_div, nI_subm, nI_ltE, nI_leE, nI_eqE, nI_clamp, vp_inE, nIm1, nIm1', nIm1n, nIm1n', nI_addn]
    have nx : (L.2.1 k = k → lnkR a L k = 2) → T 1 (nI (k + 1)) S := fun h => ih (by omega) (fun j h1 h2 => by
      by_cases e : j = k
      · subst e; exact h h2
      · exact hj j (by omega) h2)
    refine ⟨fun e => nx (fun q => absurd q e), fun e => s_linkOf ha hl hR hS (by omega) ⟨fun q => K0 (fun w => q (w.2.2.2 k (by omega) e)) (k + 1) (by omega), fun q => nx (fun _ => q)⟩⟩
  unfold M_isWhole_w0 M_isWhole_w26 M_isWhole_w27
  rw [hR.1]
  simp (disch := omega) only [n0, n1, n2, n3, n4, n5, n6, n7, n8, n9, n10, n11, n12, n14, n16, n18, n21, n22, n36, n48, n63, n100, n108, n400, n1000, pk_mul, nI_add, pk_div, nI_subm, nI_ltE, nI_leE, nI_eqE, nI_clamp, vp_inE, nIm1, nIm1', nIm1n, nIm1n', nI_addn]
  refine ⟨fun q => K0 (fun w => by have := w.1; omega) 0 (by omega), fun q => s_sides ha hR (fun c => absurd c (by decide)) (fun _ => ?_)⟩
  have hb := sumN_ub (f := opi a) 1 (4 * aP a) (fun k _ => opi_le a k)
  simp (disch := omega) only [n0, n1, n2, n3, n4, n5, n6, n7, n8, n9, n10, n11, n12, n14, n16, n18, n21, n22, n36, n48, n63, n100, n108, n400, n1000, pk_mul, nI_add, pk_div, nI_subm, nI_ltE, nI_leE, nI_eqE, nI_clamp, vp_inE, nIm1, nIm1', nIm1n, nIm1n', nI_addn]
  refine ⟨fun q2 => K0 (fun w => q2 w.2.1) 0 (by omega), fun q2 => s_anyBent ha hl hR hS (fun b => ⟨fun _ => K0 (fun w => w.2.2.1 b) 0 (by omega), fun c => absurd c (by decide)⟩) (fun b => ⟨fun c => absurd rfl c, fun _ => K1 ⟨by omega, q2, b⟩ 0 (by omega) (fun j hj => absurd hj (Nat.not_lt_zero _))⟩)⟩
theorem s_count {a : Ab} (ha : AWf a) {L : Lb} (hl : labs a L) {S : MS} (hR : MR a S) {x : Int32} {post : Int32 → MS → Prop} (h0 : x = 0 → ∀ S', MR a S' → post (nI (aP a)) S') (h1 : x = 1 → ∀ S', MR a S' → post (nI (nC L (4 * aP a))) S') (h2 : x = 2 → ∀ S', MR a S' → post (nI (nE L (6 * aP a))) S') (h3 : x = 3 → ∀ S', MR a S' → post (nI (sumN (cnd a) (4 * aP a))) S') (h4 : x = 4 → ∀ S', MR a S' → post (nI (sumN (opi a) (4 * aP a))) S')
    (h5 : x = 5 → ∀ S', MR a S' → post (((nI (nC L (4 * aP a)) - nI (nE L (6 * aP a))) + nI (sumN (cnd a) (4 * aP a))) - nI (aP a)) S') (h6 : x = 6 → wholeP a L → ∀ S', MR a S' → post 1 S') (h6' : x = 6 → ¬ wholeP a L → ∀ S', MR a S' → post 0 S') (h7 : x = 7 → evenP a → ∀ S', MR a S' → post 1 S') (h7' : x = 7 → ¬ evenP a → ∀ S', MR a S' → post 0 S') (h8 : x = 8 → ∀ S', MR a S' → post (nI (nS L (aP a))) S')
    (h9 : ¬ x = 0 → ¬ x = 1 → ¬ x = 2 → ¬ x = 3 → ¬ x = 4 → ¬ x = 5 → ¬ x = 6 → ¬ x = 7 → ¬ x = 8 → ∀ S', MR a S' → post (-2147483648) S') : M_count x S post := by
  apply M_count_ok
  unfold M_count_VC M_count_w0 M_count_w116 M_count_w129
  refine s_label ha hR hl (fun S' hsb hS => ?_)
  have hR' := MR_same hR hsb
  rw [hR'.1]
  refine ⟨fun e => h0 e S' hR', fun e => s_cornerClasses ha hl hR' hS (h1 e S' hR'), fun e => s_edgeClasses ha hl hR' hS (h2 e S' hR'), fun e => s_sides ha hR' (fun _ => h3 e S' hR') (fun c => absurd rfl c), fun e => s_sides ha hR' (fun c => absurd c (by decide)) (fun _ => h4 e S' hR'), fun e => s_cornerClasses ha hl hR' hS (s_edgeClasses ha hl hR' hS (s_sides ha hR' (fun _ => by rw [hR'.1]; exact h5 e S' hR') (fun c => absurd rfl c))), fun e => s_isWhole ha hl hR' hS (fun w => ⟨fun c => absurd c (by decide), fun _ => h6 e w S' hR'⟩) (fun w => ⟨fun _ => h6' e w S' hR', fun c => absurd rfl c⟩), fun e => s_isEven ha hR' (fun w => ⟨fun c => absurd c (by decide), fun _ => h7 e w S' hR'⟩) (fun w => ⟨fun _ => h7' e w S' hR', fun c => absurd rfl c⟩), fun e => s_setMany ha hl hR' hS (h8 e S' hR'), fun e0 e1 e2 e3 e4 e5 e6 e7 e8 => h9 e0 e1 e2 e3 e4 e5 e6 e7 e8 S' hR'⟩
