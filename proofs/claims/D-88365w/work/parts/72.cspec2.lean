/-! the component: piece, clear, across, open, glue -/
theorem glR_tr {a a' : Ab} {S S' : CS} {s : Nat} (hG : aG a' s = aG a s) (hW : ∀ c, aW a' s c = aW a s c) (hk : kGl S' (s / 4) (s % 4) = kGl S (s / 4) (s % 4)) (e : poolE S S') (h : glR a S s) : glR a' S' s := by
  unfold glR at h ⊢
  rw [hG, hk]
  cases hg : aG a s with
  | none => rw [hg] at h; exact h
  | some t =>
    rw [hg] at h
    obtain ⟨g, g1, g2, g3, g4, g5, g6, g7⟩ := h
    have eg := e.1 g g2.1
    have et := e.1 _ g5.1
    refine ⟨g, g1, poolE_pk e g2, ?_, ?_, ?_, ?_, ?_⟩
    · rw [eg.2.2.1]; exact g3
    · rw [eg.2.2.1]; exact g4
    · rw [eg.2.2.1]; exact poolE_pk e g5
    · rw [eg.2.2.1, et.2.2.2.1]; exact g6
    · intro c hc
      rw [eg.2.2.1, et.2.2.2.2.1, hW c]
      exact g7 c hc
theorem kGl_tGl (S : CS) (p f : Nat) (x : Option Nat) (p' f' : Nat) : kGl (tGl S p f x) p' f' = if p' = p ∧ f' = f then x else kGl S p' f' := by
  show (if p' = p then va_up (kGl S p) f x else kGl S p') f' = _
  by_cases h : p' = p
  · subst h
    by_cases h2 : f' = f <;> simp [va_up, h2]
  · simp [h]
theorem c_piece {κ : Prop} {a : Ab} (ha : AWf a) {S : CS} (hI : CI κ a S) {post : Int32 → CS → Prop} (h0 : aP a = 3 → post (-4) S) (h1 : aP a < 3 → ∀ S', CI False (ab_piece a) S' → post (nI (aP a)) S') : C_piece S post := by
  apply C_piece_ok
  intro T r
  have hP := ha.1
  have K : aP a < 3 → ∀ f, f ≤ 4 → ∀ S', poolE S S' → (∀ k, kF S' k = kF S k) → (∀ j, kI S' 13 j = kI S 13 j) → (∀ p f, p < aP a → kGl S' p f = kGl S p f) → (∀ j, j < f → kGl S' (aP a) j = none) → T (nI f) S' := by
    intro hlt
    refine loopUp (P := fun f => ∀ S', poolE S S' → (∀ k, kF S' k = kF S k) → (∀ j, kI S' 13 j = kI S 13 j) → (∀ p f, p < aP a → kGl S' p f = kGl S p f) → (∀ j, j < f → kGl S' (aP a) j = none) → T (nI f) S') 4 (fun f hf ih S' i1 i2 i3 i4 i5 => ?_)
    apply r
    unfold C_piece_w13
    rw [i2 1, hI.1.1]
    simp (disch := omega) only [n0, n1, n2, n3, n4, n5, n6, n7, n8, n9, n10, n11, n12, n14, n16, n18, n21, n22, n36, n48, n63, n100, n108, n400, n1000, pk_mul, nI_add, pk_div, nI_subm, nI_ltE, nI_leE, nI_eqE, nI_clamp, vp_inE, nIm1, nIm1', nIm1n, nIm1n', nI_addn]
    refine ⟨fun c => ?_, fun c => ⟨by omega, by omega, ih (by omega) _ (poolE_tGl i1) i2 i3 (fun p g hp => by rw [kGl_tGl, if_neg (by omega)]; exact i4 p g hp) (fun j hj => ?_)⟩⟩
    · refine c_drop (sh := aS a) (fun i hi => by show kI S' 13 i = _; rw [i3 i]; exact hI.1.2.2 i hi) ha.2.2.1 (fun S2 k1 k2 k3 k4 => c_changed ?_)
      rw [kF_tF, if_neg (by decide), k2 1, kF_tF, if_pos rfl]
      simp (disch := omega) only [n0, n1, n2, n3, n4, n5, n6, n7, n8, n9, n10, n11, n12, n14, n16, n18, n21, n22, n36, n48, n63, n100, n108, n400, n1000, pk_mul, nI_add, pk_div, nI_subm, nI_ltE, nI_leE, nI_eqE, nI_clamp, vp_inE, nIm1, nIm1', nIm1n, nIm1n', nI_addn]
      have pe : poolE S (tF S2 10 0) := poolE_tF (poolE_tr (poolE_tF i1) k1)
      refine h1 hlt _ ⟨⟨by rw [kF_tF, if_neg (by decide), k2 1, kF_tF, if_pos rfl]; rfl, fun s hs => ?_, fun i hi => k4 i hi⟩, arC_pool hI.2.1 pe, Or.inl ⟨by rw [kF_tF, if_pos rfl]; rfl, id⟩⟩
      have hs : s < 4 * (aP a + 1) := hs
      by_cases e : 4 * aP a ≤ s
      · unfold glR
        rw [show aG (ab_piece a) s = none from if_pos e]
        show kGl S2 (s / 4) (s % 4) = none
        rw [k3]
        show kGl S' (s / 4) (s % 4) = none
        rw [show s / 4 = aP a by omega]
        exact i5 _ (by omega)
      · refine glR_tr (a := a) (S := S) (if_neg e) (fun _ => rfl) ?_ pe (hI.1.2.1 s (by omega))
        show kGl S2 (s / 4) (s % 4) = _
        rw [k3]
        exact i4 _ _ (by omega)
    · rw [kGl_tGl]
      by_cases e : j = f
      · rw [if_pos ⟨rfl, e⟩]
      · rw [if_neg (fun z => e z.2)]; exact i5 j (by omega)
  unfold C_piece_w0
  rw [hI.1.1]
  simp (disch := omega) only [n0, n1, n2, n3, n4, n5, n6, n7, n8, n9, n10, n11, n12, n14, n16, n18, n21, n22, n36, n48, n63, n100, n108, n400, n1000, pk_mul, nI_add, pk_div, nI_subm, nI_ltE, nI_leE, nI_eqE, nI_clamp, vp_inE, nIm1, nIm1', nIm1n, nIm1n', nI_addn]
  exact ⟨fun c => K (by omega) 0 (by omega) S poolE_rf (fun _ => rfl) (fun _ => rfl) (fun _ _ _ => rfl) (fun j hj => absurd hj (Nat.not_lt_zero _)), fun c => h0 c⟩
theorem c_clear {κ : Prop} {a : Ab} (ha : AWf a) {S : CS} (hI : CI κ a S) {post : Int32 → CS → Prop} (h : ∀ S', CI False (ab_clear a) S' → post (nI (aP a)) S') : C_clear S post := by
  apply C_clear_ok
  unfold C_clear_VC C_clear_w0
  refine c_drop (S := tF S 1 0) (sh := aS a) hI.1.2.2 ha.2.2.1 (fun S2 k1 k2 k3 k4 => c_changed ?_)
  rw [hI.1.1]
  have pe : poolE S (tF S2 10 0) := poolE_tF (poolE_tr (poolE_tF poolE_rf) k1)
  refine h _ ⟨⟨by rw [kF_tF, if_neg (by decide), k2 1, kF_tF, if_pos rfl]; rfl, fun s hs => absurd hs (Nat.not_lt_zero _), fun i hi => k4 i hi⟩, arC_pool hI.2.1 pe, Or.inl ⟨by rw [kF_tF, if_pos rfl], id⟩⟩
theorem c_across {κ : Prop} {a : Ab} (ha : AWf a) {S : CS} (hI : CI κ a S) {x1 x2 x3 : Int32} {post : Int32 → CS → Prop} (h0 : ¬ (sideP a x1 x2 ∧ inN x3 2) → post (-2) S) (h1 : sideP a x1 x2 → inN x3 2 → aG a (sdN x1 x2) = none → post (-1) S) (h2 : ∀ t, sideP a x1 x2 → inN x3 2 → aG a (sdN x1 x2) = some t → post (if x3 = 0 then nI (t / 4) else nI (t % 4)) S) : C_across x1 x2 x3 S post := by
  apply C_across_ok
  unfold C_across_VC C_across_w0 C_across_w24 C_across_w63
  have hP := ha.1
  refine c_isPiece hI.1.1 hP (fun i1 => ⟨fun c => absurd c (by decide), fun _ => ?_⟩) (fun q => ⟨fun _ => h0 (fun k => q k.1.1), fun c => absurd rfl c⟩)
  refine c_isCorner (fun i2 => ⟨fun c => absurd c (by decide), fun _ => ?_⟩) (fun q => ⟨fun _ => h0 (fun k => q k.1.2), fun c => absurd rfl c⟩)
  apply c_isIn
  by_cases i3 : inN x3 2
  · rw [if_pos (in01.mpr i3)]
    refine ⟨fun _ => ?_, fun c => absurd c (by decide)⟩
    have h1 := h1 ⟨i1, i2⟩ i3
    have h2 := fun t => h2 t ⟨i1, i2⟩ i3
    obtain ⟨p, hp, rfl⟩ := i1
    obtain ⟨f, hf, rfl⟩ := i2
    unfold sdN at h1 h2
    rw [nI_clamp (by omega), nI_clamp (by omega)] at h1 h2
    have ep : (4 * p + f) / 4 = p := by omega
    have ef : (4 * p + f) % 4 = f := by omega
    rw [nI_clamp (by omega), nI_clamp (by omega), vp_inE (by omega) (by omega), vp_inE (by omega) (by omega)]
    refine ⟨by omega, by omega, ?_⟩
    cases e : aG a (4 * p + f) with
    | none =>
      have := CR_none hI.1 (show 4 * p + f < 4 * aP a by omega) e
      rw [ep, ef] at this
      exact ⟨fun g hg => absurd (this.symm.trans hg) (by simp), fun _ => h1 e⟩
    | some t =>
      obtain ⟨g, g1, g2, g3, g4, _⟩ := CR_some hI.1 (show 4 * p + f < 4 * aP a by omega) e
      rw [ep, ef] at g1
      have h2 := h2 t e
      refine ⟨fun g' hg => ?_, fun q => absurd (g1.symm.trans q) (by simp)⟩
      rw [g1] at hg
      injection hg with hg
      subst hg
      refine ⟨fun c => ⟨g2, ?_⟩, fun c => ⟨g2, ?_⟩⟩
      · rw [if_neg c] at h2; rw [g4]; exact h2
      · rw [if_pos c] at h2; rw [g3]; exact h2
  · rw [if_neg (fun q => i3 (in01.mp q))]
    exact ⟨fun c => absurd rfl c, fun _ => h0 (fun q => i3 q.2)⟩
theorem c_open {κ : Prop} {a : Ab} (ha : AWf a) {S : CS} (hI : CI κ a S) {x1 x2 : Int32} {post : Int32 → CS → Prop} (h0 : ¬ sideP a x1 x2 → post (-2) S) (h1 : sideP a x1 x2 → aG a (sdN x1 x2) = none → post (-3) S) (h2 : ∀ t, sideP a x1 x2 → aG a (sdN x1 x2) = some t → ∀ S', CI False (ab_open a (sdN x1 x2) t) S' → post 1 S') : C_open x1 x2 S post := by
  apply C_open_ok
  unfold C_open_VC C_open_w0 C_open_w15
  have hP := ha.1
  refine c_isPiece hI.1.1 hP (fun i1 => ⟨fun c => absurd c (by decide), fun _ => ?_⟩) (fun q => ⟨fun _ => h0 (fun k => q k.1), fun c => absurd rfl c⟩)
  refine c_isCorner (fun i2 => ⟨fun _ => ?_, fun c => absurd c (by decide)⟩) (fun q => ⟨fun c => absurd rfl c, fun _ => h0 (fun k => q k.2)⟩)
  have h1 := h1 ⟨i1, i2⟩
  have h2 := fun t => h2 t ⟨i1, i2⟩
  obtain ⟨p, hp, rfl⟩ := i1
  obtain ⟨f, hf, rfl⟩ := i2
  unfold sdN at h1 h2
  rw [nI_clamp (by omega), nI_clamp (by omega)] at h1 h2
  have ep : (4 * p + f) / 4 = p := by omega
  have ef : (4 * p + f) % 4 = f := by omega
  rw [nI_clamp (by omega), nI_clamp (by omega), vp_inE (by omega) (by omega), vp_inE (by omega) (by omega)]
  refine ⟨by omega, by omega, ?_⟩
  cases e : aG a (4 * p + f) with
  | none =>
    have := CR_none hI.1 (show 4 * p + f < 4 * aP a by omega) e
    rw [ep, ef] at this
    exact ⟨fun g hg => absurd (this.symm.trans hg) (by simp), fun _ => h1 e⟩
  | some t =>
    obtain ⟨g, g1, g2, g3, g4, _⟩ := CR_some hI.1 (show 4 * p + f < 4 * aP a by omega) e
    rw [ep, ef] at g1
    have ht := ha.2.1 _ t (by omega) e
    have ht1 := ht.1
    have h2 := h2 t e
    refine ⟨fun g' hg => ?_, fun q => absurd (g1.symm.trans q) (by simp)⟩
    rw [g1] at hg
    injection hg with hg
    subst hg
    refine ⟨by omega, by omega, g2, ?_⟩
    rw [show (kG (tGl S p f none) g).1 = nI (t / 4) from g3, show (kG (tGl S p f none) g).2.1 = nI (t % 4) from g4, nI_clamp (by omega), nI_clamp (by omega), vp_inE (by omega) (by omega), vp_inE (by omega) (by omega)]
    refine ⟨by omega, g2, by omega, c_changed (h2 _ ⟨⟨?_, fun s hs => ?_, hI.1.2.2⟩, arC_pool hI.2.1 (poolE_tF (poolE_tGl (poolE_tGl poolE_rf))), Or.inl ⟨by rw [kF_tF, if_pos rfl], id⟩⟩)⟩
    · rw [kF_tF, if_neg (by decide)]; exact hI.1.1
    · have hs : s < 4 * aP a := hs
      by_cases c : s = 4 * p + f ∨ s = t
      · unfold glR
        rw [show aG (ab_open a (4 * p + f) t) s = none from if_pos c]
        show kGl (tGl (tGl S p f none) (t / 4) (t % 4) none) (s / 4) (s % 4) = none
        rw [kGl_tGl, kGl_tGl]
        by_cases c2 : s = t
        · rw [if_pos ⟨by rw [c2], by rw [c2]⟩]
        · have c1 : s = 4 * p + f := by omega
          rw [if_neg (by omega), if_pos ⟨by omega, by omega⟩]
      · refine glR_tr (a := a) (S := S) (if_neg c) (fun _ => rfl) ?_ (poolE_tF (poolE_tGl (poolE_tGl poolE_rf))) (hI.1.2.1 s hs)
        show kGl (tGl (tGl S p f none) (t / 4) (t % 4) none) (s / 4) (s % 4) = _
        rw [kGl_tGl, if_neg (by omega), kGl_tGl, if_neg (by omega)]
