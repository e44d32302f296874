/-! the model: pieces, gluing, opening, across -/
def ab_piece (a : Ab) : Ab := (aP a + 1, fun s => if 4 * aP a ≤ s then none else aG a s, aW a, fun _ => 0)
theorem keepI_sB {S S' : MS} (h : keepI 3 S S') : (∀ k, gF S' k = gF S k) ∧ ∀ b j, b ≠ 3 → gI S' b j = gI S b j := ⟨h.1, h.2.1⟩
theorem s_piece {a : Ab} (ha : AWf a) {S : MS} (hR : MR a S) {post : Int32 → MS → Prop} (h0 : aP a = 3 → post (-4) S) (h1 : aP a < 3 → ∀ S', MR (ab_piece a) S' → post (nI (aP a)) S') : M_piece S post := by
  apply M_piece_ok
  intro T r
  have hP := ha.1
  have K : aP a < 3 → ∀ f, f ≤ 4 → ∀ S', (∀ k, gF S' k = gF S k) → (∀ b j, b ≠ 1 → gI S' b j = gI S b j) → (∀ j, j < 4 * aP a → gI S' 1 j = gI S 1 j) → (∀ j, j < f → gI S' 1 (4 * aP a + j) = -1) → T (nI f) S' := by
    intro hlt
    refine loopUp (P := fun f => ∀ S', (∀ k, gF S' k = gF S k) → (∀ b j, b ≠ 1 → gI S' b j = gI S b j) → (∀ j, j < 4 * aP a → gI S' 1 j = gI S 1 j) → (∀ j, j < f → gI S' 1 (4 * aP a + j) = -1) → T (nI f) S') 4 (fun f hf ih S' i1 i2 i3 i4 => ?_)
    apply r
    unfold M_piece_w13
    rw [i1 0, hR.1]
    simp (disch := omega) only [n0, n1, n2, n3, n4, n5, n6, n7, n8, n9, n10, n11, n12, n14, n16, n18, n21, n22, n36, n48, n63, n100, n108, n400, n1000, pk_mul, nI_add, pk_div, nI_subm, nI_ltE, nI_leE, nI_eqE, nI_clamp, vp_inE, nIm1, nIm1', nIm1n, nIm1n', nI_addn]
    refine ⟨fun c => s_empty (fun S2 hk hz => ?_), fun c => ⟨by omega, ih (by omega) _ i1 (fun b j hb => ?_) (fun j hj => ?_) (fun j hj => ?_)⟩⟩
    · obtain ⟨k1, k2⟩ := keepI_sB hk
      rw [k1 0, gF_sF, if_pos rfl]
      simp (disch := omega) only [n0, n1, n2, n3, n4, n5, n6, n7, n8, n9, n10, n11, n12, n14, n16, n18, n21, n22, n36, n48, n63, n100, n108, n400, n1000, pk_mul, nI_add, pk_div, nI_subm, nI_ltE, nI_leE, nI_eqE, nI_clamp, vp_inE, nIm1, nIm1', nIm1n, nIm1n', nI_addn]
      refine h1 hlt S2 ⟨by rw [k1 0, gF_sF, if_pos rfl]; rfl, fun e he => ?_, fun s hs => ?_, fun s t hs ht c hc => ?_, fun i hi => by rw [hz i hi]; rfl⟩
      · rw [k2 4 e (by decide), k2 5 e (by decide), gI_sF, gI_sF, i2 4 e (by decide), i2 5 e (by decide)]
        exact hR.2.1 e he
      · rw [k2 1 s (by decide), gI_sF]
        show gI S' 1 s = glN (if 4 * aP a ≤ s then none else aG a s)
        by_cases e : 4 * aP a ≤ s
        · rw [if_pos e]
          have hs : s < 4 * (aP a + 1) := hs
          have q := i4 (s - 4 * aP a) (by omega)
          rw [show 4 * aP a + (s - 4 * aP a) = s by omega] at q
          exact q
        · rw [if_neg e, i3 s (by omega)]
          exact hR.2.2.1 s (by omega)
      · have ht : (if 4 * aP a ≤ s then none else aG a s) = some t := ht
        by_cases e : 4 * aP a ≤ s
        · rw [if_pos e] at ht; exact absurd ht (by simp)
        · rw [if_neg e] at ht
          rw [k2 2 _ (by decide), gI_sF, i2 2 _ (by decide)]
          exact hR.2.2.2.1 s t (by omega) ht c hc
    · rw [gI_sI, if_neg (fun q => hb q.1)]; exact i2 b j hb
    · rw [gI_sI, if_neg (by omega)]; exact i3 j hj
    · rw [gI_sI]
      by_cases e : j = f
      · rw [if_pos ⟨rfl, by omega⟩]
        rfl
      · rw [if_neg (by omega)]; exact i4 j (by omega)
  unfold M_piece_w0
  rw [hR.1]
  simp (disch := omega) only [n0, n1, n2, n3, n4, n5, n6, n7, n8, n9, n10, n11, n12, n14, n16, n18, n21, n22, n36, n48, n63, n100, n108, n400, n1000, pk_mul, nI_add, pk_div, nI_subm, nI_ltE, nI_leE, nI_eqE, nI_clamp, vp_inE, nIm1, nIm1', nIm1n, nIm1n', nI_addn]
  refine ⟨fun c => K (by omega) 0 (by omega) S (fun _ => rfl) (fun _ _ _ => rfl) (fun _ _ => rfl) (fun j hj => absurd hj (Nat.not_lt_zero _)), fun c => h0 c⟩
theorem AWf_piece {a : Ab} (ha : AWf a) (hlt : aP a < 3) : AWf (ab_piece a) := by
  refine ⟨hlt, fun s t hs ht => ?_, fun i => Nat.zero_le _, fun i _ => rfl⟩
  have ht : (if 4 * aP a ≤ s then none else aG a s) = some t := ht
  by_cases e : 4 * aP a ≤ s
  · rw [if_pos e] at ht; exact absurd ht (by simp)
  · rw [if_neg e] at ht
    obtain ⟨h1, h2, h3, h4, h5⟩ := ha.2.1 s t (by omega) ht
    refine ⟨show t < 4 * (aP a + 1) by omega, h2, ?_, h4, h5⟩
    show (if 4 * aP a ≤ t then none else aG a t) = some s
    rw [if_neg (by omega)]
    exact h3
theorem AWf_clear (a : Ab) : AWf (ab_clear a) := ⟨Nat.zero_le _, fun s t hs => absurd hs (Nat.not_lt_zero _), fun i => Nat.zero_le _, fun i _ => rfl⟩
theorem AWf_sheet {a : Ab} (ha : AWf a) {sh : Nat → Nat} (h1 : ∀ i, sh i ≤ 1000) (h2 : ∀ i, 7 * aP a ≤ i → sh i = 0) : AWf (aP a, aG a, aW a, sh) := ⟨ha.1, ha.2.1, h1, h2⟩
/-- across -/
def sideP (a : Ab) (x1 x2 : Int32) : Prop := inN x1 (aP a) ∧ inN x2 4
abbrev sdN (x1 x2 : Int32) : Nat := 4 * x1.toNatClampNeg + x2.toNatClampNeg
theorem in01 {w : Int32} : ((0 : Int32) ≤ w ∧ w ≤ 1) ↔ inN w 2 := in_iff (n := 1) (by decide)
theorem s_across {a : Ab} (ha : AWf a) {S : MS} (hR : MR a S) {x1 x2 x3 : Int32} {post : Int32 → MS → Prop} (h0 : ¬ (sideP a x1 x2 ∧ inN x3 2) → post (-2) S) (h1 : sideP a x1 x2 → inN x3 2 → aG a (sdN x1 x2) = none → post (-1) S) (h2 : ∀ t, sideP a x1 x2 → inN x3 2 → aG a (sdN x1 x2) = some t → post (if x3 = 0 then nI (t / 4) else nI (t % 4)) S) : M_across x1 x2 x3 S post := by
  apply M_across_ok
  unfold M_across_VC M_across_w0 M_across_w18 M_across_w58
  have hP := ha.1
  refine s_isSide hR.1 hP (fun i1 i2 => ⟨fun c => absurd c (by decide), fun _ => ?_⟩) (fun q => ⟨fun _ => h0 (fun q2 => q q2.1), fun c => absurd rfl c⟩)
  apply s_in
  by_cases i3 : inN x3 2
  · rw [if_pos (in01.mpr i3)]
    refine ⟨fun _ => ?_, fun c => absurd c (by decide)⟩
    have h1 := h1 ⟨i1, i2⟩ i3
    have h2 := fun t => h2 t ⟨i1, i2⟩ i3
    obtain ⟨p, hp, rfl⟩ := i1
    obtain ⟨f, hf, rfl⟩ := i2
    simp (disch := omega) only [n0, n1, n2, n3, n4, n5, n6, n7, n8, n9, n10, n11, n12, n14, n16, n18, n21, n22, n36, n48, n63, n100, n108, n400, n1000, pk_mul, nI_add, pk_div, nI_subm, nI_ltE, nI_leE, nI_eqE, nI_clamp, vp_inE, nIm1, nIm1', nIm1n, nIm1n', nI_addn]
    unfold sdN at h1 h2
    rw [nI_clamp (by omega), nI_clamp (by omega)] at h1 h2
    rw [hR.2.2.1 _ (show 4 * p + f < 4 * aP a by omega)]
    refine ⟨by omega, ?_⟩
    cases e : aG a (4 * p + f) with
    | none => exact ⟨fun c => absurd rfl c, fun _ => h1 e⟩
    | some t =>
      have ht := (ha.2.1 _ t (by omega) e).1
      have h2 := h2 t e
      unfold glN
      simp (disch := omega) only [n0, n1, n2, n3, n4, n5, n6, n7, n8, n9, n10, n11, n12, n14, n16, n18, n21, n22, n36, n48, n63, n100, n108, n400, n1000, pk_mul, nI_add, pk_div, nI_subm, nI_ltE, nI_leE, nI_eqE, nI_clamp, vp_inE, nIm1, nIm1', nIm1n, nIm1n', nI_addn]
      refine ⟨fun _ => ⟨fun c => ?_, fun c => ?_⟩, fun c => absurd c id⟩
      · rw [if_neg (show ¬ x3 = 0 from c)] at h2
        rw [show t - t / 4 * 4 = t % 4 by omega]
        exact h2
      · rw [if_pos (show x3 = 0 from c)] at h2
        exact h2
  · rw [if_neg (fun q => i3 (in01.mp q))]
    exact ⟨fun c => absurd rfl c, fun _ => h0 (fun q => i3 q.2)⟩
def ab_open (a : Ab) (s t : Nat) : Ab := (aP a, fun k => if k = s ∨ k = t then none else aG a k, aW a, aS a)
theorem s_open {a : Ab} (ha : AWf a) {S : MS} (hR : MR a S) {x1 x2 : Int32} {post : Int32 → MS → Prop} (h0 : ¬ sideP a x1 x2 → post (-2) S) (h1 : sideP a x1 x2 → aG a (sdN x1 x2) = none → post (-3) S) (h2 : ∀ t, sideP a x1 x2 → aG a (sdN x1 x2) = some t → ∀ S', MR (ab_open a (sdN x1 x2) t) S' → post 1 S') : M_open x1 x2 S post := by
  apply M_open_ok
  unfold M_open_VC M_open_w0
  have hP := ha.1
  refine s_isSide hR.1 hP (fun i1 i2 => ⟨fun _ => ?_, fun c => absurd c (by decide)⟩) (fun q => ⟨fun c => absurd rfl c, fun _ => h0 q⟩)
  have h1 := h1 ⟨i1, i2⟩
  have h2 := fun t => h2 t ⟨i1, i2⟩
  obtain ⟨p, hp, rfl⟩ := i1
  obtain ⟨f, hf, rfl⟩ := i2
  unfold sdN at h1 h2
  rw [nI_clamp (by omega), nI_clamp (by omega)] at h1 h2
  simp (disch := omega) only [n0, n1, n2, n3, n4, n5, n6, n7, n8, n9, n10, n11, n12, n14, n16, n18, n21, n22, n36, n48, n63, n100, n108, n400, n1000, pk_mul, nI_add, pk_div, nI_subm, nI_ltE, nI_leE, nI_eqE, nI_clamp, vp_inE, nIm1, nIm1', nIm1n, nIm1n', nI_addn]
  rw [hR.2.2.1 _ (show 4 * p + f < 4 * aP a by omega)]
  refine ⟨by omega, ?_⟩
  cases e : aG a (4 * p + f) with
  | none => exact ⟨fun c => absurd rfl c, fun _ => h1 e⟩
  | some t =>
    have ht := ha.2.1 _ t (by omega) e
    have h2 := h2 t e
    unfold glN
    have ht1 := ht.1
    simp (disch := omega) only [n0, n1, n2, n3, n4, n5, n6, n7, n8, n9, n10, n11, n12, n14, n16, n18, n21, n22, n36, n48, n63, n100, n108, n400, n1000, pk_mul, nI_add, pk_div, nI_subm, nI_ltE, nI_leE, nI_eqE, nI_clamp, vp_inE, nIm1, nIm1', nIm1n, nIm1n', nI_addn]
    refine ⟨fun _ => ⟨by omega, by omega, by omega, h2 _ ⟨hR.1, hR.2.1, fun s hs => ?_, fun s t' hs ht' c hc => ?_, hR.2.2.2.2⟩⟩, fun c => absurd c id⟩
    · rw [gI_sI, gI_sI]
      show _ = glN (if s = 4 * p + f ∨ s = t then none else aG a s)
      by_cases e1 : s = 4 * p + f
      · rw [if_pos ⟨rfl, e1⟩, if_pos (Or.inl e1)]; rfl
      · rw [if_neg (fun q => e1 q.2)]
        by_cases e2 : s = t
        · rw [if_pos ⟨rfl, e2⟩, if_pos (Or.inr e2)]; rfl
        · rw [if_neg (fun q => e2 q.2), if_neg (by omega)]
          exact hR.2.2.1 s hs
    · have ht' : (if s = 4 * p + f ∨ s = t then none else aG a s) = some t' := ht'
      by_cases e1 : s = 4 * p + f ∨ s = t
      · rw [if_pos e1] at ht'; exact absurd ht' (by simp)
      · rw [if_neg e1] at ht'
        rw [gI_sI, if_neg (fun q => absurd q.1 (by decide)), gI_sI, if_neg (fun q => absurd q.1 (by decide))]
        exact hR.2.2.2.1 s t' hs ht' c hc
theorem AWf_open {a : Ab} (ha : AWf a) {s t : Nat} (hs : s < 4 * aP a) (ht : aG a s = some t) : AWf (ab_open a s t) := by
  refine ⟨ha.1, fun s' t' hs' ht' => ?_, ha.2.2⟩
  have ht' : (if s' = s ∨ s' = t then none else aG a s') = some t' := ht'
  by_cases e1 : s' = s ∨ s' = t
  · rw [if_pos e1] at ht'; exact absurd ht' (by simp)
  · rw [if_neg e1] at ht'
    obtain ⟨h1, h2, h3, h4, h5⟩ := ha.2.1 s' t' hs' ht'
    obtain ⟨q1, q2, q3, q4, q5⟩ := ha.2.1 s t hs ht
    refine ⟨h1, h2, ?_, h4, h5⟩
    show (if t' = s ∨ t' = t then none else aG a t') = some s'
    rw [if_neg]
    · exact h3
    · rintro (e | e)
      · subst e; rw [ht] at h3; injection h3 with h3; omega
      · subst e; rw [q3] at h3; injection h3 with h3; omega
