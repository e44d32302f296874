/-! the component: cuts, beyond, spread -/
def hasB (S : CS) (a : Ab) : Prop := ∀ i, i ≤ 7 * aP a → kI S 14 i = nI (cf a i)
/-- what the search of parts may change -/
def frQ (S S' : CS) : Prop := extC S S' ∧ (∀ b j, b < 14 ∨ 18 < b → kI S' b j = kI S b j) ∧ (∀ k, kF S' k = kF S k)
theorem frQ_rf {S : CS} : frQ S S := ⟨extC_rf, fun _ _ _ => rfl, fun _ => rfl⟩
theorem frQ_tr {S S' S'' : CS} (h : frQ S S') (h' : frQ S' S'') : frQ S S'' := ⟨extC_tr h.1 h'.1, fun b j hb => by rw [h'.2.1 b j hb, h.2.1 b j hb], fun k => by rw [h'.2.2 k, h.2.2 k]⟩
theorem frQ_tI {S S' : CS} {b j : Nat} {v : Int32} (hb : 14 ≤ b ∧ b ≤ 18) (h : frQ S S') : frQ S (tI S' b j v) := ⟨extC_tI (by omega) h.1, fun b' i hb' => by rw [kI_tI, if_neg (by omega)]; exact h.2.1 b' i hb', h.2.2⟩
theorem c_allCuts {κ : Prop} {a : Ab} (ha : AWf a) {S : CS} (hI : CI κ a S) {post : Int32 → CS → Prop} (h : ∀ S', frQ S S' → (∀ b j, b ≠ 14 → kI S' b j = kI S b j) → hasB S' a → post (nI (cf a (7 * aP a))) S') : C_allCuts S post := by
  apply C_allCuts_ok
  intro T r
  have hP := ha.1
  unfold C_allCuts_w0
  have ez : (0 : Int32).toNatClampNeg = 0 := rfl
  rw [ez]
  suffices K : ∀ i, i ≤ 7 * aP a → ∀ S', frQ S S' → (∀ b j, b ≠ 14 → kI S' b j = kI S b j) → (∀ j, j ≤ i → kI S' 14 j = nI (cf a j)) → T (nI i) S' from K 0 (by omega) _ (frQ_tI (by omega) frQ_rf) (fun b j hb => by rw [kI_tI, if_neg (fun z => hb z.1)]) (fun j hj => by rw [kI_tI, if_pos ⟨rfl, by omega⟩, show j = 0 by omega]; rfl)
  refine loopUp (P := fun i => ∀ S', frQ S S' → (∀ b j, b ≠ 14 → kI S' b j = kI S b j) → (∀ j, j ≤ i → kI S' 14 j = nI (cf a j)) → T (nI i) S') (7 * aP a) (fun i hi ih S' g1 g2 g3 => ?_)
  apply r
  have hI' := CI_ext hI g1.1
  unfold C_allCuts_w9
  rw [hI'.1.1]
  have e7 : (7 : Int32) * nI (aP a) = nI (7 * aP a) := by simp (disch := omega) only [n0, n1, n2, n3, n4, n5, n6, n7, n8, n9, n10, n11, n12, n14, n16, n18, n21, n22, n36, n48, n63, n100, n108, n400, n1000, pk_mul, nI_add, pk_div, nI_subm, nI_ltE, nI_leE, nI_eqE, nI_clamp, vp_inE, nIm1, nIm1', nIm1n, nIm1n', nI_addn]
  rw [e7, nI_leE (by omega) (by omega), nI_clamp (by omega), nI_clamp (by omega), show (nI i : Int32) + 1 = nI (i + 1) from nI_add i 1, nI_clamp (by omega), vp_inE (by omega) (by omega), vp_inE (by omega) (by omega), vp_inE (by omega) (by omega), vp_inE (by omega) (by omega)]
  refine ⟨fun q => ⟨by omega, ?_⟩, fun q => ⟨by omega, by omega, by omega, ?_⟩⟩
  · have e : i = 7 * aP a := by omega
    rw [e] at g3
    rw [g3 _ (Nat.le_refl _)]
    exact h S' g1 g2 (fun j hj => g3 j hj)
  · rw [g3 i (Nat.le_refl _), hI'.1.2.2 i (by omega), nI_add]
    refine ih (by omega) _ (frQ_tI (by omega) g1) (fun b j hb => by rw [kI_tI, if_neg (fun z => hb z.1)]; exact g2 b j hb) (fun j hj => ?_)
    rw [kI_tI]
    by_cases c : j = i + 1
    · rw [if_pos ⟨rfl, c⟩, c]; rfl
    · rw [if_neg (fun z => c z.2)]; exact g3 j (by omega)
def nearB (k c : Nat) : Bool := decide (c = 0 ∨ c = k + 1)
theorem c_isNear {k c : Nat} (hk : k < 3) (hc : c < 4) {S : CS} {post : Int32 → CS → Prop} (h : post (zB (nearB k c)) S) : C_isNear (nI k) (nI c) S post := by
  apply C_isNear_ok
  unfold C_isNear_VC C_isNear_w0 C_isNear_w11 C_isNear_w16
  unfold nearB at h
  simp (disch := omega) only [n0, n1, n2, n3, n4, n5, n6, n7, n8, n9, n10, n11, n12, n14, n16, n18, n21, n22, n36, n48, n63, n100, n108, n400, n1000, pk_mul, nI_add, pk_div, nI_subm, nI_ltE, nI_leE, nI_eqE, nI_clamp, vp_inE, nIm1, nIm1', nIm1n, nIm1n', nI_addn]
  refine ⟨fun c1 => ⟨zok1, ?_⟩, fun c1 => ⟨fun c2 => ⟨zok0, ?_⟩, fun c2 => ⟨zok1, ?_⟩⟩⟩
  · rw [decide_eq_true (Or.inl c1)] at h; exact h
  · rw [decide_eq_false (by omega)] at h; exact h
  · rw [decide_eq_true (Or.inr c2)] at h; exact h
theorem near_kind : ∀ c f : Fin 4, c.val ≠ f.val → (nearB (kindN c.val f.val) c.val = true ↔ (c.val = 0 ∨ f.val = 0)) := by decide
theorem c_cutOf {κ : Prop} {a : Ab} (ha : AWf a) {S : CS} (hI : CI κ a S) (hB : hasB S a) {s c i : Nat} (hs : s < 4 * aP a) (hc : c < 4) (hne : c ≠ s % 4) (hi : i < arcN a (s / 4) (s % 4) c) {post : Int32 → CS → Prop} (h : post (nI (cutN a s c i)) S) : C_cutOf (nI (s / 4)) (nI (s % 4)) (nI c) (nI i) S post := by
  apply C_cutOf_ok
  unfold C_cutOf_VC C_cutOf_w0 C_cutOf_w84
  have hP := ha.1
  have hk := kindN_lt hc (show s % 4 < 4 by omega) hne
  have hal := arcN_le ha (s / 4) (s % 4) c
  have hs1 := ha.2.2.1 (7 * (s / 4) + c)
  have hs2 := ha.2.2.1 (7 * (s / 4) + 4 + kindN c (s % 4))
  have hc1 := cf_le ha (7 * (s / 4) + c)
  have hc2 := cf_le ha (7 * (s / 4) + 4 + kindN c (s % 4))
  have nk := near_kind ⟨c, hc⟩ ⟨s % 4, by omega⟩ hne
  have nk : nearB (kindN c (s % 4)) c = true ↔ (c = 0 ∨ s % 4 = 0) := nk
  unfold arcN at hi
  unfold cutN at h
  refine c_threes hI (by omega) hc ?_
  rw [nI_leE (by omega) (by omega)]
  refine ⟨fun q => c_kindOf hc (by omega) hne (c_threes hI (by omega) hc ?_), fun q => ?_⟩
  · rw [if_neg (by omega)] at h
    have e1 : ((7 : Int32) * nI (s / 4) + 4) + nI (kindN c (s % 4)) = nI (7 * (s / 4) + 4 + kindN c (s % 4)) := by simp (disch := omega) only [n0, n1, n2, n3, n4, n5, n6, n7, n8, n9, n10, n11, n12, n14, n16, n18, n21, n22, n36, n48, n63, n100, n108, n400, n1000, pk_mul, nI_add, pk_div, nI_subm, nI_ltE, nI_leE, nI_eqE, nI_clamp, vp_inE, nIm1, nIm1', nIm1n, nIm1n', nI_addn]
    rw [e1, vp_inE (by omega) (by omega), nI_clamp (by omega), hB _ (by omega), nI_subm (by omega)]
    refine ⟨by omega, c_isNear hk hc ?_⟩
    cases e : nearB (kindN c (s % 4)) c with
    | true =>
      rw [if_pos (nk.mp e)] at h
      refine ⟨fun z => absurd z (by decide), fun _ => ?_⟩
      rw [nI_add]
      exact h
    | false =>
      have : ¬ (c = 0 ∨ s % 4 = 0) := fun z => by have := nk.mpr z; rw [e] at this; exact absurd this (by decide)
      rw [if_neg this] at h
      refine ⟨fun _ => c_fours hI (by omega) hk ?_, fun z => absurd rfl z⟩
      rw [show (1 : Int32) = nI 1 from rfl, nI_subm (by omega), nI_subm (by omega), nI_add]
      exact h
  · rw [if_pos (by omega)] at h
    have e1 : (7 : Int32) * nI (s / 4) + nI c = nI (7 * (s / 4) + c) := by simp (disch := omega) only [n0, n1, n2, n3, n4, n5, n6, n7, n8, n9, n10, n11, n12, n14, n16, n18, n21, n22, n36, n48, n63, n100, n108, n400, n1000, pk_mul, nI_add, pk_div, nI_subm, nI_ltE, nI_leE, nI_eqE, nI_clamp, vp_inE, nIm1, nIm1', nIm1n, nIm1n', nI_addn]
    rw [e1, vp_inE (by omega) (by omega), nI_clamp (by omega), hB _ (by omega), nI_add]
    exact ⟨by omega, h⟩
/-- how a sort looks to a corner -/
def lkK (k c : Nat) : Bool := decide (k < 4) || nearB (k - 4) c
theorem c_looks {k c : Nat} (hk : k < 7) (hc : c < 4) {S : CS} {post : Int32 → CS → Prop} (h : post (sgI (lkK k c)) S) : C_looks (nI k) (nI c) S post := by
  apply C_looks_ok
  unfold C_looks_VC C_looks_w0 C_looks_w15 C_looks_w20
  unfold lkK at h
  rw [show (4 : Int32) = nI 4 from rfl, nI_ltE (by omega) (by omega)]
  refine ⟨fun q => ?_, fun q => ?_⟩
  · rw [decide_eq_true q, Bool.true_or] at h; exact h
  · rw [decide_eq_false q, Bool.false_or] at h
    rw [nI_subm (by omega)]
    refine c_isNear (by omega) hc ?_
    cases e : nearB (k - 4) c with
    | true => rw [e] at h; exact ⟨fun z => absurd z (by decide), fun _ => h⟩
    | false => rw [e] at h; exact ⟨fun _ => h, fun z => absurd rfl z⟩
theorem c_kindOfCut {a : Ab} (ha : AWf a) {S : CS} (hB : hasB S a) {cut : Nat} (hlt : cut < cf a (7 * aP a)) {post : Int32 → CS → Prop} (h : post (nI (sortN a cut)) S) : C_kindOfCut (nI cut) S post := by
  apply C_kindOfCut_ok
  intro T r
  have hP := ha.1
  have hcl := cf_le ha (7 * aP a)
  obtain ⟨h1, h2, h3⟩ := sortN_spec hlt
  refine loopUp (P := fun k => T (nI cut) (nI k) S) (sortN a cut) (fun k hk ih => ?_) 0 (by omega)
  apply r
  unfold C_kindOfCut_w2
  have hm := cf_mono a (show k + 1 ≤ 7 * aP a by omega)
  simp (disch := omega) only [n0, n1, n2, n3, n4, n5, n6, n7, n8, n9, n10, n11, n12, n14, n16, n18, n21, n22, n36, n48, n63, n100, n108, n400, n1000, pk_mul, nI_add, pk_div, nI_subm, nI_ltE, nI_leE, nI_eqE, nI_clamp, vp_inE, nIm1, nIm1', nIm1n, nIm1n', nI_addn]
  rw [hB _ (show k + 1 ≤ 7 * aP a by omega)]
  simp (disch := omega) only [n0, n1, n2, n3, n4, n5, n6, n7, n8, n9, n10, n11, n12, n14, n16, n18, n21, n22, n36, n48, n63, n100, n108, n400, n1000, pk_mul, nI_add, pk_div, nI_subm, nI_ltE, nI_leE, nI_eqE, nI_clamp, vp_inE, nIm1, nIm1', nIm1n, nIm1n', nI_addn]
  refine ⟨by omega, fun q => ?_, fun q => ih ?_⟩
  · by_cases e : k = sortN a cut
    · rw [e]; exact h
    · have := cf_mono a (show k + 1 ≤ sortN a cut by omega)
      omega
  · by_cases e : k = sortN a cut
    · rw [e] at q; omega
    · omega
theorem sortN_at {a : Ab} {x k : Nat} (hk : k < 7 * aP a) (h1 : cf a k ≤ x) (h2 : x < cf a (k + 1)) : sortN a x = k := by
  have hx : x < cf a (7 * aP a) := Nat.lt_of_lt_of_le h2 (cf_mono a (by omega))
  obtain ⟨s1, s2, s3⟩ := sortN_spec hx
  rcases Nat.lt_trichotomy (sortN a x) k with c | c | c
  · have := cf_mono a (show sortN a x + 1 ≤ k by omega); omega
  · exact c
  · have := cf_mono a (show k + 1 ≤ sortN a x by omega); omega
/-- the sort of the cut at an arc looks as the arc does -/
theorem lk_cut {a : Ab} {s c i : Nat} (hs : s < 4 * aP a) (hc : c < 4) (hne : c ≠ s % 4) (hi : i < arcN a (s / 4) (s % 4) c) : lkK (sortN a (cutN a s c i) % 7) c = lookN a s c i ∧ sortN a (cutN a s c i) / 7 = s / 4 := by
  have hk := kindN_lt hc (show s % 4 < 4 by omega) hne
  have nk : nearB (kindN c (s % 4)) c = true ↔ (c = 0 ∨ s % 4 = 0) := near_kind ⟨c, hc⟩ ⟨s % 4, by omega⟩ hne
  rcases cutN_in hc hne hi with ⟨h1, h2⟩ | ⟨h1, j, h2, h3, _⟩
  · have e := sortN_at (a := a) (x := cutN a s c i) (k := 7 * (s / 4) + c) (by omega) (by omega) (by rw [cf_s]; omega)
    rw [e, show (7 * (s / 4) + c) % 7 = c by omega, show (7 * (s / 4) + c) / 7 = s / 4 by omega]
    refine ⟨?_, rfl⟩
    unfold lkK lookN
    rw [decide_eq_true hc, Bool.true_or, decide_eq_true (Or.inl h1)]
  · have e := sortN_at (a := a) (x := cutN a s c i) (k := 7 * (s / 4) + 4 + kindN c (s % 4)) (by omega) (by omega) (by rw [cf_s]; omega)
    rw [e, show (7 * (s / 4) + 4 + kindN c (s % 4)) % 7 = 4 + kindN c (s % 4) by omega, show (7 * (s / 4) + 4 + kindN c (s % 4)) / 7 = s / 4 by omega]
    refine ⟨?_, rfl⟩
    unfold lkK lookN
    rw [decide_eq_false (by omega), Bool.false_or, show 4 + kindN c (s % 4) - 4 = kindN c (s % 4) by omega]
    cases e2 : nearB (kindN c (s % 4)) c with
    | true => exact (decide_eq_true (Or.inr (nk.mp e2))).symm
    | false =>
      have : ¬ (c = 0 ∨ s % 4 = 0) := fun z => by have := nk.mpr z; rw [e2] at this; exact absurd this (by decide)
      exact (decide_eq_false (by omega)).symm
theorem c_beyond {κ : Prop} {a : Ab} (ha : AWf a) (hfit : fitA a) {S : CS} (hI : CI κ a S) (hB : hasB S a) {s t c cut : Nat} (hs : s < 4 * aP a) (ht : aG a s = some t) (hc : c < 4) (hne : c ≠ s % 4) (hcut : cut < 2 ^ 30) {post : Int32 → CS → Prop} (h : post (glN ((srch (fun i => cutN a s c i == cut) (arcN a (s / 4) (s % 4) c)).map (fun i => cutN a t (aW a s c) i))) S) : C_beyond (nI cut) (nI (s / 4)) (nI (s % 4)) (nI c) S post := by
  apply C_beyond_ok
  intro T r
  have hP := ha.1
  have hcl := cf_le ha (7 * aP a)
  unfold C_beyond_w0
  refine c_arcs hI (by omega) (by omega) hc hne ?_
  have hal := arcN_le ha (s / 4) (s % 4) c
  obtain ⟨ht1, ht2, ht3, ht4, hw⟩ := ha.2.1 s t hs ht
  have hwc := (hw c hc).1
  have hwne : aW a s c ≠ t % 4 := by
    rw [← ht4]
    exact AWf_inj ha hs ht hc (by omega) hne
  obtain ⟨g, w1, w2, w3, w4, w5, w6, w7⟩ := CR_some hI.1 hs ht
  suffices K : ∀ i, i ≤ arcN a (s / 4) (s % 4) c → (∀ j, j < i → cutN a s c j ≠ cut) → T (nI cut) (nI (s / 4)) (nI (s % 4)) (nI c) (nI (arcN a (s / 4) (s % 4) c)) (nI i) S from K 0 (by omega) (fun j hj => absurd hj (Nat.not_lt_zero _))
  refine loopUp (P := fun i => (∀ j, j < i → cutN a s c j ≠ cut) → T (nI cut) (nI (s / 4)) (nI (s % 4)) (nI c) (nI (arcN a (s / 4) (s % 4) c)) (nI i) S) (arcN a (s / 4) (s % 4) c) (fun i hi ih hno => ?_)
  apply r
  unfold C_beyond_w13
  rw [nI_leE (by omega) (by omega), show (nI i : Int32) + 1 = nI (i + 1) from nI_add i 1]
  refine ⟨fun q => ?_, fun q => c_cutOf ha hI hB hs hc hne (by omega) ?_⟩
  · cases e : srch (fun i => cutN a s c i == cut) (arcN a (s / 4) (s % 4) c) with
    | none => rw [e] at h; exact h
    | some k =>
      obtain ⟨k1, k2, _⟩ := srch_some e
      exact absurd (by simpa using k2) (hno k (by omega))
  · have lc := cutN_lt hs hc hne (show i < arcN a (s / 4) (s % 4) c by omega)
    rw [nI_eqE (by omega) (by omega), nI_clamp (by omega), nI_clamp (by omega), vp_inE (by omega) (by omega), vp_inE (by omega) (by omega)]
    refine ⟨fun q2 => ih (by omega) (fun j hj => ?_), fun q2 => ⟨by omega, by omega, g, w1, w2, by omega, by omega, g, w1, w2, by omega, by omega, g, w1, w2, w5, ?_⟩⟩
    · by_cases e : j = i
      · subst e; exact q2
      · exact hno j (by omega)
    · rw [w6, w3, w4, nI_clamp (by omega), w7 c hc, vp_inE (by omega) (by omega)]
      have e : srch (fun i => cutN a s c i == cut) (arcN a (s / 4) (s % 4) c) = some i := srch_at (by omega) (by simpa using q2) (fun j hj => by simpa using hno j hj)
      rw [e] at h
      have hit : i < arcN a (t / 4) (t % 4) (aW a s c) := by rw [← hfit s t c hs ht hc hne]; omega
      exact ⟨by omega, c_cutOf ha hI hB ht1 hwc hwne hit h⟩
/-! the search -/
def bK (S : CS) (B : Bf) (n m : Nat) : Prop := (∀ k, k < n → kI S 15 k = glN (bP B k)) ∧ (∀ k, k < n → bP B k ≠ none → kI S 16 k = sgI (bS B k)) ∧ (∀ j, j < bT B → kI S 17 j = nI (bQ B j)) ∧ kI S 18 m = zB (bW B)
def QL (m : Nat) (B : Bf) : Prop := ∀ j, j < bT B → bP B (bQ B j) = some m
theorem QL_vis {m : Nat} {B : Bf} {cut o : Nat} {same : Bool} (h : QL m B) (hc : bP B cut = some m) : QL m (visF B cut o same) ∧ bP (visF B cut o same) cut = some m := by
  unfold visF
  by_cases c : bP B o = none
  · rw [if_pos c]
    have hne : cut ≠ o := fun e => by rw [e, c] at hc; exact absurd hc (by simp)
    refine ⟨fun j hj => ?_, ?_⟩
    · have hj : j < bT B + 1 := hj
      show upF (bP B) o (bP B cut) (upF (bQ B) (bT B) o j) = some m
      by_cases e : j = bT B
      · rw [e, upF_at, upF_at]; exact hc
      · rw [upF_ne _ _ e]
        have := h j (by omega)
        rw [upF_ne _ _ (fun e2 => by rw [e2, c] at this; exact absurd this (by simp))]
        exact this
    · show upF (bP B) o (bP B cut) cut = some m
      rw [upF_ne _ _ hne]; exact hc
  · rw [if_neg c]; exact ⟨h, hc⟩
theorem QL_step {a : Ab} {m : Nat} {B : Bf} {cut s c : Nat} (h : QL m B) (hc : bP B cut = some m) : QL m (stepF a B cut s c) ∧ bP (stepF a B cut s c) cut = some m := by
  unfold stepF
  cases aG a s with
  | none => exact ⟨h, hc⟩
  | some t =>
    show QL m (if c = s % 4 then B else match srch (fun i => cutN a s c i == cut) (arcN a (s / 4) (s % 4) c) with | none => B | some i => visF B cut (cutN a t (aW a s c) i) (lookN a s c i == lookN a t (aW a s c) i)) ∧ bP (if c = s % 4 then B else match srch (fun i => cutN a s c i == cut) (arcN a (s / 4) (s % 4) c) with | none => B | some i => visF B cut (cutN a t (aW a s c) i) (lookN a s c i == lookN a t (aW a s c) i)) cut = some m
    by_cases c1 : c = s % 4
    · rw [if_pos c1]; exact ⟨h, hc⟩
    · rw [if_neg c1]
      cases srch (fun i => cutN a s c i == cut) (arcN a (s / 4) (s % 4) c) with
      | none => exact ⟨h, hc⟩
      | some i => exact QL_vis h hc
theorem QL_C {a : Ab} {m : Nat} {B : Bf} {cut s : Nat} (h : QL m B) (hc : bP B cut = some m) (n : Nat) : QL m (stC a B cut s n) ∧ bP (stC a B cut s n) cut = some m := by
  induction n with
  | zero => exact ⟨h, hc⟩
  | succ n ih => exact QL_step ih.1 ih.2
theorem QL_S {a : Ab} {m : Nat} {B : Bf} {cut p : Nat} (h : QL m B) (hc : bP B cut = some m) (n : Nat) : QL m (stS a B cut p n) ∧ bP (stS a B cut p n) cut = some m := by
  induction n with
  | zero => exact ⟨h, hc⟩
  | succ n ih => exact QL_C ih.1 ih.2 4
