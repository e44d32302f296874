/-! the model's parts and part -/
def legP (a : Ab) : Prop := fitA a ∧ oneKind (shSet a) (aP a)
theorem s_parts {a : Ab} (ha : AWf a) {L : Lb} (hl : labs a L) {S : MS} (hR : MR a S) {post : Int32 → MS → Prop} (h0 : ¬ legP a → ∀ S', MR a S' → post (-3) S') (h1 : legP a → ¬ cf a (7 * aP a) ≤ 400 → ∀ S', MR a S' → post (-4) S') (h2 : legP a → cf a (7 * aP a) ≤ 400 → ∀ S', MR a S' → post (nI (fpF a (cf a (7 * aP a))).2.1) S') : M_parts S post := by
  apply M_parts_ok
  unfold M_parts_VC M_parts_w0 M_parts_w31
  have hP := ha.1
  have hcl := cf_le ha (7 * aP a)
  refine s_legal ha hR (fun q => ⟨fun c => absurd c (by decide), fun _ => h0 (fun k => q k.1) S hR⟩) (fun q1 q2 => ⟨fun c => absurd c (by decide), fun _ => h0 (fun k => q2 k.2) S hR⟩) (fun q1 q2 => ⟨fun _ => s_findParts ha q1 hl hR (fun r S' g1 g2 g3 g4 g5 => ?_), fun c => absurd rfl c⟩)
  rw [g3, show (400 : Int32) = nI 400 from rfl, nI_leE (by omega) (by omega)]
  refine ⟨fun c => ?_, fun c => h1 ⟨q1, q2⟩ c S' g1⟩
  rw [(g5 c).1]
  exact h2 ⟨q1, q2⟩ c S' g1
/-- how many of the first n cuts are of part k -/
def pcN (a : Ab) (k n : Nat) : Nat := sumN (fun j => if bP (fpF a (cf a (7 * aP a))).1 j = some k then 1 else 0) n
theorem glN_some {o : Option Nat} {k : Nat} (h : ∀ v, o = some v → v < 400) (hk : k < 400) : glN o = nI k ↔ o = some k := by
  cases o with
  | none =>
    constructor
    · intro q
      have q : (-1 : Int32) = nI k := q
      rw [nIm1' (by omega)] at q
      exact absurd q id
    · intro q; exact absurd q (by simp)
  | some v =>
    have hv := h v rfl
    constructor
    · intro q
      have q : nI v = nI k := q
      rw [nI_eqE (by omega) (by omega)] at q
      rw [q]
    · intro q; injection q with q; rw [q]; rfl
theorem s_cutsOf {a : Ab} (ha : AWf a) (hfit : fitA a) {S : MS} (hn : cf a (7 * aP a) ≤ 400) (h19 : gF S 19 = nI (cf a (7 * aP a))) (hF : found S a (cf a (7 * aP a))) {k : Nat} (hk : k < 400) {post : Int32 → MS → Prop} (h : post (nI (pcN a k (cf a (7 * aP a)))) S) : M_cutsOf (nI k) S post := by
  apply M_cutsOf_ok
  intro T r
  refine loopUp (P := fun i => T (nI k) (nI (pcN a k i)) (nI i) S) (cf a (7 * aP a)) (fun i hi ih => ?_) 0 (by omega)
  apply r
  unfold M_cutsOf_w4 M_cutsOf_w28
  rw [h19]
  simp (disch := omega) only [n0, n1, n2, n3, n4, n5, n6, n7, n8, n9, n10, n11, n12, n14, n16, n18, n21, n22, n36, n48, n63, n100, n108, n400, n1000, pk_mul, nI_add, pk_div, nI_subm, nI_ltE, nI_leE, nI_eqE, nI_clamp, vp_inE, nIm1, nIm1', nIm1n, nIm1n', nI_addn]
  refine ⟨fun q => by rw [show i = cf a (7 * aP a) by omega]; exact h, fun q => ⟨by omega, ?_⟩⟩
  have ih := ih (by omega)
  rw [hF.1 i (by omega), glN_some (fun v hv => (fpF_ok ha hfit hn _ (Nat.le_refl _)).1 i v hv) hk]
  unfold pcN sumN at ih
  refine ⟨fun c => ?_, fun c => ?_⟩
  · rw [if_neg c] at ih; exact ih
  · rw [if_pos c] at ih; exact ih
def wE (L : Lb) (k n : Nat) : Nat := sumN (fun e => if eL L (6 * (k / 7) + e) = 6 * (k / 7) + e ∧ mts (k % 7) e = true then 1 else 0) n
def wA (a : Ab) (k n : Nat) : Nat := sumN (fun f => if (3 < k % 7 ∨ f ≠ k % 7) ∧ cnd a (4 * (k / 7) + f) = 1 then 1 else 0) n
def wrR (a : Ab) (L : Lb) (k : Nat) : Int32 := nI (1 + wE L k 6) - nI (wA a k 4)
theorem s_worth {a : Ab} (ha : AWf a) {L : Lb} (hl : labs a L) {S : MS} (hR : MR a S) (hS : hold S L) (hcf : hasCF S a) {cut : Nat} (hcut : cut < cf a (7 * aP a)) {post : Int32 → MS → Prop} (h : post (wrR a L (sortN a cut)) S) : M_worth (nI cut) S post := by
  apply M_worth_ok
  intro T17 T72 r17 r72
  have hP := ha.1
  unfold M_worth_w0
  refine s_sortOf ha hcf hcut ?_
  obtain ⟨hs1, _, _⟩ := sortN_spec hcut
  generalize sortN a cut = k at h hs1
  have e7 : nI k / 7 = nI (k / 7) := by simp (disch := omega) only [n0, n1, n2, n3, n4, n5, n6, n7, n8, n9, n10, n11, n12, n14, n16, n18, n21, n22, n36, n48, n63, n100, n108, n400, n1000, pk_mul, nI_add, pk_div, nI_subm, nI_ltE, nI_leE, nI_eqE, nI_clamp, vp_inE, nIm1, nIm1', nIm1n, nIm1n', nI_addn]
  rw [e7]
  have em : nI k - nI k / 7 * 7 = nI (k % 7) := by
    simp (disch := omega) only [n0, n1, n2, n3, n4, n5, n6, n7, n8, n9, n10, n11, n12, n14, n16, n18, n21, n22, n36, n48, n63, n100, n108, n400, n1000, pk_mul, nI_add, pk_div, nI_subm, nI_ltE, nI_leE, nI_eqE, nI_clamp, vp_inE, nIm1, nIm1', nIm1n, nIm1n', nI_addn]
    rw [show k - k / 7 * 7 = k % 7 by omega]
  have K72 : ∀ f, f ≤ 4 → T72 (nI k) (nI (k / 7)) (nI (1 + wE L k 6) - nI (wA a k f)) (nI (4 * (k / 7) + f)) S := by
    refine loopUp (P := fun f => T72 (nI k) (nI (k / 7)) (nI (1 + wE L k 6) - nI (wA a k f)) (nI (4 * (k / 7) + f)) S) 4 (fun f hf ih => ?_)
    apply r72
    unfold M_worth_w72 M_worth_w101 M_worth_w106 M_worth_w138 M_worth_w142 M_worth_w143
    rw [em]
    have e1 : (4 : Int32) * nI (k / 7) + 4 = nI (4 * (k / 7) + 4) := by simp (disch := omega) only [n0, n1, n2, n3, n4, n5, n6, n7, n8, n9, n10, n11, n12, n14, n16, n18, n21, n22, n36, n48, n63, n100, n108, n400, n1000, pk_mul, nI_add, pk_div, nI_subm, nI_ltE, nI_leE, nI_eqE, nI_clamp, vp_inE, nIm1, nIm1', nIm1n, nIm1n', nI_addn]
    have e2 : nI (4 * (k / 7) + f) - nI (4 * (k / 7) + f) / 4 * 4 = nI ((4 * (k / 7) + f) % 4) := by
      simp (disch := omega) only [n0, n1, n2, n3, n4, n5, n6, n7, n8, n9, n10, n11, n12, n14, n16, n18, n21, n22, n36, n48, n63, n100, n108, n400, n1000, pk_mul, nI_add, pk_div, nI_subm, nI_ltE, nI_leE, nI_eqE, nI_clamp, vp_inE, nIm1, nIm1', nIm1n, nIm1n', nI_addn]
      rw [show 4 * (k / 7) + f - (4 * (k / 7) + f) / 4 * 4 = (4 * (k / 7) + f) % 4 by omega]
    rw [e1, e2, nI_leE (by omega) (by omega), show (3 : Int32) = nI 3 from rfl, nI_ltE (by omega) (by omega), nI_eqE (by omega) (by omega), nI_clamp (by omega), vp_inE (by omega) (by omega), show (nI (4 * (k / 7) + f) : Int32) + 1 = nI (4 * (k / 7) + f + 1) from nI_add _ 1]
    refine ⟨fun q => by rw [show f = 4 by omega]; exact h, fun q => ?_⟩
    have ih := ih (by omega)
    unfold wA sumN at ih
    rw [← i32_subsub, ← Nat.add_assoc] at ih
    have skip : ¬ ((3 < k % 7 ∨ f ≠ k % 7) ∧ cnd a (4 * (k / 7) + f) = 1) → T72 (nI k) (nI (k / 7)) (nI (1 + wE L k 6) - nI (wA a k f) - 0) (nI (4 * (k / 7) + f + 1)) S := by
      intro hh
      rw [if_neg hh] at ih
      exact ih
    have take : ((3 < k % 7 ∨ f ≠ k % 7) ∧ cnd a (4 * (k / 7) + f) = 1) → T72 (nI k) (nI (k / 7)) (nI (1 + wE L k 6) - nI (wA a k f) - 1) (nI (4 * (k / 7) + f + 1)) S := by
      intro hh
      rw [if_pos hh] at ih
      exact ih
    rw [hR.2.2.1 _ (show 4 * (k / 7) + f < 4 * aP a by omega)]
    have has : (3 < k % 7 ∨ f ≠ k % 7) → 4 * (k / 7) + f < 12 ∧ (glN (aG a (4 * (k / 7) + f)) = -1 → T72 (nI k) (nI (k / 7)) (nI (1 + wE L k 6) - nI (wA a k f) - 1) (nI (4 * (k / 7) + f + 1)) S) ∧ (¬ glN (aG a (4 * (k / 7) + f)) = -1 → 4 * (k / 7) + f < 12 ∧ (glN (aG a (4 * (k / 7) + f)) ≤ nI (4 * (k / 7) + f) → T72 (nI k) (nI (k / 7)) (nI (1 + wE L k 6) - nI (wA a k f) - 0) (nI (4 * (k / 7) + f + 1)) S) ∧ (¬ glN (aG a (4 * (k / 7) + f)) ≤ nI (4 * (k / 7) + f) → T72 (nI k) (nI (k / 7)) (nI (1 + wE L k 6) - nI (wA a k f) - 1) (nI (4 * (k / 7) + f + 1)) S)) := by
      intro hh
      refine ⟨by omega, ?_⟩
      unfold cnd at skip take
      cases e : aG a (4 * (k / 7) + f) with
      | none =>
        rw [e] at take
        exact ⟨fun _ => take ⟨hh, rfl⟩, fun q => absurd rfl q⟩
      | some t =>
        rw [e] at take skip
        have ht := (ha.2.1 _ t (by omega) e).1
        have hgl : glN (some t) = nI t := rfl
        rw [hgl, nIm1 (by omega), nI_leE (by omega) (by omega)]
        refine ⟨fun q => absurd q id, fun _ => ⟨by omega, fun q4 => skip (fun z => ?_), fun q4 => take ⟨hh, if_pos (by omega)⟩⟩⟩
        have z2 : (if 4 * (k / 7) + f < t then 1 else 0) = 1 := z.2
        rw [if_neg (by omega)] at z2
        exact absurd z2 (by decide)
    refine ⟨fun q2 => ⟨fun c => absurd c (by decide), fun _ => has (Or.inl q2)⟩, fun q2 => ⟨fun q3 => ⟨fun _ => skip (by omega), fun c => absurd rfl c⟩, fun q3 => ⟨fun c => absurd c (by decide), fun _ => has (Or.inr (by omega))⟩⟩⟩
  refine loopUp (P := fun e => T17 (nI k) (nI (k / 7)) (nI (1 + wE L k e)) (nI e) S) 6 (fun e he ih => ?_) 0 (by omega)
  apply r17
  unfold M_worth_w17 M_worth_w57 M_worth_w58
  rw [em]
  have e1 : (6 : Int32) * nI (k / 7) + nI e = nI (6 * (k / 7) + e) := by simp (disch := omega) only [n0, n1, n2, n3, n4, n5, n6, n7, n8, n9, n10, n11, n12, n14, n16, n18, n21, n22, n36, n48, n63, n100, n108, n400, n1000, pk_mul, nI_add, pk_div, nI_subm, nI_ltE, nI_leE, nI_eqE, nI_clamp, vp_inE, nIm1, nIm1', nIm1n, nIm1n', nI_addn]
  have e2 : (4 : Int32) * nI (k / 7) = nI (4 * (k / 7) + 0) := by
    simp (disch := omega) only [n0, n1, n2, n3, n4, n5, n6, n7, n8, n9, n10, n11, n12, n14, n16, n18, n21, n22, n36, n48, n63, n100, n108, n400, n1000, pk_mul, nI_add, pk_div, nI_subm, nI_ltE, nI_leE, nI_eqE, nI_clamp, vp_inE, nIm1, nIm1', nIm1n, nIm1n', nI_addn]
    rfl
  rw [e1, e2, show (6 : Int32) = nI 6 from rfl, nI_leE (by omega) (by omega), show (nI e : Int32) + 1 = nI (e + 1) from nI_add e 1]
  refine ⟨fun q => ?_, fun q => s_isFirstEdge hl hS (by omega) ?_⟩
  · rw [show e = 6 by omega]
    have := K72 0 (by omega)
    rw [show nI (wA a k 0) = (0 : Int32) from rfl, Int32.sub_zero] at this
    exact this
  · have ih := ih (by omega)
    unfold wE sumN at ih
    rw [← Nat.add_assoc, ← nI_add] at ih
    by_cases c : eL L (6 * (k / 7) + e) = 6 * (k / 7) + e
    · rw [if_pos c]
      refine ⟨fun q3 => absurd q3 (by decide), fun _ => s_meets hR.2.1 (by omega) (by omega) (fun m => ⟨fun q3 => absurd q3 (by decide), fun _ => ?_⟩) (fun m => ⟨fun _ => ?_, fun q3 => absurd rfl q3⟩)⟩
      · rw [if_pos ⟨c, m⟩] at ih; exact ih
      · rw [if_neg (fun q => by rw [m] at q; exact absurd q.2 (by decide))] at ih; exact ih
    · rw [if_neg c]
      refine ⟨fun _ => ?_, fun q3 => absurd rfl q3⟩
      rw [if_neg (fun q => c q.1)] at ih
      exact ih
/-- the worth of the cuts of part k among the first n -/
def pwR (a : Ab) (L : Lb) (k : Nat) : Nat → Int32
  | 0 => 0
  | n + 1 => pwR a L k n + (if bP (fpF a (cf a (7 * aP a))).1 n = some k then wrR a L (sortN a n) else 0)
theorem in02 {w : Int32} : ((0 : Int32) ≤ w ∧ w ≤ 2) ↔ inN w 3 := in_iff (n := 2) (by decide)
def parN (a : Ab) : Nat := (fpF a (cf a (7 * aP a))).2.1
theorem s_part {a : Ab} (ha : AWf a) {L : Lb} (hl : labs a L) {S : MS} (hR : MR a S) {x1 x2 : Int32} {post : Int32 → MS → Prop} (h0 : ¬ (inN x2 3 ∧ legP a ∧ cf a (7 * aP a) ≤ 400 ∧ inN x1 (parN a)) → ∀ S', MR a S' → post (-2147483648) S')
    (h1 : legP a → cf a (7 * aP a) ≤ 400 → inN x1 (parN a) → x2 = 0 → ∀ S', MR a S' → post (nI (pcN a x1.toNatClampNeg (cf a (7 * aP a)))) S') (h2 : legP a → cf a (7 * aP a) ≤ 400 → inN x1 (parN a) → x2 = 1 → ∀ S', MR a S' → post (pwR a L x1.toNatClampNeg (cf a (7 * aP a))) S') (h3 : legP a → cf a (7 * aP a) ≤ 400 → inN x1 (parN a) → x2 = 2 → ∀ S', MR a S' → post (zB (!(fpF a (cf a (7 * aP a))).2.2 x1.toNatClampNeg)) S') : M_part x1 x2 S post := by
  apply M_part_ok
  intro T r
  have hP := ha.1
  have hcl := cf_le ha (7 * aP a)
  unfold M_part_w0 M_part_w16 M_part_w45 M_part_w77
  apply s_in
  by_cases i2 : inN x2 3
  · rw [if_pos (in02.mpr i2)]
    refine ⟨fun c => absurd c (by decide), fun _ => s_legal ha hR (fun q => ⟨fun c => absurd c (by decide), fun _ => h0 (fun k => q k.2.1.1) S hR⟩) (fun q1 q2 => ⟨fun c => absurd c (by decide), fun _ => h0 (fun k => q2 k.2.1.2) S hR⟩) (fun q1 q2 => ⟨fun _ => s_findParts ha q1 hl hR (fun r1 S' g1 g2 g3 g4 g5 => ?_), fun c => absurd rfl c⟩)⟩
    rw [g3, show (400 : Int32) = nI 400 from rfl, nI_ltE (by omega) (by omega)]
    refine ⟨fun c => h0 (fun k => by have := k.2.2.1; omega) S' g1, fun c => ?_⟩
    have hn : cf a (7 * aP a) ≤ 400 := by omega
    obtain ⟨g6, g7⟩ := g5 hn
    have g6 : r1 = nI (parN a) := g6
    rw [g6]
    apply s_in
    have hpn := (fpF_ok ha q1 hn _ (Nat.le_refl _)).2.1
    by_cases i1 : inN x1 (parN a)
    · have h1 := h1 ⟨q1, q2⟩ hn i1
      have h2 := h2 ⟨q1, q2⟩ hn i1
      have h3 := h3 ⟨q1, q2⟩ hn i1
      rw [if_pos ((inN_iff (by unfold parN; omega)).mpr i1)]
      obtain ⟨k, hk, rfl⟩ := i1
      unfold parN at hk
      rw [nI_clamp (by omega)] at h1 h2 h3
      refine ⟨fun _ => ⟨fun c0 => ⟨fun c2 => ?_, fun c2 => ⟨by rw [vp_inE (by omega) (by omega)]; omega, ?_⟩⟩, fun c0 => s_cutsOf ha q1 hn g3 g7 (by omega) (h1 c0 S' g1)⟩, fun c => absurd c (by decide)⟩
      · have e1 : x2 = 1 := by
          obtain ⟨j, hj, rfl⟩ := i2
          have z0 : j ≠ 0 := fun e => c0 (by rw [e]; rfl)
          have z2 : j ≠ 2 := fun e => c2 (by rw [e]; rfl)
          rw [show j = 1 by omega]; rfl
        have h2 := h2 e1 S' g1
        refine loopUp (P := fun i => T (nI k) (pwR a L k i) (nI i) S') (cf a (7 * aP a)) (fun i hi ih => ?_) 0 (by omega)
        apply r
        unfold M_part_w84 M_part_w116
        rw [g3, nI_leE (by omega) (by omega), nI_clamp (by omega), vp_inE (by omega) (by omega), show (nI i : Int32) + 1 = nI (i + 1) from nI_add i 1]
        refine ⟨fun q => by rw [show i = cf a (7 * aP a) by omega]; exact h2, fun q => ⟨by omega, ?_⟩⟩
        have ih := ih (by omega)
        rw [g7.1 i (by omega), glN_some (fun v hv => (fpF_ok ha q1 hn _ (Nat.le_refl _)).1 i v hv) (by omega)]
        unfold pwR at ih
        refine ⟨fun c3 => ?_, fun c3 => s_worth ha hl g1 g2 g4 (by omega) ?_⟩
        · rw [if_neg c3] at ih; exact ih
        · rw [if_pos c3] at ih; exact ih
      · have h3 := h3 c2 S' g1
        rw [nI_clamp (by omega), g7.2.2 k hk]
        cases e : (fpF a (cf a (7 * aP a))).2.2 k with
        | false => rw [e] at h3; exact ⟨fun _ => h3, fun c => absurd rfl c⟩
        | true => rw [e] at h3; exact ⟨fun c => absurd c (by decide), fun _ => h3⟩
    · rw [if_neg (fun q => i1 ((inN_iff (by unfold parN; omega)).mp q))]
      exact ⟨fun c => absurd rfl c, fun _ => h0 (fun k => i1 k.2.2.2) S' g1⟩
  · rw [if_neg (fun q => i2 (in02.mp q))]
    exact ⟨fun _ => h0 (fun k => i2 k.1) S hR, fun c => absurd rfl c⟩
