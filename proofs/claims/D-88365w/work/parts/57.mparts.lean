/-! the model's parts -/
def hasCF (S : MS) (a : Ab) : Prop := ∀ i, i ≤ 7 * aP a → gI S 20 i = nI (cf a i)
def sgI (b : Bool) : Int32 := if b then 1 else -1
def zB (b : Bool) : Int32 := if b then 1 else 0
def bM (S : MS) (B : Bf) (n : Nat) : Prop := (∀ k, k < n → gI S 21 k = glN (bP B k)) ∧ (∀ k, k < n → bP B k ≠ none → gI S 22 k = sgI (bS B k)) ∧ (∀ j, j < bT B → gI S 23 j = nI (bQ B j)) ∧ gF S 24 = zB (bW B)
/-- all but the search's fields stay -/
def frB (S S' : MS) : Prop := (∀ k, k ≠ 24 → gF S' k = gF S k) ∧ ∀ b j, b ≠ 21 → b ≠ 22 → b ≠ 23 → gI S' b j = gI S b j
theorem frB_rf {S : MS} : frB S S := ⟨fun _ _ => rfl, fun _ _ _ _ _ => rfl⟩
theorem frB_tr {S S' S'' : MS} (h : frB S S') (h' : frB S' S'') : frB S S'' := ⟨fun k hk => by rw [h'.1 k hk, h.1 k hk], fun b j h1 h2 h3 => by rw [h'.2 b j h1 h2 h3, h.2 b j h1 h2 h3]⟩
theorem frB_sameB {S S' : MS} (h : frB S S') : sameB S S' := ⟨h.1 0 (by decide), fun b j hb => h.2 b j (by omega) (by omega) (by omega)⟩
theorem frB_hold {S S' : MS} {L : Lb} (h : frB S S') (hS : hold S L) : hold S' L := ⟨fun k hk => by rw [h.2 6 k (by decide) (by decide) (by decide)]; exact hS.1 k hk, fun k hk => by rw [h.2 7 k (by decide) (by decide) (by decide)]; exact hS.2.1 k hk, fun k hk => by rw [h.2 8 k (by decide) (by decide) (by decide)]; exact hS.2.2 k hk⟩
theorem frB_cf {S S' : MS} {a : Ab} (h : frB S S') (hS : hasCF S a) : hasCF S' a := fun i hi => by rw [h.2 20 i (by decide) (by decide) (by decide)]; exact hS i hi
theorem frB_I {S S' : MS} {b j : Nat} {v : Int32} (hb : b = 21 ∨ b = 22 ∨ b = 23) (h : frB S S') : frB S (sI S' b j v) := ⟨h.1, fun b' j' h1 h2 h3 => by rw [gI_sI, if_neg (by omega)]; exact h.2 b' j' h1 h2 h3⟩
theorem frB_F {S S' : MS} {v : Int32} (h : frB S S') : frB S (sF S' 24 v) := ⟨fun k hk => by rw [gF_sF, if_neg hk]; exact h.1 k hk, h.2⟩
theorem s_cutAt {a : Ab} (ha : AWf a) {S : MS} (hR : MR a S) (hcf : hasCF S a) {s c i : Nat} (hs : s < 4 * aP a) (hc : c < 4) (hne : c ≠ s % 4) (hi : i < arcN a (s / 4) (s % 4) c) {post : Int32 → MS → Prop} (h : post (nI (cutN a s c i)) S) : M_cutAt (nI s) (nI c) (nI i) S post := by
  apply M_cutAt_ok
  unfold M_cutAt_VC M_cutAt_w0 M_cutAt_w61 M_cutAt_w66 M_cutAt_w117
  have hP := ha.1
  have hk := kindN_lt hc (show s % 4 < 4 by omega) hne
  have hal := arcN_le ha (s / 4) (s % 4) c
  have hs1 := ha.2.2.1 (7 * (s / 4) + c)
  have hs2 := ha.2.2.1 (7 * (s / 4) + 4 + kindN c (s % 4))
  have hc1 := cf_le ha (7 * (s / 4) + c)
  have hc2 := cf_le ha (7 * (s / 4) + 4 + kindN c (s % 4))
  unfold arcN at hi
  unfold cutN at h
  simp (disch := omega) only [n0, n1, n2, n3, n4, n5, n6, n7, n8, n9, n10, n11, n12, n14, n16, n18, n21, n22, n36, n48, n63, n100, n108, n400, n1000, pk_mul, nI_add, pk_div, nI_subm, nI_ltE, nI_leE, nI_eqE, nI_clamp, vp_inE, nIm1, nIm1', nIm1n, nIm1n', nI_addn]
  rw [show s - s / 4 * 4 = s % 4 by omega]
  rw [hR.2.2.2.2 _ (show 7 * (s / 4) + c < 21 by omega), hcf _ (show 7 * (s / 4) + c ≤ 7 * aP a by omega)]
  simp (disch := omega) only [n0, n1, n2, n3, n4, n5, n6, n7, n8, n9, n10, n11, n12, n14, n16, n18, n21, n22, n36, n48, n63, n100, n108, n400, n1000, pk_mul, nI_add, pk_div, nI_subm, nI_ltE, nI_leE, nI_eqE, nI_clamp, vp_inE, nIm1, nIm1', nIm1n, nIm1n', nI_addn]
  refine ⟨by omega, fun q => s_kindOf hc (by omega) hne ?_, fun q => ⟨by omega, ?_⟩⟩
  · rw [if_neg (by omega)] at h
    simp (disch := omega) only [n0, n1, n2, n3, n4, n5, n6, n7, n8, n9, n10, n11, n12, n14, n16, n18, n21, n22, n36, n48, n63, n100, n108, n400, n1000, pk_mul, nI_add, pk_div, nI_subm, nI_ltE, nI_leE, nI_eqE, nI_clamp, vp_inE, nIm1, nIm1', nIm1n, nIm1n', nI_addn]
    rw [show 7 * (s / 4) + (4 + kindN c (s % 4)) = 7 * (s / 4) + 4 + kindN c (s % 4) by omega]
    rw [hR.2.2.2.2 _ (show 7 * (s / 4) + 4 + kindN c (s % 4) < 21 by omega), hcf _ (show 7 * (s / 4) + 4 + kindN c (s % 4) ≤ 7 * aP a by omega)]
    simp (disch := omega) only [n0, n1, n2, n3, n4, n5, n6, n7, n8, n9, n10, n11, n12, n14, n16, n18, n21, n22, n36, n48, n63, n100, n108, n400, n1000, pk_mul, nI_add, pk_div, nI_subm, nI_ltE, nI_leE, nI_eqE, nI_clamp, vp_inE, nIm1, nIm1', nIm1n, nIm1n', nI_addn]
    refine ⟨fun q2 => ⟨by omega, by omega, fun q3 => absurd q3 (by decide), fun _ => ?_⟩, fun q2 => ⟨fun q3 => ⟨by omega, by omega, fun _ => ?_, fun q4 => absurd trivial q4⟩, fun q3 => ⟨by omega, by omega, fun q4 => absurd q4 (by decide), fun _ => ?_⟩⟩⟩
    · rw [if_pos (Or.inl q2)] at h; exact h
    · rw [if_neg (by omega)] at h; exact h
    · rw [if_pos (Or.inr q3)] at h; exact h
  · rw [if_pos (by omega)] at h
    exact h
theorem s_looks {a : Ab} (ha : AWf a) {S : MS} (hR : MR a S) {s c i : Nat} (hs : s < 12) (hc : c < 4) (hi : i < 2 ^ 30) {post : Int32 → MS → Prop} (h : post (zB (lookN a s c i)) S) : M_looks (nI s) (nI c) (nI i) S post := by
  apply M_looks_ok
  unfold M_looks_VC M_looks_w0 M_looks_w27 M_looks_w32
  have hs1 := ha.2.2.1 (7 * (s / 4) + c)
  unfold lookN zB at h
  simp (disch := omega) only [n0, n1, n2, n3, n4, n5, n6, n7, n8, n9, n10, n11, n12, n14, n16, n18, n21, n22, n36, n48, n63, n100, n108, n400, n1000, pk_mul, nI_add, pk_div, nI_subm, nI_ltE, nI_leE, nI_eqE, nI_clamp, vp_inE, nIm1, nIm1', nIm1n, nIm1n', nI_addn]
  rw [hR.2.2.2.2 _ (show 7 * (s / 4) + c < 21 by omega)]
  simp (disch := omega) only [n0, n1, n2, n3, n4, n5, n6, n7, n8, n9, n10, n11, n12, n14, n16, n18, n21, n22, n36, n48, n63, n100, n108, n400, n1000, pk_mul, nI_add, pk_div, nI_subm, nI_ltE, nI_leE, nI_eqE, nI_clamp, vp_inE, nIm1, nIm1', nIm1n, nIm1n', nI_addn]
  have K1 : (i < aS a (7 * (s / 4) + c) ∨ c = 0 ∨ s % 4 = 0) → zok (nI 1) ∧ post (nI 1) S := fun q => by
    rw [if_pos (by simpa using q)] at h
    exact ⟨zok1, h⟩
  have K0 : ¬ (i < aS a (7 * (s / 4) + c) ∨ c = 0 ∨ s % 4 = 0) → zok (nI 0) ∧ post (nI 0) S := fun q => by
    rw [if_neg (by simpa using q)] at h
    exact ⟨zok0, h⟩
  refine ⟨by omega, fun q => K1 (Or.inl q), fun q => ⟨fun q2 => K1 (Or.inr (Or.inl q2)), fun q2 => ⟨fun q3 => K0 (by omega), fun q3 => K1 (by omega)⟩⟩⟩
theorem s_sortOf {a : Ab} (ha : AWf a) {S : MS} (hcf : hasCF S a) {cut : Nat} (hlt : cut < cf a (7 * aP a)) {post : Int32 → MS → Prop} (h : post (nI (sortN a cut)) S) : M_sortOf (nI cut) S post := by
  apply M_sortOf_ok
  intro T r
  have hP := ha.1
  have hcl := cf_le ha (7 * aP a)
  obtain ⟨h1, h2, h3⟩ := sortN_spec hlt
  refine loopUp (P := fun k => T (nI cut) (nI k) S) (sortN a cut) (fun k hk ih => ?_) 0 (by omega)
  apply r
  unfold M_sortOf_w2
  have hm := cf_mono a (show k + 1 ≤ 7 * aP a by omega)
  simp (disch := omega) only [n0, n1, n2, n3, n4, n5, n6, n7, n8, n9, n10, n11, n12, n14, n16, n18, n21, n22, n36, n48, n63, n100, n108, n400, n1000, pk_mul, nI_add, pk_div, nI_subm, nI_ltE, nI_leE, nI_eqE, nI_clamp, vp_inE, nIm1, nIm1', nIm1n, nIm1n', nI_addn]
  rw [hcf _ (show k + 1 ≤ 7 * aP a by omega)]
  simp (disch := omega) only [n0, n1, n2, n3, n4, n5, n6, n7, n8, n9, n10, n11, n12, n14, n16, n18, n21, n22, n36, n48, n63, n100, n108, n400, n1000, pk_mul, nI_add, pk_div, nI_subm, nI_ltE, nI_leE, nI_eqE, nI_clamp, vp_inE, nIm1, nIm1', nIm1n, nIm1n', nI_addn]
  refine ⟨by omega, fun q => ?_, fun q => ih ?_⟩
  · by_cases e : k = sortN a cut
    · rw [e]; exact h
    · have := cf_mono a (show k + 1 ≤ sortN a cut by omega)
      omega
  · by_cases e : k = sortN a cut
    · rw [e] at q; omega
    · omega
theorem sgI_neg (b : Bool) : -sgI b = sgI (!b) := by cases b <;> rfl
theorem sgI_inj : ∀ b c : Bool, sgI b = sgI c ↔ b = c := by decide +kernel
theorem zB_inj : ∀ b c : Bool, zB b = zB c ↔ b = c := by decide +kernel
theorem glN_none {o : Option Nat} (h : ∀ v, o = some v → v < 400) : glN o = -1 ↔ o = none := by
  cases o with
  | none => exact ⟨fun _ => rfl, fun _ => rfl⟩
  | some v =>
    have := h v rfl
    constructor
    · intro q
      have q : nI v = -1 := q
      rw [nIm1 (by omega)] at q
      exact absurd q id
    · intro q; exact absurd q (by simp)
/-- one cut that is met: the program's step -/
theorem m_vis {a : Ab} {S : MS} {B : Bf} {n cut o : Nat} {same : Bool} (hn : n ≤ 400) (hB : BI B n) (hM : bM S B n) (hcut : cut < n) (hcv : bP B cut ≠ none) (ho : o < n) {K : Int32 → MS → Prop} (h : ∀ S', frB S S' → bM S' (visF B cut o same) n → K (nI (bT (visF B cut o same))) S') (due : Int32) (hd : due = sgI (if same then bS B cut else !bS B cut)) :
    (¬ gI S 21 o = -1 → (¬ gF S 24 = 0 → K (nI (bT B)) (sF S 24 1)) ∧ (gF S 24 = 0 → (gI S 22 o = due → K (nI (bT B)) (sF S 24 0)) ∧ (¬ gI S 22 o = due → K (nI (bT B)) (sF S 24 1)))) ∧ (gI S 21 o = -1 → bT B < 400 ∧ (¬ gF S 24 = 0 → K (nI (bT B + 1)) (sF (sI (sI (sI S 21 o (gI S 21 cut)) 22 o due) 23 (bT B) (nI o)) 24 1)) ∧ (gF S 24 = 0 → K (nI (bT B + 1)) (sF (sI (sI (sI S 21 o (gI S 21 cut)) 22 o due) 23 (bT B) (nI o)) 24 0))) := by
  rw [hM.1 o ho, glN_none (fun v hv => hB.2.2 o v hv), hM.2.2.2]
  unfold visF at h
  refine ⟨fun c => ?_, fun c => ?_⟩
  · rw [if_neg c] at h
    rw [hM.2.1 o ho c, hd, sgI_inj]
    have h' : ∀ w : Bool, w = (bW B || (bS B o != (if same then bS B cut else !bS B cut))) → K (nI (bT B)) (sF S 24 (zB w)) := fun w hw => h _ (frB_F frB_rf) ⟨hM.1, hM.2.1, hM.2.2.1, by rw [gF_sF, if_pos rfl, hw]⟩
    refine ⟨fun q => h' true ?_, fun q => ⟨fun q2 => h' false ?_, fun q2 => h' true ?_⟩⟩
    · cases e : bW B
      · rw [e] at q; exact absurd rfl q
      · rfl
    · rw [q2]
      cases e : bW B
      · simp
      · rw [e] at q; exact absurd q (by decide)
    · have : (bS B o != (if same then bS B cut else !bS B cut)) = true := by simpa using q2
      rw [this, Bool.or_true]
  · rw [if_pos c] at h
    have lt := vcN_lt ho c
    have hT := hB.2.1
    have h' : zB (bW B) = gF S 24 → K (nI (bT B + 1)) (sF (sI (sI (sI S 21 o (gI S 21 cut)) 22 o due) 23 (bT B) (nI o)) 24 (zB (bW B))) := by
      intro _
      refine h _ (frB_F (frB_I (by omega) (frB_I (by omega) (frB_I (by omega) frB_rf)))) ⟨fun k hk => ?_, fun k hk hv => ?_, fun j hj => ?_, by rw [gF_sF, if_pos rfl]⟩
      · show gI (sF _ 24 _) 21 k = glN (upF (bP B) o (bP B cut) k)
        rw [gI_sF, gI_sI, if_neg (by omega), gI_sI, if_neg (by omega), gI_sI]
        by_cases e : k = o
        · rw [if_pos ⟨rfl, e⟩, e, upF_at]; exact hM.1 cut hcut
        · rw [if_neg (fun q => e q.2), upF_ne _ _ e]; exact hM.1 k hk
      · have hv : upF (bP B) o (bP B cut) k ≠ none := hv
        show gI (sF _ 24 _) 22 k = sgI (upF (bS B) o (if same then bS B cut else !bS B cut) k)
        rw [gI_sF, gI_sI, if_neg (by omega), gI_sI]
        by_cases e : k = o
        · rw [if_pos ⟨rfl, e⟩, e, upF_at]; exact hd
        · rw [if_neg (fun q => e q.2), gI_sI, if_neg (by omega), upF_ne _ _ e]
          rw [upF_ne _ _ e] at hv
          exact hM.2.1 k hk hv
      · have hj : j < bT B + 1 := hj
        show gI (sF _ 24 _) 23 j = nI (upF (bQ B) (bT B) o j)
        rw [gI_sF, gI_sI]
        by_cases e : j = bT B
        · rw [if_pos ⟨rfl, e⟩, e, upF_at]
        · rw [if_neg (fun q => e q.2), gI_sI, if_neg (by omega), gI_sI, if_neg (by omega), upF_ne _ _ e]
          exact hM.2.2.1 j (by omega)
    have h' := h' hM.2.2.2.symm
    refine ⟨by omega, fun q => ?_, fun q => ?_⟩
    · cases e : bW B
      · rw [e] at q; exact absurd rfl q
      · rw [e] at h'; exact h'
    · cases e : bW B
      · rw [e] at h'; exact h'
      · rw [e] at q; exact absurd q (by decide)
theorem m_w170 {post : Int32 → MS → Prop} {T18 : Int32 → Int32 → Int32 → Int32 → MS → Prop} {T32 : Int32 → Int32 → Int32 → Int32 → Int32 → MS → Prop} {T52 : Int32 → Int32 → Int32 → Int32 → Int32 → Int32 → MS → Prop} {x4 x5 x6 x7 : Int32} {S : MS} {B : Bf} {n cut o : Nat} {same : Bool} (hn : n ≤ 400) (hB : BI B n) (hM : bM S B n) (hcut : cut < n) (hcv : bP B cut ≠ none) (ho : o < n) (h : ∀ S', frB S S' → bM S' (visF B cut o same) n → M_spread_w244 post T18 T32 T52 (nI cut) (nI (bT (visF B cut o same))) x4 x5 x6 x7 S') {due : Int32} (hd : due = sgI (if same then bS B cut else !bS B cut)) :
    M_spread_w170 post T18 T32 T52 due (nI cut) (nI (bT B)) x4 x5 x6 x7 (nI o) S := by
  have V := m_vis (a := (0, fun _ => none, fun _ _ => 0, fun _ => 0)) hn hB hM hcut hcv ho (K := fun m S' => M_spread_w244 post T18 T32 T52 (nI cut) m x4 x5 x6 x7 S') h due hd
  have hT := hB.2.1
  have hv := vcN_le B n
  unfold M_spread_w170 M_spread_w216 M_spread_w236 M_spread_w241
  rw [nI_clamp (by omega), nI_clamp (by omega), nI_clamp (by omega), vp_inE (by omega) (by omega), vp_inE (by omega) (by omega), show (nI (bT B) : Int32) + 1 = nI (bT B + 1) from nI_add _ 1]
  refine ⟨by omega, fun q => ⟨fun q2 => ⟨zok1, (V.1 q).1 q2⟩, fun q2 => ⟨by omega, fun q3 => ⟨zok0, ((V.1 q).2 q2).1 q3⟩, fun q3 => ⟨zok1, ((V.1 q).2 q2).2 q3⟩⟩⟩, fun q => ⟨by omega, by omega, by omega, by rw [vp_inE (by omega) (by omega)]; exact (V.2 q).1, fun q2 => ⟨zok1, (V.2 q).2.1 q2⟩, fun q2 => ⟨by omega, fun q3 => ⟨zok0, (V.2 q).2.2 q2⟩, fun q3 => absurd ?_ q3⟩⟩⟩
  rw [gI_sI, if_neg (by omega), gI_sI, if_pos ⟨rfl, rfl⟩]
theorem s_spread {a : Ab} (ha : AWf a) (hfit : fitA a) {S : MS} (hR : MR a S) (hcf : hasCF S a) {B : Bf} (hn : cf a (7 * aP a) ≤ 400) (hB : BI B (cf a (7 * aP a))) (hM : bM S B (cf a (7 * aP a))) {cut : Nat} (hcut : cut < cf a (7 * aP a)) (hcv : bP B cut ≠ none) {post : Int32 → MS → Prop} (h : ∀ S', frB S S' → bM S' (spreadF a B cut) (cf a (7 * aP a)) → post (nI (bT (spreadF a B cut))) S') : M_spread (nI cut) (nI (bT B)) S post := by
  apply M_spread_ok
  intro T18 T32 T52 r18 r32 r52
  have hP := ha.1
  unfold M_spread_w0
  refine s_sortOf ha hcf hcut ?_
  obtain ⟨hs1, hs2, hs3⟩ := sortN_spec hcut
  unfold spreadF at h
  generalize hp : sortN a cut / 7 = p at h
  have hpl : p < aP a := by omega
  have e7 : nI (sortN a cut) / 7 = nI p := by
    simp (disch := omega) only [n0, n1, n2, n3, n4, n5, n6, n7, n8, n9, n10, n11, n12, n14, n16, n18, n21, n22, n36, n48, n63, n100, n108, n400, n1000, pk_mul, nI_add, pk_div, nI_subm, nI_ltE, nI_leE, nI_eqE, nI_clamp, vp_inE, nIm1, nIm1', nIm1n, nIm1n', nI_addn]
    rw [hp]
  rw [e7]
  have e4 : (4 : Int32) * nI p = nI (4 * p + 0) := by
    simp (disch := omega) only [n0, n1, n2, n3, n4, n5, n6, n7, n8, n9, n10, n11, n12, n14, n16, n18, n21, n22, n36, n48, n63, n100, n108, n400, n1000, pk_mul, nI_add, pk_div, nI_subm, nI_ltE, nI_leE, nI_eqE, nI_clamp, vp_inE, nIm1, nIm1', nIm1n, nIm1n', nI_addn]
    rfl
  rw [e4]
  suffices K18 : ∀ f, f ≤ 4 → ∀ S', frB S S' → bM S' (stS a B cut p f) (cf a (7 * aP a)) → T18 (nI cut) (nI (bT (stS a B cut p f))) (nI p) (nI (4 * p + f)) S' from K18 0 (by omega) S frB_rf hM
  refine loopUp (P := fun f => ∀ S', frB S S' → bM S' (stS a B cut p f) (cf a (7 * aP a)) → T18 (nI cut) (nI (bT (stS a B cut p f))) (nI p) (nI (4 * p + f)) S') 4 (fun f hf ih S1 hfr1 hM1 => ?_)
  apply r18
  unfold M_spread_w18
  have hB1 := stS_ok ha hB hcv hpl hfit f hf
  simp (disch := omega) only [n0, n1, n2, n3, n4, n5, n6, n7, n8, n9, n10, n11, n12, n14, n16, n18, n21, n22, n36, n48, n63, n100, n108, n400, n1000, pk_mul, nI_add, pk_div, nI_subm, nI_ltE, nI_leE, nI_eqE, nI_clamp, vp_inE, nIm1, nIm1', nIm1n, nIm1n', nI_addn]
  refine ⟨fun q => by rw [show f = 4 by omega] at hM1 ⊢; exact h S1 hfr1 hM1, fun q => ?_⟩
  have ih := ih (by omega)
  generalize hBf : stS a B cut p f = Bf at hM1 hB1
  have hs : 4 * p + f < 4 * aP a := by omega
  suffices K32 : ∀ c, c ≤ 4 → ∀ S', frB S S' → bM S' (stC a Bf cut (4 * p + f) c) (cf a (7 * aP a)) → T32 (nI cut) (nI (bT (stC a Bf cut (4 * p + f) c))) (nI p) (nI (4 * p + f)) (nI c) S' from K32 0 (by omega) S1 hfr1 hM1
  refine loopUp (P := fun c => ∀ S', frB S S' → bM S' (stC a Bf cut (4 * p + f) c) (cf a (7 * aP a)) → T32 (nI cut) (nI (bT (stC a Bf cut (4 * p + f) c))) (nI p) (nI (4 * p + f)) (nI c) S') 4 (fun c hc ihc S2 hfr2 hM2 => ?_)
  apply r32
  have hR2 := MR_same hR (frB_sameB hfr2)
  have hcf2 := frB_cf hfr2 hcf
  have hcv1 : bP Bf cut ≠ none := by rw [hB1.2.1 cut hcv]; exact hcv
  have hB2 := stC_ok ha hB1.1 hcv1 hs hfit c hc
  have nxs : ∀ S', frB S S' → bM S' (stC a Bf cut (4 * p + f) 4) (cf a (7 * aP a)) → T18 (nI cut) (nI (bT (stC a Bf cut (4 * p + f) 4))) (nI p) (nI (4 * p + f + 1)) S' := by
    intro S' h1 h2
    have := ih S' h1 (by show bM S' (stC a (stS a B cut p f) cut (4 * p + f) 4) _; rw [hBf]; exact h2)
    have this : T18 (nI cut) (nI (bT (stC a (stS a B cut p f) cut (4 * p + f) 4))) (nI p) (nI (4 * p + (f + 1))) S' := this
    rw [hBf] at this
    exact this
  unfold M_spread_w32 M_spread_w256
  simp (disch := omega) only [n0, n1, n2, n3, n4, n5, n6, n7, n8, n9, n10, n11, n12, n14, n16, n18, n21, n22, n36, n48, n63, n100, n108, n400, n1000, pk_mul, nI_add, pk_div, nI_subm, nI_ltE, nI_leE, nI_eqE, nI_clamp, vp_inE, nIm1, nIm1', nIm1n, nIm1n', nI_addn]
  refine ⟨fun q2 => ?_, fun q2 => ⟨by omega, ?_⟩⟩
  · rw [show c = 4 by omega] at hM2 ⊢
    exact nxs S2 hfr2 hM2
  · rw [hR2.2.2.1 _ hs]
    cases e : aG a (4 * p + f) with
    | none =>
      refine ⟨fun _ => ?_, fun q3 => absurd rfl q3⟩
      have z : ∀ m, stC a Bf cut (4 * p + f) m = Bf := by
        intro m
        induction m with
        | zero => rfl
        | succ m ihm =>
          show stepF a (stC a Bf cut (4 * p + f) m) cut (4 * p + f) m = Bf
          unfold stepF
          rw [e]
          exact ihm
      rw [z] at hM2 ⊢
      have := nxs S2 hfr2 (by rw [z]; exact hM2)
      rw [z] at this
      exact this
    | some t =>
      obtain ⟨ht1, ht2, ht3, ht4, hw⟩ := ha.2.1 _ t hs e
      have ihc := ihc (by omega)
      refine ⟨fun q3 => absurd q3 (by show ¬ nI t = -nI 1; rw [nIm1n (by omega)]; exact id), fun _ => ?_⟩
      generalize hB0 : stC a Bf cut (4 * p + f) c = B0 at hM2 hB2
      have hcv2 : bP B0 cut ≠ none := by rw [hB2.2.1 cut hcv1]; exact hcv1
      have hst : stC a Bf cut (4 * p + f) (c + 1) = stepF a B0 cut (4 * p + f) c := by
        show stepF a (stC a Bf cut (4 * p + f) c) cut (4 * p + f) c = _
        rw [hB0]
      rw [hst] at ihc
      unfold stepF at ihc
      rw [e] at ihc
      have ihc : ∀ (S' : MS), frB S S' → bM S' (if c = (4 * p + f) % 4 then B0 else match srch (fun i => cutN a (4 * p + f) c i == cut) (arcN a ((4 * p + f) / 4) ((4 * p + f) % 4) c) with | none => B0 | some i => visF B0 cut (cutN a t (aW a (4 * p + f) c) i) (lookN a (4 * p + f) c i == lookN a t (aW a (4 * p + f) c) i)) (cf a (7 * aP a)) → T32 (nI cut) (nI (bT (if c = (4 * p + f) % 4 then B0 else match srch (fun i => cutN a (4 * p + f) c i == cut) (arcN a ((4 * p + f) / 4) ((4 * p + f) % 4) c) with | none => B0 | some i => visF B0 cut (cutN a t (aW a (4 * p + f) c) i) (lookN a (4 * p + f) c i == lookN a t (aW a (4 * p + f) c) i)))) (nI p) (nI (4 * p + f)) (nI (c + 1)) S' := ihc
      by_cases c1 : c = (4 * p + f) % 4
      · rw [if_pos c1] at ihc
        apply r52
        unfold M_spread_w52 M_spread_w250
        simp (disch := omega) only [n0, n1, n2, n3, n4, n5, n6, n7, n8, n9, n10, n11, n12, n14, n16, n18, n21, n22, n36, n48, n63, n100, n108, n400, n1000, pk_mul, nI_add, pk_div, nI_subm, nI_ltE, nI_leE, nI_eqE, nI_clamp, vp_inE, nIm1, nIm1', nIm1n, nIm1n', nI_addn]
        exact ⟨fun _ => ihc S2 hfr2 hM2, fun q3 => absurd (by omega) q3⟩
      · rw [if_neg c1] at ihc
        have hwc := (hw c (by omega)).1
        have hwne : aW a (4 * p + f) c ≠ t % 4 := by
          rw [← ht4]
          exact AWf_inj ha hs e (by omega) (by omega) c1
        have hfitc := hfit _ t c hs e (by omega) c1
        have hal := arcN_le ha ((4 * p + f) / 4) ((4 * p + f) % 4) c
        suffices K52 : ∀ i, i ≤ arcN a ((4 * p + f) / 4) ((4 * p + f) % 4) c → ∀ S', frB S S' → ((∀ j, j < i → cutN a (4 * p + f) c j ≠ cut) → bM S' B0 (cf a (7 * aP a)) → T52 (nI cut) (nI (bT B0)) (nI p) (nI (4 * p + f)) (nI c) (nI i) S') ∧ (∀ j, j < i → cutN a (4 * p + f) c j = cut → bM S' (visF B0 cut (cutN a t (aW a (4 * p + f) c) j) (lookN a (4 * p + f) c j == lookN a t (aW a (4 * p + f) c) j)) (cf a (7 * aP a)) → T52 (nI cut) (nI (bT (visF B0 cut (cutN a t (aW a (4 * p + f) c) j) (lookN a (4 * p + f) c j == lookN a t (aW a (4 * p + f) c) j)))) (nI p) (nI (4 * p + f)) (nI c) (nI i) S') from (K52 0 (by omega) S2 hfr2).1 (fun j hj => absurd hj (Nat.not_lt_zero _)) hM2
        refine loopUp (P := fun i => ∀ S', frB S S' → ((∀ j, j < i → cutN a (4 * p + f) c j ≠ cut) → bM S' B0 (cf a (7 * aP a)) → T52 (nI cut) (nI (bT B0)) (nI p) (nI (4 * p + f)) (nI c) (nI i) S') ∧ (∀ j, j < i → cutN a (4 * p + f) c j = cut → bM S' (visF B0 cut (cutN a t (aW a (4 * p + f) c) j) (lookN a (4 * p + f) c j == lookN a t (aW a (4 * p + f) c) j)) (cf a (7 * aP a)) → T52 (nI cut) (nI (bT (visF B0 cut (cutN a t (aW a (4 * p + f) c) j) (lookN a (4 * p + f) c j == lookN a t (aW a (4 * p + f) c) j)))) (nI p) (nI (4 * p + f)) (nI c) (nI i) S')) (arcN a ((4 * p + f) / 4) ((4 * p + f) % 4) c) (fun i hi ihi S3 hfr3 => ?_)
        have hR3 := MR_same hR (frB_sameB hfr3)
        have hcf3 := frB_cf hfr3 hcf
        have em : nI (4 * p + f) - nI (4 * p + f) / 4 * 4 = nI ((4 * p + f) % 4) := by
          simp (disch := omega) only [n0, n1, n2, n3, n4, n5, n6, n7, n8, n9, n10, n11, n12, n14, n16, n18, n21, n22, n36, n48, n63, n100, n108, n400, n1000, pk_mul, nI_add, pk_div, nI_subm, nI_ltE, nI_leE, nI_eqE, nI_clamp, vp_inE, nIm1, nIm1', nIm1n, nIm1n', nI_addn]
          rw [show 4 * p + f - (4 * p + f) / 4 * 4 = (4 * p + f) % 4 by omega]
        have ep : p = (4 * p + f) / 4 := by omega
        refine ⟨fun hno hM3 => ?_, fun j hj hjc hM3 => ?_⟩
        · apply r52
          unfold M_spread_w52 M_spread_w250
          rw [em]
          have harc : ∀ {post : Int32 → MS → Prop}, post (nI (arcN a ((4 * p + f) / 4) ((4 * p + f) % 4) c)) S3 → M_arcs (nI p) (nI ((4 * p + f) % 4)) (nI c) S3 post := fun {post} hh => by
            rw [← ep] at hh
            exact s_arcs ha hR3 (by omega) (by omega) (by omega) c1 hh
          refine ⟨fun q3 => absurd q3 (by rw [nI_eqE (by omega) (by omega)]; exact c1), fun _ => harc ⟨fun q3 => ?_, fun q3 => ?_⟩⟩
          · rw [nI_leE (by omega) (by omega)] at q3
            have ie : i = arcN a ((4 * p + f) / 4) ((4 * p + f) % 4) c := by omega
            have sn : srch (fun i => cutN a (4 * p + f) c i == cut) (arcN a ((4 * p + f) / 4) ((4 * p + f) % 4) c) = none := by
              cases e2 : srch (fun i => cutN a (4 * p + f) c i == cut) (arcN a ((4 * p + f) / 4) ((4 * p + f) % 4) c) with
              | none => rfl
              | some k =>
                obtain ⟨k1, k2, _⟩ := srch_some e2
                exact absurd (by simpa using k2) (hno k (by omega))
            rw [sn] at ihc
            rw [show (nI c : Int32) + 1 = nI (c + 1) from nI_add c 1]
            exact ihc S3 hfr3 hM3
          · rw [nI_leE (by omega) (by omega)] at q3
            have ihi := ihi (by omega)
            refine s_cutAt ha hR3 hcf3 hs (by omega) c1 (by omega) ?_
            have lc := cutN_lt hs (by omega) c1 (show i < arcN a ((4 * p + f) / 4) ((4 * p + f) % 4) c by omega)
            rw [nI_eqE (by omega) (by omega)]
            refine ⟨fun q4 => ?_, fun q4 => by
              unfold M_spread_w244
              rw [show (nI i : Int32) + 1 = nI (i + 1) from nI_add i 1]
              refine (ihi S3 hfr3).1 (fun j hj => ?_) hM3
              by_cases e2 : j = i
              · subst e2; exact q4
              · exact hno j (by omega)⟩
            · have ei : (4 : Int32) * nI (4 * p + f) + nI c = nI (4 * (4 * p + f) + c) := by simp (disch := omega) only [n0, n1, n2, n3, n4, n5, n6, n7, n8, n9, n10, n11, n12, n14, n16, n18, n21, n22, n36, n48, n63, n100, n108, n400, n1000, pk_mul, nI_add, pk_div, nI_subm, nI_ltE, nI_leE, nI_eqE, nI_clamp, vp_inE, nIm1, nIm1', nIm1n, nIm1n', nI_addn]
              rw [ei, nI_clamp (by omega), nI_clamp (by omega), hR3.2.2.1 _ hs, e, hR3.2.2.2.1 _ t hs e c (by omega), vp_inE (by omega) (by omega), vp_inE (by omega) (by omega)]
              have hgl : glN (some t) = nI t := rfl
              rw [hgl]
              have hit : i < arcN a (t / 4) (t % 4) (aW a (4 * p + f) c) := by rw [← hfitc]; omega
              have lo := cutN_lt ht1 hwc hwne hit
              refine ⟨by omega, by omega, s_cutAt ha hR3 hcf3 ht1 hwc hwne hit ?_⟩
              refine s_looks ha hR3 (by omega) (by omega) (by omega) ⟨by omega, ?_⟩
              rw [hR3.2.2.1 _ hs, e, hgl]
              refine s_looks ha hR3 (by omega) (by omega) (by omega) ?_
              rw [zB_inj, nI_clamp (n := cut) (by omega), hM3.2.1 cut hcut hcv2]
              have hh : ∀ S', frB S3 S' → bM S' (visF B0 cut (cutN a t (aW a (4 * p + f) c) i) (lookN a (4 * p + f) c i == lookN a t (aW a (4 * p + f) c) i)) (cf a (7 * aP a)) → M_spread_w244 post T18 T32 T52 (nI cut) (nI (bT (visF B0 cut (cutN a t (aW a (4 * p + f) c) i) (lookN a (4 * p + f) c i == lookN a t (aW a (4 * p + f) c) i)))) (nI p) (nI (4 * p + f)) (nI c) (nI i) S' := by
                intro S' k1 k2
                unfold M_spread_w244
                rw [show (nI i : Int32) + 1 = nI (i + 1) from nI_add i 1]
                exact (ihi S' (frB_tr hfr3 k1)).2 i (by omega) q4 k2
              refine ⟨fun q5 => ⟨by rw [vp_inE (by omega) (by omega)]; omega, m_w170 hn hB2.1 hM3 hcut hcv2 lo hh ?_⟩, fun q5 => ⟨by rw [vp_inE (by omega) (by omega)]; omega, m_w170 hn hB2.1 hM3 hcut hcv2 lo hh ?_⟩⟩
              · rw [sgI_neg, if_neg (by simpa using q5)]
              · rw [if_pos (by simpa using q5)]
        · apply r52
          unfold M_spread_w52 M_spread_w250
          rw [em]
          have harc : ∀ {post : Int32 → MS → Prop}, post (nI (arcN a ((4 * p + f) / 4) ((4 * p + f) % 4) c)) S3 → M_arcs (nI p) (nI ((4 * p + f) % 4)) (nI c) S3 post := fun {post} hh => by
            rw [← ep] at hh
            exact s_arcs ha hR3 (by omega) (by omega) (by omega) c1 hh
          refine ⟨fun q3 => absurd q3 (by rw [nI_eqE (by omega) (by omega)]; exact c1), fun _ => harc ⟨fun q3 => ?_, fun q3 => ?_⟩⟩
          · rw [nI_leE (by omega) (by omega)] at q3
            have sn : srch (fun i => cutN a (4 * p + f) c i == cut) (arcN a ((4 * p + f) / 4) ((4 * p + f) % 4) c) = some j := by
              refine srch_at (by omega) (by simpa using hjc) (fun k hk => ?_)
              have : cutN a (4 * p + f) c k ≠ cut := fun k2 => by
                have := cutN_inj (by omega) c1 (show k < arcN a ((4 * p + f) / 4) ((4 * p + f) % 4) c by omega) (by omega) (k2.trans hjc.symm)
                omega
              simpa using this
            rw [sn] at ihc
            rw [show (nI c : Int32) + 1 = nI (c + 1) from nI_add c 1]
            exact ihc S3 hfr3 hM3
          · rw [nI_leE (by omega) (by omega)] at q3
            refine s_cutAt ha hR3 hcf3 hs (by omega) c1 (by omega) ?_
            have lc := cutN_lt hs (by omega) c1 (show i < arcN a ((4 * p + f) / 4) ((4 * p + f) % 4) c by omega)
            rw [nI_eqE (by omega) (by omega)]
            refine ⟨fun q4 => ?_, fun q4 => ?_⟩
            · have := cutN_inj (by omega) c1 (show i < arcN a ((4 * p + f) / 4) ((4 * p + f) % 4) c by omega) (by omega) (q4.trans hjc.symm)
              omega
            · unfold M_spread_w244
              rw [show (nI i : Int32) + 1 = nI (i + 1) from nI_add i 1]
              exact (ihi (by omega) S3 hfr3).2 j (by omega) hjc hM3
