/-! the model's classes of edges and corners -/
def eL (L : Lb) (k : Nat) : Nat := min (L.1 (2 * k)) (L.1 (2 * k + 1)) / 2
def nE (L : Lb) (n : Nat) : Nat := sumN (fun k => if eL L k = k then 1 else 0) n
def nC (L : Lb) (n : Nat) : Nat := sumN (fun k => if L.2.1 k = k then 1 else 0) n
def nS (L : Lb) (n : Nat) : Nat := sumN (fun k => if L.2.2 k = k then 1 else 0) n
theorem sumN_ub {f : Nat → Nat} (m n : Nat) (h : ∀ k, k < n → f k ≤ m) : sumN f n ≤ m * n := by
  induction n with
  | zero => exact Nat.zero_le _
  | succ n ih =>
    have h1 := ih (fun k hk => h k (by omega))
    have h2 := h n (by omega)
    unfold sumN
    rw [Nat.mul_succ]
    omega
theorem nE_le (L : Lb) (n : Nat) : nE L n ≤ n := by
  have h := sumN_ub (f := fun k => if eL L k = k then 1 else 0) 1 n (fun k _ => by show (if _ then 1 else 0) ≤ 1; split <;> omega)
  unfold nE; omega
theorem nC_le (L : Lb) (n : Nat) : nC L n ≤ n := by
  have h := sumN_ub (f := fun k => if L.2.1 k = k then 1 else 0) 1 n (fun k _ => by show (if _ then 1 else 0) ≤ 1; split <;> omega)
  unfold nC; omega
theorem nS_le (L : Lb) (n : Nat) : nS L n ≤ n := by
  have h := sumN_ub (f := fun k => if L.2.2 k = k then 1 else 0) 1 n (fun k _ => by show (if _ then 1 else 0) ≤ 1; split <;> omega)
  unfold nS; omega
theorem nE_s (L : Lb) (n : Nat) : nE L (n + 1) = nE L n + (if eL L n = n then 1 else 0) := rfl
theorem nC_s (L : Lb) (n : Nat) : nC L (n + 1) = nC L n + (if L.2.1 n = n then 1 else 0) := rfl
theorem nS_s (L : Lb) (n : Nat) : nS L (n + 1) = nS L n + (if L.2.2 n = n then 1 else 0) := rfl
theorem nI_dec (n : Nat) : nI (n + 1) + -nI 1 = nI n := nI_addn (by omega)
theorem labs_lt6 {a : Ab} {L : Lb} (h : labs a L) {k : Nat} (hk : k < 36) : L.1 k < 36 := Nat.lt_of_le_of_lt (h.1.1 k hk) hk
theorem labs_lt7 {a : Ab} {L : Lb} (h : labs a L) {k : Nat} (hk : k < 12) : L.2.1 k < 12 := Nat.lt_of_le_of_lt (h.2.1.1 k hk) hk
theorem labs_lt8 {a : Ab} {L : Lb} (h : labs a L) {k : Nat} (hk : k < 3) : L.2.2 k < 3 := Nat.lt_of_le_of_lt (h.2.2.1 k hk) hk
theorem eL_le {a : Ab} {L : Lb} (h : labs a L) {k : Nat} (hk : k < 18) : eL L k ≤ k := by
  have h1 := h.1.1 (2 * k) (by omega)
  unfold eL
  omega
theorem s_edgeLabel {a : Ab} {L : Lb} (hl : labs a L) {S : MS} (hS : hold S L) {p e : Nat} (hp : p < 3) (he : e < 6) {post : Int32 → MS → Prop} (h : post (nI (eL L (6 * p + e))) S) : M_edgeLabel (nI p) (nI e) S post := by
  apply M_edgeLabel_ok
  unfold M_edgeLabel_VC M_edgeLabel_w0
  simp (disch := omega) only [n0, n1, n2, n3, n4, n5, n6, n7, n8, n9, n10, n11, n12, n14, n16, n18, n21, n22, n36, n48, n63, n100, n108, n400, n1000, pk_mul, nI_add, pk_div, nI_subm, nI_ltE, nI_leE, nI_eqE, nI_clamp, vp_inE, nIm1, nIm1', nIm1n, nIm1n', nI_addn]
  rw [hS.1 _ (show 12 * p + 2 * e < 36 by omega), hS.1 _ (show 12 * p + 2 * e + 1 < 36 by omega)]
  have h1 := labs_lt6 hl (show 12 * p + 2 * e < 36 by omega)
  have h2 := labs_lt6 hl (show 12 * p + 2 * e + 1 < 36 by omega)
  refine ⟨by omega, by omega, s_lesser (by omega) (by omega) ?_⟩
  simp (disch := omega) only [n0, n1, n2, n3, n4, n5, n6, n7, n8, n9, n10, n11, n12, n14, n16, n18, n21, n22, n36, n48, n63, n100, n108, n400, n1000, pk_mul, nI_add, pk_div, nI_subm, nI_ltE, nI_leE, nI_eqE, nI_clamp, vp_inE, nIm1, nIm1', nIm1n, nIm1n', nI_addn]
  unfold eL at h
  rw [show 2 * (6 * p + e) = 12 * p + 2 * e by omega] at h
  exact h
theorem s_isFirstEdge {a : Ab} {L : Lb} (hl : labs a L) {S : MS} (hS : hold S L) {k : Nat} (hk : k < 18) {post : Int32 → MS → Prop} (h : post (if eL L k = k then 1 else 0) S) : M_isFirstEdge (nI k) S post := by
  apply M_isFirstEdge_ok
  unfold M_isFirstEdge_VC M_isFirstEdge_w0 M_isFirstEdge_w21
  simp (disch := omega) only [n0, n1, n2, n3, n4, n5, n6, n7, n8, n9, n10, n11, n12, n14, n16, n18, n21, n22, n36, n48, n63, n100, n108, n400, n1000, pk_mul, nI_add, pk_div, nI_subm, nI_ltE, nI_leE, nI_eqE, nI_clamp, vp_inE, nIm1, nIm1', nIm1n, nIm1n', nI_addn]
  refine s_edgeLabel hl hS (by omega) (by omega) ?_
  rw [show 6 * (k / 6) + (k - k / 6 * 6) = k by omega]
  have h1 := eL_le hl hk
  simp (disch := omega) only [n0, n1, n2, n3, n4, n5, n6, n7, n8, n9, n10, n11, n12, n14, n16, n18, n21, n22, n36, n48, n63, n100, n108, n400, n1000, pk_mul, nI_add, pk_div, nI_subm, nI_ltE, nI_leE, nI_eqE, nI_clamp, vp_inE, nIm1, nIm1', nIm1n, nIm1n', nI_addn]
  refine ⟨fun c => ⟨zok0, ?_⟩, fun c => ⟨zok1, ?_⟩⟩
  · rw [if_neg c] at h; exact h
  · rw [if_pos c] at h; exact h
theorem s_edgeClasses {a : Ab} (ha : AWf a) {L : Lb} (hl : labs a L) {S : MS} (hR : MR a S) (hS : hold S L) {post : Int32 → MS → Prop} (h : post (nI (nE L (6 * aP a))) S) : M_edgeClasses S post := by
  apply M_edgeClasses_ok
  intro T r
  have hP := ha.1
  refine loopUp (P := fun i => T (nI (nE L i)) (nI i) S) (6 * aP a) (fun i hi ih => ?_) 0 (by omega)
  apply r
  unfold M_edgeClasses_w4 M_edgeClasses_w29
  rw [hR.1]
  simp (disch := omega) only [n0, n1, n2, n3, n4, n5, n6, n7, n8, n9, n10, n11, n12, n14, n16, n18, n21, n22, n36, n48, n63, n100, n108, n400, n1000, pk_mul, nI_add, pk_div, nI_subm, nI_ltE, nI_leE, nI_eqE, nI_clamp, vp_inE, nIm1, nIm1', nIm1n, nIm1n', nI_addn]
  refine ⟨fun c => by rw [show i = 6 * aP a by omega]; exact h, fun c => s_isFirstEdge hl hS (by omega) ?_⟩
  have ih := ih (by omega)
  rw [nE_s] at ih
  by_cases e : eL L i = i
  · rw [if_pos e] at ih ⊢
    exact ⟨fun q => absurd q (by decide), fun _ => ih⟩
  · rw [if_neg e] at ih ⊢
    exact ⟨fun _ => ih, fun q => absurd rfl q⟩
theorem s_cornerClasses {a : Ab} (ha : AWf a) {L : Lb} (hl : labs a L) {S : MS} (hR : MR a S) (hS : hold S L) {post : Int32 → MS → Prop} (h : post (nI (nC L (4 * aP a))) S) : M_cornerClasses S post := by
  apply M_cornerClasses_ok
  intro T r
  have hP := ha.1
  refine loopUp (P := fun i => T (nI (nC L i)) (nI i) S) (4 * aP a) (fun i hi ih => ?_) 0 (by omega)
  apply r
  unfold M_cornerClasses_w4 M_cornerClasses_w30
  rw [hR.1]
  simp (disch := omega) only [n0, n1, n2, n3, n4, n5, n6, n7, n8, n9, n10, n11, n12, n14, n16, n18, n21, n22, n36, n48, n63, n100, n108, n400, n1000, pk_mul, nI_add, pk_div, nI_subm, nI_ltE, nI_leE, nI_eqE, nI_clamp, vp_inE, nIm1, nIm1', nIm1n, nIm1n', nI_addn]
  refine ⟨fun c => by rw [show i = 4 * aP a by omega]; exact h, fun c => ⟨by omega, ?_⟩⟩
  have ih := ih (by omega)
  have hi' := labs_lt7 hl (show i < 12 by omega)
  rw [nC_s] at ih
  rw [hS.2.1 i (by omega)]
  simp (disch := omega) only [n0, n1, n2, n3, n4, n5, n6, n7, n8, n9, n10, n11, n12, n14, n16, n18, n21, n22, n36, n48, n63, n100, n108, n400, n1000, pk_mul, nI_add, pk_div, nI_subm, nI_ltE, nI_leE, nI_eqE, nI_clamp, vp_inE, nIm1, nIm1', nIm1n, nIm1n', nI_addn]
  by_cases e : L.2.1 i = i
  · rw [if_pos e] at ih
    exact ⟨fun q => absurd e q, fun _ => ih⟩
  · rw [if_neg e] at ih
    exact ⟨fun _ => ih, fun q => absurd q e⟩
theorem s_setMany {a : Ab} (ha : AWf a) {L : Lb} (hl : labs a L) {S : MS} (hR : MR a S) (hS : hold S L) {post : Int32 → MS → Prop} (h : post (nI (nS L (aP a))) S) : M_setMany S post := by
  apply M_setMany_ok
  intro T r
  have hP := ha.1
  refine loopUp (P := fun i => T (nI (nS L i)) (nI i) S) (aP a) (fun i hi ih => ?_) 0 (by omega)
  apply r
  unfold M_setMany_w4 M_setMany_w28
  rw [hR.1]
  simp (disch := omega) only [n0, n1, n2, n3, n4, n5, n6, n7, n8, n9, n10, n11, n12, n14, n16, n18, n21, n22, n36, n48, n63, n100, n108, n400, n1000, pk_mul, nI_add, pk_div, nI_subm, nI_ltE, nI_leE, nI_eqE, nI_clamp, vp_inE, nIm1, nIm1', nIm1n, nIm1n', nI_addn]
  refine ⟨fun c => by rw [show i = aP a by omega]; exact h, fun c => ⟨by omega, ?_⟩⟩
  have ih := ih (by omega)
  have hi' := labs_lt8 hl (show i < 3 by omega)
  rw [nS_s] at ih
  rw [hS.2.2 i (by omega)]
  simp (disch := omega) only [n0, n1, n2, n3, n4, n5, n6, n7, n8, n9, n10, n11, n12, n14, n16, n18, n21, n22, n36, n48, n63, n100, n108, n400, n1000, pk_mul, nI_add, pk_div, nI_subm, nI_ltE, nI_leE, nI_eqE, nI_clamp, vp_inE, nIm1, nIm1', nIm1n, nIm1n', nI_addn]
  by_cases e : L.2.2 i = i
  · rw [if_pos e] at ih
    exact ⟨fun q => absurd e q, fun _ => ih⟩
  · rw [if_neg e] at ih
    exact ⟨fun _ => ih, fun q => absurd q e⟩
theorem nI_neg {x : Int32} (h : x < 0) (n : Nat) (hn : n < 2 ^ 31) : ¬ inN x n := by
  rintro ⟨k, hk, rfl⟩
  rw [n0, nI_ltE (by omega) (by omega)] at h
  omega
theorem inN_nI {j n : Nat} (hj : j < 2 ^ 31) (hn : n < 2 ^ 31) : inN (nI j) n ↔ j < n :=
  ⟨fun ⟨k, hk, e⟩ => by rw [nI_eqE (by omega) (by omega)] at e; omega, fun h => ⟨j, h, rfl⟩⟩
theorem s_edgeOfClass {a : Ab} (ha : AWf a) {L : Lb} (hl : labs a L) {S : MS} (hR : MR a S) (hS : hold S L) {x : Int32} {post : Int32 → MS → Prop} (h1 : ∀ j k, x = nI j → k < 6 * aP a → eL L k = k → nE L k = j → post (nI k) S) (h0 : ¬ inN x (nE L (6 * aP a)) → post (-1) S) : M_edgeOfClass x S post := by
  apply M_edgeOfClass_ok
  intro T r
  have hP := ha.1
  have hE := nE_le L (6 * aP a)
  by_cases hx : x < 0
  · apply r
    unfold M_edgeOfClass_w4 M_edgeOfClass_w42
    exact ⟨fun _ => h0 (nI_neg hx _ (by omega)), fun _ => ⟨fun _ => h0 (nI_neg hx _ (by omega)), fun q => absurd hx q⟩⟩
  · obtain ⟨j, hj, rfl⟩ := nI_of hx
    suffices H : ∀ i, i ≤ 6 * aP a → nE L i ≤ j → T (nI j) (nI (j - nE L i)) (nI i) S by exact H 0 (by omega) (Nat.zero_le _)
    refine loopUp (P := fun i => nE L i ≤ j → T (nI j) (nI (j - nE L i)) (nI i) S) (6 * aP a) (fun i hi ih hle => ?_)
    apply r
    unfold M_edgeOfClass_w4 M_edgeOfClass_w36 M_edgeOfClass_w42
    rw [hR.1]
    simp (disch := omega) only [n0, n1, n2, n3, n4, n5, n6, n7, n8, n9, n10, n11, n12, n14, n16, n18, n21, n22, n36, n48, n63, n100, n108, n400, n1000, pk_mul, nI_add, pk_div, nI_subm, nI_ltE, nI_leE, nI_eqE, nI_clamp, vp_inE, nIm1, nIm1', nIm1n, nIm1n', nI_addn]
    refine ⟨fun c => h0 (by rw [inN_nI hj (by omega), show 6 * aP a = i by omega]; omega), fun c => ⟨fun q => absurd q (by omega), fun _ => s_isFirstEdge hl hS (by omega) ?_⟩⟩
    have ih := ih (by omega)
    rw [nE_s] at ih
    by_cases e : eL L i = i
    · rw [if_pos e] at ih ⊢
      refine ⟨fun q => absurd q (by decide), fun _ => ⟨fun q => ?_, fun q => h1 j i rfl (by omega) e (by omega)⟩⟩
      have ih := ih (by omega)
      rw [nI_addn (by omega), show j - nE L i - 1 = j - (nE L i + 1) by omega]
      exact ih
    · rw [if_neg e] at ih ⊢
      exact ⟨fun _ => ih (by omega), fun q => absurd rfl q⟩
theorem s_cornerOfClass {a : Ab} (ha : AWf a) {L : Lb} (hl : labs a L) {S : MS} (hR : MR a S) (hS : hold S L) {x : Int32} {post : Int32 → MS → Prop} (h1 : ∀ j k, x = nI j → k < 4 * aP a → L.2.1 k = k → nC L k = j → post (nI k) S) (h0 : ¬ inN x (nC L (4 * aP a)) → post (-1) S) : M_cornerOfClass x S post := by
  apply M_cornerOfClass_ok
  intro T r
  have hP := ha.1
  have hE := nC_le L (4 * aP a)
  by_cases hx : x < 0
  · apply r
    unfold M_cornerOfClass_w4 M_cornerOfClass_w43
    exact ⟨fun _ => h0 (nI_neg hx _ (by omega)), fun _ => ⟨fun _ => h0 (nI_neg hx _ (by omega)), fun q => absurd hx q⟩⟩
  · obtain ⟨j, hj, rfl⟩ := nI_of hx
    suffices H : ∀ i, i ≤ 4 * aP a → nC L i ≤ j → T (nI j) (nI (j - nC L i)) (nI i) S by exact H 0 (by omega) (Nat.zero_le _)
    refine loopUp (P := fun i => nC L i ≤ j → T (nI j) (nI (j - nC L i)) (nI i) S) (4 * aP a) (fun i hi ih hle => ?_)
    apply r
    unfold M_cornerOfClass_w4 M_cornerOfClass_w37 M_cornerOfClass_w43
    rw [hR.1]
    simp (disch := omega) only [n0, n1, n2, n3, n4, n5, n6, n7, n8, n9, n10, n11, n12, n14, n16, n18, n21, n22, n36, n48, n63, n100, n108, n400, n1000, pk_mul, nI_add, pk_div, nI_subm, nI_ltE, nI_leE, nI_eqE, nI_clamp, vp_inE, nIm1, nIm1', nIm1n, nIm1n', nI_addn]
    refine ⟨fun c => h0 (by rw [inN_nI hj (by omega), show 4 * aP a = i by omega]; omega), fun c => ⟨fun q => absurd q (by omega), fun _ => ⟨by omega, ?_⟩⟩⟩
    have ih := ih (by omega)
    have hi' := labs_lt7 hl (show i < 12 by omega)
    rw [nC_s] at ih
    rw [hS.2.1 i (by omega)]
    simp (disch := omega) only [n0, n1, n2, n3, n4, n5, n6, n7, n8, n9, n10, n11, n12, n14, n16, n18, n21, n22, n36, n48, n63, n100, n108, n400, n1000, pk_mul, nI_add, pk_div, nI_subm, nI_ltE, nI_leE, nI_eqE, nI_clamp, vp_inE, nIm1, nIm1', nIm1n, nIm1n', nI_addn]
    by_cases e : L.2.1 i = i
    · rw [if_pos e] at ih
      refine ⟨fun q => absurd e q, fun _ => ⟨fun q => ?_, fun q => h1 j i rfl (by omega) e (by omega)⟩⟩
      have ih := ih (by omega)
      rw [nI_addn (by omega), show j - nC L i - 1 = j - (nC L i + 1) by omega]
      exact ih
    · rw [if_neg e] at ih
      exact ⟨fun _ => ih (by omega), fun q => absurd q e⟩
def bentE (L : Lb) (k : Nat) : Prop := L.1 (2 * k) = L.1 (2 * k + 1)
theorem s_isBent {a : Ab} {L : Lb} (hl : labs a L) {S : MS} (hS : hold S L) {k : Nat} (hk : k < 18) {post : Int32 → MS → Prop} (h1 : bentE L k → post 1 S) (h0 : ¬ bentE L k → post 0 S) : M_isBent (nI k) S post := by
  apply M_isBent_ok
  unfold M_isBent_VC M_isBent_w0 M_isBent_w26
  have q1 := labs_lt6 hl (show 2 * k < 36 by omega)
  have q2 := labs_lt6 hl (show 2 * k + 1 < 36 by omega)
  simp (disch := omega) only [n0, n1, n2, n3, n4, n5, n6, n7, n8, n9, n10, n11, n12, n14, n16, n18, n21, n22, n36, n48, n63, n100, n108, n400, n1000, pk_mul, nI_add, pk_div, nI_subm, nI_ltE, nI_leE, nI_eqE, nI_clamp, vp_inE, nIm1, nIm1', nIm1n, nIm1n', nI_addn]
  rw [hS.1 _ (show 2 * k < 36 by omega), hS.1 _ (show 2 * k + 1 < 36 by omega)]
  simp (disch := omega) only [n0, n1, n2, n3, n4, n5, n6, n7, n8, n9, n10, n11, n12, n14, n16, n18, n21, n22, n36, n48, n63, n100, n108, n400, n1000, pk_mul, nI_add, pk_div, nI_subm, nI_ltE, nI_leE, nI_eqE, nI_clamp, vp_inE, nIm1, nIm1', nIm1n, nIm1n', nI_addn]
  exact ⟨by omega, by omega, fun c => ⟨zok0, h0 c⟩, fun c => ⟨zok1, h1 c⟩⟩
theorem s_anyBent {a : Ab} (ha : AWf a) {L : Lb} (hl : labs a L) {S : MS} (hR : MR a S) (hS : hold S L) {post : Int32 → MS → Prop} (h1 : (∃ k, k < 6 * aP a ∧ bentE L k) → post 1 S) (h0 : (¬ ∃ k, k < 6 * aP a ∧ bentE L k) → post 0 S) : M_anyBent S post := by
  apply M_anyBent_ok
  intro T r
  have hP := ha.1
  suffices H : ∀ i, i ≤ 6 * aP a → ((∃ k, k < i ∧ bentE L k) → T 1 (nI i) S) ∧ ((¬ ∃ k, k < i ∧ bentE L k) → T 0 (nI i) S) from (H 0 (by omega)).2 (fun ⟨k, hk, _⟩ => absurd hk (Nat.not_lt_zero _))
  refine loopUp (P := fun i => ((∃ k, k < i ∧ bentE L k) → T 1 (nI i) S) ∧ ((¬ ∃ k, k < i ∧ bentE L k) → T 0 (nI i) S)) (6 * aP a) (fun i hi ih => ⟨fun hb => ?_, fun hb => ?_⟩)
  · apply r
    unfold M_anyBent_w4 M_anyBent_w27 M_anyBent_w32
    rw [hR.1]
    simp (disch := omega) only [n0, n1, n2, n3, n4, n5, n6, n7, n8, n9, n10, n11, n12, n14, n16, n18, n21, n22, n36, n48, n63, n100, n108, n400, n1000, pk_mul, nI_add, pk_div, nI_subm, nI_ltE, nI_leE, nI_eqE, nI_clamp, vp_inE, nIm1, nIm1', nIm1n, nIm1n', nI_addn]
    obtain ⟨k, hk, hb⟩ := hb
    refine ⟨fun c => ⟨zok1, h1 ⟨k, by omega, hb⟩⟩, fun c => ⟨fun _ => (ih (by omega)).1 ⟨k, by omega, hb⟩, fun q => absurd q (by decide)⟩⟩
  · apply r
    unfold M_anyBent_w4 M_anyBent_w27 M_anyBent_w32
    rw [hR.1]
    simp (disch := omega) only [n0, n1, n2, n3, n4, n5, n6, n7, n8, n9, n10, n11, n12, n14, n16, n18, n21, n22, n36, n48, n63, n100, n108, n400, n1000, pk_mul, nI_add, pk_div, nI_subm, nI_ltE, nI_leE, nI_eqE, nI_clamp, vp_inE, nIm1, nIm1', nIm1n, nIm1n', nI_addn]
    refine ⟨fun c => ⟨zok0, h0 (by rw [show 6 * aP a = i by omega]; exact hb)⟩, fun c => ⟨fun q => absurd trivial q, fun _ => ?_⟩⟩
    refine s_isBent hl hS (by omega) (fun q => ⟨fun q2 => absurd q2 (by decide), fun _ => (ih (by omega)).1 ⟨i, by omega, q⟩⟩) (fun q => ⟨fun _ => (ih (by omega)).2 (fun ⟨k, hk, hb'⟩ => ?_), fun q2 => absurd rfl q2⟩)
    by_cases e : k = i
    · subst e; exact q hb'
    · exact hb ⟨k, by omega, hb'⟩
