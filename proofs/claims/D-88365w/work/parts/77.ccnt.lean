/-! the component: classes read -/
def ptd (S : CS) (b n : Nat) (L : Nat → Nat) : Prop := ∀ x, x < n → kI S b x = nI (cnL L (L x))
theorem c_ofS2 {S : CS} {L : Nat → Nat} {n : Nat} (hp : ptd S 32 n L) (hn : n ≤ 12) {p j : Nat} (hj : j < 4) (hx : p * 4 + j < n) {post : Int32 → CS → Prop} (h : post (nI (cnL L (L (p * 4 + j)))) S) : C_ofS2 (nI p) (nI j) S post := by
  apply C_ofS2_ok
  unfold C_ofS2_VC C_ofS2_w0
  have e : nI p * 4 + nI j = nI (p * 4 + j) := by simp (disch := omega) only [n0, n1, n2, n3, n4, n5, n6, n7, n8, n9, n10, n11, n12, n14, n16, n18, n21, n22, n36, n48, n63, n100, n108, n400, n1000, pk_mul, nI_add, pk_div, nI_subm, nI_ltE, nI_leE, nI_eqE, nI_clamp, vp_inE, nIm1, nIm1', nIm1n, nIm1n', nI_addn]
  rw [e, vp_inE (by omega) (by omega), nI_clamp (by omega), hp _ hx]
  exact ⟨by omega, h⟩
theorem c_firstS2 {S : CS} {L : Nat → Nat} {n : Nat} (hp : ptd S 32 n L) (hn : n ≤ 12) (hle : ∀ x, x < n → L x ≤ x ∧ L (L x) = L x) {k : Nat} (hk : k < n) (hLk : L k = k) {post : Int32 → CS → Prop} (h : post (nI k) S) : C_firstS2 (nI (cnL L k)) S post := by
  apply C_firstS2_ok
  intro T r
  refine loopUp (P := fun x => T (nI (cnL L k)) (nI x) S) k (fun x hx ih => ?_) 0 (by omega)
  apply r
  unfold C_firstS2_w2
  have c1 := cnL_le L k
  have c2 := cnL_le L (L x)
  have c3 := hle x (by omega)
  rw [nI_clamp (by omega), hp x (by omega), nI_eqE (by omega) (by omega), vp_inE (by omega) (by omega), show (nI x : Int32) + 1 = nI (x + 1) from nI_add x 1]
  refine ⟨by omega, fun q => ?_, fun q => ih ?_⟩
  · have e := cnL_inj c3.2 hLk q
    rw [show x = k by omega]; exact h
  · by_cases e : x = k
    · rw [e, hLk] at q; exact absurd rfl q
    · omega
theorem c_ofS3 {S : CS} {L : Nat → Nat} {n : Nat} (hp : ptd S 33 n L) (hn : n ≤ 18) {p j : Nat} (hj : j < 6) (hx : p * 6 + j < n) {post : Int32 → CS → Prop} (h : post (nI (cnL L (L (p * 6 + j)))) S) : C_ofS3 (nI p) (nI j) S post := by
  apply C_ofS3_ok
  unfold C_ofS3_VC C_ofS3_w0
  have e : nI p * 6 + nI j = nI (p * 6 + j) := by simp (disch := omega) only [n0, n1, n2, n3, n4, n5, n6, n7, n8, n9, n10, n11, n12, n14, n16, n18, n21, n22, n36, n48, n63, n100, n108, n400, n1000, pk_mul, nI_add, pk_div, nI_subm, nI_ltE, nI_leE, nI_eqE, nI_clamp, vp_inE, nIm1, nIm1', nIm1n, nIm1n', nI_addn]
  rw [e, vp_inE (by omega) (by omega), nI_clamp (by omega), hp _ hx]
  exact ⟨by omega, h⟩
theorem c_firstS3 {S : CS} {L : Nat → Nat} {n : Nat} (hp : ptd S 33 n L) (hn : n ≤ 18) (hle : ∀ x, x < n → L x ≤ x ∧ L (L x) = L x) {k : Nat} (hk : k < n) (hLk : L k = k) {post : Int32 → CS → Prop} (h : post (nI k) S) : C_firstS3 (nI (cnL L k)) S post := by
  apply C_firstS3_ok
  intro T r
  refine loopUp (P := fun x => T (nI (cnL L k)) (nI x) S) k (fun x hx ih => ?_) 0 (by omega)
  apply r
  unfold C_firstS3_w2
  have c1 := cnL_le L k
  have c2 := cnL_le L (L x)
  have c3 := hle x (by omega)
  rw [nI_clamp (by omega), hp x (by omega), nI_eqE (by omega) (by omega), vp_inE (by omega) (by omega), show (nI x : Int32) + 1 = nI (x + 1) from nI_add x 1]
  refine ⟨by omega, fun q => ?_, fun q => ih ?_⟩
  · have e := cnL_inj c3.2 hLk q
    rw [show x = k by omega]; exact h
  · by_cases e : x = k
    · rw [e, hLk] at q; exact absurd rfl q
    · omega
theorem c_ofS4 {S : CS} {L : Nat → Nat} {n : Nat} (hp : ptd S 34 n L) (hn : n ≤ 36) {p j : Nat} (hj : j < 12) (hx : p * 12 + j < n) {post : Int32 → CS → Prop} (h : post (nI (cnL L (L (p * 12 + j)))) S) : C_ofS4 (nI p) (nI j) S post := by
  apply C_ofS4_ok
  unfold C_ofS4_VC C_ofS4_w0
  have e : nI p * 12 + nI j = nI (p * 12 + j) := by simp (disch := omega) only [n0, n1, n2, n3, n4, n5, n6, n7, n8, n9, n10, n11, n12, n14, n16, n18, n21, n22, n36, n48, n63, n100, n108, n400, n1000, pk_mul, nI_add, pk_div, nI_subm, nI_ltE, nI_leE, nI_eqE, nI_clamp, vp_inE, nIm1, nIm1', nIm1n, nIm1n', nI_addn]
  rw [e, vp_inE (by omega) (by omega), nI_clamp (by omega), hp _ hx]
  exact ⟨by omega, h⟩
theorem c_firstS4 {S : CS} {L : Nat → Nat} {n : Nat} (hp : ptd S 34 n L) (hn : n ≤ 36) (hle : ∀ x, x < n → L x ≤ x ∧ L (L x) = L x) {k : Nat} (hk : k < n) (hLk : L k = k) {post : Int32 → CS → Prop} (h : post (nI k) S) : C_firstS4 (nI (cnL L k)) S post := by
  apply C_firstS4_ok
  intro T r
  refine loopUp (P := fun x => T (nI (cnL L k)) (nI x) S) k (fun x hx ih => ?_) 0 (by omega)
  apply r
  unfold C_firstS4_w2
  have c1 := cnL_le L k
  have c2 := cnL_le L (L x)
  have c3 := hle x (by omega)
  rw [nI_clamp (by omega), hp x (by omega), nI_eqE (by omega) (by omega), vp_inE (by omega) (by omega), show (nI x : Int32) + 1 = nI (x + 1) from nI_add x 1]
  refine ⟨by omega, fun q => ?_, fun q => ih ?_⟩
  · have e := cnL_inj c3.2 hLk q
    rw [show x = k by omega]; exact h
  · by_cases e : x = k
    · rw [e, hLk] at q; exact absurd rfl q
    · omega
theorem frS_ext {b m : Nat} {S S' : CS} (h : frS b m S S') : extC S S' := h.1
theorem lab_le {n : Nat} {E : Nat → Nat → Prop} {L : Nat → Nat} (h : isLab n E L) : ∀ x, x < n → L x ≤ x ∧ L (L x) = L x := fun _ hx => ⟨h.1 _ hx, isLab_id h hx⟩
theorem c_classOf {κ : Prop} {a : Ab} (ha : AWf a) {L : Lb} (hl : labs a L) {S : CS} (hI : CI κ a S) {x1 x2 x3 : Int32} {post : Int32 → CS → Prop} (h0 : ¬ (inN x1 2 ∧ inN x2 (aP a) ∧ inN x3 (if x1 = 0 then 4 else 6)) → post (-2) S)
    (h1 : inN x2 (aP a) → x1 = 0 → inN x3 4 → ∀ S', CI κ a S' → post (nI (nC L (L.2.1 (4 * x2.toNatClampNeg + x3.toNatClampNeg)))) S') (h2 : inN x2 (aP a) → x1 = 1 → inN x3 6 → ∀ S', CI κ a S' → post (nI (nE L (eL L (6 * x2.toNatClampNeg + x3.toNatClampNeg)))) S') : C_classOf x1 x2 x3 S post := by
  apply C_classOf_ok
  unfold C_classOf_VC C_classOf_w0 C_classOf_w28 C_classOf_w34
  have hP := ha.1
  apply c_isIn
  by_cases i1 : inN x1 2
  · rw [if_pos (in01.mpr i1)]
    refine ⟨fun c => absurd c (by decide), fun _ => c_isPiece hI.1.1 hP (fun i2 => ⟨fun c => absurd c (by decide), fun _ => ⟨fun c => ?_, fun c => ?_⟩⟩) (fun i2 => ⟨fun _ => h0 (fun k => i2 k.2.1), fun c => absurd rfl c⟩)⟩
    · apply c_isIn
      rw [if_neg c] at h0
      by_cases i3 : inN x3 6
      · rw [if_pos (show (0 : Int32) ≤ x3 ∧ x3 ≤ 5 from (in_iff (n := 5) (by decide)).mpr i3)]
        refine ⟨fun _ => ⟨fun _ => c_findS3 ha (lab3 ha hl) (fun x y => lk3_sy ha) hI (fun S' f1 f2 f3 => ?_), fun q => absurd q c⟩, fun q => absurd q (by decide)⟩
        have e1 : x1 = 1 := by
          obtain ⟨k, hk, rfl⟩ := i1
          have : k ≠ 0 := fun e => c (by rw [e]; rfl)
          rw [show k = 1 by omega]; rfl
        have h2 := h2 i2 e1 i3 S' (CI_ext hI f1.1)
        obtain ⟨p, hp, rfl⟩ := i2
        obtain ⟨e, he, rfl⟩ := i3
        rw [nI_clamp (by omega), nI_clamp (by omega)] at h2
        have hpos := cnL_lt (eL L) (i := 0) (j := 6 * aP a) (by omega) (by have := (lab3 ha hl).1 0 (by omega); omega)
        have hle := cnL_le (eL L) (6 * aP a)
        unfold C_classOf_w58 C_classOf_w95
        refine ⟨fun _ => ⟨fun _ => c_ofS3 f2 (by omega) he (by omega) ?_, fun q => absurd q c⟩, fun q => absurd q (by rw [show (0 : Int32) = nI 0 from rfl, nI_eqE (by omega) (by omega)]; omega)⟩
        rw [Nat.mul_comm p 6]
        exact h2
      · rw [if_neg (show ¬ ((0 : Int32) ≤ x3 ∧ x3 ≤ 5) from fun q => i3 ((in_iff (n := 5) (by decide)).mp q))]
        exact ⟨fun q => absurd rfl q, fun _ => h0 (fun k => i3 k.2.2)⟩
    · apply c_isIn
      rw [if_pos c] at h0
      by_cases i3 : inN x3 4
      · rw [if_pos (in03.mpr i3)]
        refine ⟨fun _ => ⟨fun q => absurd c q, fun _ => c_findS2 ha (lab2 ha hl) (sym2 ha) hI (fun S' f1 f2 f3 => ?_)⟩, fun q => absurd q (by decide)⟩
        have h1 := h1 i2 c i3 S' (CI_ext hI f1.1)
        obtain ⟨p, hp, rfl⟩ := i2
        obtain ⟨e, he, rfl⟩ := i3
        rw [nI_clamp (by omega), nI_clamp (by omega)] at h1
        have hpos := cnL_lt L.2.1 (i := 0) (j := 4 * aP a) (by omega) (by have := (lab2 ha hl).1 0 (by omega); omega)
        have hle := cnL_le L.2.1 (4 * aP a)
        unfold C_classOf_w58 C_classOf_w95
        refine ⟨fun _ => ⟨fun q => absurd c q, fun _ => c_ofS2 f2 (by omega) he (by omega) ?_⟩, fun q => absurd q (by rw [show (0 : Int32) = nI 0 from rfl, nI_eqE (by omega) (by omega)]; omega)⟩
        rw [Nat.mul_comm p 4]
        exact h1
      · rw [if_neg (fun q => i3 (in03.mp q))]
        exact ⟨fun q => absurd rfl q, fun _ => h0 (fun k => i3 k.2.2)⟩
  · rw [if_neg (fun q => i1 (in01.mp q))]
    exact ⟨fun _ => h0 (fun k => i1 k.1), fun c => absurd rfl c⟩
/-- edges and ends are painted -/
def ptE (a : Ab) (L : Lb) (S : CS) : Prop := ptd S 33 (6 * aP a) (eL L) ∧ ptd S 34 (12 * aP a) L.1
theorem c_isBent {a : Ab} (ha : AWf a) {L : Lb} (hl : labs a L) {S : CS} (hE : ptE a L S) {k : Nat} (hk : k < 6 * aP a) (hLk : eL L k = k) {post : Int32 → CS → Prop} (h1 : bentE L k → post 1 S) (h0 : ¬ bentE L k → post 0 S) : C_isBent (nI (nE L k)) S post := by
  apply C_isBent_ok
  unfold C_isBent_VC C_isBent_w0 C_isBent_w53
  have hP := ha.1
  refine c_firstS3 (k := k) hE.1 (by omega) (lab_le (lab3 ha hl)) hk hLk ?_
  simp (disch := omega) only [n0, n1, n2, n3, n4, n5, n6, n7, n8, n9, n10, n11, n12, n14, n16, n18, n21, n22, n36, n48, n63, n100, n108, n400, n1000, pk_mul, nI_add, pk_div, nI_subm, nI_ltE, nI_leE, nI_eqE, nI_clamp, vp_inE, nIm1, nIm1', nIm1n, nIm1n', nI_addn]
  have l4 := lab4 ha hl
  refine c_ofS4 hE.2 (by omega) (by omega) (by omega) ?_
  refine c_ofS4 hE.2 (by omega) (by omega) (by omega) ?_
  rw [show k / 6 * 12 + 2 * (k - k / 6 * 6) = 2 * k by omega, show k / 6 * 12 + (2 * (k - k / 6 * 6) + 1) = 2 * k + 1 by omega]
  have c1 := cnL_le L.1 (L.1 (2 * k))
  have c2 := cnL_le L.1 (L.1 (2 * k + 1))
  have b1 := l4.1 (2 * k) (by omega)
  have b2 := l4.1 (2 * k + 1) (by omega)
  rw [nI_eqE (by omega) (by omega)]
  refine ⟨fun c => ⟨zok0, h0 (fun z => c (by rw [z]))⟩, fun c => ⟨zok1, h1 ?_⟩⟩
  exact cnL_inj (isLab_id l4 (by omega)) (isLab_id l4 (by omega)) c
theorem nE_pos {a : Ab} (ha : AWf a) {L : Lb} (hl : labs a L) (h : 1 ≤ aP a) : 0 < cnL L.1 (12 * aP a) := by
  have := cnL_lt L.1 (i := 0) (j := 12 * aP a) (by omega) (by have := (lab4 ha hl).1 0 (by omega); omega)
  omega
theorem c_bent {κ : Prop} {a : Ab} (ha : AWf a) {L : Lb} (hl : labs a L) {S : CS} (hI : CI κ a S) {x : Int32} {post : Int32 → CS → Prop} (h0 : ¬ inN x (nE L (6 * aP a)) → ∀ S', CI κ a S' → post (-2) S')
    (h1 : ∀ k, k < 6 * aP a → eL L k = k → x = nI (nE L k) → bentE L k → ∀ S', CI κ a S' → post 1 S') (h2 : ∀ k, k < 6 * aP a → eL L k = k → x = nI (nE L k) → ¬ bentE L k → ∀ S', CI κ a S' → post 0 S') : C_bent x S post := by
  apply C_bent_ok
  unfold C_bent_VC C_bent_w0 C_bent_w42 C_bent_w43
  have hP := ha.1
  have hle := cnL_le (eL L) (6 * aP a)
  refine c_findS3 ha (lab3 ha hl) (fun x y => lk3_sy ha) hI (fun S1 f1 f2 f3 => ?_)
  have hI1 := CI_ext hI f1.1
  apply c_isIn
  by_cases i1 : inN x (nE L (6 * aP a))
  · rw [if_pos ((inN_iff (show cnL (eL L) (6 * aP a) < 2 ^ 30 by omega)).mpr i1)]
    refine ⟨fun _ => c_findS4 ha (lab4 ha hl) (sym4 ha) hI1 (fun S2 g1 g2 g3 => ?_), fun c => absurd c (by decide)⟩
    have hI2 := CI_ext hI1 g1.1
    obtain ⟨j, hj, rfl⟩ := i1
    obtain ⟨k, k1, k2, k3⟩ := cnL_ex hj
    have hp1 : 1 ≤ aP a := by omega
    have hpos := nE_pos ha hl hp1
    have hle4 := cnL_le L.1 (12 * aP a)
    rw [show (0 : Int32) = nI 0 from rfl, nI_leE (by omega) (by omega)]
    have k3 : nE L k = j := k3
    refine ⟨fun q => absurd q (by omega), fun _ => ?_⟩
    rw [← k3]
    refine c_isBent ha hl ⟨fun x hx => by rw [g1.2.1 33 x (by decide)]; exact f2 x hx, g2⟩ k1 k2 (fun b => ⟨fun c => absurd c (by decide), fun _ => h1 k k1 k2 (by rw [k3]) b S2 hI2⟩) (fun b => ⟨fun _ => h2 k k1 k2 (by rw [k3]) b S2 hI2, fun c => absurd rfl c⟩)
  · rw [if_neg (fun q => i1 ((inN_iff (show cnL (eL L) (6 * aP a) < 2 ^ 30 by omega)).mp q))]
    exact ⟨fun c => absurd rfl c, fun _ => h0 i1 S1 hI1⟩
theorem c_openOnes {κ : Prop} {a : Ab} (ha : AWf a) {S : CS} (hI : CI κ a S) {post : Int32 → CS → Prop} (h : post (nI (sumN (opi a) (4 * aP a))) S) : C_openOnes S post := by
  apply C_openOnes_ok
  intro T4 T14 r4 r14
  have hP := ha.1
  refine loopUp (P := fun p => T4 (nI (sumN (opi a) (4 * p))) (nI p) S) (aP a) (fun p hp ih => ?_) 0 (by omega)
  apply r4
  unfold C_openOnes_w4
  rw [hI.1.1, nI_leE (by omega) (by omega)]
  refine ⟨fun q => by rw [show p = aP a by omega]; exact h, fun q => ?_⟩
  have ih := ih (by omega)
  refine loopUp (P := fun f => T14 (nI (sumN (opi a) (4 * p + f))) (nI p) (nI f) S) 4 (fun f hf ihf => ?_) 0 (by omega)
  apply r14
  unfold C_openOnes_w14 C_openOnes_w36
  rw [show (4 : Int32) = nI 4 from rfl, nI_leE (by omega) (by omega), nI_clamp (by omega), nI_clamp (by omega), vp_inE (by omega) (by omega), vp_inE (by omega) (by omega), show (nI f : Int32) + 1 = nI (f + 1) from nI_add f 1, show (nI p : Int32) + 1 = nI (p + 1) from nI_add p 1]
  refine ⟨fun q2 => by rw [show f = 4 by omega]; exact ih, fun q2 => ⟨by omega, by omega, ?_⟩⟩
  have ihf := ihf (by omega)
  rw [← Nat.add_assoc] at ihf
  unfold sumN opi at ihf
  have e1 : (4 * p + f) / 4 = p := by omega
  have e2 : (4 * p + f) % 4 = f := by omega
  cases e : aG a (4 * p + f) with
  | none =>
    rw [e] at ihf
    have hn := CR_none hI.1 (show 4 * p + f < 4 * aP a by omega) e
    rw [e1, e2] at hn
    exact ⟨fun g hg => absurd (hn.symm.trans hg) (by simp), fun _ => by rw [show (nI (sumN (opi a) (4 * p + f)) : Int32) + 1 = nI (sumN (opi a) (4 * p + f) + 1) from nI_add _ 1]; exact ihf⟩
  | some t =>
    rw [e] at ihf
    obtain ⟨g, g1, _⟩ := CR_some hI.1 (show 4 * p + f < 4 * aP a by omega) e
    rw [e1, e2] at g1
    exact ⟨fun _ _ => by rw [Int32.add_zero]; exact ihf, fun c => absurd (g1.symm.trans c) (by simp)⟩
theorem c_pairs {κ : Prop} {a : Ab} (ha : AWf a) {S : CS} (hI : CI κ a S) {post : Int32 → CS → Prop} (h : post (nI (sumN (lsr a) (4 * aP a))) S) : C_pairs S post := by
  apply C_pairs_ok
  unfold C_pairs_VC C_pairs_w0
  have hP := ha.1
  have sp := (side_pair ha).1
  refine c_openOnes ha hI ?_
  rw [hI.1.1]
  have e : ((4 : Int32) * nI (aP a) - nI (sumN (opi a) (4 * aP a))) / 2 = nI (sumN (lsr a) (4 * aP a)) := by
    simp (disch := omega) only [n0, n1, n2, n3, n4, n5, n6, n7, n8, n9, n10, n11, n12, n14, n16, n18, n21, n22, n36, n48, n63, n100, n108, n400, n1000, pk_mul, nI_add, pk_div, nI_subm, nI_ltE, nI_leE, nI_eqE, nI_clamp, vp_inE, nIm1, nIm1', nIm1n, nIm1n', nI_addn]
    congr 1
    omega
  rw [e]
  exact h
/-- an edge is bent as the first of its class is -/
theorem bent_first {a : Ab} (ha : AWf a) {L : Lb} (hl : labs a L) {k : Nat} (hk : k < 6 * aP a) : bentE L k ↔ bentE L (eL L k) := by
  have h := (lab3 ha hl).2.1 k hk (fun z => bentE L k ↔ bentE L z) Iff.rfl (fun u v e => ?_)
  · exact h
  · suffices H : bentE L u ↔ bentE L v by rw [H]
    obtain ⟨s, t, c, d, hs, ht, hc, hd, hcd, h1, h2, rfl, rfl⟩ := (lk3_iff ha u v).mp e
    have wc := ((ha.2.1 s t hs ht).2.2.2.2 c hc).1
    have wd := ((ha.2.1 s t hs ht).2.2.2.2 d hd).1
    have ne := AWf_inj ha hs ht hc hd hcd
    have m1 := hl.1.2.2 _ _ ⟨s, t, c, d, hs, ht, hc, hd, hcd, h1, h2, rfl, rfl⟩
    have m2 := hl.1.2.2 _ _ ⟨s, t, d, c, hs, ht, hd, hc, Ne.symm hcd, h2, h1, rfl, rfl⟩
    rw [endN_p (s / 4), endN_p (t / 4)] at m1 m2
    have q1 : (endN 0 c d = 2 * edgeN c d ∧ endN 0 d c = 2 * edgeN c d + 1) ∨ (endN 0 c d = 2 * edgeN c d + 1 ∧ endN 0 d c = 2 * edgeN c d) := (ed_dec ⟨c, hc⟩ ⟨d, hd⟩ hcd).2.2.2
    have q2 : (endN 0 (aW a s c) (aW a s d) = 2 * edgeN (aW a s c) (aW a s d) ∧ endN 0 (aW a s d) (aW a s c) = 2 * edgeN (aW a s c) (aW a s d) + 1) ∨ (endN 0 (aW a s c) (aW a s d) = 2 * edgeN (aW a s c) (aW a s d) + 1 ∧ endN 0 (aW a s d) (aW a s c) = 2 * edgeN (aW a s c) (aW a s d)) := (ed_dec ⟨_, wc⟩ ⟨_, wd⟩ ne).2.2.2
    unfold bentE
    rw [show 2 * (6 * (s / 4) + edgeN c d) = 12 * (s / 4) + 2 * edgeN c d by omega, show 2 * (6 * (t / 4) + edgeN (aW a s c) (aW a s d)) = 12 * (t / 4) + 2 * edgeN (aW a s c) (aW a s d) by omega, Nat.add_assoc (12 * (s / 4)), Nat.add_assoc (12 * (t / 4))]
    rcases q1 with ⟨a1, a2⟩ | ⟨a1, a2⟩ <;> rcases q2 with ⟨b1, b2⟩ | ⟨b1, b2⟩ <;> rw [a1, b1] at m1 <;> rw [a2, b2] at m2 <;> omega
/-- only paints and numbers of sorts change -/
def frK (S S' : CS) : Prop := extC S S' ∧ (∀ b j, b < 32 → kI S' b j = kI S b j) ∧ (∀ k, k < 42 → kF S' k = kF S k) ∧ kLP S' = kLP S
theorem frK_rf {S : CS} : frK S S := ⟨extC_rf, fun _ _ _ => rfl, fun _ _ => rfl, rfl⟩
theorem frK_S {b m : Nat} {S S' S'' : CS} (hb : 32 ≤ b) (hm : 42 ≤ m) (h : frK S S') (h' : frS b m S' S'') : frK S S'' := ⟨extC_tr h.1 h'.1, fun b' j hb' => by rw [h'.2.1 b' j (by omega)]; exact h.2.1 b' j hb', fun k hk => by rw [h'.2.2.1 k (by omega)]; exact h.2.2.1 k hk, by rw [h'.2.2.2]; exact h.2.2.2⟩
theorem or_z : ∀ u v : Bool, zB u ||| zB v = zB (u || v) := by decide +kernel
theorem c_hasBent {κ : Prop} {a : Ab} (ha : AWf a) {L : Lb} (hl : labs a L) {S : CS} (hI : CI κ a S) {post : Int32 → CS → Prop} (h1 : (∃ k, k < 6 * aP a ∧ bentE L k) → ∀ S', frK S S' → ptE a L S' → post 1 S') (h0 : (¬ ∃ k, k < 6 * aP a ∧ bentE L k) → ∀ S', frK S S' → ptd S' 33 (6 * aP a) (eL L) → (1 ≤ aP a → ptE a L S' ∧ kF S' 44 = nI (cnL L.1 (12 * aP a))) → post 0 S') : C_hasBent S post := by
  apply C_hasBent_ok
  intro T r
  have hP := ha.1
  have hle := cnL_le (eL L) (6 * aP a)
  unfold C_hasBent_w0
  refine c_findS3 ha (lab3 ha hl) (fun x y => lk3_sy ha) hI (fun S1 f1 f2 f3 => ?_)
  suffices K : ∀ k, k ≤ cnL (eL L) (6 * aP a) → ∀ (b : Bool) S', frK S S' → ptd S' 33 (6 * aP a) (eL L) → (0 < k → ptE a L S' ∧ kF S' 44 = nI (cnL L.1 (12 * aP a))) → (b = true ↔ ∃ j, j < 6 * aP a ∧ eL L j = j ∧ nE L j < k ∧ bentE L j) → T (nI (cnL (eL L) (6 * aP a))) (zB b) (nI k) S' from K 0 (by omega) false S1 (frK_S (by decide) (by decide) frK_rf f1) f2 (fun h => absurd h (Nat.lt_irrefl _)) ⟨fun h => absurd h (by decide), fun ⟨j, _, _, h, _⟩ => absurd h (Nat.not_lt_zero _)⟩
  refine loopUp (P := fun k => ∀ (b : Bool) S', frK S S' → ptd S' 33 (6 * aP a) (eL L) → (0 < k → ptE a L S' ∧ kF S' 44 = nI (cnL L.1 (12 * aP a))) → (b = true ↔ ∃ j, j < 6 * aP a ∧ eL L j = j ∧ nE L j < k ∧ bentE L j) → T (nI (cnL (eL L) (6 * aP a))) (zB b) (nI k) S') (cnL (eL L) (6 * aP a)) (fun k hk ih b S' g1 g2 g3 g4 => ?_)
  apply r
  unfold C_hasBent_w12 C_hasBent_w41
  rw [nI_leE (by omega) (by omega), show (nI k : Int32) + 1 = nI (k + 1) from nI_add k 1]
  have hI' := CI_ext hI g1.1
  refine ⟨fun q => ⟨zB_ok b, ?_⟩, fun q => c_findS4 ha (lab4 ha hl) (sym4 ha) hI' (fun S2 m1 m2 m3 => ?_)⟩
  · have e : k = cnL (eL L) (6 * aP a) := by omega
    have pos : 1 ≤ aP a → 0 < k := fun hp => by
      have := cnL_lt (eL L) (i := 0) (j := 6 * aP a) (by omega) (by have := (lab3 ha hl).1 0 (by omega); omega)
      omega
    cases hb : b with
    | true =>
      obtain ⟨j, j1, j2, j3, j4⟩ := g4.mp hb
      exact h1 ⟨j, j1, j4⟩ S' g1 (g3 (by omega)).1
    | false =>
      refine h0 (fun ⟨j, j1, j2⟩ => ?_) S' g1 g2 (fun hp => g3 (pos hp))
      have l3 := lab3 ha hl
      have hle2 := l3.1 j j1
      have := g4.mpr ⟨eL L j, by omega, isLab_id l3 j1, by rw [e]; exact cnL_lt (eL L) (by omega) (isLab_id l3 j1), (bent_first ha hl j1).mp j2⟩
      rw [hb] at this
      exact absurd this (by decide)
  · obtain ⟨j, j1, j2, j3⟩ := cnL_ex (show k < cnL (eL L) (6 * aP a) by omega)
    have hpos := nE_pos ha hl (show 1 ≤ aP a by omega)
    have hle4 := cnL_le L.1 (12 * aP a)
    have pE : ptE a L S2 := ⟨fun x hx => by rw [m1.2.1 33 x (by decide)]; exact g2 x hx, m2⟩
    rw [show (0 : Int32) = nI 0 from rfl, nI_leE (by omega) (by omega)]
    have j3 : nE L j = k := j3
    refine ⟨fun q2 => absurd q2 (by omega), fun _ => ?_⟩
    have ih := fun b' => ih (by omega) b' S2 (frK_S (by decide) (by decide) g1 m1) pE.1 (fun _ => ⟨pE, m3⟩)
    have uniq : ∀ i, i < 6 * aP a → eL L i = i → nE L i < k + 1 → (nE L i < k ∨ i = j) := fun i i1 i2 i3 => by
      by_cases c : nE L i < k
      · exact Or.inl c
      · exact Or.inr (cnL_inj i2 j2 (by have j3 : cnL (eL L) j = k := j3; have i4 : ¬ cnL (eL L) i < k := c; have i3 : cnL (eL L) i < k + 1 := i3; omega))
    have call := c_isBent ha hl pE j1 j2 (post := fun r S3 => T (nI (cnL (eL L) (6 * aP a))) (zB b ||| r) (nI (k + 1)) S3) (fun bt => ?_) (fun bt => ?_)
    · rw [j3] at call
      exact call
    · have := ih true ⟨fun _ => ⟨j, j1, j2, by omega, bt⟩, fun _ => rfl⟩
      have e := or_z b true
      rw [Bool.or_true] at e
      show T (nI (cnL (eL L) (6 * aP a))) (zB b ||| zB true) (nI (k + 1)) S2
      rw [e]
      exact this
    · have := ih b ⟨fun hb => ?_, fun ⟨i, i1, i2, i3, i4⟩ => ?_⟩
      · have e := or_z b false
        rw [Bool.or_false] at e
        show T (nI (cnL (eL L) (6 * aP a))) (zB b ||| zB false) (nI (k + 1)) S2
        rw [e]
        exact this
      · obtain ⟨i, i1, i2, i3, i4⟩ := g4.mp hb
        exact ⟨i, i1, i2, by omega, i4⟩
      · rcases uniq i i1 i2 i3 with c | c
        · exact g4.mpr ⟨i, i1, i2, c, i4⟩
        · rw [c] at i4; exact absurd i4 bt
