/-! the component: arcsOf, part -/
theorem c_arcsOf {κ : Prop} {a : Ab} (ha : AWf a) (hfit : fitA a) (hn : cf a (7 * aP a) ≤ 400) {S : CS} (hI : CI κ a S) (hB : hasB S a) (hF : foundC S a (cf a (7 * aP a))) {k : Nat} (hk : k < 400) {post : Int32 → CS → Prop} (h : post (nI (sumN (fun s => arS a k s 4) (4 * aP a))) S) : C_arcsOf (nI k) S post := by
  apply C_arcsOf_ok
  intro T4 T15 T24 T65 r4 r15 r24 r65
  have hP := ha.1
  unfold C_arcsOf_w0
  refine loopUp (P := fun p => T4 (nI k) (nI (sumN (fun s => arS a k s 4) (4 * p))) (nI p) S) (aP a) (fun p hp ih => ?_) 0 (by omega)
  apply r4
  unfold C_arcsOf_w4
  rw [hI.1.1, nI_leE (by omega) (by omega)]
  refine ⟨fun q => by rw [show p = aP a by omega]; exact h, fun q => ?_⟩
  have ih := ih (by omega)
  refine loopUp (P := fun f => T15 (nI k) (nI (sumN (fun s => arS a k s 4) (4 * p + f))) (nI p) (nI f) S) 4 (fun f hf ihf => ?_) 0 (by omega)
  apply r15
  unfold C_arcsOf_w15
  rw [show (4 : Int32) = nI 4 from rfl, nI_leE (by omega) (by omega), show (nI p : Int32) + 1 = nI (p + 1) from nI_add p 1]
  refine ⟨fun q2 => by rw [show f = 4 by omega]; exact ih, fun q2 => ?_⟩
  have ihf := ihf (by omega)
  have ihf : T15 (nI k) (nI (sumN (fun s => arS a k s 4) (4 * p + f) + arS a k (4 * p + f) 4)) (nI p) (nI (f + 1)) S := ihf
  generalize sumN (fun s => arS a k s 4) (4 * p + f) = base at ihf ⊢
  have e1 : (4 * p + f) / 4 = p := by omega
  have e2 : (4 * p + f) % 4 = f := by omega
  refine loopUp (P := fun c => T24 (nI k) (nI (base + arS a k (4 * p + f) c)) (nI p) (nI f) (nI c) S) 4 (fun c hc ihc => ?_) 0 (by omega)
  apply r24
  unfold C_arcsOf_w24 C_arcsOf_w60 C_arcsOf_w112
  rw [show (4 : Int32) = nI 4 from rfl, nI_leE (by omega) (by omega), nI_eqE (by omega) (by omega), show (nI f : Int32) + 1 = nI (f + 1) from nI_add f 1]
  refine ⟨fun q3 => by rw [show c = 4 by omega]; exact ihf, fun q3 => c_isCounted ha hI (by omega) (by omega) (fun hcn => ⟨fun z => absurd z (by decide), fun _ => ?_⟩) (fun hcn => ⟨fun _ => ?_, fun z => absurd rfl z⟩)⟩
  · have ihc := ihc (by omega)
    have ihc : T24 (nI k) (nI (base + (arS a k (4 * p + f) c + (if c ≠ (4 * p + f) % 4 ∧ cnd a (4 * p + f) = 1 then arF a k (4 * p + f) c else 0)))) (nI p) (nI f) (nI (c + 1)) S := ihc
    rw [e2, ← Nat.add_assoc] at ihc
    generalize base + arS a k (4 * p + f) c = b2 at ihc ⊢
    have hal := arcN_le ha p f c
    refine ⟨fun z => c_arcs hI (by omega) (by omega) (by omega) z ?_, fun z => ?_⟩
    · rw [if_pos ⟨z, hcn⟩] at ihc
      have ihc : T24 (nI k) (nI (b2 + sumN (fun i => inK a k (cutN a (4 * p + f) c i)) (arcN a ((4 * p + f) / 4) ((4 * p + f) % 4) c))) (nI p) (nI f) (nI (c + 1)) S := ihc
      rw [e1, e2] at ihc
      refine loopUp (P := fun x => T65 (nI k) (nI (b2 + sumN (fun i => inK a k (cutN a (4 * p + f) c i)) x)) (nI p) (nI f) (nI c) (nI (arcN a p f c)) (nI x) S) (arcN a p f c) (fun x hx ihx => ?_) 0 (by omega)
      apply r65
      unfold C_arcsOf_w65 C_arcsOf_w98
      rw [nI_leE (by omega) (by omega), show (nI c : Int32) + 1 = nI (c + 1) from nI_add c 1, show (nI x : Int32) + 1 = nI (x + 1) from nI_add x 1]
      refine ⟨fun y => by rw [show x = arcN a p f c by omega]; exact ihc, fun y => ?_⟩
      have ihx := ihx (by omega)
      have ihx : T65 (nI k) (nI (b2 + (sumN (fun i => inK a k (cutN a (4 * p + f) c i)) x + inK a k (cutN a (4 * p + f) c x)))) (nI p) (nI f) (nI c) (nI (arcN a p f c)) (nI (x + 1)) S := ihx
      rw [← Nat.add_assoc, ← nI_add] at ihx
      have hx' : x < arcN a ((4 * p + f) / 4) ((4 * p + f) % 4) c := by rw [e1, e2]; omega
      have hne : c ≠ (4 * p + f) % 4 := by omega
      have hlt := cutN_lt (show 4 * p + f < 4 * aP a by omega) (show c < 4 by omega) hne hx'
      have call := c_cutOf ha hI hB (show 4 * p + f < 4 * aP a by omega) (show c < 4 by omega) hne hx' (post := fun r1 S1 => (vp_in r1 400 ∧ ((¬ (kI S1 15 r1.toNatClampNeg) = nI k → T65 (nI k) (nI (b2 + sumN (fun i => inK a k (cutN a (4 * p + f) c i)) x) + 0) (nI p) (nI f) (nI c) (nI (arcN a p f c)) (nI (x + 1)) S1) ∧ ((kI S1 15 r1.toNatClampNeg) = nI k → T65 (nI k) (nI (b2 + sumN (fun i => inK a k (cutN a (4 * p + f) c i)) x) + 1) (nI p) (nI f) (nI c) (nI (arcN a p f c)) (nI (x + 1)) S1)))) ?_
      · rw [e1, e2] at call
        exact call
      · rw [nI_clamp (by omega), vp_inE (by omega) (by omega), hF.1 _ hlt, glN_some (fun v hv => (fpF_ok ha hfit hn _ (Nat.le_refl _)).1 _ v hv) hk]
        unfold inK at ihx
        refine ⟨by omega, fun c3 => ?_, fun c3 => ?_⟩
        · rw [if_neg c3] at ihx; exact ihx
        · rw [if_pos c3] at ihx; exact ihx
    · rw [if_neg (fun y => y.1 z)] at ihc
      apply r65
      unfold C_arcsOf_w65
      rw [show (nI c : Int32) + 1 = nI (c + 1) from nI_add c 1]
      exact ⟨fun _ => ihc, fun y => absurd (by decide : (0 : Int32) ≤ 0) y⟩
  · have z0 : ∀ n, arS a k (4 * p + f) n = 0 := fun n => sumN_zero n (fun k _ => if_neg (fun y => by have := y.2; omega))
    rw [z0 4] at ihf
    rw [z0 c]
    exact ihf
theorem c_part {κ : Prop} {a : Ab} (ha : AWf a) {L : Lb} (hl : labs a L) {S : CS} (hI : CI κ a S) {x1 x2 : Int32} {post : Int32 → CS → Prop} (h0 : ¬ (inN x2 3 ∧ legP a ∧ cf a (7 * aP a) ≤ 400 ∧ inN x1 (parN a)) → ∀ S', CI κ a S' → post (-2147483648) S')
    (h1 : legP a → cf a (7 * aP a) ≤ 400 → inN x1 (parN a) → x2 = 0 → ∀ S', CI κ a S' → post (nI (pcN a x1.toNatClampNeg (cf a (7 * aP a)))) S') (h2 : legP a → cf a (7 * aP a) ≤ 400 → inN x1 (parN a) → x2 = 1 → ∀ S', CI κ a S' → post (pwR a L x1.toNatClampNeg (cf a (7 * aP a))) S') (h3 : legP a → cf a (7 * aP a) ≤ 400 → inN x1 (parN a) → x2 = 2 → ∀ S', CI κ a S' → post (zB (!(fpF a (cf a (7 * aP a))).2.2 x1.toNatClampNeg)) S') : C_part x1 x2 S post := by
  apply C_part_ok
  intro T r
  have hP := ha.1
  have hcl := cf_le ha (7 * aP a)
  unfold C_part_w0 C_part_w29
  have bad : ∀ v : Int32, (v = -3 ∨ v = -4) → (¬ legP a ∨ ¬ cf a (7 * aP a) ≤ 400) → ∀ S', CI κ a S' → C_isIn x2 0 2 S' (fun r2 S2 => ((r2 = 0 → post (-2147483648) S2) ∧ (¬ r2 = 0 → ((v < 0 → post (-2147483648) S2) ∧ (¬ v < 0 → C_isIn x1 0 (v - 1) S2 (fun r3 S3 => ((¬ r3 = 0 → T x1 x2 0 0 S3) ∧ (r3 = 0 → post (-2147483648) S3)))))))) := by
    intro v hv hno S' hI'
    have ans := h0 (fun z => by rcases hno with e | e; exact e z.2.1; exact e z.2.2.1) S' hI'
    refine c_isIn ⟨fun _ => ans, fun _ => ⟨fun _ => ans, fun c => absurd ?_ c⟩⟩
    rcases hv with e | e <;> rw [e] <;> decide
  refine c_parts ha hI (fun q S' hI' => bad _ (Or.inl rfl) (Or.inl q) S' hI') (fun q q2 S' hI' => bad _ (Or.inr rfl) (Or.inr q2) S' hI') (fun q hn S' hI' hB hF => c_isIn ?_)
  have hpn := (fpF_ok ha q.1 hn _ (Nat.le_refl _)).2.1
  have hpn : parN a ≤ cf a (7 * aP a) := hpn
  have ep : nI (fpF a (cf a (7 * aP a))).2.1 = nI (parN a) := rfl
  rw [ep]
  by_cases i2 : inN x2 3
  · rw [if_pos (in02.mpr i2)]
    refine ⟨fun c => absurd c (by decide), fun _ => ⟨fun c => ?_, fun _ => c_isIn ?_⟩⟩
    · rw [show (0 : Int32) = nI 0 from rfl, nI_ltE (by omega) (by omega)] at c
      omega
    · by_cases i1 : inN x1 (parN a)
      · have h1 := h1 q hn i1
        have h2 := h2 q hn i1
        have h3 := h3 q hn i1
        rw [if_pos ((inN_iff (by omega)).mpr i1)]
        refine ⟨fun _ => ?_, fun c => absurd c (by decide)⟩
        obtain ⟨k, hk, rfl⟩ := i1
        rw [nI_clamp (by omega)] at h1 h2 h3
        suffices K : ∀ i, i ≤ cf a (7 * aP a) → ∀ S1, CI κ a S1 → foundC S1 a (cf a (7 * aP a)) → T (nI k) x2 (nI (pcN a k i)) (nI i) S1 from K 0 (by omega) S' hI' hF
        refine loopUp (P := fun i => ∀ S1, CI κ a S1 → foundC S1 a (cf a (7 * aP a)) → T (nI k) x2 (nI (pcN a k i)) (nI i) S1) (cf a (7 * aP a)) (fun i hi ih S1 g1 g2 => ?_)
        apply r
        unfold C_part_w38 C_part_w65 C_part_w119
        refine c_allCuts ha g1 (fun S2 f1 f2 f3 => ?_)
        have hI2 := CI_ext g1 f1.1
        have hF2 : foundC S2 a (cf a (7 * aP a)) := ⟨fun j hj => by rw [f2 15 j (by decide)]; exact g2.1 j hj, fun j hj hv => by rw [f2 16 j (by decide)]; exact g2.2.1 j hj hv, fun j hj => by rw [f2 18 j (by decide)]; exact g2.2.2 j hj⟩
        rw [nI_leE (by omega) (by omega), show (nI i : Int32) + 1 = nI (i + 1) from nI_add i 1]
        refine ⟨fun c => ⟨fun c0 => ⟨fun c1 => ⟨by rw [vp_inE (by omega) (by omega)]; omega, ?_⟩, fun c1 => c_pointsOf ha q.1 hl hn hI2 f3 hF2 (by omega) (fun S3 k1 k2 k3 => c_arcsOf ha q.1 hn k1 k2 k3 (by omega) ?_)⟩, fun c0 => ?_⟩, fun c => ⟨by rw [vp_inE (by omega) (by omega)]; omega, ?_⟩⟩
        · have e2 : x2 = 2 := by
            obtain ⟨j, hj, rfl⟩ := i2
            have z0 : j ≠ 0 := fun e => c0 (by rw [e]; rfl)
            have z1 : j ≠ 1 := fun e => c1 (by rw [e]; rfl)
            rw [show j = 2 by omega]; rfl
          have h3 := h3 e2 S2 hI2
          rw [nI_clamp (by omega), hF2.2.2 k hk]
          cases e : (fpF a (cf a (7 * aP a))).2.2 k with
          | false => rw [e] at h3; exact ⟨fun _ => h3, fun c => absurd rfl c⟩
          | true => rw [e] at h3; exact ⟨fun c => absurd c (by decide), fun _ => h3⟩
        · have h2 := h2 c1 S3 k1
          rw [pwR_parts] at h2
          rw [show i = cf a (7 * aP a) by omega]
          exact h2
        · rw [show i = cf a (7 * aP a) by omega]
          exact h1 c0 S2 hI2
        · have ih := ih (by omega) S2 hI2 hF2
          unfold pcN sumN at ih
          rw [nI_clamp (by omega), hF2.1 i (by omega), glN_some (fun v hv => (fpF_ok ha q.1 hn _ (Nat.le_refl _)).1 i v hv) (by omega)]
          rw [← nI_add] at ih
          refine ⟨fun c3 => ?_, fun c3 => ?_⟩
          · rw [if_neg c3] at ih; exact ih
          · rw [if_pos c3] at ih; exact ih
      · rw [if_neg (fun z => i1 ((inN_iff (by omega)).mp z))]
        exact ⟨fun c => absurd rfl c, fun _ => h0 (fun k => i1 k.2.2.2) S' hI'⟩
  · rw [if_neg (fun q => i2 (in02.mp q))]
    exact ⟨fun _ => h0 (fun k => i2 k.1) S' hI', fun c => absurd rfl c⟩
