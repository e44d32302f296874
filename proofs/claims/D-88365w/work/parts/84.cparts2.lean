/-! the component: spread, findParts, parts -/
theorem sg_mul : ∀ u v w : Bool, (sgI u * sgI v) * sgI w = sgI (if v == w then u else !u) := by decide +kernel
theorem or_z2 (b : Bool) : (zB b ||| 0) = zB b ∧ (zB b ||| 1) = 1 := by cases b <;> exact ⟨rfl, rfl⟩
theorem c_vis {S : CS} {B : Bf} {n m cut o : Nat} {same : Bool} (hn : n ≤ 400) (hm : m < 400) (hB : BI B n) (hM : bK S B n m) (hcut : cut < n) (hcm : bP B cut = some m) (ho : o < n) {K : Int32 → CS → Prop} (h : ∀ S', frQ S S' → (∀ j, kI S' 14 j = kI S 14 j) → (∀ j, j ≠ m → kI S' 18 j = kI S 18 j) → bK S' (visF B cut o same) n m → K (nI (bT (visF B cut o same))) S') {due : Int32} (hd : due = sgI (if same then bS B cut else !bS B cut)) :
    (¬ kI S 15 o = -1 → (kI S 16 o = due → K (nI (bT B)) (tI S 18 m (kI S 18 m ||| 0))) ∧ (¬ kI S 16 o = due → K (nI (bT B)) (tI S 18 m (kI S 18 m ||| 1)))) ∧ (kI S 15 o = -1 → bT B < 400 ∧ K (nI (bT B + 1)) (tI (tI (tI (tI S 15 o (nI m)) 16 o due) 17 (bT B) (nI o)) 18 m (kI S 18 m ||| 0))) := by
  have hcv : bP B cut ≠ none := by rw [hcm]; simp
  rw [hM.1 o ho, glN_none (fun v hv => hB.2.2 o v hv), hM.2.2.2, (or_z2 _).1, (or_z2 _).2]
  unfold visF at h
  refine ⟨fun c => ?_, fun c => ?_⟩
  · rw [if_neg c] at h
    rw [hM.2.1 o ho c, hd, sgI_inj]
    have h' : ∀ w : Bool, w = (bW B || (bS B o != (if same then bS B cut else !bS B cut))) → K (nI (bT B)) (tI S 18 m (zB w)) := fun w hw => h _ (frQ_tI (by omega) frQ_rf) (fun j => by rw [kI_tI, if_neg (by omega)]) (fun j hj => by rw [kI_tI, if_neg (fun z => hj z.2)]) ⟨fun k hk => by rw [kI_tI, if_neg (by omega)]; exact hM.1 k hk, fun k hk hv => by rw [kI_tI, if_neg (by omega)]; exact hM.2.1 k hk hv, fun j hj => by rw [kI_tI, if_neg (by omega)]; exact hM.2.2.1 j hj, by rw [kI_tI, if_pos ⟨rfl, rfl⟩, hw]⟩
    refine ⟨fun q2 => h' (bW B) ?_, fun q2 => h' true ?_⟩
    · rw [q2]
      simp
    · have : (bS B o != (if same then bS B cut else !bS B cut)) = true := by simpa using q2
      rw [this, Bool.or_true]
  · rw [if_pos c] at h
    have lt := vcN_lt ho c
    have hT := hB.2.1
    refine ⟨by omega, h _ (frQ_tI (by omega) (frQ_tI (by omega) (frQ_tI (by omega) (frQ_tI (by omega) frQ_rf)))) (fun j => by rw [kI_tI, if_neg (by omega), kI_tI, if_neg (by omega), kI_tI, if_neg (by omega), kI_tI, if_neg (by omega)]) (fun j hj => by rw [kI_tI, if_neg (fun z => hj z.2), kI_tI, if_neg (by omega), kI_tI, if_neg (by omega), kI_tI, if_neg (by omega)]) ⟨fun k hk => ?_, fun k hk hv => ?_, fun j hj => ?_, by rw [kI_tI, if_pos ⟨rfl, rfl⟩]⟩⟩
    · show _ = glN (upF (bP B) o (bP B cut) k)
      rw [kI_tI, if_neg (by omega), kI_tI, if_neg (by omega), kI_tI, if_neg (by omega), kI_tI]
      by_cases e : k = o
      · rw [if_pos ⟨rfl, e⟩, e, upF_at, hcm]; rfl
      · rw [if_neg (fun q => e q.2), upF_ne _ _ e]; exact hM.1 k hk
    · have hv : upF (bP B) o (bP B cut) k ≠ none := hv
      show _ = sgI (upF (bS B) o (if same then bS B cut else !bS B cut) k)
      rw [kI_tI, if_neg (by omega), kI_tI, if_neg (by omega), kI_tI]
      by_cases e : k = o
      · rw [if_pos ⟨rfl, e⟩, e, upF_at]; exact hd
      · rw [if_neg (fun q => e q.2), kI_tI, if_neg (by omega), upF_ne _ _ e]
        rw [upF_ne _ _ e] at hv
        exact hM.2.1 k hk hv
    · have hj : j < bT B + 1 := hj
      show _ = nI (upF (bQ B) (bT B) o j)
      rw [kI_tI, if_neg (by omega), kI_tI]
      by_cases e : j = bT B
      · rw [if_pos ⟨rfl, e⟩, e, upF_at]
      · rw [if_neg (fun q => e q.2), kI_tI, if_neg (by omega), kI_tI, if_neg (by omega), upF_ne _ _ e]
        exact hM.2.2.1 j (by omega)
/-- from a cut on: its search -/
theorem c_spread {κ : Prop} {a : Ab} (ha : AWf a) (hfit : fitA a) {S : CS} (hI : CI κ a S) (hB0 : hasB S a) {B : Bf} {k m : Nat} (hn : cf a (7 * aP a) ≤ 400) (hm : m < 400) (hk : k < cf a (7 * aP a)) (hBv : ∀ k v, bP B k = some v → v < 400) (hp : ∀ j, j < cf a (7 * aP a) → kI S 15 j = glN (bP B j)) (hsg : ∀ j, j < cf a (7 * aP a) → bP B j ≠ none → kI S 16 j = sgI (bS B j)) (h18 : kI S 18 m = 0) {post : CS → Prop} (h : ∀ S', frQ S S' → (∀ j, kI S' 14 j = kI S 14 j) → (∀ j, j ≠ m → kI S' 18 j = kI S 18 j) → bK S' (bfsF a (cf a (7 * aP a)) 0 (beg B k m)) (cf a (7 * aP a)) m → post S') : C_spread (nI k) (nI m) S post := by
  apply C_spread_ok
  intro T26 T59 T68 r26 r59 r68
  have hP := ha.1
  have hbg := beg_ok (n := cf a (7 * aP a)) (k := k) (m := m) hBv hk hm
  have K26 : ∀ f i B', i + f = cf a (7 * aP a) → BI B' (cf a (7 * aP a)) → QL m B' → bfsF a f i B' = bfsF a (cf a (7 * aP a)) 0 (beg B k m) → ∀ S2, frQ S S2 → (∀ j, kI S2 14 j = kI S 14 j) → (∀ j, j ≠ m → kI S2 18 j = kI S 18 j) → bK S2 B' (cf a (7 * aP a)) m → T26 (nI m) (nI (bT B')) (nI i) S2 := by
    intro f
    induction f with
    | zero =>
      intro i B' hi hB hQ hbf S2 g1 g2 g3 g4
      have hT := hB.2.1
      have hv := vcN_le B' (cf a (7 * aP a))
      apply r26
      unfold C_spread_w26
      rw [nI_leE (by omega) (by omega)]
      have hbf : B' = bfsF a (cf a (7 * aP a)) 0 (beg B k m) := hbf
      refine ⟨fun _ => h S2 g1 g2 g3 (by rw [← hbf]; exact g4), fun q => absurd (by omega) q⟩
    | succ f ih =>
      intro i B' hi hB hQ hbf S2 g1 g2 g3 g4
      have hT := hB.2.1
      have hv := vcN_le B' (cf a (7 * aP a))
      apply r26
      unfold C_spread_w26
      rw [nI_leE (by omega) (by omega)]
      rw [bfsF_s] at hbf
      refine ⟨fun q => h S2 g1 g2 g3 (by rw [if_neg (by omega)] at hbf; rw [← hbf]; exact g4), fun q => ⟨by rw [vp_inE (by omega) (by omega)]; omega, ?_⟩⟩
      rw [if_pos (by omega)] at hbf
      rw [nI_clamp (by omega), g4.2.2.1 i (by omega)]
      obtain ⟨hcut, hcv⟩ := hB.1 i (by omega)
      have hcm := hQ i (by omega)
      generalize hcc : bQ B' i = cut at hcut hcv hcm hbf
      have hB2 : hasB S2 a := fun j hj => by rw [g2 j]; exact hB0 j hj
      refine c_kindOfCut ha hB2 hcut ?_
      obtain ⟨s1, s2, s3⟩ := sortN_spec hcut
      have e7 : nI (sortN a cut) / 7 = nI (sortN a cut / 7) := by simp (disch := omega) only [n0, n1, n2, n3, n4, n5, n6, n7, n8, n9, n10, n11, n12, n14, n16, n18, n21, n22, n36, n48, n63, n100, n108, n400, n1000, pk_mul, nI_add, pk_div, nI_subm, nI_ltE, nI_leE, nI_eqE, nI_clamp, vp_inE, nIm1, nIm1', nIm1n, nIm1n', nI_addn]
      rw [e7]
      have em : nI (sortN a cut) - nI (sortN a cut) / 7 * 7 = nI (sortN a cut % 7) := by
        simp (disch := omega) only [n0, n1, n2, n3, n4, n5, n6, n7, n8, n9, n10, n11, n12, n14, n16, n18, n21, n22, n36, n48, n63, n100, n108, n400, n1000, pk_mul, nI_add, pk_div, nI_subm, nI_ltE, nI_leE, nI_eqE, nI_clamp, vp_inE, nIm1, nIm1', nIm1n, nIm1n', nI_addn]
        rw [show sortN a cut - sortN a cut / 7 * 7 = sortN a cut % 7 by omega]
      unfold spreadF at hbf
      generalize hp' : sortN a cut / 7 = p at hbf e7
      have hpl : p < aP a := by omega
      have hSok := stS_ok ha hB hcv hpl hfit 4 (by omega)
      have hQok := QL_S (a := a) (p := p) hQ hcm 4
      have ih := ih (i + 1) (stS a B' cut p 4) (by omega) hSok.1 hQok.1 hbf
      suffices K59 : ∀ f, f ≤ 4 → ∀ S3, frQ S S3 → (∀ j, kI S3 14 j = kI S 14 j) → (∀ j, j ≠ m → kI S3 18 j = kI S 18 j) → bK S3 (stS a B' cut p f) (cf a (7 * aP a)) m → T59 (nI m) (nI (bT (stS a B' cut p f))) (nI i) (nI cut) (nI (sortN a cut)) (nI p) (nI f) S3 from K59 0 (by omega) S2 g1 g2 g3 g4
      refine loopUp (P := fun f => ∀ S3, frQ S S3 → (∀ j, kI S3 14 j = kI S 14 j) → (∀ j, j ≠ m → kI S3 18 j = kI S 18 j) → bK S3 (stS a B' cut p f) (cf a (7 * aP a)) m → T59 (nI m) (nI (bT (stS a B' cut p f))) (nI i) (nI cut) (nI (sortN a cut)) (nI p) (nI f) S3) 4 (fun f hf ihf S3 g1 g2 g3 g4 => ?_)
      apply r59
      have hBf := stS_ok ha hB hcv hpl hfit f hf
      have hQf := QL_S (a := a) (p := p) hQ hcm f
      unfold C_spread_w59
      rw [show (4 : Int32) = nI 4 from rfl, nI_leE (by omega) (by omega), show (nI i : Int32) + 1 = nI (i + 1) from nI_add i 1]
      refine ⟨fun q => by rw [show f = 4 by omega] at g4 ⊢; exact ih S3 g1 g2 g3 g4, fun q => ?_⟩
      have ihf := ihf (by omega)
      have hs : 4 * p + f < 4 * aP a := by omega
      have e1 : (4 * p + f) / 4 = p := by omega
      have e2 : (4 * p + f) % 4 = f := by omega
      have ihf : ∀ S3, frQ S S3 → (∀ j, kI S3 14 j = kI S 14 j) → (∀ j, j ≠ m → kI S3 18 j = kI S 18 j) → bK S3 (stC a (stS a B' cut p f) cut (4 * p + f) 4) (cf a (7 * aP a)) m → T59 (nI m) (nI (bT (stC a (stS a B' cut p f) cut (4 * p + f) 4))) (nI i) (nI cut) (nI (sortN a cut)) (nI p) (nI (f + 1)) S3 := ihf
      generalize stS a B' cut p f = Bf at g4 hBf hQf ihf
      have hcvf : bP Bf cut ≠ none := by rw [hQf.2]; simp
      suffices K68 : ∀ c, c ≤ 4 → ∀ S3, frQ S S3 → (∀ j, kI S3 14 j = kI S 14 j) → (∀ j, j ≠ m → kI S3 18 j = kI S 18 j) → bK S3 (stC a Bf cut (4 * p + f) c) (cf a (7 * aP a)) m → T68 (nI m) (nI (bT (stC a Bf cut (4 * p + f) c))) (nI i) (nI cut) (nI (sortN a cut)) (nI p) (nI f) (nI c) S3 from K68 0 (by omega) S3 g1 g2 g3 g4
      refine loopUp (P := fun c => ∀ S3, frQ S S3 → (∀ j, kI S3 14 j = kI S 14 j) → (∀ j, j ≠ m → kI S3 18 j = kI S 18 j) → bK S3 (stC a Bf cut (4 * p + f) c) (cf a (7 * aP a)) m → T68 (nI m) (nI (bT (stC a Bf cut (4 * p + f) c))) (nI i) (nI cut) (nI (sortN a cut)) (nI p) (nI f) (nI c) S3) 4 (fun c hc ihc S3 g1 g2 g3 g4 => ?_)
      apply r68
      have hI3 := CI_ext hI g1.1
      have hB3 : hasB S3 a := fun j hj => by rw [g2 j]; exact hB0 j hj
      have hBc := stC_ok ha hBf.1 hcvf hs hfit c hc
      have hQc := QL_C (a := a) (s := 4 * p + f) hQf.1 hQf.2 c
      unfold C_spread_w68 C_spread_w238
      rw [show (4 : Int32) = nI 4 from rfl, nI_leE (by omega) (by omega), nI_eqE (by omega) (by omega), nI_clamp (by omega), nI_clamp (by omega), vp_inE (by omega) (by omega), vp_inE (by omega) (by omega), show (nI f : Int32) + 1 = nI (f + 1) from nI_add f 1]
      refine ⟨fun q2 => by rw [show c = 4 by omega] at g4 ⊢; exact ihf S3 g1 g2 g3 g4, fun q2 => ⟨by omega, by omega, ?_⟩⟩
      cases e : aG a (4 * p + f) with
      | none =>
        have hnn := CR_none hI3.1 hs e
        rw [e1, e2] at hnn
        have z : ∀ n, stC a Bf cut (4 * p + f) n = Bf := by
          intro n
          induction n with
          | zero => rfl
          | succ n ihm =>
            show stepF a (stC a Bf cut (4 * p + f) n) cut (4 * p + f) n = Bf
            unfold stepF
            rw [e]
            exact ihm
        refine ⟨fun _ => ?_, fun g hg => absurd (hnn.symm.trans hg) (by simp)⟩
        rw [z] at g4 ⊢
        have := ihf S3 g1 g2 g3 (by rw [z]; exact g4)
        rw [z] at this
        exact this
      | some t =>
        obtain ⟨g, w1, w2, w3, w4, w5, w6, w7⟩ := CR_some hI3.1 hs e
        rw [e1, e2] at w1
        obtain ⟨ht1, ht2, ht3, ht4, hw⟩ := ha.2.1 _ t hs e
        have ihc := ihc (by omega)
        have ihc : ∀ S3, frQ S S3 → (∀ j, kI S3 14 j = kI S 14 j) → (∀ j, j ≠ m → kI S3 18 j = kI S 18 j) → bK S3 (stepF a (stC a Bf cut (4 * p + f) c) cut (4 * p + f) c) (cf a (7 * aP a)) m → T68 (nI m) (nI (bT (stepF a (stC a Bf cut (4 * p + f) c) cut (4 * p + f) c))) (nI i) (nI cut) (nI (sortN a cut)) (nI p) (nI f) (nI (c + 1)) S3 := ihc
        generalize stC a Bf cut (4 * p + f) c = B0 at g4 hBc hQc ihc
        unfold stepF at ihc
        rw [e] at ihc
        have ihc : ∀ S3, frQ S S3 → (∀ j, kI S3 14 j = kI S 14 j) → (∀ j, j ≠ m → kI S3 18 j = kI S 18 j) → bK S3 (if c = (4 * p + f) % 4 then B0 else match srch (fun i => cutN a (4 * p + f) c i == cut) (arcN a ((4 * p + f) / 4) ((4 * p + f) % 4) c) with | none => B0 | some i => visF B0 cut (cutN a t (aW a (4 * p + f) c) i) (lookN a (4 * p + f) c i == lookN a t (aW a (4 * p + f) c) i)) (cf a (7 * aP a)) m → T68 (nI m) (nI (bT (if c = (4 * p + f) % 4 then B0 else match srch (fun i => cutN a (4 * p + f) c i == cut) (arcN a ((4 * p + f) / 4) ((4 * p + f) % 4) c) with | none => B0 | some i => visF B0 cut (cutN a t (aW a (4 * p + f) c) i) (lookN a (4 * p + f) c i == lookN a t (aW a (4 * p + f) c) i)))) (nI i) (nI cut) (nI (sortN a cut)) (nI p) (nI f) (nI (c + 1)) S3 := ihc
        refine ⟨fun y => absurd (w1.symm.trans y) (by simp), fun g' hg => ⟨fun y => ?_, fun y => ?_⟩⟩
        · have c1 : c ≠ (4 * p + f) % 4 := by omega
          rw [if_neg c1] at ihc
          have hwc := (hw c (by omega)).1
          have hwne : aW a (4 * p + f) c ≠ t % 4 := by
            rw [← ht4]
            exact AWf_inj ha hs e (by omega) (by omega) c1
          have bey := c_beyond ha hfit hI3 hB3 hs e (show c < 4 by omega) c1 (show cut < 2 ^ 30 by omega) (post := fun r3 S3 => C_spread_w110 post T26 T59 T68 r3 (nI m) (nI (bT B0)) (nI i) (nI cut) (nI (sortN a cut)) (nI p) (nI f) (nI c) S3) ?_
          · rw [e1, e2] at bey
            exact bey
          · unfold C_spread_w110 C_spread_w232
            rw [show (nI c : Int32) + 1 = nI (c + 1) from nI_add c 1]
            cases e3 : srch (fun i => cutN a (4 * p + f) c i == cut) (arcN a ((4 * p + f) / 4) ((4 * p + f) % 4) c) with
            | none =>
              rw [e3] at ihc
              exact ⟨fun _ => ihc S3 g1 g2 g3 g4, fun z => absurd rfl z⟩
            | some x =>
              rw [e3] at ihc
              obtain ⟨x1, x2, _⟩ := srch_some e3
              have x2 : cutN a (4 * p + f) c x = cut := by simpa using x2
              have hit : x < arcN a (t / 4) (t % 4) (aW a (4 * p + f) c) := by rw [← hfit _ t c hs e (by omega) c1]; exact x1
              have lo := cutN_lt ht1 hwc hwne hit
              have lk1 := lk_cut hs (by omega) c1 x1
              have lk2 := lk_cut ht1 hwc hwne hit
              rw [x2] at lk1
              have hgl : glN (Option.map (fun i => cutN a t (aW a (4 * p + f) c) i) (some x)) = nI (cutN a t (aW a (4 * p + f) c) x) := rfl
              rw [hgl, nIm1 (by omega)]
              obtain ⟨o1, _, _⟩ := sortN_spec lo
              refine ⟨fun z => absurd z id, fun _ => ⟨by rw [vp_inE (by omega) (by omega)]; omega, ?_⟩⟩
              rw [em]
              refine c_looks (by omega) (by omega) (c_kindOfCut ha hB3 lo ?_)
              have em2 : nI (sortN a (cutN a t (aW a (4 * p + f) c) x)) - nI (sortN a (cutN a t (aW a (4 * p + f) c) x)) / 7 * 7 = nI (sortN a (cutN a t (aW a (4 * p + f) c) x) % 7) := by
                simp (disch := omega) only [n0, n1, n2, n3, n4, n5, n6, n7, n8, n9, n10, n11, n12, n14, n16, n18, n21, n22, n36, n48, n63, n100, n108, n400, n1000, pk_mul, nI_add, pk_div, nI_subm, nI_ltE, nI_leE, nI_eqE, nI_clamp, vp_inE, nIm1, nIm1', nIm1n, nIm1n', nI_addn]
                rw [show sortN a (cutN a t (aW a (4 * p + f) c) x) - sortN a (cutN a t (aW a (4 * p + f) c) x) / 7 * 7 = sortN a (cutN a t (aW a (4 * p + f) c) x) % 7 by omega]
              rw [em2, nI_clamp (n := p) (by omega), nI_clamp (n := f) (by omega), vp_inE (by omega) (by omega), vp_inE (by omega) (by omega)]
              refine ⟨by omega, by omega, g, w1, w2, w5, ?_⟩
              rw [w6, nI_clamp (n := c) (by omega), w7 c (by omega), vp_inE (by omega) (by omega)]
              refine ⟨by omega, c_looks (by omega) hwc ?_⟩
              rw [lk1.1, lk2.1, nI_clamp (n := cut) (by omega), g4.2.1 cut hcut (by rw [hQc.2]; simp), sg_mul]
              have V := c_vis (same := lookN a (4 * p + f) c x == lookN a t (aW a (4 * p + f) c) x) hn hm hBc.1 g4 hcut hQc.2 lo (K := fun mm S4 => T68 (nI m) mm (nI i) (nI cut) (nI (sortN a cut)) (nI p) (nI f) (nI (c + 1)) S4) (fun S4 k1 k2 k3 k4 => ihc S4 (frQ_tr g1 k1) (fun j => by rw [k2 j, g2 j]) (fun j hj => by rw [k3 j hj, g3 j hj]) k4) rfl
              unfold C_spread_w206 C_spread_w230 C_spread_w232
              rw [nI_clamp (n := m) (by omega), nI_clamp (n := cutN a t (aW a (4 * p + f) c) x) (by omega), vp_inE (a := cutN a t (aW a (4 * p + f) c) x) (by omega) (by omega), vp_inE (a := m) (by omega) (by omega), show (nI c : Int32) + 1 = nI (c + 1) from nI_add c 1]
              have hTb := hBc.1.2.1
              have hvb := vcN_le B0 (cf a (7 * aP a))
              have z18 : ∀ u : Int32, (u = 0 ∨ u = 1) → zok (zB (bW B0) ||| u) := fun u hu => by
                rcases hu with e | e
                · rw [e, (or_z2 _).1]; exact zB_ok _
                · rw [e, (or_z2 _).2]; exact zok1
              refine ⟨by omega, fun z => ⟨by omega, by omega, fun z2 => ⟨by omega, by rw [g4.2.2.2]; exact z18 0 (Or.inl rfl), (V.1 z).1 z2⟩, fun z2 => ⟨by omega, by rw [g4.2.2.2]; exact z18 1 (Or.inr rfl), (V.1 z).2 z2⟩⟩, fun z => ⟨by omega, by omega, ?_⟩⟩
              have V2 := V.2 z
              rw [vp_inE (a := bT B0) (by omega) (by omega), nI_clamp (n := bT B0) (by omega), show (nI (bT B0) : Int32) + 1 = nI (bT B0 + 1) from nI_add _ 1]
              refine ⟨V2.1, by omega, by omega, fun z2 => ?_, fun z2 => absurd ?_ z2⟩
              · have e18 : kI (tI (tI (tI S3 15 (cutN a t (aW a (4 * p + f) c) x) (nI m)) 16 (cutN a t (aW a (4 * p + f) c) x) (sgI (if (lookN a (4 * p + f) c x == lookN a t (aW a (4 * p + f) c) x) = true then bS B0 cut else !bS B0 cut))) 17 (bT B0) (nI (cutN a t (aW a (4 * p + f) c) x))) 18 m = kI S3 18 m := by
                  rw [kI_tI, if_neg (by omega), kI_tI, if_neg (by omega), kI_tI, if_neg (by omega)]
                rw [e18]
                exact ⟨by omega, by rw [g4.2.2.2]; exact z18 0 (Or.inl rfl), V2.2⟩
              · rw [kI_tI, if_neg (by omega), kI_tI, if_pos ⟨rfl, rfl⟩]
        · have c1 : c = (4 * p + f) % 4 := by omega
          rw [if_pos c1] at ihc
          unfold C_spread_w110 C_spread_w232
          rw [show (nI c : Int32) + 1 = nI (c + 1) from nI_add c 1]
          exact ⟨fun _ => ihc S3 g1 g2 g3 g4, fun z => absurd rfl z⟩
  unfold C_spread_w0
  have ez : (0 : Int32).toNatClampNeg = 0 := rfl
  rw [ez, nI_clamp (by omega), vp_inE (by omega) (by omega)]
  refine ⟨by omega, by omega, K26 (cf a (7 * aP a)) 0 (beg B k m) (by omega) hbg (fun j hj => ?_) rfl _ (frQ_tI (by omega) (frQ_tI (by omega) (frQ_tI (by omega) frQ_rf))) (fun j => by rw [kI_tI, if_neg (by omega), kI_tI, if_neg (by omega), kI_tI, if_neg (by omega)]) (fun j _ => by rw [kI_tI, if_neg (by omega), kI_tI, if_neg (by omega), kI_tI, if_neg (by omega)]) ⟨fun j hj => ?_, fun j hj hv => ?_, fun j hj => ?_, ?_⟩⟩
  · have hj : j < 1 := hj
    show upF (bP B) k (some m) (upF (bQ B) 0 k j) = some m
    rw [show j = 0 by omega, upF_at, upF_at]
  · show _ = glN (upF (bP B) k (some m) j)
    rw [kI_tI, if_neg (by omega), kI_tI]
    by_cases e : j = k
    · rw [if_pos ⟨rfl, e⟩, e, upF_at]; rfl
    · rw [if_neg (fun z => e z.2), kI_tI, if_neg (by omega), upF_ne _ _ e]; exact hp j hj
  · have hv : upF (bP B) k (some m) j ≠ none := hv
    show _ = sgI (upF (bS B) k true j)
    rw [kI_tI]
    by_cases e : j = k
    · rw [if_pos ⟨rfl, e⟩, e, upF_at]; rfl
    · rw [if_neg (fun z => e z.2), kI_tI, if_neg (by omega), kI_tI, if_neg (by omega), upF_ne _ _ e]
      rw [upF_ne _ _ e] at hv
      exact hsg j hj hv
  · have hj : j < 1 := hj
    show _ = nI (upF (bQ B) 0 k j)
    rw [show j = 0 by omega, upF_at, kI_tI, if_neg (by omega), kI_tI, if_neg (by omega), kI_tI, if_pos ⟨rfl, rfl⟩]
  · rw [kI_tI, if_neg (by omega), kI_tI, if_neg (by omega), kI_tI, if_neg (by omega), h18]; rfl
def foundC (S : CS) (a : Ab) (k : Nat) : Prop := (∀ j, j < cf a (7 * aP a) → kI S 15 j = glN (bP (fpF a k).1 j)) ∧ (∀ j, j < cf a (7 * aP a) → bP (fpF a k).1 j ≠ none → kI S 16 j = sgI (bS (fpF a k).1 j)) ∧ ∀ j, j < (fpF a k).2.1 → kI S 18 j = zB ((fpF a k).2.2 j)
theorem c_findParts {κ : Prop} {a : Ab} (ha : AWf a) (hfit : fitA a) (hn : cf a (7 * aP a) ≤ 400) {S : CS} (hI : CI κ a S) {post : Int32 → CS → Prop} (h : ∀ S', frQ S S' → hasB S' a → foundC S' a (cf a (7 * aP a)) → post (nI (fpF a (cf a (7 * aP a))).2.1) S') : C_findParts S post := by
  apply C_findParts_ok
  intro T7 T29 r7 r29
  have hP := ha.1
  unfold C_findParts_w0
  refine c_allCuts ha hI (fun S1 f1 f2 f3 => ?_)
  have K29 : ∀ k, k ≤ cf a (7 * aP a) → ∀ S', frQ S S' → hasB S' a → foundC S' a k → T29 (nI (cf a (7 * aP a))) (nI (fpF a k).2.1) (nI k) S' := by
    refine loopUp (P := fun k => ∀ S', frQ S S' → hasB S' a → foundC S' a k → T29 (nI (cf a (7 * aP a))) (nI (fpF a k).2.1) (nI k) S') (cf a (7 * aP a)) (fun k hk ih S' g1 g2 g3 => ?_)
    apply r29
    obtain ⟨p1, p2, p3⟩ := fpF_ok ha hfit hn k hk
    unfold C_findParts_w29 C_findParts_w60
    rw [nI_leE (by omega) (by omega), nI_clamp (by omega), vp_inE (by omega) (by omega), show (nI k : Int32) + 1 = nI (k + 1) from nI_add k 1]
    refine ⟨fun q => ?_, fun q => ⟨by omega, ?_⟩⟩
    · rw [show k = cf a (7 * aP a) by omega] at g3 ⊢
      exact h S' g1 g2 g3
    · rw [g3.1 k (by omega), glN_none (fun v hv => p1 k v hv)]
      have ih := ih (by omega)
      rw [fpF_s] at ih
      refine ⟨fun c => ?_, fun c => ⟨by rw [vp_inE (by omega) (by omega)]; omega, ?_⟩⟩
      · have ihc : ∀ S', frQ S S' → hasB S' a → foundC S' a (k + 1) → T29 (nI (cf a (7 * aP a))) (nI (fpF a k).2.1) (nI (k + 1)) S' := by
          rw [if_neg c] at ih
          exact ih
        refine ihc S' g1 g2 ?_
        unfold foundC
        rw [fpF_s, if_neg c]
        exact g3
      · rw [if_pos c] at ih
        have ih : ∀ S', frQ S S' → hasB S' a → foundC S' a (k + 1) → T29 (nI (cf a (7 * aP a))) (nI ((fpF a k).2.1 + 1)) (nI (k + 1)) S' := ih
        rw [nI_clamp (by omega)]
        refine c_spread (S := tI S' 18 (fpF a k).2.1 0) ha hfit (CI_ext hI (frQ_tI (by omega) g1).1) (fun j hj => by rw [kI_tI, if_neg (by omega)]; exact g2 j hj) hn (by omega) (by omega) p1 (fun j hj => by rw [kI_tI, if_neg (by omega)]; exact g3.1 j hj) (fun j hj hv => by rw [kI_tI, if_neg (by omega)]; exact g3.2.1 j hj hv) (by rw [kI_tI, if_pos ⟨rfl, rfl⟩]) (fun S2 k1 k2 k3 k4 => ?_)
        rw [show (nI (fpF a k).2.1 : Int32) + 1 = nI ((fpF a k).2.1 + 1) from nI_add _ 1]
        refine ih S2 (frQ_tr (frQ_tI (by omega) g1) k1) (fun j hj => by rw [k2 j, kI_tI, if_neg (by omega)]; exact g2 j hj) ?_
        unfold foundC
        rw [fpF_s, if_pos c]
        refine ⟨k4.1, k4.2.1, fun j hj => ?_⟩
        have hj : j < (fpF a k).2.1 + 1 := hj
        show _ = zB (upF (fpF a k).2.2 (fpF a k).2.1 _ j)
        by_cases e : j = (fpF a k).2.1
        · rw [e, upF_at]; exact k4.2.2.2
        · rw [k3 j e, kI_tI, if_neg (fun z => e z.2), upF_ne _ _ e]; exact g3.2.2 j (by omega)
  suffices K7 : ∀ k, k ≤ cf a (7 * aP a) → ∀ S', frQ S S' → hasB S' a → (∀ j, j < k → kI S' 15 j = -1) → T7 (nI (cf a (7 * aP a))) (nI k) S' from K7 0 (by omega) S1 f1 f3 (fun j hj => absurd hj (Nat.not_lt_zero _))
  refine loopUp (P := fun k => ∀ S', frQ S S' → hasB S' a → (∀ j, j < k → kI S' 15 j = -1) → T7 (nI (cf a (7 * aP a))) (nI k) S') (cf a (7 * aP a)) (fun k hk ih S' g1 g2 g3 => ?_)
  apply r7
  unfold C_findParts_w7
  rw [nI_leE (by omega) (by omega), nI_clamp (by omega), vp_inE (by omega) (by omega), show (nI k : Int32) + 1 = nI (k + 1) from nI_add k 1]
  refine ⟨fun q => K29 0 (by omega) S' g1 g2 ⟨fun j hj => g3 j (by omega), fun j _ hv => absurd rfl hv, fun j hj => absurd hj (Nat.not_lt_zero _)⟩, fun q => ⟨by omega, ih (by omega) _ (frQ_tI (by omega) g1) (fun j hj => by rw [kI_tI, if_neg (by omega)]; exact g2 j hj) (fun j hj => ?_)⟩⟩
  rw [kI_tI]
  by_cases c : j = k
  · rw [if_pos ⟨rfl, c⟩]
  · rw [if_neg (fun z => c z.2)]; exact g3 j (by omega)
theorem c_parts {κ : Prop} {a : Ab} (ha : AWf a) {S : CS} (hI : CI κ a S) {post : Int32 → CS → Prop} (h0 : ¬ legP a → ∀ S', CI κ a S' → post (-3) S') (h1 : legP a → ¬ cf a (7 * aP a) ≤ 400 → ∀ S', CI κ a S' → post (-4) S') (h2 : legP a → cf a (7 * aP a) ≤ 400 → ∀ S', CI κ a S' → hasB S' a → foundC S' a (cf a (7 * aP a)) → post (nI (fpF a (cf a (7 * aP a))).2.1) S') : C_parts S post := by
  apply C_parts_ok
  unfold C_parts_VC C_parts_w0 C_parts_w29
  have hP := ha.1
  have hcl := cf_le ha (7 * aP a)
  refine c_legal ha hI (fun q => ⟨fun c => absurd c (by decide), fun _ => h0 (fun k => q k.1) S hI⟩) (fun q1 q2 => ⟨fun c => absurd c (by decide), fun _ => h0 (fun k => q2 k.2) S hI⟩) (fun q1 q2 => ⟨fun _ => c_allCuts ha hI (fun S1 f1 f2 f3 => ?_), fun c => absurd rfl c⟩)
  have hI1 := CI_ext hI f1.1
  rw [show (400 : Int32) = nI 400 from rfl, nI_leE (by omega) (by omega)]
  exact ⟨fun c => c_findParts ha q1 c hI1 (fun S2 g1 g2 g3 => h2 ⟨q1, q2⟩ c S2 (CI_ext hI1 g1.1) g2 g3), fun c => h1 ⟨q1, q2⟩ c S1 hI1⟩
