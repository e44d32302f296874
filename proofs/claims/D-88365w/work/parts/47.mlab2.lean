/-! the model's labels: a side, and all until nothing changes -/
abbrev Lb : Type := (Nat → Nat) × (Nat → Nat) × (Nat → Nat)
def hold (S : MS) (L : Lb) : Prop := hasL S 6 36 L.1 ∧ hasL S 7 12 L.2.1 ∧ hasL S 8 3 L.2.2
def goodL (a : Ab) (L : Lb) : Prop := lbOk 36 (lk6 a) L.1 ∧ lbOk 12 (lk7 a) L.2.1 ∧ lbOk 3 (lk8 a) L.2.2
def mu (L : Lb) : Nat := sumN L.1 36 + sumN L.2.1 12 + sumN L.2.2 3
def stp (a : Ab) (S : MS) (L : Lb) (S' : MS) (L' : Lb) : Prop := sameB S S' ∧ hold S' L' ∧ goodL a L' ∧ mu L' ≤ mu L ∧ (gF S' 9 = 0 → gF S 9 = 0 ∧ L' = L) ∧ (gF S' 9 ≠ 0 → gF S 9 ≠ 0 ∨ mu L' < mu L)
theorem stp_rf {a : Ab} {S : MS} {L : Lb} (h : hold S L) (g : goodL a L) : stp a S L S L := ⟨sameB_rf, h, g, Nat.le_refl _, fun h => ⟨h, rfl⟩, fun h => Or.inl h⟩
theorem stp_tr {a : Ab} {S S' S'' : MS} {L L' L'' : Lb} (h : stp a S L S' L') (h' : stp a S' L' S'' L'') : stp a S L S'' L'' := by
  obtain ⟨h1, h2, h3, h4, h5, h6⟩ := h
  obtain ⟨q1, q2, q3, q4, q5, q6⟩ := h'
  refine ⟨sameB_tr h1 q1, q2, q3, Nat.le_trans q4 h4, fun c => ?_, fun c => ?_⟩
  · obtain ⟨c1, c2⟩ := q5 c
    obtain ⟨c3, c4⟩ := h5 c1
    exact ⟨c3, c2.trans c4⟩
  · rcases q6 c with c1 | c1
    · rcases h6 c1 with c2 | c2
      · exact Or.inl c2
      · exact Or.inr (Nat.lt_of_le_of_lt q4 c2)
    · exact Or.inr (Nat.lt_of_lt_of_le c1 h4)
theorem stp_j6 {a : Ab} {S : MS} {L : Lb} (hS : hold S L) (g : goodL a L) {x y : Nat} (hx : x < 36) (hy : y < 36) (e : lk6 a x y) {post : MS → Prop} (h : ∀ S' L', stp a S L S' L' → (gF S' 9 = 0 → L.1 x = L.1 y) → post S') : M_join6 (nI x) (nI y) S post := by
  refine s_join6 hS.1 (fun k hk => (g.1 k hk).1) hx hy (fun S' h1 h2 h3 h4 h5 => h S' (jn L.1 x y, L.2) ⟨h1, ⟨h3, fun k hk => by rw [h2 7 k (by decide)]; exact hS.2.1 k hk, fun k hk => by rw [h2 8 k (by decide)]; exact hS.2.2 k hk⟩, ⟨lbOk_jn g.1 hx hy e, g.2⟩, ?_, fun c => ⟨(h4 c).1, ?_⟩, fun c => ?_⟩ (fun c => (h4 c).2))
  · have := jn_sum L.1 x y 36
    show sumN (jn L.1 x y) 36 + sumN L.2.1 12 + sumN L.2.2 3 ≤ sumN L.1 36 + sumN L.2.1 12 + sumN L.2.2 3
    omega
  · rw [jn_same (h4 c).2]
  · rcases h5 c with c1 | c1
    · exact Or.inl c1
    · have := jn_sumlt hx hy c1
      refine Or.inr ?_
      show sumN (jn L.1 x y) 36 + sumN L.2.1 12 + sumN L.2.2 3 < sumN L.1 36 + sumN L.2.1 12 + sumN L.2.2 3
      omega
theorem stp_j7 {a : Ab} {S : MS} {L : Lb} (hS : hold S L) (g : goodL a L) {x y : Nat} (hx : x < 12) (hy : y < 12) (e : lk7 a x y) {post : MS → Prop} (h : ∀ S' L', stp a S L S' L' → (gF S' 9 = 0 → L.2.1 x = L.2.1 y) → post S') : M_join7 (nI x) (nI y) S post := by
  refine s_join7 hS.2.1 (fun k hk => (g.2.1 k hk).1) hx hy (fun S' h1 h2 h3 h4 h5 => h S' (L.1, jn L.2.1 x y, L.2.2) ⟨h1, ⟨fun k hk => by rw [h2 6 k (by decide)]; exact hS.1 k hk, h3, fun k hk => by rw [h2 8 k (by decide)]; exact hS.2.2 k hk⟩, ⟨g.1, lbOk_jn g.2.1 hx hy e, g.2.2⟩, ?_, fun c => ⟨(h4 c).1, ?_⟩, fun c => ?_⟩ (fun c => (h4 c).2))
  · have := jn_sum L.2.1 x y 12
    show sumN L.1 36 + sumN (jn L.2.1 x y) 12 + sumN L.2.2 3 ≤ sumN L.1 36 + sumN L.2.1 12 + sumN L.2.2 3
    omega
  · rw [jn_same (h4 c).2]
  · rcases h5 c with c1 | c1
    · exact Or.inl c1
    · have := jn_sumlt hx hy c1
      refine Or.inr ?_
      show sumN L.1 36 + sumN (jn L.2.1 x y) 12 + sumN L.2.2 3 < sumN L.1 36 + sumN L.2.1 12 + sumN L.2.2 3
      omega
theorem stp_j8 {a : Ab} {S : MS} {L : Lb} (hS : hold S L) (g : goodL a L) {x y : Nat} (hx : x < 3) (hy : y < 3) (e : lk8 a x y) {post : MS → Prop} (h : ∀ S' L', stp a S L S' L' → (gF S' 9 = 0 → L.2.2 x = L.2.2 y) → post S') : M_join8 (nI x) (nI y) S post := by
  refine s_join8 hS.2.2 (fun k hk => (g.2.2 k hk).1) hx hy (fun S' h1 h2 h3 h4 h5 => h S' (L.1, L.2.1, jn L.2.2 x y) ⟨h1, ⟨fun k hk => by rw [h2 6 k (by decide)]; exact hS.1 k hk, fun k hk => by rw [h2 7 k (by decide)]; exact hS.2.1 k hk, h3⟩, ⟨g.1, g.2.1, lbOk_jn g.2.2 hx hy e⟩, ?_, fun c => ⟨(h4 c).1, ?_⟩, fun c => ?_⟩ (fun c => (h4 c).2))
  · have := jn_sum L.2.2 x y 3
    show sumN L.1 36 + sumN L.2.1 12 + sumN (jn L.2.2 x y) 3 ≤ sumN L.1 36 + sumN L.2.1 12 + sumN L.2.2 3
    omega
  · rw [jn_same (h4 c).2]
  · rcases h5 c with c1 | c1
    · exact Or.inl c1
    · have := jn_sumlt hx hy c1
      refine Or.inr ?_
      show sumN L.1 36 + sumN L.2.1 12 + sumN (jn L.2.2 x y) 3 < sumN L.1 36 + sumN L.2.1 12 + sumN L.2.2 3
      omega
/-- nothing to join at a side: its corners up to n, of corner n the ends up to m -/
def qu (a : Ab) (s t : Nat) (L : Lb) (n : Nat) : Prop := L.2.2 (s / 4) = L.2.2 (t / 4) ∧ ∀ c, c < n → c ≠ s % 4 → L.2.1 (4 * (s / 4) + c) = L.2.1 (4 * (t / 4) + aW a s c) ∧ ∀ d, d < 4 → d ≠ c → d ≠ s % 4 → L.1 (endN (s / 4) c d) = L.1 (endN (t / 4) (aW a s c) (aW a s d))
theorem s_joinSide {a : Ab} (ha : AWf a) {S : MS} (hR : MR a S) {s t : Nat} (hs : s < 4 * aP a) (ht : aG a s = some t) {L : Lb} (hS : hold S L) (g : goodL a L) {post : MS → Prop} (h : ∀ S' L', stp a S L S' L' → (gF S' 9 = 0 → qu a s t L 4) → post S') : M_joinSide (nI s) S post := by
  apply M_joinSide_ok
  intro T26 T75 r26 r75
  have hP := ha.1
  obtain ⟨ht1, ht2, ht3, ht4, hw⟩ := ha.2.1 s t hs ht
  have hg : gI S 1 s = nI t := by rw [hR.2.2.1 s hs, ht]; rfl
  have L26 : ∀ c, c ≤ 4 → ∀ S' L', stp a S L S' L' → (gF S' 9 = 0 → qu a s t L c) → T26 (nI s) (nI (s / 4)) (nI (t / 4)) (nI c) S' := by
    refine loopUp (P := fun c => ∀ S' L', stp a S L S' L' → (gF S' 9 = 0 → qu a s t L c) → T26 (nI s) (nI (s / 4)) (nI (t / 4)) (nI c) S') 4 (fun c hc ih S' L' hst hq => ?_)
    apply r26
    have hR' := MR_same hR hst.1
    unfold M_joinSide_w26 M_joinSide_w146
    simp (disch := omega) only [n0, n1, n2, n3, n4, n5, n6, n7, n8, n9, n10, n11, n12, n14, n16, n18, n21, n22, n36, n48, n63, n100, n108, n400, n1000, pk_mul, nI_add, pk_div, nI_subm, nI_ltE, nI_leE, nI_eqE, nI_clamp, vp_inE, nIm1, nIm1', nIm1n, nIm1n', nI_addn]
    refine ⟨fun k => h S' L' hst (fun q => by have := hq q; rw [show (4 : Nat) = c by omega]; exact this), fun k => ⟨fun k2 => ⟨by omega, ?_⟩, fun k2 => ?_⟩⟩
    · rw [hR'.2.2.2.1 s t hs ht c (by omega)]
      have hwc := (hw c (by omega)).1
      simp (disch := omega) only [n0, n1, n2, n3, n4, n5, n6, n7, n8, n9, n10, n11, n12, n14, n16, n18, n21, n22, n36, n48, n63, n100, n108, n400, n1000, pk_mul, nI_add, pk_div, nI_subm, nI_ltE, nI_leE, nI_eqE, nI_clamp, vp_inE, nIm1, nIm1', nIm1n, nIm1n', nI_addn]
      refine stp_j7 hst.2.1 hst.2.2.1 (by omega) (by omega) ⟨s, t, c, hs, ht, by omega, by omega, rfl, rfl⟩ (fun S1 L1 hst1 hq1 => ?_)
      have L75 : ∀ d, d ≤ 4 → ∀ S' L', stp a S L S' L' → (gF S' 9 = 0 → qu a s t L c ∧ L.2.1 (4 * (s / 4) + c) = L.2.1 (4 * (t / 4) + aW a s c) ∧ ∀ d', d' < d → d' ≠ c → d' ≠ s % 4 → L.1 (endN (s / 4) c d') = L.1 (endN (t / 4) (aW a s c) (aW a s d'))) → T75 (nI s) (nI (s / 4)) (nI (t / 4)) (nI c) (nI d) S' := by
        refine loopUp (P := fun d => ∀ S' L', stp a S L S' L' → (gF S' 9 = 0 → qu a s t L c ∧ L.2.1 (4 * (s / 4) + c) = L.2.1 (4 * (t / 4) + aW a s c) ∧ ∀ d', d' < d → d' ≠ c → d' ≠ s % 4 → L.1 (endN (s / 4) c d') = L.1 (endN (t / 4) (aW a s c) (aW a s d'))) → T75 (nI s) (nI (s / 4)) (nI (t / 4)) (nI c) (nI d) S') 4 (fun d hd ihd S' L' hst hq => ?_)
        apply r75
        have hR' := MR_same hR hst.1
        unfold M_joinSide_w75 M_joinSide_w146 M_joinSide_w140
        simp (disch := omega) only [n0, n1, n2, n3, n4, n5, n6, n7, n8, n9, n10, n11, n12, n14, n16, n18, n21, n22, n36, n48, n63, n100, n108, n400, n1000, pk_mul, nI_add, pk_div, nI_subm, nI_ltE, nI_leE, nI_eqE, nI_clamp, vp_inE, nIm1, nIm1', nIm1n, nIm1n', nI_addn]
        have skip : (d = c ∨ d = s % 4) → d < 4 → T75 (nI s) (nI (s / 4)) (nI (t / 4)) (nI c) (nI (d + 1)) S' := fun e hd4 => ihd hd4 S' L' hst (fun q => ⟨(hq q).1, (hq q).2.1, fun d' h1 h2 h3 => (hq q).2.2 d' (by omega) h2 h3⟩)
        refine ⟨fun k3 => ih (by omega) S' L' hst (fun q => ⟨(hq q).1.1, fun c' h1 h2 => ?_⟩), fun k3 => ⟨fun k4 => skip (Or.inl k4) (by omega), fun k4 => ⟨fun k5 => skip (Or.inr (by omega)) (by omega), fun k5 => ?_⟩⟩⟩
        · by_cases e : c' = c
          · subst e
            exact ⟨(hq q).2.1, fun d' h3 h4 h5 => (hq q).2.2 d' (by omega) h4 h5⟩
          · exact (hq q).1.2 c' (by omega) h2
        · refine s_endOf (by omega) (by omega) (by omega) (by omega) hR'.2.1 ⟨by omega, by omega, ?_⟩
          rw [hR'.2.2.2.1 s t hs ht c (by omega), hR'.2.2.2.1 s t hs ht d (by omega)]
          have hwd := (hw d (by omega)).1
          have hne := AWf_inj ha hs ht (show c < 4 by omega) (show d < 4 by omega) (by omega)
          refine s_endOf (by omega) (by omega) (by omega) hne hR'.2.1 ?_
          refine stp_j6 hst.2.1 hst.2.2.1 (endN_lt (by omega) (by omega) (by omega) (by omega)) (endN_lt (by omega) (by omega) (by omega) hne) ⟨s, t, c, d, hs, ht, by omega, by omega, by omega, by omega, by omega, rfl, rfl⟩ (fun S2 L2 hst2 hq2 => ?_)
          refine ihd (by omega) S2 L2 (stp_tr hst hst2) (fun q => ?_)
          have q1 := (hst2.2.2.2.2.1 q).1
          have e := (hst.2.2.2.2.1 q1).2
          refine ⟨(hq q1).1, (hq q1).2.1, fun d' h1 h2 h3 => ?_⟩
          by_cases e2 : d' = d
          · subst e2
            rw [← e]
            exact hq2 q
          · exact (hq q1).2.2 d' (by omega) h2 h3
      refine L75 0 (by omega) S1 L1 (stp_tr hst hst1) (fun q => ?_)
      have q1 := (hst1.2.2.2.2.1 q).1
      have e := (hst.2.2.2.2.1 q1).2
      refine ⟨hq q1, by rw [← e]; exact hq1 q, fun d' h1 => absurd h1 (Nat.not_lt_zero _)⟩
    · refine ih (by omega) S' L' hst (fun q => ⟨(hq q).1, fun c' h1 h2 => (hq q).2 c' (by omega) h2⟩)
  unfold M_joinSide_w0
  rw [nI_clamp (by omega), hg]
  simp (disch := omega) only [n0, n1, n2, n3, n4, n5, n6, n7, n8, n9, n10, n11, n12, n14, n16, n18, n21, n22, n36, n48, n63, n100, n108, n400, n1000, pk_mul, nI_add, pk_div, nI_subm, nI_ltE, nI_leE, nI_eqE, nI_clamp, vp_inE, nIm1, nIm1', nIm1n, nIm1n', nI_addn]
  refine ⟨by omega, stp_j8 hS g (by omega) (by omega) ⟨s, t, hs, ht, rfl, rfl⟩ (fun S1 L1 hst1 hq1 => ?_)⟩
  refine L26 0 (by omega) S1 L1 hst1 (fun q => ⟨hq1 q, fun c h1 => absurd h1 (Nat.not_lt_zero _)⟩)
