/-! the model's label(): the least member of every class -/
def labs (a : Ab) (L : Lb) : Prop := isLab 36 (lk6 a) L.1 ∧ isLab 12 (lk7 a) L.2.1 ∧ isLab 3 (lk8 a) L.2.2
theorem qu_labs {a : Ab} {L : Lb} (g : goodL a L) (q : ∀ s t, s < 4 * aP a → aG a s = some t → qu a s t L 4) : labs a L := by
  refine ⟨⟨fun x hx => (g.1 x hx).1, fun x hx => (g.1 x hx).2, ?_⟩, ⟨fun x hx => (g.2.1 x hx).1, fun x hx => (g.2.1 x hx).2, ?_⟩, ⟨fun x hx => (g.2.2 x hx).1, fun x hx => (g.2.2 x hx).2, ?_⟩⟩
  · rintro x y ⟨s, t, c, d, hs, ht, hc, hd, h1, h2, h3, rfl, rfl⟩
    exact ((q s t hs ht).2 c hc h2).2 d hd (Ne.symm h1) h3
  · rintro x y ⟨s, t, c, hs, ht, hc, h2, rfl, rfl⟩
    exact ((q s t hs ht).2 c hc h2).1
  · rintro x y ⟨s, t, hs, ht, rfl, rfl⟩
    exact (q s t hs ht).1
theorem s_label {a : Ab} (ha : AWf a) {S : MS} (hR : MR a S) {L : Lb} (hL : labs a L) {post : MS → Prop} (h : ∀ S', sameB S S' → hold S' L → post S') : M_label S post := by
  apply M_label_ok
  intro T2 T23 T44 T67 T81 r2 r23 r44 r67 r81
  have hP := ha.1
  have fin : ∀ S' L', sameB S S' → hold S' L' → labs a L' → post S' := fun S' L' h1 h2 h3 => h S' h1 ⟨fun k hk => by rw [h2.1 k hk, isLab_eq h3.1 hL.1 hk], fun k hk => by rw [h2.2.1 k hk, isLab_eq h3.2.1 hL.2.1 hk], fun k hk => by rw [h2.2.2 k hk, isLab_eq h3.2.2 hL.2.2 hk]⟩
  have K67 : ∀ n S' L', mu L' < n → sameB S S' → hold S' L' → goodL a L' → (gF S' 9 = 0 → ∀ s t, s < 4 * aP a → aG a s = some t → qu a s t L' 4) → T67 S' := by
    intro n
    induction n with
    | zero => intro S' L' hn; exact absurd hn (Nat.not_lt_zero _)
    | succ n ih =>
      intro S' L' hn hsb hh hg hq
      apply r67
      unfold M_label_w67
      refine ⟨fun c => fin S' L' hsb hh (qu_labs hg (hq c)), fun c => ?_⟩
      have K81 : ∀ s, s ≤ 4 * aP a → ∀ S2 L2, stp a (sF S' 9 0) L' S2 L2 → (gF S2 9 = 0 → ∀ s' t, s' < s → aG a s' = some t → qu a s' t L' 4) → T81 (nI s) S2 := by
        refine loopUp (P := fun s => ∀ S2 L2, stp a (sF S' 9 0) L' S2 L2 → (gF S2 9 = 0 → ∀ s' t, s' < s → aG a s' = some t → qu a s' t L' 4) → T81 (nI s) S2) (4 * aP a) (fun s hs ih2 S2 L2 hst hq2 => ?_)
        have hsb2 : sameB S S2 := sameB_tr (sameB_F (by decide) hsb) hst.1
        have hR2 := MR_same hR hsb2
        apply r81
        unfold M_label_w81 M_label_w106
        rw [hR2.1]
        simp (disch := omega) only [n0, n1, n2, n3, n4, n5, n6, n7, n8, n9, n10, n11, n12, n14, n16, n18, n21, n22, n36, n48, n63, n100, n108, n400, n1000, pk_mul, nI_add, pk_div, nI_subm, nI_ltE, nI_leE, nI_eqE, nI_clamp, vp_inE, nIm1, nIm1', nIm1n, nIm1n', nI_addn]
        refine ⟨fun c2 => ?_, fun c2 => ⟨by omega, ?_⟩⟩
        · by_cases c3 : gF S2 9 = 0
          · apply r67
            unfold M_label_w67
            refine ⟨fun _ => fin S2 L2 hsb2 hst.2.1 ?_, fun q => absurd c3 q⟩
            have e := (hst.2.2.2.2.1 c3).2
            rw [e]
            exact qu_labs hg (fun s' t h1 h2 => hq2 c3 s' t (by omega) h2)
          · refine ih S2 L2 ?_ hsb2 hst.2.1 hst.2.2.1 (fun q => absurd q c3)
            rcases hst.2.2.2.2.2 c3 with q | q
            · exact absurd rfl q
            · omega
        · rw [hR2.2.2.1 s (by omega)]
          cases e : aG a s with
          | none =>
            refine ⟨fun _ => ih2 (by omega) S2 L2 hst (fun q s' t h1 h2 => ?_), fun q => absurd rfl q⟩
            by_cases e2 : s' = s
            · subst e2; rw [e] at h2; exact absurd h2 (by simp)
            · exact hq2 q s' t (by omega) h2
          | some t =>
            have ht := (ha.2.1 s t (by omega) e).1
            refine ⟨fun q => absurd q (by show ¬ nI t = -1; rw [nIm1 (by omega)]; exact id), fun _ => ?_⟩
            refine s_joinSide ha hR2 (by omega) e hst.2.1 hst.2.2.1 (fun S3 L3 hst3 hq3 => ?_)
            refine ih2 (by omega) S3 L3 (stp_tr hst hst3) (fun q s' t' h1 h2 => ?_)
            have q2 := (hst3.2.2.2.2.1 q).1
            by_cases e2 : s' = s
            · subst e2
              rw [e] at h2
              injection h2 with h2
              subst h2
              have q4 := (hst.2.2.2.2.1 q2).2
              rw [← q4]
              exact hq3 q
            · exact hq2 q2 s' t' (by omega) h2
      exact K81 0 (by omega) _ L' (stp_rf hh hg) (fun _ s' t h1 => absurd h1 (Nat.not_lt_zero _))
  have K44 : ∀ k, k ≤ 3 → ∀ S', sameB S S' → hasL S' 6 36 id → hasL S' 7 12 id → (∀ j, j < k → gI S' 8 j = nI j) → T44 (nI k) S' := by
    refine loopUp (P := fun k => ∀ S', sameB S S' → hasL S' 6 36 id → hasL S' 7 12 id → (∀ j, j < k → gI S' 8 j = nI j) → T44 (nI k) S') 3 (fun k hk ih S' h1 h6 h7 h8 => ?_)
    apply r44
    unfold M_label_w44
    simp (disch := omega) only [n0, n1, n2, n3, n4, n5, n6, n7, n8, n9, n10, n11, n12, n14, n16, n18, n21, n22, n36, n48, n63, n100, n108, n400, n1000, pk_mul, nI_add, pk_div, nI_subm, nI_ltE, nI_leE, nI_eqE, nI_clamp, vp_inE, nIm1, nIm1', nIm1n, nIm1n', nI_addn]
    refine ⟨fun c => ?_, fun c => ⟨by omega, ih (by omega) _ (sameB_I (by decide) h1) (fun j hj => by rw [gI_sI, if_neg (by omega)]; exact h6 j hj) (fun j hj => by rw [gI_sI, if_neg (by omega)]; exact h7 j hj) (fun j hj => ?_)⟩⟩
    · refine K67 (mu (id, id, id) + 1) _ (id, id, id) (Nat.lt_succ_self _) (sameB_F (by decide) h1) ⟨h6, h7, fun j hj => h8 j (by omega)⟩ ⟨fun j _ => ⟨Nat.le_refl _, cnx_rf⟩, fun j _ => ⟨Nat.le_refl _, cnx_rf⟩, fun j _ => ⟨Nat.le_refl _, cnx_rf⟩⟩ (fun q => absurd q (by rw [gF_sF, if_pos rfl]; decide))
    · rw [gI_sI]
      by_cases e : j = k
      · rw [if_pos ⟨rfl, e⟩, e]
      · rw [if_neg (fun q => e q.2)]
        exact h8 j (by omega)
  have K23 : ∀ k, k ≤ 12 → ∀ S', sameB S S' → hasL S' 6 36 id → (∀ j, j < k → gI S' 7 j = nI j) → T23 (nI k) S' := by
    refine loopUp (P := fun k => ∀ S', sameB S S' → hasL S' 6 36 id → (∀ j, j < k → gI S' 7 j = nI j) → T23 (nI k) S') 12 (fun k hk ih S' h1 h6 h7 => ?_)
    apply r23
    unfold M_label_w23
    simp (disch := omega) only [n0, n1, n2, n3, n4, n5, n6, n7, n8, n9, n10, n11, n12, n14, n16, n18, n21, n22, n36, n48, n63, n100, n108, n400, n1000, pk_mul, nI_add, pk_div, nI_subm, nI_ltE, nI_leE, nI_eqE, nI_clamp, vp_inE, nIm1, nIm1', nIm1n, nIm1n', nI_addn]
    refine ⟨fun c => K44 0 (by omega) S' h1 h6 (fun j hj => h7 j (by omega)) (fun j hj => absurd hj (Nat.not_lt_zero _)), fun c => ⟨by omega, ih (by omega) _ (sameB_I (by decide) h1) (fun j hj => by rw [gI_sI, if_neg (by omega)]; exact h6 j hj) (fun j hj => ?_)⟩⟩
    rw [gI_sI]
    by_cases e : j = k
    · rw [if_pos ⟨rfl, e⟩, e]
    · rw [if_neg (fun q => e q.2)]
      exact h7 j (by omega)
  have K2 : ∀ k, k ≤ 36 → ∀ S', sameB S S' → (∀ j, j < k → gI S' 6 j = nI j) → T2 (nI k) S' := by
    refine loopUp (P := fun k => ∀ S', sameB S S' → (∀ j, j < k → gI S' 6 j = nI j) → T2 (nI k) S') 36 (fun k hk ih S' h1 h6 => ?_)
    apply r2
    unfold M_label_w2
    simp (disch := omega) only [n0, n1, n2, n3, n4, n5, n6, n7, n8, n9, n10, n11, n12, n14, n16, n18, n21, n22, n36, n48, n63, n100, n108, n400, n1000, pk_mul, nI_add, pk_div, nI_subm, nI_ltE, nI_leE, nI_eqE, nI_clamp, vp_inE, nIm1, nIm1', nIm1n, nIm1n', nI_addn]
    refine ⟨fun c => K23 0 (by omega) S' h1 (fun j hj => h6 j (by omega)) (fun j hj => absurd hj (Nat.not_lt_zero _)), fun c => ⟨by omega, ih (by omega) _ (sameB_I (by decide) h1) (fun j hj => ?_)⟩⟩
    rw [gI_sI]
    by_cases e : j = k
    · rw [if_pos ⟨rfl, e⟩, e]
    · rw [if_neg (fun q => e q.2)]
      exact h6 j (by omega)
  exact K2 0 (by omega) S sameB_rf (fun j hj => absurd hj (Nat.not_lt_zero _))
/-! labels there are -/
theorem least_of {Q : Nat → Prop} {x : Nat} (h : Q x) : ∃ m, Q m ∧ m ≤ x ∧ ∀ k, Q k → m ≤ k := by
  induction x using Nat.strongRecOn with
  | ind x ih =>
    by_cases c : ∃ k, k < x ∧ Q k
    · obtain ⟨k, hk, hq⟩ := c
      obtain ⟨m, h1, h2, h3⟩ := ih k hk hq
      exact ⟨m, h1, by omega, h3⟩
    · exact ⟨x, h, Nat.le_refl _, fun k hk => Nat.not_lt.mp (fun q => c ⟨k, q, hk⟩)⟩
theorem isLab_ex (n : Nat) (E : Nat → Nat → Prop) : ∃ L, isLab n E L := by
  have h : ∀ x, ∃ m, cnx E x m ∧ m ≤ x ∧ ∀ k, cnx E x k → m ≤ k := fun x => least_of (Q := fun m => cnx E x m) cnx_rf
  refine ⟨fun x => Classical.choose (h x), fun x _ => (Classical.choose_spec (h x)).2.1, fun x _ => (Classical.choose_spec (h x)).1, fun x y e => ?_⟩
  have hx := Classical.choose_spec (h x)
  have hy := Classical.choose_spec (h y)
  exact Nat.le_antisymm (hx.2.2 _ (cnx_tr (cnx_E e) hy.1)) (hy.2.2 _ (cnx_tr (cnx_sy (cnx_E e)) hx.1))
theorem labs_ex (a : Ab) : ∃ L, labs a L := by
  obtain ⟨L6, h6⟩ := isLab_ex 36 (lk6 a)
  obtain ⟨L7, h7⟩ := isLab_ex 12 (lk7 a)
  obtain ⟨L8, h8⟩ := isLab_ex 3 (lk8 a)
  exact ⟨(L6, L7, L8), h6, h7, h8⟩
