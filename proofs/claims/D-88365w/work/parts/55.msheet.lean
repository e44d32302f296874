/-! the model's sheet: arcs, legal, euler -/
theorem kindN_lt {a b : Nat} (ha : a < 4) (hb : b < 4) (hne : a ≠ b) : kindN a b < 3 := by
  unfold kindN
  split <;> omega
def arcN (a : Ab) (p f c : Nat) : Nat := aS a (7 * p + c) + aS a (7 * p + 4 + kindN c f)
theorem arcN_le {a : Ab} (ha : AWf a) (p f c : Nat) : arcN a p f c ≤ 2000 := by
  have h1 := ha.2.2.1 (7 * p + c)
  have h2 := ha.2.2.1 (7 * p + 4 + kindN c f)
  unfold arcN
  omega
theorem s_arcs {a : Ab} (ha : AWf a) {S : MS} (hR : MR a S) {p f c : Nat} (hp : p < 3) (hf : f < 4) (hc : c < 4) (hne : c ≠ f) {post : Int32 → MS → Prop} (h : post (nI (arcN a p f c)) S) : M_arcs (nI p) (nI f) (nI c) S post := by
  apply M_arcs_ok
  unfold M_arcs_VC M_arcs_w0
  have hk := kindN_lt hc hf hne
  simp (disch := omega) only [n0, n1, n2, n3, n4, n5, n6, n7, n8, n9, n10, n11, n12, n14, n16, n18, n21, n22, n36, n48, n63, n100, n108, n400, n1000, pk_mul, nI_add, pk_div, nI_subm, nI_ltE, nI_leE, nI_eqE, nI_clamp, vp_inE, nIm1, nIm1', nIm1n, nIm1n', nI_addn]
  refine ⟨by omega, s_kindOf hc hf hne ?_⟩
  simp (disch := omega) only [n0, n1, n2, n3, n4, n5, n6, n7, n8, n9, n10, n11, n12, n14, n16, n18, n21, n22, n36, n48, n63, n100, n108, n400, n1000, pk_mul, nI_add, pk_div, nI_subm, nI_ltE, nI_leE, nI_eqE, nI_clamp, vp_inE, nIm1, nIm1', nIm1n, nIm1n', nI_addn]
  rw [hR.2.2.2.2 _ (show 7 * p + c < 21 by omega), hR.2.2.2.2 _ (show 7 * p + 4 + kindN c f < 21 by omega)]
  simp (disch := omega) only [n0, n1, n2, n3, n4, n5, n6, n7, n8, n9, n10, n11, n12, n14, n16, n18, n21, n22, n36, n48, n63, n100, n108, n400, n1000, pk_mul, nI_add, pk_div, nI_subm, nI_ltE, nI_leE, nI_eqE, nI_clamp, vp_inE, nIm1, nIm1', nIm1n, nIm1n', nI_addn]
  exact ⟨by omega, h⟩
/-- at every glued side the arcs fit -/
def fitC (a : Ab) (s t c : Nat) : Prop := c ≠ s % 4 → arcN a (s / 4) (s % 4) c = arcN a (t / 4) (t % 4) (aW a s c)
def fitA (a : Ab) : Prop := ∀ s t c, s < 4 * aP a → aG a s = some t → c < 4 → fitC a s t c
def shSet (a : Ab) (i : Nat) : Prop := i < 7 * aP a ∧ aS a i ≠ 0
theorem s_legal {a : Ab} (ha : AWf a) {S : MS} (hR : MR a S) {post : Int32 → MS → Prop} (h1 : ¬ fitA a → post 1 S) (h2 : fitA a → ¬ oneKind (shSet a) (aP a) → post 2 S) (h0 : fitA a → oneKind (shSet a) (aP a) → post 0 S) : M_legal S post := by
  apply M_legal_ok
  intro T2 T14 T98 r2 r14 r98
  have hP := ha.1
  have K98 : fitA a → ∀ i, i ≤ 7 * aP a → ∀ x, isSet x (fun j => j < i ∧ aS a j ≠ 0) → T98 x (nI i) S := by
    intro hfit
    refine loopUp (P := fun i => ∀ x, isSet x (fun j => j < i ∧ aS a j ≠ 0) → T98 x (nI i) S) (7 * aP a) (fun i hi ih x hx => ?_)
    apply r98
    unfold M_legal_w98 M_legal_w126 M_legal_w147
    rw [hR.1]
    simp (disch := omega) only [n0, n1, n2, n3, n4, n5, n6, n7, n8, n9, n10, n11, n12, n14, n16, n18, n21, n22, n36, n48, n63, n100, n108, n400, n1000, pk_mul, nI_add, pk_div, nI_subm, nI_ltE, nI_leE, nI_eqE, nI_clamp, vp_inE, nIm1, nIm1', nIm1n, nIm1n', nI_addn]
    refine ⟨fun q => ?_, fun q => ⟨by omega, ?_⟩⟩
    · have e : i = 7 * aP a := by omega
      subst e
      exact s_hasOneKind hx hP hR.1 (fun o => ⟨fun c => absurd c (by decide), fun _ => h0 hfit o⟩) (fun o => ⟨fun _ => h2 hfit o, fun c => absurd rfl c⟩)
    · have hs := ha.2.2.1 i
      rw [hR.2.2.2.2 i (by omega)]
      simp (disch := omega) only [n0, n1, n2, n3, n4, n5, n6, n7, n8, n9, n10, n11, n12, n14, n16, n18, n21, n22, n36, n48, n63, n100, n108, n400, n1000, pk_mul, nI_add, pk_div, nI_subm, nI_ltE, nI_leE, nI_eqE, nI_clamp, vp_inE, nIm1, nIm1', nIm1n, nIm1n', nI_addn]
      refine ⟨fun e => ih (by omega) _ (isSet_cg (fun j hj => ?_) (isSet_or hx isSet_0)), fun e => ih (by omega) _ (isSet_cg (fun j hj => ?_) (isSet_or hx (isSet_one (show i < 32 by omega))))⟩
      · constructor
        · rintro (⟨h1, h2⟩ | h)
          · exact ⟨by omega, h2⟩
          · exact absurd h id
        · rintro ⟨h1, h2⟩
          by_cases e2 : j = i
          · subst e2; exact absurd e h2
          · exact Or.inl ⟨by omega, h2⟩
      · constructor
        · rintro (⟨h1, h2⟩ | h)
          · exact ⟨by omega, h2⟩
          · subst h; exact ⟨by omega, e⟩
        · rintro ⟨h1, h2⟩
          by_cases e2 : j = i
          · exact Or.inr e2
          · exact Or.inl ⟨by omega, h2⟩
  suffices K2 : ∀ s, s ≤ 4 * aP a → (∀ s' t c, s' < s → aG a s' = some t → c < 4 → fitC a s' t c) → T2 (nI s) S from K2 0 (by omega) (fun s' t c h => absurd h (Nat.not_lt_zero _))
  refine loopUp (P := fun s => (∀ s' t c, s' < s → aG a s' = some t → c < 4 → fitC a s' t c) → T2 (nI s) S) (4 * aP a) (fun s hs ih hf => ?_)
  apply r2
  unfold M_legal_w2
  rw [hR.1]
  simp (disch := omega) only [n0, n1, n2, n3, n4, n5, n6, n7, n8, n9, n10, n11, n12, n14, n16, n18, n21, n22, n36, n48, n63, n100, n108, n400, n1000, pk_mul, nI_add, pk_div, nI_subm, nI_ltE, nI_leE, nI_eqE, nI_clamp, vp_inE, nIm1, nIm1', nIm1n, nIm1n', nI_addn]
  refine ⟨fun q => K98 (fun s' t c h1 => hf s' t c (by omega)) 0 (by omega) 0 (isSet_cg (fun j _ => ⟨fun h => absurd h id, fun h => absurd h.1 (Nat.not_lt_zero _)⟩) isSet_0), fun q => ?_⟩
  suffices K14 : ∀ c, c ≤ 4 → (∀ t c', aG a s = some t → c' < c → fitC a s t c') → T14 (nI s) (nI c) S from K14 0 (by omega) (fun t c' _ h => absurd h (Nat.not_lt_zero _))
  refine loopUp (P := fun c => (∀ t c', aG a s = some t → c' < c → fitC a s t c') → T14 (nI s) (nI c) S) 4 (fun c hc ihc hfc => ?_)
  apply r14
  unfold M_legal_w14 M_legal_w88 M_legal_w82
  have nx : (∀ t c', aG a s = some t → c' < 4 → fitC a s t c') → T2 (nI (s + 1)) S := fun h => ih (by omega) (fun s' t c' h1 h2 h3 => by
    by_cases e : s' = s
    · subst e; exact h t c' h2 h3
    · exact hf s' t c' (by omega) h2 h3)
  simp (disch := omega) only [n0, n1, n2, n3, n4, n5, n6, n7, n8, n9, n10, n11, n12, n14, n16, n18, n21, n22, n36, n48, n63, n100, n108, n400, n1000, pk_mul, nI_add, pk_div, nI_subm, nI_ltE, nI_leE, nI_eqE, nI_clamp, vp_inE, nIm1, nIm1', nIm1n, nIm1n', nI_addn]
  refine ⟨fun q2 => nx (fun t c' h1 h2 => hfc t c' h1 (by omega)), fun q2 => ⟨by omega, ?_⟩⟩
  rw [hR.2.2.1 s (by omega)]
  cases e : aG a s with
  | none => exact ⟨fun _ => nx (fun t c' h1 => absurd (e.symm.trans h1) (by simp)), fun c => absurd rfl c⟩
  | some t =>
    obtain ⟨ht1, ht2, ht3, ht4, hw⟩ := ha.2.1 s t (by omega) e
    have hgl : glN (some t) = nI t := rfl
    rw [hgl]
    simp (disch := omega) only [n0, n1, n2, n3, n4, n5, n6, n7, n8, n9, n10, n11, n12, n14, n16, n18, n21, n22, n36, n48, n63, n100, n108, n400, n1000, pk_mul, nI_add, pk_div, nI_subm, nI_ltE, nI_leE, nI_eqE, nI_clamp, vp_inE, nIm1, nIm1', nIm1n, nIm1n', nI_addn]
    have nxc : fitC a s t c → T14 (nI s) (nI (c + 1)) S := fun h => ihc (by omega) (fun t' c' h1 h2 => by
      rw [e] at h1
      injection h1 with h1
      subst h1
      by_cases e2 : c' = c
      · subst e2; exact h
      · exact hfc _ c' e (by omega))
    refine ⟨fun c => absurd c id, fun _ => ⟨fun q3 => nxc (fun k => absurd k (by omega)), fun q3 => ?_⟩⟩
    have hwc := (hw c (by omega)).1
    have hwne : aW a s c ≠ t % 4 := by
      rw [← ht4]
      exact AWf_inj ha (by omega) e (by omega) (by omega) (by omega)
    refine s_arcs ha hR (by omega) (by omega) (by omega) (by omega) ⟨by omega, by omega, by omega, ?_⟩
    rw [hR.2.2.1 s (by omega), e, hgl, hR.2.2.2.1 s t (by omega) e c (by omega)]
    simp (disch := omega) only [n0, n1, n2, n3, n4, n5, n6, n7, n8, n9, n10, n11, n12, n14, n16, n18, n21, n22, n36, n48, n63, n100, n108, n400, n1000, pk_mul, nI_add, pk_div, nI_subm, nI_ltE, nI_leE, nI_eqE, nI_clamp, vp_inE, nIm1, nIm1', nIm1n, nIm1n', nI_addn]
    refine s_arcs ha hR (by omega) (by omega) (by omega) (by omega) ?_
    have l1 := arcN_le ha (s / 4) (s - s / 4 * 4) c
    have l2 := arcN_le ha (t / 4) (t - t / 4 * 4) (aW a s c)
    simp (disch := omega) only [n0, n1, n2, n3, n4, n5, n6, n7, n8, n9, n10, n11, n12, n14, n16, n18, n21, n22, n36, n48, n63, n100, n108, n400, n1000, pk_mul, nI_add, pk_div, nI_subm, nI_ltE, nI_leE, nI_eqE, nI_clamp, vp_inE, nIm1, nIm1', nIm1n, nIm1n', nI_addn]
    rw [show s - s / 4 * 4 = s % 4 by omega, show t - t / 4 * 4 = t % 4 by omega]
    exact ⟨fun q4 => nxc (fun _ => q4), fun q4 => h1 (fun h => q4 (h s t c (by omega) e (by omega) (by omega)))⟩
/-- a cut of a sort meets an edge -/
def mts (sort e : Nat) : Bool := if sort < 4 then (eFrom e == sort || eTo e == sort) else !(kindN (eFrom e) (eTo e) == sort - 4)
theorem eFT_ne : ∀ e, e < 6 → eFrom e ≠ eTo e := by decide
theorem s_meets {S : MS} (hS : MTab S) {k e : Nat} (hk : k < 7) (he : e < 6) {post : Int32 → MS → Prop} (h1 : mts k e = true → post 1 S) (h0 : mts k e = false → post 0 S) : M_meets (nI k) (nI e) S post := by
  apply M_meets_ok
  unfold M_meets_VC M_meets_w0 M_meets_w25 M_meets_w59
  obtain ⟨q1, q2⟩ := hS e he
  have l := eFT_lt e
  have hkl := kindN_lt l.1 l.2 (eFT_ne e he)
  unfold mts at h1 h0
  simp (disch := omega) only [n0, n1, n2, n3, n4, n5, n6, n7, n8, n9, n10, n11, n12, n14, n16, n18, n21, n22, n36, n48, n63, n100, n108, n400, n1000, pk_mul, nI_add, pk_div, nI_subm, nI_ltE, nI_leE, nI_eqE, nI_clamp, vp_inE, nIm1, nIm1', nIm1n, nIm1n', nI_addn]
  rw [q1, q2]
  simp (disch := omega) only [n0, n1, n2, n3, n4, n5, n6, n7, n8, n9, n10, n11, n12, n14, n16, n18, n21, n22, n36, n48, n63, n100, n108, n400, n1000, pk_mul, nI_add, pk_div, nI_subm, nI_ltE, nI_leE, nI_eqE, nI_clamp, vp_inE, nIm1, nIm1', nIm1n, nIm1n', nI_addn]
  refine ⟨fun c => ⟨by omega, by omega, s_kindOf l.1 l.2 (eFT_ne e he) ?_⟩, fun c => ⟨by omega, fun c2 => ⟨zok1, h1 ?_⟩, fun c2 => ⟨by omega, fun c3 => ⟨zok0, h0 ?_⟩, fun c3 => ⟨zok1, h1 ?_⟩⟩⟩⟩
  · simp (disch := omega) only [n0, n1, n2, n3, n4, n5, n6, n7, n8, n9, n10, n11, n12, n14, n16, n18, n21, n22, n36, n48, n63, n100, n108, n400, n1000, pk_mul, nI_add, pk_div, nI_subm, nI_ltE, nI_leE, nI_eqE, nI_clamp, vp_inE, nIm1, nIm1', nIm1n, nIm1n', nI_addn]
    rw [if_neg (by omega)] at h1 h0
    refine ⟨fun c2 => ⟨zok0, h0 ?_⟩, fun c2 => ⟨zok1, h1 ?_⟩⟩
    · simp [c2]
    · simp [c2]
  · rw [if_pos (by omega)]; simp [c2]
  · rw [if_pos (by omega)]; simp [c2, c3]
  · rw [if_pos (by omega)]; simp [c3]
/-- euler's three sums -/
def eu1 (a : Ab) (L : Lb) (k n : Nat) : Nat := sumN (fun i => if eL L k = k ∧ mts i (k % 6) = true then aS a (7 * (k / 6) + i) else 0) n
def eu1s (a : Ab) (L : Lb) (n : Nat) : Nat := sumN (fun k => eu1 a L k 7) n
def eu2 (a : Ab) (s n : Nat) : Nat := sumN (fun c => if c ≠ s % 4 ∧ cnd a s = 1 then arcN a (s / 4) (s % 4) c else 0) n
def eu2s (a : Ab) (n : Nat) : Nat := sumN (fun s => eu2 a s 4) n
def eulR (a : Ab) (L : Lb) : Int32 := (nI (eu1s a L (6 * aP a)) - nI (eu2s a (4 * aP a))) + nI (sumN (aS a) (7 * aP a))
theorem i32_subsub (x : Int32) (u v : Nat) : (x - nI u) - nI v = x - nI (u + v) := by
  rw [← nI_add, Int32.sub_eq_add_neg, Int32.sub_eq_add_neg, Int32.sub_eq_add_neg, Int32.add_assoc]
  congr 1
  rw [Int32.neg_add, Int32.sub_eq_add_neg]
theorem i32_addadd (x : Int32) (u v : Nat) : (x + nI u) + nI v = x + nI (u + v) := by rw [← nI_add, Int32.add_assoc]
theorem eu1_none {a : Ab} {L : Lb} {k : Nat} (h : ¬ eL L k = k) (n : Nat) : eu1 a L k n = 0 := by
  unfold eu1
  induction n with
  | zero => rfl
  | succ n ih => unfold sumN; rw [ih, if_neg (fun q => h q.1)]
theorem s_euler {a : Ab} (ha : AWf a) {L : Lb} (hl : labs a L) {S : MS} (hR : MR a S) {post : Int32 → MS → Prop} (h0 : ¬ (fitA a ∧ oneKind (shSet a) (aP a)) → ∀ S', MR a S' → post (-2147483648) S') (h1 : fitA a → oneKind (shSet a) (aP a) → ∀ S', MR a S' → post (eulR a L) S') : M_euler S post := by
  apply M_euler_ok
  intro T18 T31 T92 T104 T168 r18 r31 r92 r104 r168
  have hP := ha.1
  unfold M_euler_w0
  refine s_legal ha hR (fun q => ⟨fun c => absurd c (by decide), fun _ => h0 (fun k => q k.1) S hR⟩) (fun q1 q2 => ⟨fun c => absurd c (by decide), fun _ => h0 (fun k => q2 k.2) S hR⟩) (fun q1 q2 => ⟨fun _ => ?_, fun c => absurd rfl c⟩)
  have h1 := h1 q1 q2
  refine s_label ha hR hl (fun S' hsb hS => ?_)
  have hR' := MR_same hR hsb
  have h1 := h1 S' hR'
  have K168 : ∀ i, i ≤ 7 * aP a → T168 ((nI (eu1s a L (6 * aP a)) - nI (eu2s a (4 * aP a))) + nI (sumN (aS a) i)) (nI i) S' := by
    refine loopUp (P := fun i => T168 ((nI (eu1s a L (6 * aP a)) - nI (eu2s a (4 * aP a))) + nI (sumN (aS a) i)) (nI i) S') (7 * aP a) (fun i hi ih => ?_)
    apply r168
    unfold M_euler_w168
    rw [hR'.1]
    rw [nI_clamp (by omega)]
    refine ⟨fun q => ?_, fun q => ⟨?_, ?_⟩⟩
    · have e : i = 7 * aP a := by simp (disch := omega) only [n0, n1, n2, n3, n4, n5, n6, n7, n8, n9, n10, n11, n12, n14, n16, n18, n21, n22, n36, n48, n63, n100, n108, n400, n1000, pk_mul, nI_add, pk_div, nI_subm, nI_ltE, nI_leE, nI_eqE, nI_clamp, vp_inE, nIm1, nIm1', nIm1n, nIm1n', nI_addn] at q; omega
      rw [e]; exact h1
    · simp (disch := omega) only [n0, n1, n2, n3, n4, n5, n6, n7, n8, n9, n10, n11, n12, n14, n16, n18, n21, n22, n36, n48, n63, n100, n108, n400, n1000, pk_mul, nI_add, pk_div, nI_subm, nI_ltE, nI_leE, nI_eqE, nI_clamp, vp_inE, nIm1, nIm1', nIm1n, nIm1n', nI_addn] at q
      simp (disch := omega) only [n0, n1, n2, n3, n4, n5, n6, n7, n8, n9, n10, n11, n12, n14, n16, n18, n21, n22, n36, n48, n63, n100, n108, n400, n1000, pk_mul, nI_add, pk_div, nI_subm, nI_ltE, nI_leE, nI_eqE, nI_clamp, vp_inE, nIm1, nIm1', nIm1n, nIm1n', nI_addn]
      omega
    · simp (disch := omega) only [n0, n1, n2, n3, n4, n5, n6, n7, n8, n9, n10, n11, n12, n14, n16, n18, n21, n22, n36, n48, n63, n100, n108, n400, n1000, pk_mul, nI_add, pk_div, nI_subm, nI_ltE, nI_leE, nI_eqE, nI_clamp, vp_inE, nIm1, nIm1', nIm1n, nIm1n', nI_addn] at q
      have ih := ih (by omega)
      rw [hR'.2.2.2.2 i (by omega), i32_addadd, show nI i + 1 = nI (i + 1) from nI_add i 1]
      exact ih
  have K92 : ∀ s, s ≤ 4 * aP a → T92 (nI (eu1s a L (6 * aP a)) - nI (eu2s a s)) (nI s) S' := by
    refine loopUp (P := fun s => T92 (nI (eu1s a L (6 * aP a)) - nI (eu2s a s)) (nI s) S') (4 * aP a) (fun s hs ih => ?_)
    apply r92
    unfold M_euler_w92
    rw [hR'.1]
    have e4 : (4 : Int32) * nI (aP a) = nI (4 * aP a) := by simp (disch := omega) only [n0, n1, n2, n3, n4, n5, n6, n7, n8, n9, n10, n11, n12, n14, n16, n18, n21, n22, n36, n48, n63, n100, n108, n400, n1000, pk_mul, nI_add, pk_div, nI_subm, nI_ltE, nI_leE, nI_eqE, nI_clamp, vp_inE, nIm1, nIm1', nIm1n, nIm1n', nI_addn]
    rw [e4, nI_leE (by omega) (by omega)]
    refine ⟨fun q => ?_, fun q => ?_⟩
    · have e : s = 4 * aP a := by omega
      have := K168 0 (by omega)
      rw [e]
      rw [show nI (sumN (aS a) 0) = (0 : Int32) from rfl, Int32.add_zero] at this
      exact this
    · suffices K104 : ∀ c, c ≤ 4 → T104 (nI (eu1s a L (6 * aP a)) - nI (eu2s a s + eu2 a s c)) (nI s) (nI c) S' from K104 0 (by omega)
      refine loopUp (P := fun c => T104 (nI (eu1s a L (6 * aP a)) - nI (eu2s a s + eu2 a s c)) (nI s) (nI c) S') 4 (fun c hc ihc => ?_)
      apply r104
      unfold M_euler_w104 M_euler_w137 M_euler_w151 M_euler_w152
      rw [show (nI c : Int32) + 1 = nI (c + 1) from nI_add c 1, show (nI s : Int32) + 1 = nI (s + 1) from nI_add s 1]
      have es : nI s - nI s / 4 * 4 = nI (s % 4) := by
        simp (disch := omega) only [n0, n1, n2, n3, n4, n5, n6, n7, n8, n9, n10, n11, n12, n14, n16, n18, n21, n22, n36, n48, n63, n100, n108, n400, n1000, pk_mul, nI_add, pk_div, nI_subm, nI_ltE, nI_leE, nI_eqE, nI_clamp, vp_inE, nIm1, nIm1', nIm1n, nIm1n', nI_addn]
        rw [show s - s / 4 * 4 = s % 4 by omega]
      have ed : nI s / 4 = nI (s / 4) := by simp (disch := omega) only [n0, n1, n2, n3, n4, n5, n6, n7, n8, n9, n10, n11, n12, n14, n16, n18, n21, n22, n36, n48, n63, n100, n108, n400, n1000, pk_mul, nI_add, pk_div, nI_subm, nI_ltE, nI_leE, nI_eqE, nI_clamp, vp_inE, nIm1, nIm1', nIm1n, nIm1n', nI_addn]
      rw [es, ed, show (4 : Int32) = nI 4 from rfl, nI_leE (by omega) (by omega), nI_eqE (by omega) (by omega), nI_clamp (by omega), hR'.2.2.1 s (by omega), vp_inE (by omega) (by omega)]
      have ih := ih (by omega)
      refine ⟨fun q2 => ?_, fun q2 => ?_⟩
      · rw [show c = 4 by omega]; exact ih
      · have ihc := ihc (by omega)
        unfold eu2 sumN at ihc
        rw [← Nat.add_assoc, ← i32_subsub] at ihc
        have skip : (c = s % 4 ∨ cnd a s = 0) → T104 (nI (eu1s a L (6 * aP a)) - nI (eu2s a s + eu2 a s c) - 0) (nI s) (nI (c + 1)) S' := by
          intro hh
          rw [if_neg (by omega)] at ihc
          exact ihc
        have take : c ≠ s % 4 → cnd a s = 1 → M_arcs (nI (s / 4)) (nI (s % 4)) (nI c) S' (fun r1 S1 => T104 (nI (eu1s a L (6 * aP a)) - nI (eu2s a s + eu2 a s c) - r1) (nI s) (nI (c + 1)) S1) := by
          intro h1 h2
          rw [if_pos ⟨h1, h2⟩] at ihc
          exact s_arcs ha hR' (by omega) (by omega) (by omega) h1 ihc
        refine ⟨fun q3 => skip (Or.inl q3), fun q3 => ⟨by omega, ?_⟩⟩
        unfold cnd at skip take
        cases e : aG a s with
        | none =>
          rw [e] at take
          exact ⟨fun _ => take q3 rfl, fun q => absurd rfl q⟩
        | some t =>
          rw [e] at take skip
          have ht := (ha.2.1 s t (by omega) e).1
          have hgl : glN (some t) = nI t := rfl
          rw [hgl, nIm1 (by omega), nI_leE (by omega) (by omega)]
          refine ⟨fun q => absurd q id, fun _ => ⟨by omega, fun q4 => skip (Or.inr (if_neg (by omega))), fun q4 => take q3 (if_pos (by omega))⟩⟩
  suffices K18 : ∀ k, k ≤ 6 * aP a → T18 (nI (eu1s a L k)) (nI k) S' from K18 0 (by omega)
  refine loopUp (P := fun k => T18 (nI (eu1s a L k)) (nI k) S') (6 * aP a) (fun k hk ih => ?_)
  apply r18
  unfold M_euler_w18
  rw [hR'.1]
  have e6 : (6 : Int32) * nI (aP a) = nI (6 * aP a) := by simp (disch := omega) only [n0, n1, n2, n3, n4, n5, n6, n7, n8, n9, n10, n11, n12, n14, n16, n18, n21, n22, n36, n48, n63, n100, n108, n400, n1000, pk_mul, nI_add, pk_div, nI_subm, nI_ltE, nI_leE, nI_eqE, nI_clamp, vp_inE, nIm1, nIm1', nIm1n, nIm1n', nI_addn]
  rw [e6, nI_leE (by omega) (by omega)]
  refine ⟨fun q => ?_, fun q => ?_⟩
  · have e : k = 6 * aP a := by omega
    have := K92 0 (by omega)
    rw [show nI (eu2s a 0) = (0 : Int32) from rfl, Int32.sub_zero] at this
    rw [e]
    exact this
  · suffices K31 : ∀ i, i ≤ 7 → T31 (nI (eu1s a L k + eu1 a L k i)) (nI k) (nI i) S' from K31 0 (by omega)
    refine loopUp (P := fun i => T31 (nI (eu1s a L k + eu1 a L k i)) (nI k) (nI i) S') 7 (fun i hi ihi => ?_)
    apply r31
    have ih := ih (by omega)
    unfold M_euler_w31 M_euler_w76 M_euler_w84
    have em : nI k - nI k / 6 * 6 = nI (k % 6) := by
      simp (disch := omega) only [n0, n1, n2, n3, n4, n5, n6, n7, n8, n9, n10, n11, n12, n14, n16, n18, n21, n22, n36, n48, n63, n100, n108, n400, n1000, pk_mul, nI_add, pk_div, nI_subm, nI_ltE, nI_leE, nI_eqE, nI_clamp, vp_inE, nIm1, nIm1', nIm1n, nIm1n', nI_addn]
      rw [show k - k / 6 * 6 = k % 6 by omega]
    have ed : (7 : Int32) * (nI k / 6) + nI i = nI (7 * (k / 6) + i) := by simp (disch := omega) only [n0, n1, n2, n3, n4, n5, n6, n7, n8, n9, n10, n11, n12, n14, n16, n18, n21, n22, n36, n48, n63, n100, n108, n400, n1000, pk_mul, nI_add, pk_div, nI_subm, nI_ltE, nI_leE, nI_eqE, nI_clamp, vp_inE, nIm1, nIm1', nIm1n, nIm1n', nI_addn]
    rw [em, ed, show (nI k : Int32) + 1 = nI (k + 1) from nI_add k 1, show (nI i : Int32) + 1 = nI (i + 1) from nI_add i 1, show (7 : Int32) = nI 7 from rfl, nI_leE (by omega) (by omega), vp_inE (by omega) (by omega), nI_clamp (by omega)]
    refine ⟨fun q2 => ?_, fun q2 => s_isFirstEdge hl hS (by omega) ?_⟩
    · rw [show i = 7 by omega]; exact ih
    · have ihi := ihi (by omega)
      unfold eu1 sumN at ihi
      rw [← Nat.add_assoc, ← nI_add] at ihi
      by_cases e : eL L k = k
      · rw [if_pos e]
        refine ⟨fun q3 => absurd q3 (by decide), fun _ => s_meets hR'.2.1 (by omega) (by omega) (fun m => ⟨fun q3 => absurd q3 (by decide), fun _ => ⟨by omega, ?_⟩⟩) (fun m => ⟨fun _ => ?_, fun q3 => absurd rfl q3⟩)⟩
        · rw [if_pos ⟨e, m⟩] at ihi
          rw [hR'.2.2.2.2 _ (show 7 * (k / 6) + i < 21 by omega)]
          exact ihi
        · rw [if_neg (fun q => by rw [m] at q; exact absurd q.2 (by decide))] at ihi
          exact ihi
      · rw [if_neg e]
        refine ⟨fun _ => ?_, fun q3 => absurd rfl q3⟩
        have z : eu1 a L k i = 0 := eu1_none e i
        have z7 : eu1 a L k 7 = 0 := eu1_none e 7
        unfold eu1s sumN at ih
        rw [z7] at ih
        rw [z]
        exact ih
