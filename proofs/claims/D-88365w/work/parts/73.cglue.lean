/-! the component: glue -/
theorem one_bit (x : Int32) {k : Nat} (hk : k < 32) : ((x >>> (nI k &&& 31)) &&& 1) = 1 ↔ bt x k = true := by
  have e : (x >>> (nI k &&& 31)) &&& 1 = if bt x k = true then 1 else 0 := by
    refine b_ext (fun i hi => ?_)
    rw [b_and, b_sshr k hk x hi, bt_1 i hi]
    by_cases c : i = 0
    · subst c
      rw [if_pos (by omega)]
      cases bt x (k + 0) with
      | false => simp [show k + 0 = k from rfl]; rw [b_0]
      | true => simp [show k + 0 = k from rfl]; rw [bt_1 0 (by decide)]; rfl
    · rw [decide_eq_false c, Bool.and_false]
      by_cases c2 : bt x k = true
      · rw [if_pos c2, bt_1 i hi, decide_eq_false c]
      · rw [if_neg c2, b_0]
  rw [e]
  by_cases c : bt x k = true
  · rw [if_pos c]; exact ⟨fun _ => c, fun _ => rfl⟩
  · rw [if_neg c]; exact ⟨fun q => absurd q (by decide), fun q => absurd q c⟩
theorem map_at0 : ∀ m : Fin 64, ∀ i : Fin 3, ((nI m.val >>> (((2 : Int32) * nI i.val) &&& 31)) &&& 3) = nI (if i.val = 0 then m.val % 4 else if i.val = 1 then m.val / 4 % 4 else m.val / 16) := by decide +kernel
theorem map_at {m i : Nat} (hm : m < 64) (hi : i < 3) : ((nI m >>> (((2 : Int32) * nI i) &&& 31)) &&& 3) = nI (if i = 0 then m % 4 else if i = 1 then m / 4 % 4 else m / 16) := map_at0 ⟨m, hm⟩ ⟨i, hi⟩
theorem mapOk_of {f g m : Nat} (hf : f < 4) (h1 : ∀ c, c < 4 → c ≠ f → mp f g m c ≠ g) (h2 : ∀ c c', c < 4 → c' < 4 → mp f g m c = mp f g m c' → c = c') : mapOk g m := by
  have hf' : f = 0 ∨ f = 1 ∨ f = 2 ∨ f = 3 := by omega
  unfold mapOk
  rcases hf' with rfl | rfl | rfl | rfl
  · have a1 := h1 1 (by decide) (by decide)
    have a2 := h1 2 (by decide) (by decide)
    have a3 := h1 3 (by decide) (by decide)
    have b1 := h2 1 2 (by decide) (by decide)
    have b2 := h2 1 3 (by decide) (by decide)
    have b3 := h2 2 3 (by decide) (by decide)
    simp [mp] at a1 a2 a3 b1 b2 b3
    omega
  · have a1 := h1 0 (by decide) (by decide)
    have a2 := h1 2 (by decide) (by decide)
    have a3 := h1 3 (by decide) (by decide)
    have b1 := h2 0 2 (by decide) (by decide)
    have b2 := h2 0 3 (by decide) (by decide)
    have b3 := h2 2 3 (by decide) (by decide)
    simp [mp] at a1 a2 a3 b1 b2 b3
    omega
  · have a1 := h1 0 (by decide) (by decide)
    have a2 := h1 1 (by decide) (by decide)
    have a3 := h1 3 (by decide) (by decide)
    have b1 := h2 0 1 (by decide) (by decide)
    have b2 := h2 0 3 (by decide) (by decide)
    have b3 := h2 1 3 (by decide) (by decide)
    simp [mp] at a1 a2 a3 b1 b2 b3
    omega
  · have a1 := h1 0 (by decide) (by decide)
    have a2 := h1 1 (by decide) (by decide)
    have a3 := h1 2 (by decide) (by decide)
    have b1 := h2 0 1 (by decide) (by decide)
    have b2 := h2 0 2 (by decide) (by decide)
    have b3 := h2 1 2 (by decide) (by decide)
    simp [mp] at a1 a2 a3 b1 b2 b3
    omega
theorem mp_f (f g m : Nat) : mp f g m f = g := by unfold mp; rw [if_pos rfl]
theorem up_at {α : Type} (f : Nat → α) (k : Nat) (v : α) : va_up f k v k = v := by simp [va_up]
theorem up_ne {α : Type} (f : Nat → α) {k i : Nat} (v : α) (h : i ≠ k) : va_up f k v i = f i := by simp [va_up, h]
/-- a new glue is laid at a place -/
theorem c_initG {S : CS} {q a3 : Nat} {x1 x2 : Int32} (hq : pk S q 4) {post : CS → Prop} (h : ∀ S', kLP S' = kLP S → (∀ p, p ≠ q → kK S' p = kK S p ∧ kG S' p = kG S p) → kK S' q = 0 → kG S' q = (x1, x2, a3) → kN S' = kN S → kT S' = kT S → kO S' = kO S → kR S' = kR S → kGl S' = kGl S → kA S' = kA S → kF S' = kF S → kI S' = kI S → post S') : C_initG q x1 x2 a3 S post := by
  apply C_initG_ok
  unfold C_initG_VC C_initG_w0
  have u : ∀ (T : CS) (d : Int32 × Int32 × Nat), pk T q 4 → pk (tG T q 4 d) q 4 := fun T d ht => ⟨ht.1, up_at _ _ _⟩
  refine ⟨hq, u _ _ hq, u _ _ (u _ _ hq), h _ rfl (fun p hp => ⟨?_, ?_⟩) (up_at _ _ _) ?_ rfl rfl rfl rfl rfl rfl rfl rfl⟩
  · show va_up (va_up (va_up (kK S) q 4) q 4) q 0 p = kK S p
    rw [up_ne _ _ hp, up_ne _ _ hp, up_ne _ _ hp]
  · show va_up (va_up (va_up (kG S) q _) q _) q _ p = kG S p
    rw [up_ne _ _ hp, up_ne _ _ hp, up_ne _ _ hp]
  · show va_up (va_up (va_up (kG S) q _) q _) q _ q = _
    rw [up_at]
    show ((va_up (va_up (kG S) q _) q _ q).1, (va_up (va_up (kG S) q _) q _ q).2.1, a3) = _
    rw [up_at]
    show ((va_up (kG S) q (x1, (kG S q).2) q).1, x2, a3) = _
    rw [up_at]
theorem c_glue {κ : Prop} {a : Ab} (ha : AWf a) {S : CS} (hI : CI κ a S) {x1 x2 x3 x4 x5 : Int32} {post : Int32 → CS → Prop} (h0 : ¬ gOk a x1 x2 x3 x4 x5 → ∀ S', CI κ a S' → post (-2) S') (h1 : gOk a x1 x2 x3 x4 x5 → (aG a (sdN x1 x2) ≠ none ∨ aG a (sdN x3 x4) ≠ none) → ∀ S', CI κ a S' → post (-3) S')
    (h2 : gOk a x1 x2 x3 x4 x5 → aG a (sdN x1 x2) = none → aG a (sdN x3 x4) = none → ∀ S', CI False (ab_glue a x1.toNatClampNeg x2.toNatClampNeg x3.toNatClampNeg x4.toNatClampNeg x5.toNatClampNeg) S' → post 1 S') : C_glue x1 x2 x3 x4 x5 S post := by
  apply C_glue_ok
  intro T r
  have hP := ha.1
  unfold C_glue_w0 C_glue_w42 C_glue_w53
  refine c_isPiece hI.1.1 hP (fun i1 => ⟨fun c => absurd c (by decide), fun _ => ?_⟩) (fun q => ⟨fun _ => h0 (fun k => q k.1.1) S hI, fun c => absurd rfl c⟩)
  refine c_isCorner (fun i2 => ⟨fun c => absurd c (by decide), fun _ => ?_⟩) (fun q => ⟨fun _ => h0 (fun k => q k.1.2) S hI, fun c => absurd rfl c⟩)
  refine c_isPiece hI.1.1 hP (fun i3 => ⟨fun c => absurd c (by decide), fun _ => ?_⟩) (fun q => ⟨fun _ => h0 (fun k => q k.2.1.1) S hI, fun c => absurd rfl c⟩)
  refine c_isCorner (fun i4 => ⟨fun c => absurd c (by decide), fun _ => ?_⟩) (fun q => ⟨fun _ => h0 (fun k => q k.2.1.2) S hI, fun c => absurd rfl c⟩)
  have main : ¬ (x1 = x3 ∧ x2 = x4) → C_isIn x5 0 63 S (fun r1 S1 => ((¬ r1 = 0 → (∀ q2 : Nat, q2 ∉ kLP S1 → (fun S2 => (∀ q3 : Nat, q3 ∉ kLP S2 → (fun S3 => T x1 x2 x3 x4 x5 q2 q3 (1 <<< (x4 &&& 31)) 0 0 S3) (nT S2 q3 (4 : Int32).toNatClampNeg))) (nT S1 q2 (4 : Int32).toNatClampNeg))) ∧ (r1 = 0 → post (-2) S1))) := by
    intro hne
    apply c_isIn
    by_cases i5 : inN x5 64
    · rw [if_pos (in63.mpr i5)]
      refine ⟨fun _ q2 hq2 q3 hq3 => ?_, fun c => absurd c (by decide)⟩
      obtain ⟨p, hp, rfl⟩ := i1
      obtain ⟨f, hf, rfl⟩ := i2
      obtain ⟨q, hq, rfl⟩ := i3
      obtain ⟨g, hg, rfl⟩ := i4
      obtain ⟨m, hm, rfl⟩ := i5
      unfold sdN at h1 h2
      unfold gOk at h0 h1 h2
      rw [nI_clamp (n := p) (by omega), nI_clamp (n := f) (by omega), nI_clamp (n := q) (by omega), nI_clamp (n := g) (by omega), nI_clamp (n := m) (by omega)] at h2
      rw [nI_clamp (n := p) (by omega), nI_clamp (n := f) (by omega), nI_clamp (n := q) (by omega), nI_clamp (n := g) (by omega), nI_clamp (n := m) (by omega)] at h1
      rw [nI_clamp (n := g) (by omega), nI_clamp (n := m) (by omega)] at h0
      rw [nI_eqE (by omega) (by omega), nI_eqE (by omega) (by omega)] at h0 h1 h2 hne
      have hst : 4 * p + f + 1 ≤ 4 * q + g ∨ 4 * q + g + 1 ≤ 4 * p + f := by omega
      have good : mapOk g m → (sideP a (nI p) (nI f) ∧ sideP a (nI q) (nI g) ∧ inN (nI m) 64 ∧ ¬ (p = q ∧ f = g) ∧ mapOk g m) := fun hok => ⟨⟨⟨p, hp, rfl⟩, ⟨f, hf, rfl⟩⟩, ⟨⟨q, hq, rfl⟩, ⟨g, hg, rfl⟩⟩, ⟨m, hm, rfl⟩, hne, hok⟩
      have hq2' : q2 ∉ kLP S := hq2
      have hq3' : q3 ∉ kLP S := fun h => hq3 (List.mem_append_left _ h)
      have hq23 : q2 ≠ q3 := fun e => hq3 (by rw [← e]; exact List.mem_append_right _ (List.mem_singleton.mpr rfl))
      have epf : (4 * p + f) / 4 = p ∧ (4 * p + f) % 4 = f := by omega
      have eqg : (4 * q + g) / 4 = q ∧ (4 * q + g) % 4 = g := by omega
      suffices K : ∀ c, c ≤ 4 → ∀ S' x, extC S S' → pk S' q2 1 → pk S' q3 1 → kN S' q2 = 4 → kN S' q3 = 4 → isSet x (fun i => i = g ∨ ∃ c', c' < c ∧ mp f g m c' = i) → (∀ c', c' < c → c' ≠ f → mp f g m c' ≠ g) → (∀ c' c'', c' < c → c'' < c → mp f g m c' = mp f g m c'' → c' = c'') → (∀ c', c' < c → kT S' q2 c' = nI (mp f g m c') ∧ kT S' q3 (mp f g m c') = nI c') → T (nI p) (nI f) (nI q) (nI g) (nI m) q2 q3 x (nI (ixN f c)) (nI c) S' by
        have e4 : (4 : Int32).toNatClampNeg = 4 := rfl
        rw [e4]
        refine K 0 (by omega) _ _ (extC_nT hq3 (extC_nT hq2 extC_rf)) ⟨List.mem_append_left _ (List.mem_append_right _ (List.mem_singleton.mpr rfl)), ?_⟩ ⟨List.mem_append_right _ (List.mem_singleton.mpr rfl), up_at _ _ _⟩ ?_ (up_at _ _ _) (isSet_cg (fun i _ => ⟨fun e => Or.inl e, fun e => e.elim id (fun ⟨c', h, _⟩ => absurd h (Nat.not_lt_zero _))⟩) (isSet_one (show g < 32 by omega))) (fun c' h => absurd h (Nat.not_lt_zero _)) (fun c' c'' h => absurd h (Nat.not_lt_zero _)) (fun c' h => absurd h (Nat.not_lt_zero _))
        · show va_up (va_up (kK S) q2 1) q3 1 q2 = 1
          rw [up_ne _ _ hq23, up_at]
        · show va_up (va_up (kN S) q2 4) q3 4 q2 = 4
          rw [up_ne _ _ hq23, up_at]
      refine loopUp (P := fun c => ∀ S' x, extC S S' → pk S' q2 1 → pk S' q3 1 → kN S' q2 = 4 → kN S' q3 = 4 → isSet x (fun i => i = g ∨ ∃ c', c' < c ∧ mp f g m c' = i) → (∀ c', c' < c → c' ≠ f → mp f g m c' ≠ g) → (∀ c' c'', c' < c → c'' < c → mp f g m c' = mp f g m c'' → c' = c'') → (∀ c', c' < c → kT S' q2 c' = nI (mp f g m c') ∧ kT S' q3 (mp f g m c') = nI c') → T (nI p) (nI f) (nI q) (nI g) (nI m) q2 q3 x (nI (ixN f c)) (nI c) S') 4 (fun c hc ih S' x k1 k2 k3 k4 k5 k6 k7 k8 k9 => ?_)
      apply r
      have hix := ixN_spec f c
      have hix1 := ixN_spec f (c + 1)
      have hIx := CI_ext hI k1
      have step : c < 4 → (c ≠ f → mp f g m c ≠ g ∧ ∀ c', c' < c → mp f g m c' ≠ mp f g m c) → (c = f → ∀ c', c' < c → mp f g m c' ≠ mp f g m c) → ∀ i, i = ixN f (c + 1) → C_glue_w142 post T (nI p) (nI f) (nI q) (nI g) (nI m) q2 q3 x (nI i) (nI c) (nI (mp f g m c)) S' := by
        intro hc4 hd1 hd2 i hi
        have l := mp_lt (x := c) hf hg hm
        have hd : ∀ c', c' < c → mp f g m c' ≠ mp f g m c := fun c' hc' => by
          by_cases e : c = f
          · exact hd2 e c' hc'
          · exact (hd1 e).2 c' hc'
        unfold C_glue_w142
        simp only [k4]
        have k5' : kN (tT S' q2 (nI c).toNatClampNeg (nI (mp f g m c))) q3 = 4 := k5
        rw [k5', vp_inE (by omega) (by omega), vp_inE (by omega) (by omega), nI_clamp (by omega), nI_clamp (by omega), show (nI c : Int32) + 1 = nI (c + 1) from nI_add c 1, hi]
        refine ⟨k2, by omega, k3, by omega, ih hc4 _ _ (extC_tT hq3' (extC_tT hq2' k1)) k2 k3 k4 k5 (isSet_cg (fun i _ => ?_) (isSet_or k6 (isSet_one (show mp f g m c < 32 by omega)))) (fun c' h3 h4 => ?_) (fun c' c'' h3 h4 h5 => ?_) (fun c' h3 => ?_)⟩
        · constructor
          · rintro ((e | ⟨c', e1, e2⟩) | e)
            · exact Or.inl e
            · exact Or.inr ⟨c', by omega, e2⟩
            · exact Or.inr ⟨c, by omega, e.symm⟩
          · rintro (e | ⟨c', e1, e2⟩)
            · exact Or.inl (Or.inl e)
            · by_cases e : c' = c
              · rw [e] at e2; exact Or.inr e2.symm
              · exact Or.inl (Or.inr ⟨c', by omega, e2⟩)
        · by_cases e : c' = c
          · rw [e] at h4 ⊢; exact (hd1 h4).1
          · exact k7 c' (by omega) h4
        · by_cases e : c' = c
          · by_cases e' : c'' = c
            · rw [e, e']
            · rw [e] at h5
              exact absurd h5.symm (hd c'' (by omega))
          · by_cases e' : c'' = c
            · rw [e'] at h5
              exact absurd h5 (hd c' (by omega))
            · exact k8 c' c'' (by omega) (by omega) h5
        · have z1 : ∀ j, kT (tT (tT S' q2 c (nI (mp f g m c))) q3 (mp f g m c) (nI c)) q2 j = if j = c then nI (mp f g m c) else kT S' q2 j := fun j => by
            show va_up (va_up (kT S') q2 (upd (kT S' q2) c (nI (mp f g m c)))) q3 _ q2 j = _
            rw [up_ne _ _ hq23, up_at]
            by_cases e : j = c <;> simp [upd, e]
          have z2 : ∀ j, kT (tT (tT S' q2 c (nI (mp f g m c))) q3 (mp f g m c) (nI c)) q3 j = if j = mp f g m c then nI c else kT S' q3 j := fun j => by
            show va_up (va_up (kT S') q2 (upd (kT S' q2) c (nI (mp f g m c)))) q3 (upd (va_up (kT S') q2 _ q3) (mp f g m c) (nI c)) q3 j = _
            rw [up_at, up_ne _ _ (Ne.symm hq23)]
            by_cases e : j = mp f g m c <;> simp [upd, e]
          rw [z1, z2]
          by_cases e : c' = c
          · rw [e, if_pos rfl, if_pos rfl]; exact ⟨rfl, rfl⟩
          · rw [if_neg e, if_neg (hd c' (by omega))]
            exact k9 c' (by omega)
      have fin : c = 4 → mapOk g m := fun e4 => mapOk_of hf (fun c' h3 h4 => k7 c' (by omega) h4) (fun c' c'' h3 h4 => k8 c' c'' (by omega) (by omega))
      unfold C_glue_w78 C_glue_w104 C_glue_w119 C_glue_w194
      rw [show (4 : Int32) = nI 4 from rfl, nI_leE (by omega) (by omega), nI_eqE (a := c) (b := f) (by omega) (by omega), nI_clamp (n := p) (by omega), nI_clamp (n := f) (by omega), nI_clamp (n := q) (by omega), nI_clamp (n := g) (by omega)]
      have n0a : c ≠ f → (nI (ixN f c) : Int32) + 1 = nI (ixN f (c + 1)) := fun e => by
        rw [show (nI (ixN f c) : Int32) + 1 = nI (ixN f c + 1) from nI_add _ 1]
        congr 1
        omega
      have n0b : c = f → (nI (ixN f c) : Int32) + 0 = nI (ixN f (c + 1)) := fun e => by
        rw [Int32.add_zero]
        congr 1
        omega
      refine ⟨fun q4 => ?_, fun q4 => ⟨fun q5 => ⟨fun _ => ?_, fun q6 => absurd q6 q5⟩, fun q5 => ⟨fun q6 => absurd q5 q6, fun _ => ⟨fun _ => ?_, fun q6 => absurd q5 q6⟩⟩⟩⟩
      · have e4 : c = 4 := by omega
        have hok := fin e4
        have h1 := h1 (good hok)
        have h2 := h2 (good hok)
        have g0 : ∀ s, s < 4 * aP a → (kGl S' (s / 4) (s % 4) = none ↔ aG a s = none) := fun s hs => by
          cases e : aG a s with
          | none => exact ⟨fun _ => rfl, fun _ => CR_none hIx.1 hs e⟩
          | some t =>
            obtain ⟨gg, g1, _⟩ := CR_some hIx.1 hs e
            exact ⟨fun z => absurd (g1.symm.trans z) (by simp), fun z => absurd z (by simp)⟩
        have gp := g0 (4 * p + f) (by omega)
        have gq := g0 (4 * q + g) (by omega)
        rw [epf.1, epf.2] at gp
        rw [eqg.1, eqg.2] at gq
        rw [vp_inE (by omega) (by omega), vp_inE (by omega) (by omega), vp_inE (by omega) (by omega), vp_inE (by omega) (by omega)]
        refine ⟨by omega, by omega, fun gg hgg => h1 (Or.inl (fun z => absurd ((gp.mpr z).symm.trans hgg) (by simp))) S' hIx, fun z1 => ⟨by omega, by omega, fun z2 => ⟨by omega, fun q6 hq6 => ?_⟩, fun gg hgg => h1 (Or.inr (fun z => absurd ((gq.mpr z).symm.trans hgg) (by simp))) S' hIx⟩⟩
        have h2 := h2 (gp.mp z1) (gq.mp z2)
        have in2 : q2 ∈ kLP S' := k2.1
        have in3 : q3 ∈ kLP S' := k3.1
        have n62 : q6 ≠ q2 := fun e => hq6 (e ▸ in2)
        have n63 : q6 ≠ q3 := fun e => hq6 (e ▸ in3)
        refine c_initG ⟨List.mem_append_right _ (List.mem_singleton.mpr rfl), up_at _ _ _⟩ (fun S7 a1 a2 a3 a4 a5 a6 a7 a8 a9 a10 a11 a12 => ?_)
        have in6 : q6 ∈ kLP S7 := by rw [a1]; exact List.mem_append_right _ (List.mem_singleton.mpr rfl)
        refine ⟨by omega, ⟨in6, a3⟩, by omega, fun q10 hq10 => ?_⟩
        have hq10 : q10 ∉ kLP S7 := hq10
        have n106 : q10 ≠ q6 := fun e => hq10 (e ▸ in6)
        have n10 : ∀ z, z ∈ kLP S' → z ≠ q10 := fun z hz e => hq10 (by rw [a1]; exact List.mem_append_left _ (e ▸ hz))
        have n6 : ∀ z, z ∈ kLP S' → z ≠ q6 := fun z hz e => hq6 (e ▸ hz)
        refine c_initG ⟨List.mem_append_right _ (List.mem_singleton.mpr rfl), up_at _ _ _⟩ (fun S11 b1 b2 b3 b4 b5 b6 b7 b8 b9 b10 b11 b12 => ?_)
        have in10 : q10 ∈ kLP S11 := by rw [b1]; exact List.mem_append_right _ (List.mem_singleton.mpr rfl)
        refine ⟨by omega, ⟨in10, b3⟩, c_changed (h2 _ ?_)⟩
        -- what holds at the end
        have old : ∀ z, z ∈ kLP S' → z ∈ kLP S11 ∧ kK S11 z = kK S' z ∧ kG S11 z = kG S' z ∧ kN S11 z = kN S' z ∧ kT S11 z = kT S' z ∧ kO S11 z = kO S' z ∧ kR S11 z = kR S' z := fun z hz => by
          refine ⟨?_, ?_, ?_, ?_, ?_, ?_, ?_⟩
          · rw [b1]; refine List.mem_append_left _ ?_; show z ∈ kLP S7; rw [a1]; exact List.mem_append_left _ hz
          · rw [(b2 z (n10 z hz)).1]; show va_up (kK S7) q10 4 z = _; rw [up_ne _ _ (n10 z hz), (a2 z (n6 z hz)).1]; show va_up (kK S') q6 4 z = _; rw [up_ne _ _ (n6 z hz)]
          · rw [(b2 z (n10 z hz)).2]; show va_up (kG S7) q10 _ z = _; rw [up_ne _ _ (n10 z hz), (a2 z (n6 z hz)).2]; show va_up (kG S') q6 _ z = _; rw [up_ne _ _ (n6 z hz)]
          · rw [b5]; show kN S7 z = _; rw [a5]; rfl
          · rw [b6]; show kT S7 z = _; rw [a6]; rfl
          · rw [b7]; show kO S7 z = _; rw [a7]; rfl
          · rw [b8]; show kR S7 z = _; rw [a8]; rfl
        have g6 : kK S11 q6 = 0 ∧ kG S11 q6 = (nI q, nI g, q2) := by
          refine ⟨?_, ?_⟩
          · rw [(b2 q6 (Ne.symm n106)).1]; show va_up (kK S7) q10 4 q6 = 0; rw [up_ne _ _ (Ne.symm n106)]; exact a3
          · rw [(b2 q6 (Ne.symm n106)).2]; show va_up (kG S7) q10 _ q6 = _; rw [up_ne _ _ (Ne.symm n106)]; exact a4
        have eA : kA S11 = kA S' := by rw [b10]; show kA S7 = _; rw [a10]; rfl
        have eF : kF S11 = kF S' := by rw [b11]; show kF S7 = _; rw [a11]; rfl
        have eI : kI S11 = kI S' := by rw [b12]; show kI S7 = _; rw [a12]; rfl
        have eGl : ∀ u w, kGl S11 u w = if u = p ∧ w = f then some q6 else kGl S' u w := fun u w => by
          rw [b9]
          show kGl (tGl S7 p f (some q6)) u w = _
          rw [kGl_tGl, a9]
          rfl
        have pe : poolE S' (tF (tGl S11 q g (some q10)) 10 0) := ⟨old, eA⟩
        have in611 : q6 ∈ kLP S11 := by rw [b1]; exact List.mem_append_left _ in6
        have o2 := old q2 in2
        have o3 := old q3 in3
        refine ⟨⟨?_, fun s hs => ?_, fun i hi => ?_⟩, arC_pool hIx.2.1 pe, Or.inl ⟨by rw [kF_tF, if_pos rfl], id⟩⟩
        · rw [kF_tF, if_neg (by decide)]
          show kF S11 1 = _
          rw [eF]
          exact hIx.1.1
        · have hs : s < 4 * aP a := hs
          have kl : kGl (tF (tGl S11 q g (some q10)) 10 0) (s / 4) (s % 4) = if s / 4 = q ∧ s % 4 = g then some q10 else if s / 4 = p ∧ s % 4 = f then some q6 else kGl S' (s / 4) (s % 4) := by
            show kGl (tGl S11 q g (some q10)) (s / 4) (s % 4) = _
            rw [kGl_tGl, eGl]
          by_cases c1 : s = 4 * p + f
          · unfold glR
            rw [show aG (ab_glue a p f q g m) s = some (4 * q + g) from if_pos c1, kl, if_neg (by omega), if_pos (by omega)]
            refine ⟨q6, rfl, ⟨in611, g6.1⟩, ?_, ?_, ?_, ?_, fun c' hc' => ?_⟩
            · show (kG S11 q6).1 = _; rw [g6.2, eqg.1]
            · show (kG S11 q6).2.1 = _; rw [g6.2, eqg.2]
            · show pk S11 (kG S11 q6).2.2 1; rw [g6.2]; exact ⟨o2.1, by show kK S11 q2 = 1; rw [o2.2.1]; exact k2.2⟩
            · show kN S11 (kG S11 q6).2.2 = 4; rw [g6.2]; show kN S11 q2 = 4; rw [o2.2.2.2.1]; exact k4
            · show kT S11 (kG S11 q6).2.2 c' = _
              rw [g6.2]
              show kT S11 q2 c' = nI (if s = 4 * p + f then mp f g m c' else _)
              rw [if_pos c1, o2.2.2.2.2.1]
              exact (k9 c' (by omega)).1
          · by_cases c2 : s = 4 * q + g
            · unfold glR
              rw [show aG (ab_glue a p f q g m) s = some (4 * p + f) from (if_neg c1).trans (if_pos c2), kl, if_pos (by omega)]
              refine ⟨q10, rfl, ⟨in10, b3⟩, ?_, ?_, ?_, ?_, fun c' hc' => ?_⟩
              · show (kG S11 q10).1 = _; rw [b4, epf.1]
              · show (kG S11 q10).2.1 = _; rw [b4, epf.2]
              · show pk S11 (kG S11 q10).2.2 1; rw [b4]; exact ⟨o3.1, by show kK S11 q3 = 1; rw [o3.2.1]; exact k3.2⟩
              · show kN S11 (kG S11 q10).2.2 = 4; rw [b4]; show kN S11 q3 = 4; rw [o3.2.2.2.1]; exact k5
              · show kT S11 (kG S11 q10).2.2 c' = _
                rw [b4]
                show kT S11 q3 c' = nI (if s = 4 * p + f then _ else if s = 4 * q + g then im f g m c' else _)
                rw [if_neg c1, if_pos c2, o3.2.2.2.2.1]
                have l := im_lt (f := f) (g := g) (m := m) (y := c')
                have := (k9 (im f g m c') (by omega)).2
                rw [mp_im hf hg hm hok hc'] at this
                exact this
            · refine glR_tr (a := a) (S := S') ((if_neg c1).trans (if_neg c2)) (fun c' => ?_) ?_ pe (hIx.1.2.1 s hs)
              · show (if s = 4 * p + f then mp f g m c' else if s = 4 * q + g then im f g m c' else aW a s c') = _
                rw [if_neg c1, if_neg c2]
              · rw [kl, if_neg (by omega), if_neg (by omega)]
        · show kI S11 13 i = _
          rw [eI]
          exact hIx.1.2.2 i hi
      · rw [n0a q5, map_at hm (by omega), ← mp_idx (g := g) q5]
        have l := mp_lt (x := c) hf hg hm
        rw [one_bit x (by omega), k6 _ (by omega)]
        refine ⟨fun z => absurd z q5, fun _ => ⟨fun z => step (by omega) (fun _ => ⟨fun e => z (Or.inl e), fun c' hc' e => z (Or.inr ⟨c', hc', e⟩)⟩) (fun e => absurd e q5) _ rfl, fun z => h0 (fun k => ?_) S' hIx⟩⟩
        have hok := k.2.2.2.2
        rcases z with z | ⟨c', h3, h4⟩
        · rw [← mp_f f g m] at z
          have z : mp f g m c = mp f g m f := by
            rw [mp_f f g m] at z ⊢
            exact z
          exact q5 (mp_inj hf hok (by omega) hf z)
        · have := mp_inj hf hok (by omega) (by omega) h4
          omega
      · rw [n0b q5]
        have e : mp f g m c = g := by rw [q5]; exact mp_f f g m
        have st := step (by omega) (fun z => absurd q5 z) (fun _ c' hc' => by rw [e]; exact k7 c' hc' (by omega)) _ rfl
        rw [e] at st
        exact st
    · rw [if_neg (fun q => i5 (in63.mp q))]
      exact ⟨fun c => absurd rfl c, fun _ => h0 (fun k => i5 k.2.2.1) S hI⟩
  refine ⟨fun c => main (fun z => c z.1), fun c => ⟨fun c2 => h0 (fun k => k.2.2.2.1 ⟨c, c2⟩) S hI, fun c2 => main (fun z => c2 z.2)⟩⟩
