/-! the component: sets() -/
theorem newSet {a : Ab} (ha : AWf a) {L : Lb} (hl : labs a L) {f0 H : Nat} {sg sg2 : Nat → Option Bool} {Q : Nat → Nat} (g3 : ∀ p, p < aP a → (sg p ≠ none ↔ L.2.2 p < f0)) (c2 : L.2.2 f0 = f0) (hf : f0 < aP a) (m3 : ∀ p, sg p ≠ none → sg2 p = sg p) {K : Nat → Prop} (m5 : ∀ j, j < H → K j ∧ Q j < aP a ∧ sg2 (Q j) ≠ none ∧ sg (Q j) = none ∧ L.2.2 (Q j) = f0) (m6 : ∀ p, p < aP a → sg2 p ≠ none → sg p = none → ∃ j, j < H ∧ Q j = p) (m8 : ∀ j f t, j < H → f < 4 → aG a (4 * Q j + f) = some t → sg2 (t / 4) ≠ none) (m12 : sg2 f0 ≠ none) : ∀ p, p < aP a → (sg2 p ≠ none ↔ L.2.2 p < f0 + 1) := by
  have hP := ha.1
  intro p hp
  constructor
  · intro z
    by_cases y : sg p = none
    · obtain ⟨j, j1, j2⟩ := m6 p hp z y
      have := (m5 j j1).2.2.2.2
      rw [j2] at this
      omega
    · have := (g3 p hp).mp y
      omega
  · intro z
    by_cases y : L.2.2 p < f0
    · have := (g3 p hp).mpr y
      rw [m3 p this]; exact this
    · have hcx : cnx (lk8 a) f0 p := by
        have := hl.2.2.2.1 p (by omega)
        rw [show L.2.2 p = f0 by omega] at this
        exact cnx_sy this
      have fwd : ∀ u v, lk8 a u v → (u < aP a ∧ sg2 u ≠ none) → (v < aP a ∧ sg2 v ≠ none) := by
        rintro u v ⟨s, t, hs, ht, rfl, rfl⟩ ⟨h1, h2⟩
        have htl := (ha.2.1 s t hs ht).1
        refine ⟨by omega, ?_⟩
        by_cases y2 : sg (s / 4) = none
        · obtain ⟨j, j1, j2⟩ := m6 _ h1 h2 y2
          exact m8 j (s % 4) t j1 (by omega) (by rw [j2, show 4 * (s / 4) + s % 4 = s by omega]; exact ht)
        · have l1 := (g3 _ h1).mp y2
          have l2 := hl.2.2.2.2 _ _ ⟨s, t, hs, ht, rfl, rfl⟩
          have := (g3 (t / 4) (by omega)).mpr (by omega)
          rw [m3 _ this]; exact this
      exact (hcx (fun q => q < aP a ∧ sg2 q ≠ none) ⟨hf, m12⟩ (fun u v e => ⟨fwd u v e, fwd v u (lk8_sy ha e).2.2⟩)).2
theorem newFlag {a : Ab} (ha : AWf a) {L : Lb} (hl : labs a L) {f0 H : Nat} {sg sg2 : Nat → Option Bool} {Q : Nat → Nat} {b b2 : Bool} (g3 : ∀ p, p < aP a → (sg p ≠ none ↔ L.2.2 p < f0)) (g6 : b = true ↔ ∀ s, s < 4 * aP a → sg (s / 4) ≠ none → cons a sg s) (m3 : ∀ p, sg p ≠ none → sg2 p = sg p) {K : Nat → Prop} (m5 : ∀ j, j < H → K j ∧ Q j < aP a ∧ sg2 (Q j) ≠ none ∧ sg (Q j) = none ∧ L.2.2 (Q j) = f0) (m6 : ∀ p, p < aP a → sg2 p ≠ none → sg p = none → ∃ j, j < H ∧ Q j = p) (m10 : b2 = true ↔ b = true ∧ ∀ j f, j < H → f < 4 → cons a sg2 (4 * Q j + f)) : b2 = true ↔ ∀ s, s < 4 * aP a → sg2 (s / 4) ≠ none → cons a sg2 s := by
  have hP := ha.1
  have oldc : ∀ s, s < 4 * aP a → sg (s / 4) ≠ none → (cons a sg2 s ↔ cons a sg s) := by
    intro s hs y
    have k : ∀ t, aG a s = some t → sg2 (t / 4) = sg (t / 4) := fun t ht => by
      have htl := (ha.2.1 s t hs ht).1
      have l1 := (g3 _ (show s / 4 < aP a by omega)).mp y
      have l2 := hl.2.2.2.2 _ _ ⟨s, t, hs, ht, rfl, rfl⟩
      exact m3 _ ((g3 (t / 4) (by omega)).mpr (by omega))
    constructor
    · intro w t v ht hv; rw [← k t ht]; exact w t v ht (by rw [m3 _ y]; exact hv)
    · intro w t v ht hv; rw [k t ht]; exact w t v ht (by rw [← m3 _ y]; exact hv)
  rw [m10, g6]
  constructor
  · rintro ⟨w1, w2⟩ s hs z
    by_cases y : sg (s / 4) = none
    · obtain ⟨j, j1, j2⟩ := m6 (s / 4) (by omega) z y
      have := w2 j (s % 4) j1 (by omega)
      rw [j2, show 4 * (s / 4) + s % 4 = s by omega] at this
      exact this
    · exact (oldc s hs y).mpr (w1 s hs y)
  · intro w
    refine ⟨fun s hs y => (oldc s hs y).mp (w s hs (by rw [m3 _ y]; exact y)), fun j f hj hf => ?_⟩
    obtain ⟨_, x2, x3, x4, x5⟩ := m5 j hj
    exact w _ (by omega) (by rw [show (4 * Q j + f) / 4 = Q j by omega]; exact x3)
theorem c_sets {κ : Prop} {a : Ab} (ha : AWf a) {L : Lb} (hl : labs a L) {S : CS} (hI : CI κ a S) {post : Int32 → CS → Prop} (h : ∀ S' b, CI κ a S' → kF S' 5 = zB b → (b = true ↔ evenP a) → post (nI (nS L (aP a))) S') : C_sets S post := by
  apply C_sets_ok
  intro T18 T57 T67 r18 r57 r67
  have hP := ha.1
  have l8 : ∀ x y, lk8 a x y → L.2.2 x = L.2.2 y := hl.2.2.2.2
  unfold C_sets_w0
  intro q1 hq1 q2 hq2
  have hq2' : q2 ∉ kLP S := fun z => hq2 (List.mem_append_left _ z)
  have hq12 : q1 ≠ q2 := fun e => hq2 (by rw [← e]; exact List.mem_append_right _ (List.mem_singleton.mpr rfl))
  have e3 : (3 : Int32).toNatClampNeg = 3 := rfl
  rw [e3]
  -- one set more
  have K18 : ∀ f0, f0 ≤ aP a → ∀ S' (sg : Nat → Option Bool) b, frT S S' q1 q2 → (∀ p, p < 3 → kT S' q1 p = sgo (sg p)) → (∀ p, p < aP a → (sg p ≠ none ↔ L.2.2 p < f0)) → (∀ p, aP a ≤ p → sg p = none) → kF S' 5 = zB b → (b = true ↔ ∀ s, s < 4 * aP a → sg (s / 4) ≠ none → cons a sg s) → sEq a L sg → T18 q1 q2 (nI (nS L f0)) (nI f0) S' := by
    refine loopUp (P := fun f0 => ∀ S' (sg : Nat → Option Bool) b, frT S S' q1 q2 → (∀ p, p < 3 → kT S' q1 p = sgo (sg p)) → (∀ p, p < aP a → (sg p ≠ none ↔ L.2.2 p < f0)) → (∀ p, aP a ≤ p → sg p = none) → kF S' 5 = zB b → (b = true ↔ ∀ s, s < 4 * aP a → sg (s / 4) ≠ none → cons a sg s) → sEq a L sg → T18 q1 q2 (nI (nS L f0)) (nI f0) S') (aP a) (fun f0 hf0 ih S' sg b g1 g2 g3 g4 g5 g6 g7 => ?_)
    apply r18
    have hI' := CI_ext hI g1.1
    unfold C_sets_w18 C_sets_w54
    rw [hI'.1.1, nI_leE (by omega) (by omega)]
    refine ⟨fun q => ?_, fun q => ?_⟩
    · have e : f0 = aP a := by omega
      subst e
      have all : ∀ p, p < aP a → sg p ≠ none := fun p hp => (g3 p hp).mpr (by have := hl.2.2.1 p (by omega); omega)
      refine h S' b hI' g5 (g6.trans ⟨fun hc => ?_, fun hev s hs _ t v ht hv => ?_⟩)
      · -- signs as bits
        let bt : Nat → Nat := fun p => if sg p = some true then 1 else 0
        have hbt : ∀ p, p < 3 → bitN (bt 0 + 2 * bt 1 + 4 * bt 2) p = bt p := by
          intro p hp
          have h0 : bt 0 ≤ 1 := by show (if _ then 1 else 0) ≤ 1; split <;> omega
          have h1 : bt 1 ≤ 1 := by show (if _ then 1 else 0) ≤ 1; split <;> omega
          have h2 : bt 2 ≤ 1 := by show (if _ then 1 else 0) ≤ 1; split <;> omega
          unfold bitN
          rcases (show p = 0 ∨ p = 1 ∨ p = 2 by omega) with e | e | e <;> subst e <;> simp only [Nat.pow_zero, Nat.pow_one, show (2 : Nat) ^ 2 = 4 from rfl] <;> omega
        have h0 : bt 0 ≤ 1 := by show (if _ then 1 else 0) ≤ 1; split <;> omega
        have h1 : bt 1 ≤ 1 := by show (if _ then 1 else 0) ≤ 1; split <;> omega
        have h2 : bt 2 ≤ 1 := by show (if _ then 1 else 0) ≤ 1; split <;> omega
        refine ⟨bt 0 + 2 * bt 1 + 4 * bt 2, by omega, fun s hs t ht => ?_⟩
        have htl := (ha.2.1 s t hs ht).1
        rw [hbt _ (by omega), hbt _ (by omega)]
        cases e : sg (s / 4) with
        | none => exact absurd e (all _ (by omega))
        | some v =>
          have := hc s hs (all _ (by omega)) t v ht e
          show (if sg (s / 4) = some true then 1 else 0) ≠ (if sg (t / 4) = some true then 1 else 0) ↔ evW a s
          rw [← evB_iff, e, this]
          unfold duS
          cases evB a s <;> cases v <;> simp
      · obtain ⟨w, hw, hfit⟩ := hev
        have htl := (ha.2.1 s t hs ht).1
        have ft : fitT a (fun p => bitN w p == 1) := by
          intro s' t' hs' ht'
          have k := hfit s' hs' t' ht'
          have b1 := bitN_lt w (s' / 4)
          have b2 := bitN_lt w (t' / 4)
          show ((bitN w (s' / 4) == 1) != (bitN w (t' / 4) == 1)) = evB a s'
          cases eb : evB a s' with
          | true =>
            have := k.mpr ((evB_iff a s').mp eb)
            rcases (show bitN w (s' / 4) = 0 ∨ bitN w (s' / 4) = 1 by omega) with x | x <;> rcases (show bitN w (t' / 4) = 0 ∨ bitN w (t' / 4) = 1 by omega) with y | y <;> rw [x, y] at this ⊢ <;> first | rfl | exact absurd rfl this
          | false =>
            have : ¬ bitN w (s' / 4) ≠ bitN w (t' / 4) := fun z => by
              have := (evB_iff a s').mpr (k.mp z)
              rw [eb] at this
              exact absurd this (by decide)
            rcases (show bitN w (s' / 4) = 0 ∨ bitN w (s' / 4) = 1 by omega) with x | x <;> rcases (show bitN w (t' / 4) = 0 ∨ bitN w (t' / 4) = 1 by omega) with y | y <;> rw [x, y] at this ⊢ <;> first | rfl | exact absurd (by decide) this
        have eq := g7 _ ft (s / 4) (t / 4) (by omega) (by omega) (all _ (by omega)) (all _ (by omega)) (l8 _ _ ⟨s, t, hs, ht, rfl, rfl⟩)
        have fs := ft s t hs ht
        cases e2 : sg (t / 4) with
        | none => exact absurd e2 (all _ (by omega))
        | some u =>
          rw [hv, e2] at eq
          unfold duS
          rw [← fs]
          have eq : (some v = some u ↔ (bitN w (s / 4) == 1) = (bitN w (t / 4) == 1)) := eq
          show some u = some (if ((bitN w (s / 4) == 1) != (bitN w (t / 4) == 1)) = true then !v else v)
          generalize (bitN w (s / 4) == 1) = x at eq ⊢
          generalize (bitN w (t / 4) == 1) = y at eq ⊢
          cases u <;> cases v <;> cases x <;> cases y <;> simp at eq ⊢
    · have ih := ih (by omega)
      have hnS : nS L (f0 + 1) = nS L f0 + (if L.2.2 f0 = f0 then 1 else 0) := rfl
      have hL0 := hl.2.2.1 f0 (by omega)
      rw [nI_clamp (by omega), g1.2.2.2.1, vp_inE (by omega) (by omega), g2 f0 (by omega), sgo_0]
      refine ⟨g1.2.1, by omega, fun c => ?_, fun c => ⟨g1.2.1, by omega, ?_⟩⟩
      · -- it has a sign: no new set
        apply r57
        unfold C_sets_w57
        refine ⟨fun _ => ?_, fun q3 => absurd (by decide) q3⟩
        have c2 := (g3 f0 (by omega)).mp c
        rw [show (nI f0 : Int32) + 1 = nI (f0 + 1) from nI_add f0 1]
        rw [hnS, if_neg (by omega)] at ih
        refine ih S' sg b g1 g2 (fun p hp => ?_) g4 g5 g6 g7
        rw [g3 p hp]
        refine ⟨fun z => by omega, fun z => ?_⟩
        by_cases z2 : L.2.2 p = f0
        · have := isLab_id hl.2.2 (show p < 3 by omega)
          rw [z2] at this
          omega
        · omega
      · -- a new set
        have c2 : L.2.2 f0 = f0 := by
          by_cases z : L.2.2 f0 < f0
          · exact absurd c ((g3 f0 (by omega)).mpr z)
          · omega
        rw [hnS, if_pos c2, ← nI_add] at ih
        have k2 : kN (tT S' q1 f0 1) q2 = 3 := g1.2.2.2.2
        have p2 : pk (tT S' q1 f0 1) q2 1 := g1.2.2.1
        refine ⟨p2, ?_, ?_⟩
        · rw [k2]; exact vp_in_nI (n := 0) (by decide) (by decide)
        have ez : (0 : Int32).toNatClampNeg = 0 := rfl
        rw [ez, show (0 : Int32) + 1 = nI 1 from rfl]
        -- the search
        have K57 : ∀ n H T S2 (sg2 : Nat → Option Bool) (Q : Nat → Nat) b2, H + n = 3 → H ≤ T → frT S S2 q1 q2 → (∀ p, p < 3 → kT S2 q1 p = sgo (sg2 p)) → (∀ p, sg p ≠ none → sg2 p = sg p) → (∀ p, aP a ≤ p → sg2 p = none) → (∀ j, j < T → kT S2 q2 j = nI (Q j) ∧ Q j < aP a ∧ sg2 (Q j) ≠ none ∧ sg (Q j) = none ∧ L.2.2 (Q j) = f0) → (∀ p, p < aP a → sg2 p ≠ none → sg p = none → ∃ j, j < T ∧ Q j = p) → T ≤ sumN (fun p => if sg2 p ≠ none ∧ sg p = none then 1 else 0) (aP a) → (∀ j f t, j < H → f < 4 → aG a (4 * Q j + f) = some t → sg2 (t / 4) ≠ none) → kF S2 5 = zB b2 → (b2 = true ↔ b = true ∧ ∀ j f, j < H → f < 4 → cons a sg2 (4 * Q j + f)) → sEq a L sg2 → sg2 f0 ≠ none → T57 q1 q2 (nI (nS L f0) + 1) (nI f0) (nI T) (nI H) S2 := by
          intro n
          induction n with
          | zero =>
            intro H T S2 sg2 Q b2 hH hHT m1 m2 m3 m4 m5 m6 m7 m8 m9 m10 m11 m12
            have tb := sumN_ub (f := fun p => if sg2 p ≠ none ∧ sg p = none then 1 else 0) 1 (aP a) (fun k _ => by show (if _ then 1 else 0) ≤ 1; split <;> omega)
            have e : H = T := by omega
            subst e
            apply r57
            unfold C_sets_w57
            rw [nI_leE (by omega) (by omega), show (nI f0 : Int32) + 1 = nI (f0 + 1) from nI_add f0 1]
            refine ⟨fun _ => ih S2 sg2 b2 m1 m2 ?_ m4 m9 ?_ m11, fun z => absurd (Nat.le_refl _) z⟩
            · exact newSet ha hl g3 c2 (by omega) m3 m5 m6 m8 m12
            · exact newFlag ha hl g3 g6 m3 m5 m6 m10
          | succ n ihn =>
            intro H T S2 sg2 Q b2 hH hHT m1 m2 m3 m4 m5 m6 m7 m8 m9 m10 m11 m12
            have tb := sumN_ub (f := fun p => if sg2 p ≠ none ∧ sg p = none then 1 else 0) 1 (aP a) (fun k _ => by show (if _ then 1 else 0) ≤ 1; split <;> omega)
            apply r57
            unfold C_sets_w57
            rw [nI_leE (by omega) (by omega), show (nI f0 : Int32) + 1 = nI (f0 + 1) from nI_add f0 1]
            refine ⟨fun z => ?_, fun z => ?_⟩
            · have e : H = T := by omega
              subst e
              exact ih S2 sg2 b2 m1 m2 (newSet ha hl g3 c2 (by omega) m3 m5 m6 m8 m12) m4 m9 (newFlag ha hl g3 g6 m3 m5 m6 m10) m11
            · have hHlt : H < T := by omega
              suffices K67 : ∀ f, f ≤ 4 → ∀ T S2 (sg2 : Nat → Option Bool) (Q : Nat → Nat) b2, H < T → frT S S2 q1 q2 → (∀ p, p < 3 → kT S2 q1 p = sgo (sg2 p)) → (∀ p, sg p ≠ none → sg2 p = sg p) → (∀ p, aP a ≤ p → sg2 p = none) → (∀ j, j < T → kT S2 q2 j = nI (Q j) ∧ Q j < aP a ∧ sg2 (Q j) ≠ none ∧ sg (Q j) = none ∧ L.2.2 (Q j) = f0) → (∀ p, p < aP a → sg2 p ≠ none → sg p = none → ∃ j, j < T ∧ Q j = p) → T ≤ sumN (fun p => if sg2 p ≠ none ∧ sg p = none then 1 else 0) (aP a) → (∀ j f' t, (j < H ∨ j = H ∧ f' < f) → f' < 4 → aG a (4 * Q j + f') = some t → sg2 (t / 4) ≠ none) → kF S2 5 = zB b2 → (b2 = true ↔ b = true ∧ ∀ j f', (j < H ∨ j = H ∧ f' < f) → f' < 4 → cons a sg2 (4 * Q j + f')) → sEq a L sg2 → sg2 f0 ≠ none → T67 q1 q2 (nI (nS L f0) + 1) (nI f0) (nI T) (nI H) (nI f) S2 from K67 0 (by omega) T S2 sg2 Q b2 hHlt m1 m2 m3 m4 m5 m6 m7 (fun j f' t hj => m8 j f' t (by omega)) m9 (m10.trans ⟨fun w => ⟨w.1, fun j f' hj => w.2 j f' (by omega)⟩, fun w => ⟨w.1, fun j f' hj => w.2 j f' (by omega)⟩⟩) m11 m12
              refine loopUp (P := fun f => ∀ T S2 (sg2 : Nat → Option Bool) (Q : Nat → Nat) b2, H < T → frT S S2 q1 q2 → (∀ p, p < 3 → kT S2 q1 p = sgo (sg2 p)) → (∀ p, sg p ≠ none → sg2 p = sg p) → (∀ p, aP a ≤ p → sg2 p = none) → (∀ j, j < T → kT S2 q2 j = nI (Q j) ∧ Q j < aP a ∧ sg2 (Q j) ≠ none ∧ sg (Q j) = none ∧ L.2.2 (Q j) = f0) → (∀ p, p < aP a → sg2 p ≠ none → sg p = none → ∃ j, j < T ∧ Q j = p) → T ≤ sumN (fun p => if sg2 p ≠ none ∧ sg p = none then 1 else 0) (aP a) → (∀ j f' t, (j < H ∨ j = H ∧ f' < f) → f' < 4 → aG a (4 * Q j + f') = some t → sg2 (t / 4) ≠ none) → kF S2 5 = zB b2 → (b2 = true ↔ b = true ∧ ∀ j f', (j < H ∨ j = H ∧ f' < f) → f' < 4 → cons a sg2 (4 * Q j + f')) → sEq a L sg2 → sg2 f0 ≠ none → T67 q1 q2 (nI (nS L f0) + 1) (nI f0) (nI T) (nI H) (nI f) S2) 4 (fun f hf ihf T S2 sg2 Q b2 hHlt m1 m2 m3 m4 m5 m6 m7 m8 m9 m10 m11 m12 => ?_)
              have tb := sumN_ub (f := fun p => if sg2 p ≠ none ∧ sg p = none then 1 else 0) 1 (aP a) (fun k _ => by show (if _ then 1 else 0) ≤ 1; split <;> omega)
              apply r67
              have hI2 := CI_ext hI m1.1
              obtain ⟨u1, u2, u3, u4, u5⟩ := m5 H hHlt
              unfold C_sets_w67
              rw [nI_clamp (by omega), nI_clamp (by omega), m1.2.2.2.2, u1, show (4 : Int32) = nI 4 from rfl, nI_leE (by omega) (by omega), nI_clamp (by omega), vp_inE (by omega) (by omega), vp_inE (by omega) (by omega), vp_inE (by omega) (by omega), show (nI H : Int32) + 1 = nI (H + 1) from nI_add H 1]
              refine ⟨fun z => ihn (H + 1) T S2 sg2 Q b2 (by omega) (by omega) m1 m2 m3 m4 m5 m6 m7 (fun j f' t hj hf' => m8 j f' t (by omega) hf') m9 (m10.trans ⟨fun w => ⟨w.1, fun j f' hj hf' => w.2 j f' (by omega) hf'⟩, fun w => ⟨w.1, fun j f' hj hf' => w.2 j f' (by omega) hf'⟩⟩) m11 m12, fun z => ⟨m1.2.2.1, by omega, by omega, by omega, ?_⟩⟩
              have ihf := ihf (by omega)
              have hs : 4 * Q H + f < 4 * aP a := by omega
              have e1 : (4 * Q H + f) / 4 = Q H := by omega
              have e2 : (4 * Q H + f) % 4 = f := by omega
              -- the flag behind this side
              have nxt : ∀ T S2 (sg3 : Nat → Option Bool) (Q3 : Nat → Nat) b2 ok, H < T → frT S S2 q1 q2 → (∀ p, p < 3 → kT S2 q1 p = sgo (sg3 p)) → (∀ p, sg p ≠ none → sg3 p = sg p) → (∀ p, aP a ≤ p → sg3 p = none) → (∀ j, j < T → kT S2 q2 j = nI (Q3 j) ∧ Q3 j < aP a ∧ sg3 (Q3 j) ≠ none ∧ sg (Q3 j) = none ∧ L.2.2 (Q3 j) = f0) → (∀ p, p < aP a → sg3 p ≠ none → sg p = none → ∃ j, j < T ∧ Q3 j = p) → T ≤ sumN (fun p => if sg3 p ≠ none ∧ sg p = none then 1 else 0) (aP a) → (∀ j f' t, (j < H ∨ j = H ∧ f' < f) → f' < 4 → aG a (4 * Q3 j + f') = some t → sg3 (t / 4) ≠ none) → kF S2 5 = zB b2 → (b2 = true ↔ b = true ∧ ∀ j f', (j < H ∨ j = H ∧ f' < f) → f' < 4 → cons a sg3 (4 * Q3 j + f')) → sEq a L sg3 → sg3 f0 ≠ none → (∀ t, aG a (4 * Q3 H + f) = some t → sg3 (t / 4) ≠ none) → (ok = true ↔ cons a sg3 (4 * Q3 H + f)) → zok (kF S2 5 &&& zB ok) ∧ T67 q1 q2 (nI (nS L f0) + 1) (nI f0) (nI T) (nI H) (nI f + 1) (tF S2 5 (kF S2 5 &&& zB ok)) := by
                intro T S2 sg3 Q3 b2 ok hHlt m1 m2 m3 m4 m5 m6 m7 m8 m9 m10 m11 m12 m13 m14
                rw [m9, and_z, show (nI f : Int32) + 1 = nI (f + 1) from nI_add f 1]
                refine ⟨zB_ok _, ihf T _ sg3 Q3 (b2 && ok) hHlt (frT_tF m1) m2 m3 m4 m5 m6 m7 (fun j f' t hj hf' ht => ?_) (by rw [kF_tF, if_pos rfl]) ?_ m11 m12⟩
                · by_cases w : j = H ∧ f' = f
                  · rw [w.1, w.2] at ht; exact m13 t ht
                  · exact m8 j f' t (by omega) hf' ht
                · rw [Bool.and_eq_true, m10, m14]
                  constructor
                  · rintro ⟨⟨w1, w2⟩, w3⟩
                    refine ⟨w1, fun j f' hj hf' => ?_⟩
                    by_cases w : j = H ∧ f' = f
                    · rw [w.1, w.2]; exact w3
                    · exact w2 j f' (by omega) hf'
                  · rintro ⟨w1, w2⟩
                    exact ⟨⟨w1, fun j f' hj hf' => w2 j f' (by omega) hf'⟩, w2 H f (Or.inr ⟨rfl, by omega⟩) (by omega)⟩
              cases e : aG a (4 * Q H + f) with
              | none =>
                have hn := CR_none hI2.1 hs e
                rw [e1, e2] at hn
                refine ⟨fun g hg => absurd (hn.symm.trans hg) (by simp), fun _ => ?_⟩
                unfold C_sets_w120 C_sets_w158 C_sets_w180 C_sets_w185
                have := nxt T S2 sg2 Q b2 true hHlt m1 m2 m3 m4 m5 m6 m7 m8 m9 m10 m11 m12 (fun t ht => absurd (e.symm.trans ht) (by simp)) ⟨fun _ t v ht => absurd (e.symm.trans ht) (by simp), fun _ => rfl⟩
                rw [hn]
                exact ⟨fun _ => ⟨fun _ => this, fun g hg => absurd hg (by simp)⟩, fun g hg => absurd hg (by simp)⟩
              | some t =>
                obtain ⟨g, w1, w2, w3, w4, w5, w6, w7⟩ := CR_some hI2.1 hs e
                rw [e1, e2] at w1
                have htl := (ha.2.1 _ t hs e).1
                refine ⟨fun g' hg => ?_, fun z2 => absurd (w1.symm.trans z2) (by simp)⟩
                rw [w1] at hg
                injection hg with hg
                subst hg
                refine ⟨w2, ?_⟩
                cases ev : sg2 (Q H) with
                | none => exact absurd ev u3
                | some v =>
                  have main : ∀ due, due = sgI (duS a (4 * Q H + f) v) → C_sets_w120 post T18 T57 T67 due q1 q2 (nI (nS L f0) + 1) (nI f0) (nI T) (nI H) (nI f) (some g) S2 := by
                    intro due hdue
                    unfold C_sets_w120
                    refine ⟨fun z2 => absurd z2 (by simp), fun g' hg' => ?_⟩
                    injection hg' with hg'
                    subst hg'
                    rw [w3, nI_clamp (by omega), m1.2.2.2.1, vp_inE (by omega) (by omega), m2 _ (by omega), sgo_0]
                    have tail : ∀ T S3 (sg3 : Nat → Option Bool) (Q3 : Nat → Nat), H < T → frT S S3 q1 q2 → (∀ p, p < 3 → kT S3 q1 p = sgo (sg3 p)) → (∀ p, sg p ≠ none → sg3 p = sg p) → (∀ p, aP a ≤ p → sg3 p = none) → (∀ j, j < T → kT S3 q2 j = nI (Q3 j) ∧ Q3 j < aP a ∧ sg3 (Q3 j) ≠ none ∧ sg (Q3 j) = none ∧ L.2.2 (Q3 j) = f0) → (∀ p, p < aP a → sg3 p ≠ none → sg p = none → ∃ j, j < T ∧ Q3 j = p) → T ≤ sumN (fun p => if sg3 p ≠ none ∧ sg p = none then 1 else 0) (aP a) → (∀ j f' t, (j < H ∨ j = H ∧ f' < f) → f' < 4 → aG a (4 * Q3 j + f') = some t → sg3 (t / 4) ≠ none) → kF S3 5 = zB b2 → (b2 = true ↔ b = true ∧ ∀ j f', (j < H ∨ j = H ∧ f' < f) → f' < 4 → cons a sg3 (4 * Q3 j + f')) → sEq a L sg3 → sg3 f0 ≠ none → Q3 H = Q H → sg3 (Q H) = some v → sg3 (t / 4) ≠ none → kG S3 g = kG S2 g → C_sets_w158 post T18 T57 T67 q1 q2 (nI (nS L f0) + 1) (nI f0) (nI T) (nI H) (nI f) (some g) due S3 := by
                      intro T S3 sg3 Q3 hHlt n1 n2 n3 n4 n5 n6 n7 n8 n9 n10 n11 n12 n13 n14 n15 n16
                      unfold C_sets_w158 C_sets_w180 C_sets_w185
                      refine ⟨fun z2 => absurd z2 (by simp), fun g' hg' => ?_⟩
                      injection hg' with hg'
                      subst hg'
                      have pg : pk S3 g 0 := extC_pk n1.1 (by
                        obtain ⟨g0, y1, y2, _⟩ := CR_some hI.1 hs e
                        have := m1.1.2.1
                        rw [e1, e2] at y1
                        rw [this, y1] at w1
                        injection w1 with w1
                        rw [← w1]; exact y2)
                      rw [n16, w3, nI_clamp (by omega), n1.2.2.2.1, vp_inE (by omega) (by omega), n2 _ (by omega), hdue, sgo_inj]
                      have cs : cons a sg3 (4 * Q3 H + f) ↔ sg3 (t / 4) = some (duS a (4 * Q H + f) v) := by
                        rw [n13]
                        constructor
                        · intro k; exact k t v e (by rw [e1]; exact n14)
                        · intro k t' v' ht' hv'
                          rw [e] at ht'
                          injection ht' with ht'
                          rw [e1, n14] at hv'
                          injection hv' with hv'
                          rw [← ht', ← hv']; exact k
                      refine ⟨pg, n1.2.1, by omega, fun z2 => ?_, fun z2 => ?_⟩
                      · exact nxt T S3 sg3 Q3 b2 false hHlt n1 n2 n3 n4 n5 n6 n7 n8 n9 n10 n11 n12 (fun t' ht' => by rw [n13, e] at ht'; injection ht' with ht'; rw [← ht']; exact n15) ⟨fun w => absurd w (by decide), fun w => absurd (cs.mp w) z2⟩
                      · exact nxt T S3 sg3 Q3 b2 true hHlt n1 n2 n3 n4 n5 n6 n7 n8 n9 n10 n11 n12 (fun t' ht' => by rw [n13, e] at ht'; injection ht' with ht'; rw [← ht']; exact n15) ⟨fun _ => cs.mpr z2, fun _ => rfl⟩
                    refine ⟨w2, m1.2.1, by omega, fun z2 => ?_, fun z2 => ⟨w2, m1.2.1, by omega, ?_⟩⟩
                    · exact tail T S2 sg2 Q hHlt m1 m2 m3 m4 m5 m6 m7 m8 m9 m10 m11 m12 rfl ev z2 rfl
                    · -- a new piece
                      have kg : kG (tT S2 q1 (t / 4) due) g = kG S2 g := rfl
                      have hso : sg (t / 4) = none := by
                        cases y : sg (t / 4) with
                        | none => rfl
                        | some x => have := m3 (t / 4) (by rw [y]; simp); rw [z2, y] at this; exact absurd this (by simp)
                      have cnt : sumN (fun p => if upF sg2 (t / 4) (some (duS a (4 * Q H + f) v)) p ≠ none ∧ sg p = none then 1 else 0) (aP a) = sumN (fun p => if sg2 p ≠ none ∧ sg p = none then 1 else 0) (aP a) + 1 := by
                        have := sumN_up (f := fun p => if upF sg2 (t / 4) (some (duS a (4 * Q H + f) v)) p ≠ none ∧ sg p = none then 1 else 0) (g := fun p => if sg2 p ≠ none ∧ sg p = none then 1 else 0) (show t / 4 < aP a by omega) (fun k _ hk => by show (if upF sg2 (t / 4) (some (duS a (4 * Q H + f) v)) k ≠ none ∧ sg k = none then 1 else 0) = _; rw [upF_ne _ _ hk])
                        have y1 : (if upF sg2 (t / 4) (some (duS a (4 * Q H + f) v)) (t / 4) ≠ none ∧ sg (t / 4) = none then 1 else 0) = 1 := if_pos ⟨by rw [upF_at]; simp, hso⟩
                        have y2 : (if sg2 (t / 4) ≠ none ∧ sg (t / 4) = none then 1 else 0) = 0 := if_neg (fun y => y.1 z2)
                        have this : sumN _ (aP a) + (if sg2 (t / 4) ≠ none ∧ sg (t / 4) = none then 1 else 0) = sumN _ (aP a) + (if upF sg2 (t / 4) (some (duS a (4 * Q H + f) v)) (t / 4) ≠ none ∧ sg (t / 4) = none then 1 else 0) := this
                        rw [y1, y2] at this
                        exact this
                      have tb3 := sumN_ub (f := fun p => if upF sg2 (t / 4) (some (duS a (4 * Q H + f) v)) p ≠ none ∧ sg p = none then 1 else 0) 1 (aP a) (fun k _ => by show (if _ then 1 else 0) ≤ 1; split <;> omega)
                      have ke : kN (tT S2 q1 (t / 4) due) q2 = 3 := m1.2.2.2.2
                      dsimp only
                      rw [ke, nI_clamp (by omega), vp_inE (by omega) (by omega), kg, w3, show (nI T : Int32) + 1 = nI (T + 1) from nI_add T 1]
                      have hL8 : L.2.2 (t / 4) = f0 := by
                        have := l8 _ _ ⟨4 * Q H + f, t, hs, e, rfl, rfl⟩
                        rw [e1, u5] at this
                        exact this.symm
                      have old : ∀ p, sg2 p ≠ none → upF sg2 (t / 4) (some (duS a (4 * Q H + f) v)) p = sg2 p := fun p hp => upF_ne _ _ (fun y => hp (by rw [y]; exact z2))
                      refine ⟨w2, m1.2.2.1, by omega, tail (T + 1) _ (upF sg2 (t / 4) (some (duS a (4 * Q H + f) v))) (upF Q T (t / 4)) (by omega) (frT_tT (Or.inr rfl) hq1 hq2' (frT_tT (Or.inl rfl) hq1 hq2' m1)) (fun p hp => ?_) (fun p hp => ?_) (fun p hp => ?_) (fun j hj => ?_) (fun p hp hp2 hp3 => ?_) (by omega) (fun j f' t' hj hf' ht' => ?_) m9 (m10.trans ⟨fun w => ⟨w.1, fun j f' hj hf' => ?_⟩, fun w => ⟨w.1, fun j f' hj hf' => ?_⟩⟩) (fun τ hτ p q hp hq hp2 hq2 hpq => ?_) (by rw [old f0 m12]; exact m12) (upF_ne _ _ (by omega)) (by rw [old _ u3]; exact ev) (by rw [upF_at]; simp) rfl⟩
                      · rw [kT_tT, if_neg (fun y => hq12 y.1), kT_tT]
                        by_cases y : p = t / 4
                        · rw [if_pos ⟨rfl, y⟩, y, upF_at, hdue]; rfl
                        · rw [if_neg (fun y2 => y y2.2), upF_ne _ _ y]; exact m2 p hp
                      · rw [old p (by rw [m3 p hp]; exact hp)]; exact m3 p hp
                      · rw [upF_ne _ _ (by omega)]; exact m4 p hp
                      · rw [kT_tT]
                        by_cases y : j = T
                        · rw [if_pos ⟨rfl, y⟩, y, upF_at, upF_at]
                          exact ⟨rfl, by omega, by simp, hso, hL8⟩
                        · rw [if_neg (fun y2 => y y2.2), kT_tT, if_neg (fun y2 => hq12 y2.1.symm), upF_ne _ _ y]
                          obtain ⟨x1, x2, x3, x4, x5⟩ := m5 j (by omega)
                          exact ⟨x1, x2, by rw [old _ x3]; exact x3, x4, x5⟩
                      · by_cases y : p = t / 4
                        · exact ⟨T, by omega, by rw [upF_at]; exact y.symm⟩
                        · rw [upF_ne _ _ y] at hp2
                          obtain ⟨j, j1, j2⟩ := m6 p hp hp2 hp3
                          exact ⟨j, by omega, by rw [upF_ne _ _ (by omega)]; exact j2⟩
                      · rw [upF_ne _ _ (by omega)] at ht'
                        have := m8 j f' t' hj hf' ht'
                        rw [old _ this]; exact this
                      · rw [upF_ne _ _ (by omega)]
                        intro t' v' ht' hv'
                        obtain ⟨x1, x2, x3, x4, x5⟩ := m5 j (by omega)
                        have f1 : (4 * Q j + f') / 4 = Q j := by omega
                        rw [f1, old _ x3] at hv'
                        have nn := m8 j f' t' hj hf' ht'
                        rw [old _ nn]
                        exact w.2 j f' hj hf' t' v' ht' (by rw [f1]; exact hv')
                      · have w2' := w.2 j f' hj hf'
                        rw [upF_ne _ _ (by omega)] at w2'
                        intro t' v' ht' hv'
                        obtain ⟨x1, x2, x3, x4, x5⟩ := m5 j (by omega)
                        have f1 : (4 * Q j + f') / 4 = Q j := by omega
                        have nn := m8 j f' t' hj hf' ht'
                        have := w2' t' v' ht' (by rw [f1, old _ x3, ← f1]; exact hv')
                        rw [old _ nn] at this
                        exact this
                      · have ft := hτ _ t hs e
                        rw [e1] at ft
                        have base : ∀ q, q < aP a → sg2 q ≠ none → L.2.2 q = f0 → ((some (duS a (4 * Q H + f) v) = sg2 q) ↔ τ (t / 4) = τ q) := by
                          intro q hq hq2 hq3
                          have := m11 τ hτ (Q H) q u2 hq u3 hq2 (by rw [u5, hq3])
                          rw [ev] at this
                          cases y : sg2 q with
                          | none => exact absurd y hq2
                          | some x =>
                            rw [y] at this
                            unfold duS
                            rw [← ft]
                            generalize τ (Q H) = c1 at this ⊢
                            generalize τ (t / 4) = c2 at ⊢
                            generalize τ q = c3 at this ⊢
                            cases x <;> cases v <;> cases c1 <;> cases c2 <;> cases c3 <;> simp at this ⊢
                        by_cases y1 : p = t / 4
                        · by_cases y2 : q = t / 4
                          · rw [y1, y2]; exact ⟨fun _ => rfl, fun _ => rfl⟩
                          · rw [upF_ne _ _ y2] at hq2
                            rw [y1, upF_at, upF_ne _ _ y2]
                            exact base q hq hq2 (by rw [← hpq, y1]; exact hL8)
                        · rw [upF_ne _ _ y1] at hp2
                          by_cases y2 : q = t / 4
                          · rw [y2, upF_at, upF_ne _ _ y1]
                            have := base p hp hp2 (by rw [hpq, y2]; exact hL8)
                            exact ⟨fun x => (this.mp x.symm).symm, fun x => (this.mpr x.symm).symm⟩
                          · rw [upF_ne _ _ y2] at hq2
                            rw [upF_ne _ _ y1, upF_ne _ _ y2]
                            exact m11 τ hτ p q hp hq hp2 hq2 hpq
                  have kT3 : kT S2 q1 (Q H) = sgI v := by rw [m2 _ (by omega), ev]; rfl
                  have aft : ∀ due, due = sgI (duS a (4 * Q H + f) v) → (pk S2 q2 1 ∧ vp_in (nI H) (kN S2 q2) ∧ (pk S2 q1 1 ∧ vp_in (kT S2 q2 H) (kN S2 q1) ∧ C_sets_w120 post T18 T57 T67 due q1 q2 (nI (nS L f0) + 1) (nI f0) (nI T) (nI H) (nI f) (some g) S2)) := fun due hdue => by
                    rw [m1.2.2.2.2, m1.2.2.2.1, u1, vp_inE (by omega) (by omega), vp_inE (by omega) (by omega)]
                    exact ⟨m1.2.2.1, by omega, m1.2.1, by omega, main due hdue⟩
                  refine c_isEvenG ha hs e w2 w5 w6 w7 (fun evn => ⟨fun z2 => absurd z2 (by decide), fun _ => ?_⟩) (fun evn => ⟨fun _ => ?_, fun z2 => absurd rfl z2⟩)
                  · rw [u1, nI_clamp (by omega), kT3]
                    have := aft (-sgI v) (by rw [sgI_neg]; unfold duS; rw [(evB_iff a _).mpr evn]; rfl)
                    rw [u1] at this
                    exact this
                  · rw [u1, nI_clamp (by omega), kT3]
                    have := aft (sgI v) (by
                      unfold duS
                      cases y : evB a (4 * Q H + f) with
                      | false => rfl
                      | true => exact absurd ((evB_iff a _).mp y) evn)
                    rw [u1] at this
                    exact this
        have gn : sg f0 = none := c
        refine K57 3 0 1 _ (upF sg f0 (some true)) (fun _ => f0) b (by omega) (by omega) (frT_tT (Or.inr rfl) hq1 hq2' (frT_tT (Or.inl rfl) hq1 hq2' g1)) (fun p hp => ?_) (fun p hp => upF_ne _ _ (fun y => hp (by rw [y]; exact gn))) (fun p hp => by rw [upF_ne _ _ (by omega)]; exact g4 p hp) (fun j hj => ?_) (fun p hp hp2 hp3 => ?_) ?_ (fun j f t hj => absurd hj (Nat.not_lt_zero _)) g5 ⟨fun w => ⟨w, fun j f hj => absurd hj (Nat.not_lt_zero _)⟩, fun w => w.1⟩ (fun τ hτ p q hp hq hp2 hq2 hpq => ?_) (by rw [upF_at]; simp)
        · rw [kT_tT, if_neg (fun y => hq12 y.1), kT_tT]
          by_cases y : p = f0
          · rw [if_pos ⟨rfl, y⟩, y, upF_at]; rfl
          · rw [if_neg (fun y2 => y y2.2), upF_ne _ _ y]; exact g2 p hp
        · rw [kT_tT, if_pos ⟨rfl, by omega⟩, upF_at]
          exact ⟨rfl, by omega, by simp, gn, c2⟩
        · by_cases y : p = f0
          · exact ⟨0, by omega, y.symm⟩
          · rw [upF_ne _ _ y] at hp2; exact absurd hp3 hp2
        · have := sumN_lt (f := fun _ => 0) (g := fun p => if upF sg f0 (some true) p ≠ none ∧ sg p = none then 1 else 0) (aP a) (fun _ _ => Nat.zero_le _) (show f0 < aP a by omega) (by show 0 < (if upF sg f0 (some true) f0 ≠ none ∧ sg f0 = none then 1 else 0); rw [if_pos ⟨by rw [upF_at]; simp, gn⟩]; omega)
          omega
        · by_cases y1 : p = f0
          · by_cases y2 : q = f0
            · rw [y1, y2]; exact ⟨fun _ => rfl, fun _ => rfl⟩
            · rw [upF_ne _ _ y2] at hq2
              have := (g3 q hq).mp hq2
              rw [y1, c2] at hpq
              omega
          · rw [upF_ne _ _ y1] at hp2
            by_cases y2 : q = f0
            · have := (g3 p hp).mp hp2
              rw [y2, c2] at hpq
              omega
            · rw [upF_ne _ _ y2] at hq2
              rw [upF_ne _ _ y1, upF_ne _ _ y2]
              exact g7 τ hτ p q hp hq hp2 hq2 hpq
  have k1 : pk (tF (nT (nT S q1 3) q2 3) 5 1) q1 1 := ⟨List.mem_append_left _ (List.mem_append_right _ (List.mem_singleton.mpr rfl)), by show va_up (va_up (kK S) q1 1) q2 1 q1 = 1; rw [up_ne _ _ hq12, up_at]⟩
  have k2 : pk (tF (nT (nT S q1 3) q2 3) 5 1) q2 1 := ⟨List.mem_append_right _ (List.mem_singleton.mpr rfl), up_at _ _ _⟩
  refine K18 0 (by omega) _ (fun _ => none) true ⟨extC_tF (by decide) (extC_nT hq2 (extC_nT hq1 extC_rf)), k1, k2, by show va_up (va_up (kN S) q1 3) q2 3 q1 = 3; rw [up_ne _ _ hq12, up_at], up_at _ _ _⟩ (fun p hp => by show va_up (va_up (kT S) q1 (fun _ => 0)) q2 (fun _ => 0) q1 p = _; rw [up_ne _ _ hq12, up_at]; rfl) (fun p hp => ⟨fun z => absurd rfl z, fun z => absurd z (Nat.not_lt_zero _)⟩) (fun p hp => rfl) (by rw [kF_tF, if_pos rfl]; rfl) ⟨fun _ s _ z => absurd rfl z, fun _ => rfl⟩ (fun τ _ p q _ _ z => absurd rfl z)
