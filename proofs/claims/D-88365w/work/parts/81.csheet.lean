/-! the component: count; bits; the sheet: legal, euler -/
def bcE (x0 : Int32) : Int32 := ((((((((x0 - (((x0).toUInt32 >>> (((1 : Int32)).toUInt32 &&& Int32.toUInt32 31)).toInt32 &&& (1431655765 : Int32))) &&& (858993459 : Int32)) + ((((x0 - (((x0).toUInt32 >>> (((1 : Int32)).toUInt32 &&& Int32.toUInt32 31)).toInt32 &&& (1431655765 : Int32)))).toUInt32 >>> (((2 : Int32)).toUInt32 &&& Int32.toUInt32 31)).toInt32 &&& (858993459 : Int32))) + (((((x0 - (((x0).toUInt32 >>> (((1 : Int32)).toUInt32 &&& Int32.toUInt32 31)).toInt32 &&& (1431655765 : Int32))) &&& (858993459 : Int32)) + ((((x0 - (((x0).toUInt32 >>> (((1 : Int32)).toUInt32 &&& Int32.toUInt32 31)).toInt32 &&& (1431655765 : Int32)))).toUInt32 >>> (((2 : Int32)).toUInt32 &&& Int32.toUInt32 31)).toInt32 &&& (858993459 : Int32)))).toUInt32 >>> (((4 : Int32)).toUInt32 &&& Int32.toUInt32 31)).toInt32) &&& (252645135 : Int32)) + (((((((x0 - (((x0).toUInt32 >>> (((1 : Int32)).toUInt32 &&& Int32.toUInt32 31)).toInt32 &&& (1431655765 : Int32))) &&& (858993459 : Int32)) + ((((x0 - (((x0).toUInt32 >>> (((1 : Int32)).toUInt32 &&& Int32.toUInt32 31)).toInt32 &&& (1431655765 : Int32)))).toUInt32 >>> (((2 : Int32)).toUInt32 &&& Int32.toUInt32 31)).toInt32 &&& (858993459 : Int32))) + (((((x0 - (((x0).toUInt32 >>> (((1 : Int32)).toUInt32 &&& Int32.toUInt32 31)).toInt32 &&& (1431655765 : Int32))) &&& (858993459 : Int32)) + ((((x0 - (((x0).toUInt32 >>> (((1 : Int32)).toUInt32 &&& Int32.toUInt32 31)).toInt32 &&& (1431655765 : Int32)))).toUInt32 >>> (((2 : Int32)).toUInt32 &&& Int32.toUInt32 31)).toInt32 &&& (858993459 : Int32)))).toUInt32 >>> (((4 : Int32)).toUInt32 &&& Int32.toUInt32 31)).toInt32) &&& (252645135 : Int32))).toUInt32 >>> (((8 : Int32)).toUInt32 &&& Int32.toUInt32 31)).toInt32) + ((((((((x0 - (((x0).toUInt32 >>> (((1 : Int32)).toUInt32 &&& Int32.toUInt32 31)).toInt32 &&& (1431655765 : Int32))) &&& (858993459 : Int32)) + ((((x0 - (((x0).toUInt32 >>> (((1 : Int32)).toUInt32 &&& Int32.toUInt32 31)).toInt32 &&& (1431655765 : Int32)))).toUInt32 >>> (((2 : Int32)).toUInt32 &&& Int32.toUInt32 31)).toInt32 &&& (858993459 : Int32))) + (((((x0 - (((x0).toUInt32 >>> (((1 : Int32)).toUInt32 &&& Int32.toUInt32 31)).toInt32 &&& (1431655765 : Int32))) &&& (858993459 : Int32)) + ((((x0 - (((x0).toUInt32 >>> (((1 : Int32)).toUInt32 &&& Int32.toUInt32 31)).toInt32 &&& (1431655765 : Int32)))).toUInt32 >>> (((2 : Int32)).toUInt32 &&& Int32.toUInt32 31)).toInt32 &&& (858993459 : Int32)))).toUInt32 >>> (((4 : Int32)).toUInt32 &&& Int32.toUInt32 31)).toInt32) &&& (252645135 : Int32)) + (((((((x0 - (((x0).toUInt32 >>> (((1 : Int32)).toUInt32 &&& Int32.toUInt32 31)).toInt32 &&& (1431655765 : Int32))) &&& (858993459 : Int32)) + ((((x0 - (((x0).toUInt32 >>> (((1 : Int32)).toUInt32 &&& Int32.toUInt32 31)).toInt32 &&& (1431655765 : Int32)))).toUInt32 >>> (((2 : Int32)).toUInt32 &&& Int32.toUInt32 31)).toInt32 &&& (858993459 : Int32))) + (((((x0 - (((x0).toUInt32 >>> (((1 : Int32)).toUInt32 &&& Int32.toUInt32 31)).toInt32 &&& (1431655765 : Int32))) &&& (858993459 : Int32)) + ((((x0 - (((x0).toUInt32 >>> (((1 : Int32)).toUInt32 &&& Int32.toUInt32 31)).toInt32 &&& (1431655765 : Int32)))).toUInt32 >>> (((2 : Int32)).toUInt32 &&& Int32.toUInt32 31)).toInt32 &&& (858993459 : Int32)))).toUInt32 >>> (((4 : Int32)).toUInt32 &&& Int32.toUInt32 31)).toInt32) &&& (252645135 : Int32))).toUInt32 >>> (((8 : Int32)).toUInt32 &&& Int32.toUInt32 31)).toInt32)).toUInt32 >>> (((16 : Int32)).toUInt32 &&& Int32.toUInt32 31)).toInt32) &&& (63 : Int32))
theorem bc_b3 : ∀ u v w : Bool, bcE (nI (b3 u v w)) = nI ((if u then 1 else 0) + (if v then 1 else 0) + (if w then 1 else 0)) := by decide +kernel
theorem c_bitCount {u v w : Bool} {S : CS} {post : Int32 → CS → Prop} (h : post (nI ((if u then 1 else 0) + (if v then 1 else 0) + (if w then 1 else 0))) S) : C_bitCount (nI (b3 u v w)) S post := by
  apply C_bitCount_ok
  unfold C_bitCount_VC C_bitCount_w0
  show post (bcE (nI (b3 u v w))) S
  rw [bc_b3]
  exact h
theorem c_kindOf {a b : Nat} (ha : a < 4) (hb : b < 4) (hne : a ≠ b) {S : CS} {post : Int32 → CS → Prop} (h : post (nI (kindN a b)) S) : C_kindOf (nI a) (nI b) S post := by
  apply C_kindOf_ok
  unfold C_kindOf_VC C_kindOf_w0 C_kindOf_w8 C_kindOf_w21
  unfold kindN at h
  by_cases c1 : a = 0
  · subst c1
    refine ⟨fun _ => ?_, fun c => absurd rfl c⟩
    rw [if_pos (Or.inl rfl)] at h
    simp (disch := omega) only [n0, n1, n2, n3, n4, n5, n6, n7, n8, n9, n10, n11, n12, n14, n16, n18, n21, n22, n36, n48, n63, n100, n108, n400, n1000, pk_mul, nI_add, pk_div, nI_subm, nI_ltE, nI_leE, nI_eqE, nI_clamp, vp_inE, nIm1, nIm1', nIm1n, nIm1n', nI_addn]
    exact h
  · by_cases c2 : b = 0
    · subst c2
      rw [if_pos (Or.inr rfl)] at h
      simp (disch := omega) only [n0, n1, n2, n3, n4, n5, n6, n7, n8, n9, n10, n11, n12, n14, n16, n18, n21, n22, n36, n48, n63, n100, n108, n400, n1000, pk_mul, nI_add, pk_div, nI_subm, nI_ltE, nI_leE, nI_eqE, nI_clamp, vp_inE, nIm1, nIm1', nIm1n, nIm1n', nI_addn]
      exact ⟨fun c => absurd c c1, fun _ => ⟨fun c => absurd trivial c, fun _ => h⟩⟩
    · rw [if_neg (by omega)] at h
      have e : ((5 : Int32) - nI a) - nI b = nI (5 - (a + b)) := by
        rw [show (5 : Int32) = nI 5 from rfl, nI_subm (by omega), nI_subm (by omega), Nat.sub_sub]
      rw [e, show (0 : Int32) = nI 0 from rfl, nI_eqE (by omega) (by omega), nI_eqE (by omega) (by omega)]
      exact ⟨fun c => absurd c c1, fun _ => ⟨fun _ => h, fun c => absurd c c2⟩⟩
theorem c_isAlone {x : Int32} {f : Nat → Prop} (hx : isSet x f) {n : Nat} (hn : n ≤ 3) {S : CS} (hP : kF S 1 = nI n) {post : Int32 → CS → Prop} (h1 : oneKind f n → post 1 S) (h0 : ¬ oneKind f n → post 0 S) : C_isAlone x S post := by
  apply C_isAlone_ok
  intro T r
  suffices K : ∀ p, p ≤ n → ∀ b : Bool, (b = true ↔ oneKind f p) → T x (zB b) (nI p) S from K 0 (by omega) true ⟨fun _ p hp => absurd hp (Nat.not_lt_zero _), fun _ => rfl⟩
  refine loopUp (P := fun p => ∀ b : Bool, (b = true ↔ oneKind f p) → T x (zB b) (nI p) S) n (fun p hp ih b hb => ?_)
  apply r
  unfold C_isAlone_w4 C_isAlone_w36
  rw [hP, nI_leE (by omega) (by omega), show (nI p : Int32) + 1 = nI (p + 1) from nI_add p 1]
  refine ⟨fun q => ⟨zB_ok b, ?_⟩, fun q => ?_⟩
  · rw [show p = n by omega] at hb
    cases e : b with
    | true => exact h1 (hb.mp e)
    | false => exact h0 (fun k => by have := hb.mpr k; rw [e] at this; exact absurd this (by decide))
  · have ei : ((7 : Int32) * nI p + 4) = nI (7 * p + 4) := by simp (disch := omega) only [n0, n1, n2, n3, n4, n5, n6, n7, n8, n9, n10, n11, n12, n14, n16, n18, n21, n22, n36, n48, n63, n100, n108, n400, n1000, pk_mul, nI_add, pk_div, nI_subm, nI_ltE, nI_leE, nI_eqE, nI_clamp, vp_inE, nIm1, nIm1', nIm1n, nIm1n', nI_addn]
    rw [ei, three_bits x (k := 7 * p + 4) (by omega)]
    refine c_bitCount ?_
    have ih := ih (by omega)
    have key := isSet_b3 hx (k := 7 * p + 4) (by omega)
    have okn : oneKind f (p + 1) ↔ oneKind f p ∧ (¬ (f (7 * p + 4) ∧ f (7 * p + 4 + 1)) ∧ ¬ (f (7 * p + 4) ∧ f (7 * p + 4 + 2)) ∧ ¬ (f (7 * p + 4 + 1) ∧ f (7 * p + 4 + 2))) := by
      constructor
      · intro k; exact ⟨fun p' hp' => k p' (by omega), k p (by omega)⟩
      · rintro ⟨k1, k2⟩ p' hp'
        by_cases e : p' = p
        · subst e; exact k2
        · exact k1 p' (by omega)
    have done : ∀ v : Bool, (v = true ↔ (¬ (f (7 * p + 4) ∧ f (7 * p + 4 + 1)) ∧ ¬ (f (7 * p + 4) ∧ f (7 * p + 4 + 2)) ∧ ¬ (f (7 * p + 4 + 1) ∧ f (7 * p + 4 + 2)))) → T x (zB b &&& zB v) (nI (p + 1)) S := fun v hv => by
      rw [and_z]
      refine ih _ ?_
      rw [Bool.and_eq_true, hb, hv, okn]
    rw [← key] at done
    generalize bt x (7 * p + 4) = u0 at done
    generalize bt x (7 * p + 4 + 1) = u1 at done
    generalize bt x (7 * p + 4 + 2) = u2 at done
    cases u0 <;> cases u1 <;> cases u2
    all_goals first
      | exact ⟨fun c => absurd c (by decide), fun _ => done true (by decide)⟩
      | exact ⟨fun _ => done false (by decide), fun c => absurd (by decide) c⟩
theorem c_threes {κ : Prop} {a : Ab} {S : CS} (hI : CI κ a S) {p c : Nat} (hp : p < 3) (hc : c < 4) {post : Int32 → CS → Prop} (h : post (nI (aS a (7 * p + c))) S) : C_threes (nI p) (nI c) S post := by
  apply C_threes_ok
  unfold C_threes_VC C_threes_w0
  simp (disch := omega) only [n0, n1, n2, n3, n4, n5, n6, n7, n8, n9, n10, n11, n12, n14, n16, n18, n21, n22, n36, n48, n63, n100, n108, n400, n1000, pk_mul, nI_add, pk_div, nI_subm, nI_ltE, nI_leE, nI_eqE, nI_clamp, vp_inE, nIm1, nIm1', nIm1n, nIm1n', nI_addn]
  rw [hI.1.2.2 _ (by omega)]
  exact ⟨by omega, h⟩
theorem c_fours {κ : Prop} {a : Ab} {S : CS} (hI : CI κ a S) {p k : Nat} (hp : p < 3) (hk : k < 3) {post : Int32 → CS → Prop} (h : post (nI (aS a (7 * p + 4 + k))) S) : C_fours (nI p) (nI k) S post := by
  apply C_fours_ok
  unfold C_fours_VC C_fours_w0
  simp (disch := omega) only [n0, n1, n2, n3, n4, n5, n6, n7, n8, n9, n10, n11, n12, n14, n16, n18, n21, n22, n36, n48, n63, n100, n108, n400, n1000, pk_mul, nI_add, pk_div, nI_subm, nI_ltE, nI_leE, nI_eqE, nI_clamp, vp_inE, nIm1, nIm1', nIm1n, nIm1n', nI_addn]
  rw [hI.1.2.2 _ (by omega)]
  exact ⟨by omega, h⟩
theorem c_arcs {κ : Prop} {a : Ab} {S : CS} (hI : CI κ a S) {p f c : Nat} (hp : p < 3) (hf : f < 4) (hc : c < 4) (hne : c ≠ f) {post : Int32 → CS → Prop} (h : post (nI (arcN a p f c)) S) : C_arcs (nI p) (nI f) (nI c) S post := by
  apply C_arcs_ok
  unfold C_arcs_VC C_arcs_w0
  refine c_threes hI hp hc (c_kindOf hc hf hne (c_fours hI hp (kindN_lt hc hf hne) ?_))
  rw [nI_add]
  exact h
theorem c_legal {κ : Prop} {a : Ab} (ha : AWf a) {S : CS} (hI : CI κ a S) {post : Int32 → CS → Prop} (h1 : ¬ fitA a → post 1 S) (h2 : fitA a → ¬ oneKind (shSet a) (aP a) → post 2 S) (h0 : fitA a → oneKind (shSet a) (aP a) → post 0 S) : C_legal S post := by
  apply C_legal_ok
  intro T6 T17 T64 T84 r6 r17 r64 r84
  have hP := ha.1
  have gone : ∀ {n : Nat} {b : Bool}, (b = true ↔ ∀ s t c, s < n → aG a s = some t → c < 4 → fitC a s t c) → (∀ t c, aG a n = some t → c < 4 → fitC a n t c) → (b = true ↔ ∀ s t c, s < n + 1 → aG a s = some t → c < 4 → fitC a s t c) := fun {n b} hb hn => hb.trans ⟨fun w s t c hs ht hc => by
    by_cases e : s = n
    · subst e; exact hn t c ht hc
    · exact w s t c (by omega) ht hc, fun w s t c hs => w s t c (by omega)⟩
  suffices K6 : ∀ p, p ≤ aP a → ∀ x (b : Bool), isSet x (fun j => j < 7 * p ∧ aS a j ≠ 0) → (b = true ↔ ∀ s t c, s < 4 * p → aG a s = some t → c < 4 → fitC a s t c) → T6 x (zB b) (nI p) S from K6 0 (by omega) 0 true (isSet_cg (fun j _ => ⟨fun h => absurd h id, fun h => absurd h.1 (Nat.not_lt_zero _)⟩) isSet_0) ⟨fun _ s t c h => absurd h (Nat.not_lt_zero _), fun _ => rfl⟩
  refine loopUp (P := fun p => ∀ x (b : Bool), isSet x (fun j => j < 7 * p ∧ aS a j ≠ 0) → (b = true ↔ ∀ s t c, s < 4 * p → aG a s = some t → c < 4 → fitC a s t c) → T6 x (zB b) (nI p) S) (aP a) (fun p hp ih x b hx hb => ?_)
  apply r6
  unfold C_legal_w6 C_legal_w183
  rw [hI.1.1, nI_leE (by omega) (by omega)]
  refine ⟨fun q => ?_, fun q => ?_⟩
  · have e : p = aP a := by omega
    subst e
    have hb : b = true ↔ fitA a := hb
    cases eb : b with
    | true =>
      have hf := hb.mp eb
      refine ⟨fun _ => c_isAlone hx hP hI.1.1 (fun o => ⟨fun c => absurd c (by decide), fun _ => h0 hf o⟩) (fun o => ⟨fun _ => h2 hf o, fun c => absurd rfl c⟩), fun c => absurd c (by decide)⟩
    | false => exact ⟨fun c => absurd rfl c, fun _ => h1 (fun k => by have := hb.mpr k; rw [eb] at this; exact absurd this (by decide))⟩
  · have ih := ih (by omega)
    have K64 : ∀ f, f ≤ 4 → ∀ x (b : Bool), isSet x (fun j => j < 7 * (p + 1) ∧ aS a j ≠ 0) → (b = true ↔ ∀ s t c, s < 4 * p + f → aG a s = some t → c < 4 → fitC a s t c) → T64 x (zB b) (nI p) (nI f) S := by
      refine loopUp (P := fun f => ∀ x (b : Bool), isSet x (fun j => j < 7 * (p + 1) ∧ aS a j ≠ 0) → (b = true ↔ ∀ s t c, s < 4 * p + f → aG a s = some t → c < 4 → fitC a s t c) → T64 x (zB b) (nI p) (nI f) S) 4 (fun f hf ihf x b hx hb => ?_)
      apply r64
      unfold C_legal_w64
      rw [show (4 : Int32) = nI 4 from rfl, nI_leE (by omega) (by omega), nI_clamp (by omega), nI_clamp (by omega), vp_inE (by omega) (by omega), vp_inE (by omega) (by omega), show (nI p : Int32) + 1 = nI (p + 1) from nI_add p 1]
      refine ⟨fun q2 => ih x b hx (by rw [show 4 * (p + 1) = 4 * p + f by omega]; exact hb), fun q2 => ⟨by omega, by omega, ?_⟩⟩
      have ihf := ihf (by omega)
      have hs : 4 * p + f < 4 * aP a := by omega
      have e1 : (4 * p + f) / 4 = p := by omega
      have e2 : (4 * p + f) % 4 = f := by omega
      cases e : aG a (4 * p + f) with
      | none =>
        have hn := CR_none hI.1 hs e
        rw [e1, e2] at hn
        rw [hn]
        apply r84
        unfold C_legal_w84 C_legal_w150
        have nx := ihf x b hx (gone hb (fun t c ht => absurd (e.symm.trans ht) (by simp)))
        rw [show (nI f : Int32) + 1 = nI (f + 1) from nI_add f 1]
        exact ⟨fun _ => nx, fun _ => ⟨fun _ => nx, fun g hg => absurd hg (by simp)⟩⟩
      | some t =>
        obtain ⟨g, w1, w2, w3, w4, w5, w6, w7⟩ := CR_some hI.1 hs e
        rw [e1, e2] at w1
        rw [w1]
        obtain ⟨ht1, ht2, ht3, ht4, hw⟩ := ha.2.1 _ t hs e
        suffices K84 : ∀ c, c ≤ 4 → ∀ b : Bool, (b = true ↔ (∀ s t c, s < 4 * p + f → aG a s = some t → c < 4 → fitC a s t c) ∧ ∀ c', c' < c → fitC a (4 * p + f) t c') → T84 x (zB b) (nI p) (nI f) (some g) (nI c) S from K84 0 (by omega) b (hb.trans ⟨fun w => ⟨w, fun c' h => absurd h (Nat.not_lt_zero _)⟩, fun w => w.1⟩)
        refine loopUp (P := fun c => ∀ b : Bool, (b = true ↔ (∀ s t c, s < 4 * p + f → aG a s = some t → c < 4 → fitC a s t c) ∧ ∀ c', c' < c → fitC a (4 * p + f) t c') → T84 x (zB b) (nI p) (nI f) (some g) (nI c) S) 4 (fun c hc ihc b hb => ?_)
        apply r84
        unfold C_legal_w84 C_legal_w150 C_legal_w137 C_legal_w142
        rw [show (4 : Int32) = nI 4 from rfl, nI_leE (by omega) (by omega), nI_eqE (by omega) (by omega), show (nI f : Int32) + 1 = nI (f + 1) from nI_add f 1, show (nI c : Int32) + 1 = nI (c + 1) from nI_add c 1]
        refine ⟨fun q3 => ihf x b hx (hb.trans ⟨fun w s t' c' hs' ht' hc' => ?_, fun w => ⟨fun s t' c' hs' => w s t' c' (by omega), fun c' hc' => w _ t c' (by omega) e (by omega)⟩⟩), fun q3 => ⟨fun z => absurd z (by simp), fun g' hg' => ?_⟩⟩
        · by_cases y : s = 4 * p + f
          · rw [y, e] at ht'
            injection ht' with ht'
            rw [y, ← ht']
            exact w.2 c' (by omega)
          · exact w.1 s t' c' (by omega) ht' hc'
        · injection hg' with hg'
          subst hg'
          have ihc := ihc (by omega)
          have upd : ∀ v : Bool, (v = true ↔ fitC a (4 * p + f) t c) → T84 x (zB b &&& zB v) (nI p) (nI f) (some g) (nI (c + 1)) S := fun v hv => by
            rw [and_z]
            refine ihc _ ?_
            rw [Bool.and_eq_true, hb, hv]
            constructor
            · rintro ⟨⟨y1, y2⟩, y3⟩
              refine ⟨y1, fun c' hc' => ?_⟩
              by_cases y : c' = c
              · rw [y]; exact y3
              · exact y2 c' (by omega)
            · rintro ⟨y1, y2⟩
              exact ⟨⟨y1, fun c' hc' => y2 c' (by omega)⟩, y2 c (by omega)⟩
          refine ⟨fun c1 => upd true ⟨fun _ y => absurd y (by omega), fun _ => rfl⟩, fun c1 => ?_⟩
          have hwc := (hw c (by omega)).1
          have hwne : aW a (4 * p + f) c ≠ t % 4 := by
            rw [← ht4]
            exact AWf_inj ha hs e (by omega) (by omega) (by omega)
          refine c_arcs hI (by omega) (by omega) (by omega) (by omega) ⟨w2, w2, w2, w5, ?_⟩
          rw [w6, w3, w4, nI_clamp (by omega), vp_inE (by omega) (by omega), w7 c (by omega)]
          refine ⟨by omega, c_arcs hI (by omega) (by omega) hwc hwne ?_⟩
          have l1 := arcN_le ha p f c
          have l2 := arcN_le ha (t / 4) (t % 4) (aW a (4 * p + f) c)
          rw [nI_eqE (by omega) (by omega)]
          refine ⟨fun y => upd false ⟨fun z => absurd z (by decide), fun z => absurd ?_ y⟩, fun y => upd true ⟨fun _ _ => ?_, fun _ => rfl⟩⟩
          · have := z (by omega)
            rw [e1, e2] at this
            exact this
          · rw [e1, e2]; exact y
    suffices K17 : ∀ i, i ≤ 7 → ∀ x, isSet x (fun j => j < 7 * p + i ∧ aS a j ≠ 0) → T17 x (zB b) (nI p) (nI i) S from K17 0 (by omega) x hx
    refine loopUp (P := fun i => ∀ x, isSet x (fun j => j < 7 * p + i ∧ aS a j ≠ 0) → T17 x (zB b) (nI p) (nI i) S) 7 (fun i hi ihi x hx => ?_)
    apply r17
    unfold C_legal_w17 C_legal_w53
    have ei : (7 : Int32) * nI p + nI i = nI (7 * p + i) := by simp (disch := omega) only [n0, n1, n2, n3, n4, n5, n6, n7, n8, n9, n10, n11, n12, n14, n16, n18, n21, n22, n36, n48, n63, n100, n108, n400, n1000, pk_mul, nI_add, pk_div, nI_subm, nI_ltE, nI_leE, nI_eqE, nI_clamp, vp_inE, nIm1, nIm1', nIm1n, nIm1n', nI_addn]
    have hs := ha.2.2.1 (7 * p + i)
    rw [ei, show (7 : Int32) = nI 7 from rfl, nI_leE (by omega) (by omega), nI_clamp (by omega), vp_inE (by omega) (by omega), show (nI i : Int32) + 1 = nI (i + 1) from nI_add i 1]
    refine ⟨fun q2 => K64 0 (by omega) x b (by rw [show 7 * (p + 1) = 7 * p + i by omega]; exact hx) hb, fun q2 => ⟨by omega, ?_⟩⟩
    rw [hI.1.2.2 _ (by omega), show (0 : Int32) = nI 0 from rfl, nI_eqE (by omega) (by omega)]
    refine ⟨fun e => ihi (by omega) _ (isSet_cg (fun j hj => ?_) (isSet_or hx isSet_0)), fun e => ihi (by omega) _ (isSet_cg (fun j hj => ?_) (isSet_or hx (isSet_one (show 7 * p + i < 32 by omega))))⟩
    · constructor
      · rintro (⟨y1, y2⟩ | y)
        · exact ⟨by omega, y2⟩
        · exact absurd y id
      · rintro ⟨y1, y2⟩
        by_cases e2 : j = 7 * p + i
        · subst e2; exact absurd e y2
        · exact Or.inl ⟨by omega, y2⟩
    · constructor
      · rintro (⟨y1, y2⟩ | y)
        · exact ⟨by omega, y2⟩
        · subst y; exact ⟨by omega, e⟩
      · rintro ⟨y1, y2⟩
        by_cases e2 : j = 7 * p + i
        · exact Or.inr e2
        · exact Or.inl ⟨by omega, y2⟩
theorem c_isCounted {κ : Prop} {a : Ab} (ha : AWf a) {S : CS} (hI : CI κ a S) {p f : Nat} (hp : p < aP a) (hf : f < 4) {post : Int32 → CS → Prop} (h1 : cnd a (4 * p + f) = 1 → post 1 S) (h0 : cnd a (4 * p + f) = 0 → post 0 S) : C_isCounted (nI p) (nI f) S post := by
  apply C_isCounted_ok
  unfold C_isCounted_VC C_isCounted_w0 C_isCounted_w32 C_isCounted_w37
  have hP := ha.1
  have hs : 4 * p + f < 4 * aP a := by omega
  have e1 : (4 * p + f) / 4 = p := by omega
  have e2 : (4 * p + f) % 4 = f := by omega
  rw [nI_clamp (by omega), nI_clamp (by omega), vp_inE (by omega) (by omega), vp_inE (by omega) (by omega)]
  refine ⟨by omega, by omega, ?_⟩
  unfold cnd at h1 h0
  cases e : aG a (4 * p + f) with
  | none =>
    rw [e] at h1
    have hn := CR_none hI.1 hs e
    rw [e1, e2] at hn
    exact ⟨fun _ => ⟨zok1, h1 rfl⟩, fun g hg => absurd (hn.symm.trans hg) (by simp)⟩
  | some t =>
    rw [e] at h1 h0
    have h1 : (if 4 * p + f < t then 1 else 0) = 1 → post 1 S := h1
    have h0 : (if 4 * p + f < t then 1 else 0) = 0 → post 0 S := h0
    obtain ⟨g, w1, w2, w3, w4, _⟩ := CR_some hI.1 hs e
    rw [e1, e2] at w1
    have ht := (ha.2.1 _ t hs e).1
    refine ⟨fun z => absurd (w1.symm.trans z) (by simp), fun g' hg => ?_⟩
    rw [w1] at hg
    injection hg with hg
    subst hg
    rw [w3, w4]
    have ei : nI (t / 4) * 4 + nI (t % 4) = nI t := by
      simp (disch := omega) only [n0, n1, n2, n3, n4, n5, n6, n7, n8, n9, n10, n11, n12, n14, n16, n18, n21, n22, n36, n48, n63, n100, n108, n400, n1000, pk_mul, nI_add, pk_div, nI_subm, nI_ltE, nI_leE, nI_eqE, nI_clamp, vp_inE, nIm1, nIm1', nIm1n, nIm1n', nI_addn]
      congr 1
      omega
    have ej : nI p * 4 + nI f = nI (4 * p + f) := by
      simp (disch := omega) only [n0, n1, n2, n3, n4, n5, n6, n7, n8, n9, n10, n11, n12, n14, n16, n18, n21, n22, n36, n48, n63, n100, n108, n400, n1000, pk_mul, nI_add, pk_div, nI_subm, nI_ltE, nI_leE, nI_eqE, nI_clamp, vp_inE, nIm1, nIm1', nIm1n, nIm1n', nI_addn]
      congr 1
      omega
    rw [ei, ej, nI_leE (by omega) (by omega)]
    exact ⟨w2, w2, fun c => ⟨zok0, h0 (if_neg (by omega))⟩, fun c => ⟨zok1, h1 (if_pos (by omega))⟩⟩
