/-! the model: glue -/
def mapOk (g m : Nat) : Prop := m % 4 ≠ m / 4 % 4 ∧ m % 4 ≠ m / 16 ∧ m / 4 % 4 ≠ m / 16 ∧ m % 4 ≠ g ∧ m / 4 % 4 ≠ g ∧ m / 16 ≠ g
/-- where corner x of side f goes -/
def mp (f g m x : Nat) : Nat := if x = f then g else if x < f then (if x = 0 then m % 4 else if x = 1 then m / 4 % 4 else m / 16) else (if x = 1 then m % 4 else if x = 2 then m / 4 % 4 else m / 16)
/-- and back -/
def im (f g m y : Nat) : Nat := if y = mp f g m 0 then 0 else if y = mp f g m 1 then 1 else if y = mp f g m 2 then 2 else 3
theorem mp_lt {f g m x : Nat} (hf : f < 4) (hg : g < 4) (hm : m < 64) : mp f g m x < 4 := by
  unfold mp
  split
  · omega
  · split <;> split <;> (try split) <;> omega
def ixN (f x : Nat) : Nat := if x ≤ f then x else x - 1
theorem ixN_spec (f x : Nat) : (x ≤ f ∧ ixN f x = x) ∨ (f < x ∧ ixN f x = x - 1) := by
  unfold ixN
  split <;> omega
theorem mp_idx {f g m x : Nat} (h : x ≠ f) : mp f g m x = if ixN f x = 0 then m % 4 else if ixN f x = 1 then m / 4 % 4 else m / 16 := by
  unfold mp
  rw [if_neg h]
  have s := ixN_spec f x
  by_cases c : x < f
  · rw [if_pos c]
    have e : ixN f x = x := by omega
    rw [e]
  · rw [if_neg c]
    have e : ixN f x = x - 1 := by omega
    rw [e]
    by_cases c1 : x = 1
    · rw [if_pos c1, if_pos (by omega)]
    · rw [if_neg c1, if_neg (show ¬ x - 1 = 0 by omega)]
      by_cases c2 : x = 2
      · rw [if_pos c2, if_pos (by omega)]
      · rw [if_neg c2, if_neg (by omega)]
theorem mp_inj {f g m : Nat} (hf : f < 4) (hm : mapOk g m) {x y : Nat} (hx : x < 4) (hy : y < 4) (h : mp f g m x = mp f g m y) : x = y := by
  unfold mapOk at hm
  unfold mp at h
  have hx' : x = 0 ∨ x = 1 ∨ x = 2 ∨ x = 3 := by omega
  have hy' : y = 0 ∨ y = 1 ∨ y = 2 ∨ y = 3 := by omega
  have hf' : f = 0 ∨ f = 1 ∨ f = 2 ∨ f = 3 := by omega
  rcases hx' with rfl | rfl | rfl | rfl <;> rcases hy' with rfl | rfl | rfl | rfl <;> rcases hf' with rfl | rfl | rfl | rfl <;> simp at h ⊢ <;> omega
theorem im_mp {f g m : Nat} (hf : f < 4) (hm : mapOk g m) {x : Nat} (hx : x < 4) : im f g m (mp f g m x) = x := by
  unfold im
  have h0 := fun h => mp_inj (y := 0) hf hm hx (by decide) h
  have h1 := fun h => mp_inj (y := 1) hf hm hx (by decide) h
  have h2 := fun h => mp_inj (y := 2) hf hm hx (by decide) h
  split
  · rename_i c; exact (h0 c).symm
  · split
    · rename_i c; exact (h1 c).symm
    · split
      · rename_i c; exact (h2 c).symm
      · rename_i c0 c1 c2
        have e0 : x ≠ 0 := fun e => c0 (by rw [e])
        have e1 : x ≠ 1 := fun e => c1 (by rw [e])
        have e2 : x ≠ 2 := fun e => c2 (by rw [e])
        omega
theorem im_lt {f g m y : Nat} : im f g m y < 4 := by
  unfold im
  split
  · omega
  · split
    · omega
    · split <;> omega
theorem mp_im {f g m : Nat} (hf : f < 4) (hg : g < 4) (hml : m < 64) (hm : mapOk g m) {y : Nat} (hy : y < 4) : mp f g m (im f g m y) = y := by
  unfold im
  split
  · rename_i c; exact c.symm
  · split
    · rename_i c; exact c.symm
    · split
      · rename_i c; exact c.symm
      · rename_i c0 c1 c2
        have l0 := mp_lt (x := 0) hf hg hml
        have l1 := mp_lt (x := 1) hf hg hml
        have l2 := mp_lt (x := 2) hf hg hml
        have l3 := mp_lt (x := 3) hf hg hml
        have d01 : mp f g m 0 ≠ mp f g m 1 := fun h => absurd (mp_inj hf hm (by decide) (by decide) h) (by decide)
        have d02 : mp f g m 0 ≠ mp f g m 2 := fun h => absurd (mp_inj hf hm (by decide) (by decide) h) (by decide)
        have d03 : mp f g m 0 ≠ mp f g m 3 := fun h => absurd (mp_inj hf hm (by decide) (by decide) h) (by decide)
        have d12 : mp f g m 1 ≠ mp f g m 2 := fun h => absurd (mp_inj hf hm (by decide) (by decide) h) (by decide)
        have d13 : mp f g m 1 ≠ mp f g m 3 := fun h => absurd (mp_inj hf hm (by decide) (by decide) h) (by decide)
        have d23 : mp f g m 2 ≠ mp f g m 3 := fun h => absurd (mp_inj hf hm (by decide) (by decide) h) (by decide)
        omega
def ab_glue (a : Ab) (p f q g m : Nat) : Ab := (aP a, fun k => if k = 4 * p + f then some (4 * q + g) else if k = 4 * q + g then some (4 * p + f) else aG a k, fun k x => if k = 4 * p + f then mp f g m x else if k = 4 * q + g then im f g m x else aW a k x, aS a)
theorem AWf_glue {a : Ab} (ha : AWf a) {p f q g m : Nat} (hp : p < aP a) (hf : f < 4) (hq : q < aP a) (hg : g < 4) (hml : m < 64) (hm : mapOk g m) (hne : ¬ (p = q ∧ f = g)) (h1 : aG a (4 * p + f) = none) (h2 : aG a (4 * q + g) = none) : AWf (ab_glue a p f q g m) := by
  refine ⟨ha.1, fun s t hs ht => ?_, ha.2.2⟩
  have hne' : 4 * p + f ≠ 4 * q + g := by omega
  have hmf : mp f g m f = g := by unfold mp; rw [if_pos rfl]
  have hmg : im f g m g = f := by have h := im_mp hf hm hf; rw [hmf] at h; exact h
  have ht : (if s = 4 * p + f then some (4 * q + g) else if s = 4 * q + g then some (4 * p + f) else aG a s) = some t := ht
  show t < 4 * aP a ∧ t ≠ s ∧ (if t = 4 * p + f then some (4 * q + g) else if t = 4 * q + g then some (4 * p + f) else aG a t) = some s ∧ (if s = 4 * p + f then mp f g m (s % 4) else if s = 4 * q + g then im f g m (s % 4) else aW a s (s % 4)) = t % 4 ∧ ∀ c, c < 4 → (if s = 4 * p + f then mp f g m c else if s = 4 * q + g then im f g m c else aW a s c) < 4 ∧ (if t = 4 * p + f then mp f g m (if s = 4 * p + f then mp f g m c else if s = 4 * q + g then im f g m c else aW a s c) else if t = 4 * q + g then im f g m (if s = 4 * p + f then mp f g m c else if s = 4 * q + g then im f g m c else aW a s c) else aW a t (if s = 4 * p + f then mp f g m c else if s = 4 * q + g then im f g m c else aW a s c)) = c
  by_cases e1 : s = 4 * p + f
  · rw [if_pos e1] at ht
    injection ht with ht
    subst ht
    simp only [if_pos e1, if_neg (Ne.symm hne'), if_pos]
    refine ⟨by omega, by omega, by rw [e1], by rw [e1, show (4 * p + f) % 4 = f by omega, hmf]; omega, fun c hc => ⟨mp_lt hf hg hml, im_mp hf hm hc⟩⟩
  · rw [if_neg e1] at ht
    by_cases e2 : s = 4 * q + g
    · rw [if_pos e2] at ht
      injection ht with ht
      subst ht
      simp only [if_neg e1, if_pos e2, if_pos]
      refine ⟨by omega, by omega, by rw [e2], by rw [e2, show (4 * q + g) % 4 = g by omega, hmg]; omega, fun c hc => ⟨im_lt, mp_im hf hg hml hm hc⟩⟩
    · rw [if_neg e2] at ht
      obtain ⟨k1, k2, k3, k4, k5⟩ := ha.2.1 s t hs ht
      have n1 : t ≠ 4 * p + f := by rintro rfl; rw [h1] at k3; exact absurd k3 (by simp)
      have n2 : t ≠ 4 * q + g := by rintro rfl; rw [h2] at k3; exact absurd k3 (by simp)
      simp only [if_neg e1, if_neg e2, if_neg n1, if_neg n2]
      exact ⟨k1, k2, k3, k4, k5⟩
/-- the gluing's arguments are good -/
def gOk (a : Ab) (x1 x2 x3 x4 x5 : Int32) : Prop := sideP a x1 x2 ∧ sideP a x3 x4 ∧ inN x5 64 ∧ ¬ (x1 = x3 ∧ x2 = x4) ∧ mapOk x4.toNatClampNeg x5.toNatClampNeg
theorem in63 {w : Int32} : ((0 : Int32) ≤ w ∧ w ≤ 63) ↔ inN w 64 := in_iff (n := 63) (by decide)
theorem s_glue {a : Ab} (ha : AWf a) {S : MS} (hR : MR a S) {x1 x2 x3 x4 x5 : Int32} {post : Int32 → MS → Prop} (h0 : ¬ gOk a x1 x2 x3 x4 x5 → post (-2) S) (h1 : gOk a x1 x2 x3 x4 x5 → (aG a (sdN x1 x2) ≠ none ∨ aG a (sdN x3 x4) ≠ none) → post (-3) S)
    (h2 : gOk a x1 x2 x3 x4 x5 → aG a (sdN x1 x2) = none → aG a (sdN x3 x4) = none → ∀ S', MR (ab_glue a x1.toNatClampNeg x2.toNatClampNeg x3.toNatClampNeg x4.toNatClampNeg x5.toNatClampNeg) S' → post 1 S') : M_glue x1 x2 x3 x4 x5 S post := by
  apply M_glue_ok
  intro T r
  have hP := ha.1
  unfold M_glue_w0 M_glue_w30
  refine s_isSide hR.1 hP (fun i1 i2 => ⟨fun c => absurd c (by decide), fun _ => ?_⟩) (fun q => ⟨fun _ => h0 (fun k => q k.1), fun c => absurd rfl c⟩)
  refine s_isSide hR.1 hP (fun i3 i4 => ⟨fun c => absurd c (by decide), fun _ => ?_⟩) (fun q => ⟨fun _ => h0 (fun k => q k.2.1), fun c => absurd rfl c⟩)
  apply s_in
  by_cases i5 : inN x5 64
  · rw [if_pos (in63.mpr i5)]
    refine ⟨fun _ => ?_, fun c => absurd c (by decide)⟩
    obtain ⟨p, hp, rfl⟩ := i1
    obtain ⟨f, hf, rfl⟩ := i2
    obtain ⟨q, hq, rfl⟩ := i3
    obtain ⟨g, hg, rfl⟩ := i4
    obtain ⟨m, hm, rfl⟩ := i5
    unfold sdN at h1 h2
    unfold gOk at h0 h1 h2
    rw [nI_clamp (n := p) (by omega), nI_clamp (n := f) (by omega), nI_clamp (n := q) (by omega), nI_clamp (n := g) (by omega), nI_clamp (n := m) (by omega)] at h2
    rw [nI_clamp (n := p) (by omega), nI_clamp (n := f) (by omega), nI_clamp (n := q) (by omega), nI_clamp (n := g) (by omega), nI_clamp (n := m) (by omega)] at h1
    rw [nI_clamp (n := g) (by omega), nI_clamp (n := m) (by omega)] at h0
    rw [nI_eqE (by omega) (by omega), nI_eqE (by omega) (by omega)] at h0 h1 h2
    unfold M_glue_w107
    simp (disch := omega) only [n0, n1, n2, n3, n4, n5, n6, n7, n8, n9, n10, n11, n12, n14, n16, n18, n21, n22, n36, n48, n63, n100, n108, n400, n1000, pk_mul, nI_add, pk_div, nI_subm, nI_ltE, nI_leE, nI_eqE, nI_clamp, vp_inE, nIm1, nIm1', nIm1n, nIm1n', nI_addn]
    have fin : mapOk g m → ¬ (p = q ∧ f = g) → M_glue_w110 post T (nI p) (nI f) (nI q) (nI g) (nI (m - m / 4 * 4)) (nI (m / 4 - m / 4 / 4 * 4)) (nI (m / 16)) S := by
      intro hok hne
      have hst : 4 * p + f + 1 ≤ 4 * q + g ∨ 4 * q + g + 1 ≤ 4 * p + f := by omega
      have good : (sideP a (nI p) (nI f) ∧ sideP a (nI q) (nI g) ∧ inN (nI m) 64 ∧ ¬ (p = q ∧ f = g) ∧ mapOk g m) := ⟨⟨⟨p, hp, rfl⟩, ⟨f, hf, rfl⟩⟩, ⟨⟨q, hq, rfl⟩, ⟨g, hg, rfl⟩⟩, ⟨m, hm, rfl⟩, hne, hok⟩
      have h1 := h1 good
      have h2 := h2 good
      unfold M_glue_w110 M_glue_w147
      simp (disch := omega) only [n0, n1, n2, n3, n4, n5, n6, n7, n8, n9, n10, n11, n12, n14, n16, n18, n21, n22, n36, n48, n63, n100, n108, n400, n1000, pk_mul, nI_add, pk_div, nI_subm, nI_ltE, nI_leE, nI_eqE, nI_clamp, vp_inE, nIm1, nIm1', nIm1n, nIm1n', nI_addn]
      rw [hR.2.2.1 (4 * p + f) (by omega), hR.2.2.1 (4 * q + g) (by omega)]
      refine ⟨by omega, fun c => h1 (Or.inl (fun k => c (by rw [k]; rfl))), fun c => ⟨by omega, fun c2 => ⟨by omega, by omega, ?_⟩, fun c2 => h1 (Or.inr (fun k => c2 (by rw [k]; rfl)))⟩⟩
      have e1 : aG a (4 * p + f) = none := by
        cases e : aG a (4 * p + f) with
        | none => rfl
        | some t =>
          rw [e] at c
          have := (ha.2.1 _ t (by omega) e).1
          exact absurd c (by show ¬ nI t = -nI 1; rw [nIm1n (by omega)]; exact id)
      have e2 : aG a (4 * q + g) = none := by
        cases e : aG a (4 * q + g) with
        | none => rfl
        | some t =>
          rw [e] at c2
          have := (ha.2.1 _ t (by omega) e).1
          exact absurd c2 (by show ¬ nI t = -nI 1; rw [nIm1n (by omega)]; exact id)
      have h2 := h2 e1 e2
      rw [show m - m / 4 * 4 = m % 4 by omega, show m / 4 - m / 4 / 4 * 4 = m / 4 % 4 by omega]
      have K : ∀ x, x ≤ 4 → ∀ S', (∀ k, gF S' k = gF S k) → (∀ b j, b ≠ 2 → gI S' b j = gI (sI (sI S 1 (4 * p + f) (nI (4 * q + g))) 1 (4 * q + g) (nI (4 * p + f))) b j) → (∀ j, (j < 4 * (4 * p + f) ∨ 4 * (4 * p + f) + 4 ≤ j) → (j < 4 * (4 * q + g) ∨ 4 * (4 * q + g) + 4 ≤ j) → gI S' 2 j = gI S 2 j) → (∀ y, y < x → gI S' 2 (4 * (4 * p + f) + y) = nI (mp f g m y) ∧ gI S' 2 (4 * (4 * q + g) + mp f g m y) = nI y) → T (nI f) (nI g) (nI (m % 4)) (nI (m / 4 % 4)) (nI (m / 16)) (nI (4 * p + f)) (nI (4 * q + g)) (nI (ixN f x)) (nI x) S' := by
        refine loopUp (P := fun x => ∀ S', (∀ k, gF S' k = gF S k) → (∀ b j, b ≠ 2 → gI S' b j = gI (sI (sI S 1 (4 * p + f) (nI (4 * q + g))) 1 (4 * q + g) (nI (4 * p + f))) b j) → (∀ j, (j < 4 * (4 * p + f) ∨ 4 * (4 * p + f) + 4 ≤ j) → (j < 4 * (4 * q + g) ∨ 4 * (4 * q + g) + 4 ≤ j) → gI S' 2 j = gI S 2 j) → (∀ y, y < x → gI S' 2 (4 * (4 * p + f) + y) = nI (mp f g m y) ∧ gI S' 2 (4 * (4 * q + g) + mp f g m y) = nI y) → T (nI f) (nI g) (nI (m % 4)) (nI (m / 4 % 4)) (nI (m / 16)) (nI (4 * p + f)) (nI (4 * q + g)) (nI (ixN f x)) (nI x) S') 4 (fun x hx ih S' k1 k2 k3 k4 => ?_)
        apply r
        have hix := ixN_spec f x
        have hix1 := ixN_spec f (x + 1)
        have step : x < 4 → ∀ i, i = ixN f (x + 1) → M_glue_w218 post T (nI f) (nI g) (nI (m % 4)) (nI (m / 4 % 4)) (nI (m / 16)) (nI (4 * p + f)) (nI (4 * q + g)) (nI i) (nI x) (nI (mp f g m x)) S' := by
          intro hx4 i hi
          have l := mp_lt (x := x) hf hg hm
          unfold M_glue_w218
          simp (disch := omega) only [n0, n1, n2, n3, n4, n5, n6, n7, n8, n9, n10, n11, n12, n14, n16, n18, n21, n22, n36, n48, n63, n100, n108, n400, n1000, pk_mul, nI_add, pk_div, nI_subm, nI_ltE, nI_leE, nI_eqE, nI_clamp, vp_inE, nIm1, nIm1', nIm1n, nIm1n', nI_addn]
          rw [hi]
          refine ⟨by omega, by omega, ih hx4 _ (fun k => k1 k) (fun b j hb => ?_) (fun j j1 j2 => ?_) (fun y hy => ?_)⟩
          · rw [gI_sI, if_neg (fun z => hb z.1), gI_sI, if_neg (fun z => hb z.1)]
            exact k2 b j hb
          · rw [gI_sI, if_neg (by omega), gI_sI, if_neg (by omega)]
            exact k3 j j1 j2
          · by_cases e : y = x
            · subst e
              refine ⟨?_, ?_⟩
              · rw [gI_sI, if_neg (by omega), gI_sI, if_pos ⟨rfl, rfl⟩]
              · rw [gI_sI, if_pos ⟨rfl, rfl⟩]
            · have ly := mp_lt (x := y) hf hg hm
              have hd : mp f g m y ≠ mp f g m x := fun h => e (mp_inj hf hok (by omega) hx4 h)
              have k4 := k4 y (by omega)
              refine ⟨?_, ?_⟩
              · rw [gI_sI, if_neg (by omega), gI_sI, if_neg (by omega)]
                exact k4.1
              · rw [gI_sI, if_neg (by omega), gI_sI, if_neg (by omega)]
                exact k4.2
        unfold M_glue_w174 M_glue_w213
        simp (disch := omega) only [n0, n1, n2, n3, n4, n5, n6, n7, n8, n9, n10, n11, n12, n14, n16, n18, n21, n22, n36, n48, n63, n100, n108, n400, n1000, pk_mul, nI_add, pk_div, nI_subm, nI_ltE, nI_leE, nI_eqE, nI_clamp, vp_inE, nIm1, nIm1', nIm1n, nIm1n', nI_addn]
        refine ⟨fun c => ?_, fun c => ⟨fun c2 => ?_, fun c2 => ⟨fun c3 => ⟨fun c4 => ?_, fun c4 => ?_⟩, fun c3 => ?_⟩⟩⟩
        · refine h2 S' ⟨by rw [k1 0]; exact hR.1, fun e he => ?_, fun s hs => ?_, fun s t hs ht c' hc' => ?_, fun i hi => ?_⟩
          · rw [k2 4 e (by decide), k2 5 e (by decide), gI_sI, if_neg (by omega), gI_sI, if_neg (by omega), gI_sI, if_neg (by omega), gI_sI, if_neg (by omega)]
            exact hR.2.1 e he
          · rw [k2 1 s (by decide), gI_sI, gI_sI]
            show _ = glN (if s = 4 * p + f then some (4 * q + g) else if s = 4 * q + g then some (4 * p + f) else aG a s)
            by_cases s1 : s = 4 * p + f
            · rw [if_pos s1, if_neg (by omega), if_pos ⟨rfl, s1⟩]; rfl
            · rw [if_neg s1]
              by_cases s2 : s = 4 * q + g
              · rw [if_pos s2, if_pos ⟨rfl, s2⟩]; rfl
              · rw [if_neg s2, if_neg (by omega), if_neg (by omega)]
                exact hR.2.2.1 s hs
          · show _ = nI (if s = 4 * p + f then mp f g m c' else if s = 4 * q + g then im f g m c' else aW a s c')
            have ht : (if s = 4 * p + f then some (4 * q + g) else if s = 4 * q + g then some (4 * p + f) else aG a s) = some t := ht
            by_cases s1 : s = 4 * p + f
            · rw [if_pos s1, s1]
              exact (k4 c' (by omega)).1
            · rw [if_neg s1] at ht ⊢
              by_cases s2 : s = 4 * q + g
              · rw [if_pos s2, s2]
                have l := im_lt (f := f) (g := g) (m := m) (y := c')
                have := (k4 (im f g m c') (by omega)).2
                rw [mp_im hf hg hm hok hc'] at this
                exact this
              · rw [if_neg s2] at ht ⊢
                rw [k3 _ (by omega) (by omega)]
                exact hR.2.2.2.1 s t hs ht c' hc'
          · rw [k2 3 i (by decide), gI_sI, if_neg (by omega), gI_sI, if_neg (by omega)]
            exact hR.2.2.2.2 i hi
        · subst c2
          have := step (by omega) (ixN x x) (by omega)
          have e : mp x g m x = g := by unfold mp; rw [if_pos rfl]
          rw [e] at this
          exact this
        · have := step (by omega) (ixN f x + 1) (by omega)
          have e : mp f g m x = m / 16 := by rw [mp_idx c2, if_neg c3, if_neg c4]
          rw [e] at this
          exact this
        · have := step (by omega) (ixN f x + 1) (by omega)
          have e : mp f g m x = m / 4 % 4 := by rw [mp_idx c2, if_neg c3, if_pos c4]
          rw [e] at this
          exact this
        · have := step (by omega) (ixN f x + 1) (by omega)
          have e : mp f g m x = m % 4 := by rw [mp_idx c2, if_pos c3]
          rw [e] at this
          exact this
      refine K 0 (by omega) _ (fun _ => rfl) (fun _ _ _ => rfl) (fun j _ _ => ?_) (fun y hy => absurd hy (Nat.not_lt_zero _))
      rw [gI_sI, if_neg (by omega), gI_sI, if_neg (by omega)]
    by_cases hg2 : mapOk g m ∧ ¬ (p = q ∧ f = g)
    · have fin := fin hg2.1 hg2.2
      unfold mapOk at hg2
      (with_reducible repeat' (first | apply And.intro | intro _))
      all_goals first | exact fin | (exfalso; omega)
    · have h0 := h0 (fun k => hg2 ⟨k.2.2.2.2, k.2.2.2.1⟩)
      unfold mapOk at hg2
      (with_reducible repeat' (first | apply And.intro | intro _))
      all_goals first | exact h0 | (exfalso; omega)
  · rw [if_neg (fun q => i5 (in63.mp q))]
    exact ⟨fun c => absurd rfl c, fun _ => h0 (fun k => i5 k.2.2.1)⟩
