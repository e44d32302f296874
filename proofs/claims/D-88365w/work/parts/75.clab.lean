/-! the paints' classes are the labels' -/
theorem cnx_map {E E' : Nat → Nat → Prop} (g : Nat → Nat) (h : ∀ u v, E u v → cnx E' (g u) (g v)) {x y : Nat} (k : cnx E x y) : cnx E' (g x) (g y) := fun Q q c =>
  k (fun z => Q (g z)) q (fun u v e => ⟨fun hu => h u v e Q hu c, fun hv => cnx_sy (h u v e) Q hv c⟩)
theorem nbG_iff {E : Nat} {tt : Ab → Nat → Nat → Option Nat} {a : Ab} {x f y : Nat} : nbG E tt a x f = some y ↔ ∃ t j, aG a (4 * (x / E) + f) = some t ∧ tt a (4 * (x / E) + f) (x % E) = some j ∧ y = t / 4 * E + j := by
  unfold nbG
  constructor
  · intro h
    cases e : aG a (4 * (x / E) + f) with
    | none => rw [e] at h; exact absurd h (by simp)
    | some t =>
      rw [e] at h
      have h : (match tt a (4 * (x / E) + f) (x % E) with | none => none | some j => some (t / 4 * E + j)) = some y := h
      cases e2 : tt a (4 * (x / E) + f) (x % E) with
      | none => rw [e2] at h; exact absurd h (by simp)
      | some j =>
        rw [e2] at h
        injection h with h
        exact ⟨t, j, rfl, rfl, h.symm⟩
  · rintro ⟨t, j, h1, h2, h3⟩
    rw [h1]
    show (match tt a (4 * (x / E) + f) (x % E) with | none => none | some j => some (t / 4 * E + j)) = some y
    rw [h2, h3]
theorem lk2_iff {a : Ab} (ha : AWf a) (x y : Nat) : lkG 4 tt2 a x y ↔ lk7 a x y := by
  constructor
  · rintro ⟨hx, f, hf, hn⟩
    obtain ⟨t, j, h1, h2, h3⟩ := nbG_iff.mp hn
    unfold tt2 at h2
    split at h2
    · exact absurd h2 (by simp)
    · rename_i c
      injection h2 with h2
      exact ⟨4 * (x / 4) + f, t, x % 4, by omega, h1, by omega, c, by omega, by omega⟩
  · rintro ⟨s, t, c, hs, ht, hc, hne, rfl, rfl⟩
    have e1 : (4 * (s / 4) + c) / 4 = s / 4 := by omega
    have e2 : (4 * (s / 4) + c) % 4 = c := by omega
    have e3 : 4 * (s / 4) + s % 4 = s := by omega
    refine ⟨by omega, s % 4, by omega, nbG_iff.mpr ⟨t, aW a s c, ?_, ?_, by omega⟩⟩
    · rw [e1, e3]; exact ht
    · rw [e1, e2, e3]; unfold tt2; rw [if_neg hne]
theorem lk7_sy {a : Ab} (ha : AWf a) {x y : Nat} (h : lk7 a x y) : x < 4 * aP a ∧ y < 4 * aP a ∧ lk7 a y x := by
  obtain ⟨s, t, c, hs, ht, hc, hne, rfl, rfl⟩ := h
  obtain ⟨t1, t2, t3, t4, w⟩ := ha.2.1 s t hs ht
  have wc := w c hc
  refine ⟨by omega, by omega, t, s, aW a s c, t1, t3, wc.1, ?_, rfl, by rw [wc.2]⟩
  rw [← t4]
  exact AWf_inj ha hs ht hc (by omega) hne
theorem en_dec : ∀ k : Fin 12, endN 0 (enA k.val) (enB k.val) = k.val ∧ enA k.val < 4 ∧ enB k.val < 4 ∧ enA k.val ≠ enB k.val := by decide
theorem en_dec2 : ∀ c d : Fin 4, c.val ≠ d.val → enA (endN 0 c.val d.val) = c.val ∧ enB (endN 0 c.val d.val) = d.val ∧ endN 0 c.val d.val < 12 := by decide
theorem endN_p (p c d : Nat) : endN p c d = 12 * p + endN 0 c d := by unfold endN; omega
theorem tt4_end {a : Ab} {s k : Nat} (hne : aW a s (enA k) ≠ aW a s (enB k)) : 2 * edgeN (aW a s (enA k)) (aW a s (enB k)) + (if aW a s (enA k) ≤ aW a s (enB k) then 0 else 1) = endN 0 (aW a s (enA k)) (aW a s (enB k)) := by
  unfold endN
  by_cases c : aW a s (enA k) ≤ aW a s (enB k)
  · rw [if_pos c, if_pos (by omega)]; omega
  · rw [if_neg c, if_neg (by omega)]; omega
theorem lk4_iff {a : Ab} (ha : AWf a) (x y : Nat) : lkG 12 tt4 a x y ↔ lk6 a x y := by
  constructor
  · rintro ⟨hx, f, hf, hn⟩
    obtain ⟨t, j, h1, h2, h3⟩ := nbG_iff.mp hn
    obtain ⟨d1, d2, d3, d4⟩ := en_dec ⟨x % 12, by omega⟩
    have d1 : endN 0 (enA (x % 12)) (enB (x % 12)) = x % 12 := d1
    have d2 : enA (x % 12) < 4 := d2
    have d3 : enB (x % 12) < 4 := d3
    have d4 : enA (x % 12) ≠ enB (x % 12) := d4
    have hs : 4 * (x / 12) + f < 4 * aP a := by omega
    unfold tt4 at h2
    split at h2
    · exact absurd h2 (by simp)
    · rename_i c
      injection h2 with h2
      rw [tt4_end (AWf_inj ha hs h1 d2 d3 d4)] at h2
      refine ⟨4 * (x / 12) + f, t, enA (x % 12), enB (x % 12), hs, h1, d2, d3, d4, by omega, by omega, ?_, ?_⟩
      · rw [endN_p, d1]; omega
      · rw [endN_p, h2]; omega
  · rintro ⟨s, t, c, d, hs, ht, hc, hd, hcd, h1, h2, rfl, rfl⟩
    obtain ⟨e1, e2, e3⟩ := en_dec2 ⟨c, hc⟩ ⟨d, hd⟩ hcd
    have e1 : enA (endN 0 c d) = c := e1
    have e2 : enB (endN 0 c d) = d := e2
    have e3 : endN 0 c d < 12 := e3
    have p1 : endN (s / 4) c d / 12 = s / 4 := by rw [endN_p]; omega
    have p2 : endN (s / 4) c d % 12 = endN 0 c d := by rw [endN_p]; omega
    have p3 : 4 * (s / 4) + s % 4 = s := by omega
    refine ⟨by rw [endN_p]; omega, s % 4, by omega, nbG_iff.mpr ⟨t, endN 0 (aW a s c) (aW a s d), ?_, ?_, by rw [endN_p]; omega⟩⟩
    · rw [p1, p3]; exact ht
    · rw [p1, p2, p3]
      have ne := AWf_inj ha hs ht hc hd hcd
      unfold tt4
      have te := tt4_end (a := a) (s := s) (k := endN 0 c d) (by rw [e1, e2]; exact ne)
      rw [e1, e2] at te ⊢
      rw [if_neg (by omega), te]
theorem lk6_sy {a : Ab} (ha : AWf a) {x y : Nat} (h : lk6 a x y) : x < 12 * aP a ∧ y < 12 * aP a ∧ lk6 a y x := by
  obtain ⟨s, t, c, d, hs, ht, hc, hd, hcd, h1, h2, rfl, rfl⟩ := h
  obtain ⟨t1, t2, t3, t4, w⟩ := ha.2.1 s t hs ht
  have wc := w c hc
  have wd := w d hd
  have ne := AWf_inj ha hs ht hc hd hcd
  have e3 : endN 0 c d < 12 := (en_dec2 ⟨c, hc⟩ ⟨d, hd⟩ hcd).2.2
  have e4 : endN 0 (aW a s c) (aW a s d) < 12 := (en_dec2 ⟨_, wc.1⟩ ⟨_, wd.1⟩ ne).2.2
  refine ⟨by rw [endN_p]; omega, by rw [endN_p]; omega, t, s, aW a s c, aW a s d, t1, t3, wc.1, wd.1, ne, ?_, ?_, rfl, by rw [wc.2, wd.2]⟩
  · rw [← t4]; exact AWf_inj ha hs ht hc (by omega) h1
  · rw [← t4]; exact AWf_inj ha hs ht hd (by omega) h2
/-! edges -/
theorem ed_dec : ∀ c d : Fin 4, c.val ≠ d.val → edgeN c.val d.val < 6 ∧ edgeN d.val c.val = edgeN c.val d.val ∧ endN 0 c.val d.val / 2 = edgeN c.val d.val ∧ ((endN 0 c.val d.val = 2 * edgeN c.val d.val ∧ endN 0 d.val c.val = 2 * edgeN c.val d.val + 1) ∨ (endN 0 c.val d.val = 2 * edgeN c.val d.val + 1 ∧ endN 0 d.val c.val = 2 * edgeN c.val d.val)) := by decide
theorem ed_dec3 : ∀ e : Fin 6, edgeN (eFrom e.val) (eTo e.val) = e.val ∧ endN 0 (eFrom e.val) (eTo e.val) = 2 * e.val ∧ endN 0 (eTo e.val) (eFrom e.val) = 2 * e.val + 1 := by decide
/-- edges linked: by their corners -/
theorem lk3_iff {a : Ab} (ha : AWf a) (x y : Nat) : lkG 6 tt3 a x y ↔ ∃ s t c d, s < 4 * aP a ∧ aG a s = some t ∧ c < 4 ∧ d < 4 ∧ c ≠ d ∧ c ≠ s % 4 ∧ d ≠ s % 4 ∧ x = 6 * (s / 4) + edgeN c d ∧ y = 6 * (t / 4) + edgeN (aW a s c) (aW a s d) := by
  constructor
  · rintro ⟨hx, f, hf, hn⟩
    obtain ⟨t, j, h1, h2, h3⟩ := nbG_iff.mp hn
    have l := eFT_lt (x % 6)
    have ne := eFT_ne (x % 6) (by omega)
    have d1 : edgeN (eFrom (x % 6)) (eTo (x % 6)) = x % 6 := (ed_dec3 ⟨x % 6, by omega⟩).1
    unfold tt3 at h2
    split at h2
    · exact absurd h2 (by simp)
    · rename_i c
      injection h2 with h2
      exact ⟨4 * (x / 6) + f, t, eFrom (x % 6), eTo (x % 6), by omega, h1, l.1, l.2, ne, by omega, by omega, by rw [d1]; omega, by omega⟩
  · rintro ⟨s, t, c, d, hs, ht, hc, hd, hcd, h1, h2, rfl, rfl⟩
    obtain ⟨e1, e2, _, _⟩ := ed_dec ⟨c, hc⟩ ⟨d, hd⟩ hcd
    have e1 : edgeN c d < 6 := e1
    obtain ⟨q1, q2, _⟩ := edgeN_spec c hc d hd hcd
    have wc := ((ha.2.1 s t hs ht).2.2.2.2 c hc).1
    have wd := ((ha.2.1 s t hs ht).2.2.2.2 d hd).1
    have ne := AWf_inj ha hs ht hc hd hcd
    have sw : edgeN (aW a s d) (aW a s c) = edgeN (aW a s c) (aW a s d) := (ed_dec ⟨_, wc⟩ ⟨_, wd⟩ ne).2.1
    have p1 : (6 * (s / 4) + edgeN c d) / 6 = s / 4 := by omega
    have p2 : (6 * (s / 4) + edgeN c d) % 6 = edgeN c d := by omega
    have p3 : 4 * (s / 4) + s % 4 = s := by omega
    refine ⟨by omega, s % 4, by omega, nbG_iff.mpr ⟨t, edgeN (aW a s c) (aW a s d), ?_, ?_, by omega⟩⟩
    · rw [p1, p3]; exact ht
    · rw [p1, p2, p3]
      unfold tt3
      rcases q2 with ⟨r1, r2⟩ | ⟨r1, r2⟩
      · rw [r1, r2, if_neg (by omega)]
      · rw [r1, r2, if_neg (by omega), sw]
theorem lk3_sy {a : Ab} (ha : AWf a) {x y : Nat} (h : lkG 6 tt3 a x y) : x < 6 * aP a ∧ y < 6 * aP a ∧ lkG 6 tt3 a y x := by
  obtain ⟨s, t, c, d, hs, ht, hc, hd, hcd, h1, h2, rfl, rfl⟩ := (lk3_iff ha x y).mp h
  obtain ⟨t1, t2, t3, t4, w⟩ := ha.2.1 s t hs ht
  have wc := w c hc
  have wd := w d hd
  have ne := AWf_inj ha hs ht hc hd hcd
  have e3 : edgeN c d < 6 := (ed_dec ⟨c, hc⟩ ⟨d, hd⟩ hcd).1
  have e4 : edgeN (aW a s c) (aW a s d) < 6 := (ed_dec ⟨_, wc.1⟩ ⟨_, wd.1⟩ ne).1
  refine ⟨by omega, by omega, (lk3_iff ha _ _).mpr ⟨t, s, aW a s c, aW a s d, t1, t3, wc.1, wd.1, ne, ?_, ?_, rfl, by rw [wc.2, wd.2]⟩⟩
  · rw [← t4]; exact AWf_inj ha hs ht hc (by omega) h1
  · rw [← t4]; exact AWf_inj ha hs ht hd (by omega) h2
theorem cnx_iff {E E' : Nat → Nat → Prop} (h : ∀ x y, E x y ↔ E' x y) : E = E' := funext fun x => funext fun y => propext (h x y)
theorem lab2 {a : Ab} (ha : AWf a) {L : Lb} (hl : labs a L) : isLab (4 * aP a) (lkG 4 tt2 a) L.2.1 := by
  have hP := ha.1
  rw [cnx_iff (lk2_iff ha)]
  exact ⟨fun x hx => hl.2.1.1 x (by omega), fun x hx => hl.2.1.2.1 x (by omega), hl.2.1.2.2⟩
theorem sym2 {a : Ab} (ha : AWf a) : ∀ x y, lkG 4 tt2 a x y → x < 4 * aP a ∧ y < 4 * aP a ∧ lkG 4 tt2 a y x := by
  rw [cnx_iff (lk2_iff ha)]
  exact fun x y h => lk7_sy ha h
theorem lab4 {a : Ab} (ha : AWf a) {L : Lb} (hl : labs a L) : isLab (12 * aP a) (lkG 12 tt4 a) L.1 := by
  have hP := ha.1
  rw [cnx_iff (lk4_iff ha)]
  exact ⟨fun x hx => hl.1.1 x (by omega), fun x hx => hl.1.2.1 x (by omega), hl.1.2.2⟩
theorem sym4 {a : Ab} (ha : AWf a) : ∀ x y, lkG 12 tt4 a x y → x < 12 * aP a ∧ y < 12 * aP a ∧ lkG 12 tt4 a y x := by
  rw [cnx_iff (lk4_iff ha)]
  exact fun x y h => lk6_sy ha h
theorem lab3 {a : Ab} (ha : AWf a) {L : Lb} (hl : labs a L) : isLab (6 * aP a) (lkG 6 tt3 a) (eL L) := by
  have hP := ha.1
  refine ⟨fun x hx => eL_le hl (by omega), fun x hx => ?_, fun x y hxy => ?_⟩
  · have mp : ∀ u v, lk6 a u v → cnx (lkG 6 tt3 a) (u / 2) (v / 2) := by
      rintro u v ⟨s, t, c, d, hs, ht, hc, hd, hcd, h1, h2, rfl, rfl⟩
      have wc := ((ha.2.1 s t hs ht).2.2.2.2 c hc).1
      have wd := ((ha.2.1 s t hs ht).2.2.2.2 d hd).1
      have ne := AWf_inj ha hs ht hc hd hcd
      have e1 : endN 0 c d / 2 = edgeN c d := (ed_dec ⟨c, hc⟩ ⟨d, hd⟩ hcd).2.2.1
      have e2 : endN 0 (aW a s c) (aW a s d) / 2 = edgeN (aW a s c) (aW a s d) := (ed_dec ⟨_, wc⟩ ⟨_, wd⟩ ne).2.2.1
      refine cnx_E ((lk3_iff ha _ _).mpr ⟨s, t, c, d, hs, ht, hc, hd, hcd, h1, h2, ?_, ?_⟩)
      · rw [endN_p]; omega
      · rw [endN_p]; omega
    have k1 := cnx_map (fun z => z / 2) mp (hl.1.2.1 (2 * x) (by omega))
    have k2 := cnx_map (fun z => z / 2) mp (hl.1.2.1 (2 * x + 1) (by omega))
    have k1 : cnx (lkG 6 tt3 a) (2 * x / 2) (L.1 (2 * x) / 2) := k1
    have k2 : cnx (lkG 6 tt3 a) ((2 * x + 1) / 2) (L.1 (2 * x + 1) / 2) := k2
    rw [show 2 * x / 2 = x by omega] at k1
    rw [show (2 * x + 1) / 2 = x by omega] at k2
    unfold eL
    by_cases c : L.1 (2 * x) ≤ L.1 (2 * x + 1)
    · rw [Nat.min_eq_left c]; exact k1
    · rw [Nat.min_eq_right (by omega)]; exact k2
  · obtain ⟨s, t, c, d, hs, ht, hc, hd, hcd, h1, h2, rfl, rfl⟩ := (lk3_iff ha x y).mp hxy
    have wc := ((ha.2.1 s t hs ht).2.2.2.2 c hc).1
    have wd := ((ha.2.1 s t hs ht).2.2.2.2 d hd).1
    have ne := AWf_inj ha hs ht hc hd hcd
    have m1 := hl.1.2.2 _ _ ⟨s, t, c, d, hs, ht, hc, hd, hcd, h1, h2, rfl, rfl⟩
    have m2 := hl.1.2.2 _ _ ⟨s, t, d, c, hs, ht, hd, hc, Ne.symm hcd, h2, h1, rfl, rfl⟩
    rw [endN_p (s / 4), endN_p (t / 4)] at m1 m2
    have q1 := (ed_dec ⟨c, hc⟩ ⟨d, hd⟩ hcd).2.2.2
    have q2 := (ed_dec ⟨_, wc⟩ ⟨_, wd⟩ ne).2.2.2
    have q1 : (endN 0 c d = 2 * edgeN c d ∧ endN 0 d c = 2 * edgeN c d + 1) ∨ (endN 0 c d = 2 * edgeN c d + 1 ∧ endN 0 d c = 2 * edgeN c d) := q1
    have q2 : (endN 0 (aW a s c) (aW a s d) = 2 * edgeN (aW a s c) (aW a s d) ∧ endN 0 (aW a s d) (aW a s c) = 2 * edgeN (aW a s c) (aW a s d) + 1) ∨ (endN 0 (aW a s c) (aW a s d) = 2 * edgeN (aW a s c) (aW a s d) + 1 ∧ endN 0 (aW a s d) (aW a s c) = 2 * edgeN (aW a s c) (aW a s d)) := q2
    unfold eL
    rw [show 2 * (6 * (s / 4) + edgeN c d) = 12 * (s / 4) + 2 * edgeN c d by omega, show 2 * (6 * (t / 4) + edgeN (aW a s c) (aW a s d)) = 12 * (t / 4) + 2 * edgeN (aW a s c) (aW a s d) by omega, Nat.add_assoc (12 * (s / 4)), Nat.add_assoc (12 * (t / 4))]
    rcases q1 with ⟨a1, a2⟩ | ⟨a1, a2⟩ <;> rcases q2 with ⟨b1, b2⟩ | ⟨b1, b2⟩ <;> rw [a1, b1] at m1 <;> rw [a2, b2] at m2 <;> omega
