/-! the component: pairOf; writing into the holes' rows -/
theorem c_pairOf {κ : Prop} {a : Ab} (ha : AWf a) {S : CS} (hI : CI κ a S) {s0 t0 : Nat} (hs : s0 < 4 * aP a) (ht : aG a s0 = some t0) {post : Int32 → CS → Prop} (h : post (nI (pIx a s0 t0)) S) : C_pairOf (nI (s0 / 4)) (nI (s0 % 4)) S post := by
  apply C_pairOf_ok
  intro T r
  have hP := ha.1
  obtain ⟨t1, t2, t3, _⟩ := ha.2.1 s0 t0 hs ht
  unfold C_pairOf_w0
  have hpn : ∀ n, prN a n ≤ n := fun n => by
    have := sumN_ub (f := prB a) 1 n (fun k _ => prB_le a k)
    unfold prN
    omega
  have e0 : (nI (s0 / 4) * 4 + nI (s0 % 4) : Int32) = nI s0 := by
    rw [show (4 : Int32) = nI 4 from rfl, pk_mul, nI_add]
    congr 1
    omega
  have hm : (if s0 < t0 then s0 else t0) < 4 * aP a := by split <;> omega
  unfold pIx at h
  suffices K : ∀ s, s ≤ (if s0 < t0 then s0 else t0) → T (nI (s0 / 4)) (nI (s0 % 4)) (nI (prN a s)) (nI s) S from K 0 (Nat.zero_le _)
  refine loopUp (P := fun s => T (nI (s0 / 4)) (nI (s0 % 4)) (nI (prN a s)) (nI s) S) (if s0 < t0 then s0 else t0) (fun s hs' ih => ?_)
  apply r
  unfold C_pairOf_w5 C_pairOf_w41 C_pairOf_w70 C_pairOf_w71 C_pairOf_w106 C_pairOf_w108 C_pairOf_w119
  have e4 : nI s / 4 = nI (s / 4) := by simp (disch := omega) only [n0, n1, n2, n3, n4, n5, n6, n7, n8, n9, n10, n11, n12, n14, n16, n18, n21, n22, n36, n48, n63, n100, n108, n400, n1000, pk_mul, nI_add, pk_div, nI_subm, nI_ltE, nI_leE, nI_eqE, nI_clamp, vp_inE, nIm1, nIm1', nIm1n, nIm1n', nI_addn]
  have e5 : nI s - nI s / 4 * 4 = nI (s % 4) := by
    simp (disch := omega) only [n0, n1, n2, n3, n4, n5, n6, n7, n8, n9, n10, n11, n12, n14, n16, n18, n21, n22, n36, n48, n63, n100, n108, n400, n1000, pk_mul, nI_add, pk_div, nI_subm, nI_ltE, nI_leE, nI_eqE, nI_clamp, vp_inE, nIm1, nIm1', nIm1n, nIm1n', nI_addn]
    rw [show s - s / 4 * 4 = s % 4 by omega]
  have hsl : s < 4 * aP a := by omega
  rw [e5, e4, hI.1.1, show (12 : Int32) = nI 12 from rfl, nI_leE (by omega) (by omega), nI_leE (by omega) (by omega), vp_inE (by omega) (by omega), vp_inE (by omega) (by omega), nI_clamp (by omega), nI_clamp (by omega), e0, show (nI s : Int32) + 1 = nI (s + 1) from nI_add s 1]
  have mine : s = (if s0 < t0 then s0 else t0) → post (nI (prN a s)) S := fun e => by rw [e]; exact h
  refine ⟨fun c => absurd c (by omega), fun _ => ⟨fun c => absurd c (by omega), fun _ => ⟨by omega, by omega, ?_⟩⟩⟩
  cases e : aG a s with
  | none =>
    have hnn := CR_none hI.1 hsl e
    rw [hnn]
    have z : s < (if s0 < t0 then s0 else t0) := by
      rcases Nat.lt_or_ge s (if s0 < t0 then s0 else t0) with c | c
      · exact c
      · have es : s = (if s0 < t0 then s0 else t0) := by omega
        by_cases c2 : s0 < t0
        · rw [if_pos c2] at es; rw [es, ht] at e; exact absurd e (by simp)
        · rw [if_neg c2] at es; rw [es, t3] at e; exact absurd e (by simp)
    have ih := ih z
    rw [prN_s, show prB a s = 0 by unfold prB; rw [e], ← nI_add] at ih
    exact ⟨fun _ => ⟨fun _ => ⟨fun _ => ih, fun c => absurd rfl c⟩, fun c => absurd rfl c⟩, fun g hg => absurd hg (by simp)⟩
  | some t =>
    obtain ⟨g, w1, w2, w3, w4, w5, w6, w7⟩ := CR_some hI.1 hsl e
    obtain ⟨u1, u2, u3, _⟩ := ha.2.1 s t hsl e
    rw [w1]
    refine ⟨fun c => absurd c (by simp), fun g' hg => ?_⟩
    injection hg with hg
    subst hg
    have et : ((kG S g).1 * 4 + (kG S g).2.1 : Int32) = nI t := by
      rw [w3, w4, show (4 : Int32) = nI 4 from rfl, pk_mul, nI_add]
      congr 1
      omega
    rw [et, nI_leE (by omega) (by omega), nI_eqE (by omega) (by omega)]
    refine ⟨w2, w2, fun c => ?_, fun c => ?_⟩
    · have z : s < (if s0 < t0 then s0 else t0) := by
        rcases Nat.lt_or_ge s (if s0 < t0 then s0 else t0) with c' | c'
        · exact c'
        · have es : s = (if s0 < t0 then s0 else t0) := by omega
          by_cases c2 : s0 < t0
          · rw [if_pos c2] at es; rw [es, ht] at e; injection e with e; omega
          · rw [if_neg c2] at es; rw [es, t3] at e; injection e with e; omega
      have ih := ih z
      rw [prN_s, show prB a s = 0 by unfold prB; rw [e]; exact if_neg (by omega), ← nI_add] at ih
      exact ⟨fun _ => ⟨fun _ => ih, fun c => absurd rfl c⟩, fun c => absurd rfl c⟩
    · have count : s ≠ (if s0 < t0 then s0 else t0) → T (nI (s0 / 4)) (nI (s0 % 4)) (nI (prN a s) + 1) (nI (s + 1)) S := fun hne => by
        have ih := ih (by omega)
        rw [prN_s, prB_one e (by omega), ← nI_add] at ih
        exact ih
      refine ⟨fun z => absurd z (by decide), fun _ => ⟨fun z => mine ?_, fun z => ⟨g, rfl, w2, ?_⟩⟩⟩
      · rw [z, ht] at e; injection e with e
        rw [if_pos (by omega)]; exact z
      · have hne : t ≠ s0 → s ≠ (if s0 < t0 then s0 else t0) := fun ht' es => by
          by_cases c2 : s0 < t0
          · rw [if_pos c2] at es; exact z es
          · rw [if_neg c2] at es; rw [es, t3] at e; injection e with e; exact ht' e.symm
        rw [w3, nI_eqE (by omega) (by omega)]
        refine ⟨fun y => ⟨fun y2 => absurd y2 (by decide), fun _ => count (hne (fun q => y (by rw [q])))⟩, fun y => ⟨g, rfl, w2, ?_⟩⟩
        rw [w4, nI_eqE (by omega) (by omega)]
        refine ⟨fun y2 => ⟨fun y3 => absurd y3 (by decide), fun _ => count (hne (fun q => y2 (by rw [q])))⟩, fun y2 => mine ?_⟩
        have q : t = s0 := by omega
        rw [q] at u3
        rw [ht] at u3; injection u3 with u3
        rw [if_neg (by omega)]; exact u3.symm
/-- a cell of the holes -/
def holC (S : CS) (q : Nat) : Prop := q = kA S 7 ∨ ∃ i, i < 18 ∧ kO S (kA S 6) i = some q
theorem CI_tR {κ : Prop} {a : Ab} {S : CS} (h : CI κ a S) {q j : Nat} {v : Int64} (hq : holC S q) : CI κ a (tR S q j v) := by
  obtain ⟨h1, h2, h3⟩ := h
  refine ⟨h1, h2, ?_⟩
  rcases h3 with z | ⟨z, Ls, l1, l2, l3, l4⟩
  · exact Or.inl z
  · refine Or.inr ⟨z, Ls, l1, l2, l3, fun r hr => ?_⟩
    obtain ⟨p, p1, p2, p3, p4, p5, p6⟩ := l4 r hr
    refine ⟨p, p1, p2, p3, fun i hi => ?_, p5, p6⟩
    have hne : p ≠ q := by
      rcases hq with e | ⟨k, k1, k2⟩
      · rw [e]; exact p5
      · intro e; exact p6 k k1 (by rw [e]; exact k2)
    rw [kR_tR, if_neg (fun y => hne y.1)]
    exact p4 i hi
