/-! the component: links of corners, whole -/
def tw1 (a : Ab) (k n : Nat) : Nat := sumN (fun s => if s = k % 4 then 0 else 1 + opi a (4 * (k / 4) + s)) n
def twN (a : Ab) (L : Lb) (c n : Nat) : Nat := sumN (fun k => if L.2.1 k = c then tw1 a k 4 else 0) n
/-- flags: a corner and a side at it -/
def flg (a : Ab) (z : Nat) : Option Nat := if z % 4 = z / 4 % 4 then none else match aG a (4 * (z / 4 / 4) + z % 4) with
  | none => none
  | some t => some (4 * (4 * (t / 4) + aW a (4 * (z / 4 / 4) + z % 4) (z / 4 % 4)) + t % 4)
theorem flg_some {a : Ab} {z z' : Nat} (h : flg a z = some z') : z % 4 ≠ z / 4 % 4 ∧ ∃ t, aG a (4 * (z / 4 / 4) + z % 4) = some t ∧ z' = 4 * (4 * (t / 4) + aW a (4 * (z / 4 / 4) + z % 4) (z / 4 % 4)) + t % 4 := by
  unfold flg at h
  split at h
  · exact absurd h (by simp)
  · rename_i c
    refine ⟨c, ?_⟩
    cases e : aG a (4 * (z / 4 / 4) + z % 4) with
    | none => rw [e] at h; exact absurd h (by simp)
    | some t => rw [e] at h; injection h with h; exact ⟨t, rfl, h.symm⟩
theorem tw_half {a : Ab} (ha : AWf a) {L : Lb} (hl : labs a L) (c : Nat) : twN a L c (4 * aP a) = 2 * lnkS a L c (4 * aP a) := by
  have hP := ha.1
  have pr := pair_sum (n := 4 * (4 * aP a)) (flg a) (fun z z' hz e => ?_) (fun u v => decide (4 * (u / 4 / 4) + u % 4 < 4 * (v / 4 / 4) + v % 4)) (fun z => if L.2.1 (z / 4) = c then 1 else 0) (fun z z' hz e => ?_)
  · rw [sumN_block _ 4 (4 * aP a), sumN_block _ 4 (4 * aP a)] at pr
    have key : twN a L c (4 * aP a) + sumN (fun p => sumN (fun i => match flg a (4 * p + i) with | none => 0 | some z' => if decide (4 * ((4 * p + i) / 4 / 4) + (4 * p + i) % 4 < 4 * (z' / 4 / 4) + z' % 4) = true then (if L.2.1 ((4 * p + i) / 4) = c then 1 else 0) else 0) 4) (4 * aP a) = 2 * lnkS a L c (4 * aP a) + sumN (fun p => sumN (fun i => match flg a (4 * p + i) with | none => 0 | some z' => if decide (4 * (z' / 4 / 4) + z' % 4 < 4 * ((4 * p + i) / 4 / 4) + (4 * p + i) % 4) = true then (if L.2.1 ((4 * p + i) / 4) = c then 1 else 0) else 0) 4) (4 * aP a) := by
      unfold twN lnkS
      have two : ∀ f : Nat → Nat, ∀ n, 2 * sumN f n = sumN (fun k => f k + f k) n := fun f n => by rw [sumN_add]; omega
      rw [two, ← sumN_add, ← sumN_add]
      refine sumN_eq _ (fun k hk => ?_)
      show (if L.2.1 k = c then tw1 a k 4 else 0) + _ = ((if L.2.1 k = c then lnkS1 a k 4 else 0) + (if L.2.1 k = c then lnkS1 a k 4 else 0)) + _
      by_cases cc : L.2.1 k = c
      · rw [if_pos cc, if_pos cc]
        unfold tw1 lnkS1
        rw [← sumN_add, ← sumN_add, ← sumN_add]
        refine sumN_eq _ (fun s hs => ?_)
        have e1 : (4 * k + s) / 4 = k := by omega
        have e2 : (4 * k + s) % 4 = s := by omega
        show (if s = k % 4 then 0 else 1 + opi a (4 * (k / 4) + s)) + (match flg a (4 * k + s) with | none => 0 | some z' => if decide (4 * ((4 * k + s) / 4 / 4) + (4 * k + s) % 4 < 4 * (z' / 4 / 4) + z' % 4) = true then (if L.2.1 ((4 * k + s) / 4) = c then 1 else 0) else 0) = ((if s = k % 4 then 0 else cnd a (4 * (k / 4) + s)) + (if s = k % 4 then 0 else cnd a (4 * (k / 4) + s))) + (match flg a (4 * k + s) with | none => 0 | some z' => if decide (4 * (z' / 4 / 4) + z' % 4 < 4 * ((4 * k + s) / 4 / 4) + (4 * k + s) % 4) = true then (if L.2.1 ((4 * k + s) / 4) = c then 1 else 0) else 0)
        rw [e1, e2]
        by_cases cs : s = k % 4
        · have : flg a (4 * k + s) = none := by unfold flg; rw [e1, e2, if_pos cs]
          rw [this, if_pos cs, if_pos cs]
        · rw [if_neg cs, if_neg cs]
          have hsd : 4 * (k / 4) + s < 4 * aP a := by omega
          unfold opi cnd
          cases e : aG a (4 * (k / 4) + s) with
          | none =>
            have : flg a (4 * k + s) = none := by unfold flg; rw [e1, e2, if_neg cs, e]
            rw [this]
          | some t =>
            have hne := (ha.2.1 _ t hsd e).2.1
            have hw := ((ha.2.1 _ t hsd e).2.2.2.2 (k % 4) (by omega)).1
            have hf : flg a (4 * k + s) = some (4 * (4 * (t / 4) + aW a (4 * (k / 4) + s) (k % 4)) + t % 4) := by unfold flg; rw [e1, e2, if_neg cs, e]
            rw [hf]
            show 1 + 0 + (if decide (4 * (k / 4) + s < 4 * ((4 * (4 * (t / 4) + aW a (4 * (k / 4) + s) (k % 4)) + t % 4) / 4 / 4) + (4 * (4 * (t / 4) + aW a (4 * (k / 4) + s) (k % 4)) + t % 4) % 4) = true then (if L.2.1 k = c then 1 else 0) else 0) = ((if 4 * (k / 4) + s < t then 1 else 0) + (if 4 * (k / 4) + s < t then 1 else 0)) + (if decide (4 * ((4 * (4 * (t / 4) + aW a (4 * (k / 4) + s) (k % 4)) + t % 4) / 4 / 4) + (4 * (4 * (t / 4) + aW a (4 * (k / 4) + s) (k % 4)) + t % 4) % 4 < 4 * (k / 4) + s) = true then (if L.2.1 k = c then 1 else 0) else 0)
            rw [show 4 * ((4 * (4 * (t / 4) + aW a (4 * (k / 4) + s) (k % 4)) + t % 4) / 4 / 4) + (4 * (4 * (t / 4) + aW a (4 * (k / 4) + s) (k % 4)) + t % 4) % 4 = t by omega, if_pos cc]
            by_cases c3 : 4 * (k / 4) + s < t
            · rw [if_pos (by simpa using c3), if_pos c3, if_neg (by simp; omega)]
            · rw [if_neg (by simpa using c3), if_neg c3, if_pos (by simp; omega)]
      · rw [if_neg cc, if_neg cc]
        have z : ∀ (g : Nat → Nat → Bool), sumN (fun i => match flg a (4 * k + i) with | none => 0 | some z' => if g i z' = true then (if L.2.1 ((4 * k + i) / 4) = c then 1 else 0) else 0) 4 = 0 := fun g => sumN_zero 4 (fun i hi => by
          cases flg a (4 * k + i) with
          | none => rfl
          | some z' =>
            show (if g i z' = true then (if L.2.1 ((4 * k + i) / 4) = c then 1 else 0) else 0) = 0
            rw [show (4 * k + i) / 4 = k by omega, if_neg cc]
            split <;> rfl)
        rw [z (fun i z' => decide (4 * ((4 * k + i) / 4 / 4) + (4 * k + i) % 4 < 4 * (z' / 4 / 4) + z' % 4)), z (fun i z' => decide (4 * (z' / 4 / 4) + z' % 4 < 4 * ((4 * k + i) / 4 / 4) + (4 * k + i) % 4))]
    refine Nat.add_right_cancel (key.trans ?_)
    exact congrArg (fun z => 2 * lnkS a L c (4 * aP a) + z) pr.symm
  · obtain ⟨h1, t, h2, h3⟩ := flg_some e
    have hs : 4 * (z / 4 / 4) + z % 4 < 4 * aP a := by omega
    obtain ⟨t1, t2, t3, t4, w⟩ := ha.2.1 _ t hs h2
    have wc := w (z / 4 % 4) (by omega)
    have wne : aW a (4 * (z / 4 / 4) + z % 4) (z / 4 % 4) ≠ t % 4 := by
      rw [← t4]
      refine AWf_inj ha hs h2 (by omega) (by omega) ?_
      rw [show (4 * (z / 4 / 4) + z % 4) % 4 = z % 4 by omega]
      exact Ne.symm h1
    subst h3
    refine ⟨by omega, ?_⟩
    unfold flg
    rw [show (4 * (4 * (t / 4) + aW a (4 * (z / 4 / 4) + z % 4) (z / 4 % 4)) + t % 4) % 4 = t % 4 by omega, show (4 * (4 * (t / 4) + aW a (4 * (z / 4 / 4) + z % 4) (z / 4 % 4)) + t % 4) / 4 % 4 = aW a (4 * (z / 4 / 4) + z % 4) (z / 4 % 4) by omega, show (4 * (4 * (t / 4) + aW a (4 * (z / 4 / 4) + z % 4) (z / 4 % 4)) + t % 4) / 4 / 4 = t / 4 by omega, if_neg (Ne.symm wne), show 4 * (t / 4) + t % 4 = t by omega, t3]
    show some (4 * (4 * ((4 * (z / 4 / 4) + z % 4) / 4) + aW a t (aW a (4 * (z / 4 / 4) + z % 4) (z / 4 % 4))) + (4 * (z / 4 / 4) + z % 4) % 4) = some z
    rw [wc.2]
    congr 1
    omega
  · obtain ⟨h1, t, h2, h3⟩ := flg_some e
    have hs : 4 * (z / 4 / 4) + z % 4 < 4 * aP a := by omega
    have wc := ((ha.2.1 _ t hs h2).2.2.2.2 (z / 4 % 4) (by omega)).1
    have := hl.2.1.2.2 (z / 4) (z' / 4) ⟨4 * (z / 4 / 4) + z % 4, t, z / 4 % 4, hs, h2, by omega, by omega, by omega, by omega⟩
    rw [this]
/-- the corner of an end -/
def enC (z : Nat) : Nat := 4 * (z / 12) + enA (z % 12)
theorem ends12 (G : Nat → Nat) : sumN (fun c => sumN (fun y => if y = c then 0 else G (endN 0 c y)) 4) 4 = sumN G 12 := by
  simp [sumN, endN, edgeN]
  omega
theorem lnkV_ends {a : Ab} (ha : AWf a) (L : Lb) (c : Nat) : sumN (fun z => if L.1 z = z then (if L.2.1 (enC z) = c then 1 else 0) else 0) (12 * aP a) = lnkV L c (4 * aP a) := by
  unfold lnkV
  rw [sumN_block _ 12 (aP a), sumN_block _ 4 (aP a)]
  refine sumN_eq _ (fun p hp => ?_)
  show sumN (fun i => if L.1 (12 * p + i) = 12 * p + i then (if L.2.1 (enC (12 * p + i)) = c then 1 else 0) else 0) 12 = sumN (fun i => if L.2.1 (4 * p + i) = c then lnkV1 L (4 * p + i) 4 else 0) 4
  have e := ends12 (fun i => if L.1 (12 * p + i) = 12 * p + i then (if L.2.1 (4 * p + enA i) = c then 1 else 0) else 0)
  have e0 : sumN (fun i => if L.1 (12 * p + i) = 12 * p + i then (if L.2.1 (enC (12 * p + i)) = c then 1 else 0) else 0) 12 = sumN (fun i => if L.1 (12 * p + i) = 12 * p + i then (if L.2.1 (4 * p + enA i) = c then 1 else 0) else 0) 12 := by
    refine sumN_eq _ (fun i hi => ?_)
    show (if L.1 (12 * p + i) = 12 * p + i then (if L.2.1 (enC (12 * p + i)) = c then 1 else 0) else 0) = _
    unfold enC
    rw [show (12 * p + i) / 12 = p by omega, show (12 * p + i) % 12 = i by omega]
  rw [e0, ← e]
  refine sumN_eq _ (fun k hk => ?_)
  show sumN (fun y => if y = k then 0 else if L.1 (12 * p + endN 0 k y) = 12 * p + endN 0 k y then (if L.2.1 (4 * p + enA (endN 0 k y)) = c then 1 else 0) else 0) 4 = _
  have e1 : (4 * p + k) % 4 = k := by omega
  have e2 : (4 * p + k) / 4 = p := by omega
  by_cases cc : L.2.1 (4 * p + k) = c
  · rw [if_pos cc]
    unfold lnkV1
    refine sumN_eq _ (fun y hy => ?_)
    show (if y = k then 0 else if L.1 (12 * p + endN 0 k y) = 12 * p + endN 0 k y then (if L.2.1 (4 * p + enA (endN 0 k y)) = c then 1 else 0) else 0) = (if y = (4 * p + k) % 4 then 0 else if L.1 (endN ((4 * p + k) / 4) ((4 * p + k) % 4) y) = endN ((4 * p + k) / 4) ((4 * p + k) % 4) y then 1 else 0)
    rw [e1, e2]
    by_cases cy : y = k
    · rw [if_pos cy, if_pos cy]
    · have ea : enA (endN 0 k y) = k := (en_dec2 ⟨k, hk⟩ ⟨y, hy⟩ (Ne.symm cy)).1
      rw [if_neg cy, if_neg cy, ea, if_pos cc, endN_p p]
  · rw [if_neg cc]
    refine sumN_zero _ (fun y hy => ?_)
    show (if y = k then 0 else if L.1 (12 * p + endN 0 k y) = 12 * p + endN 0 k y then (if L.2.1 (4 * p + enA (endN 0 k y)) = c then 1 else 0) else 0) = 0
    by_cases cy : y = k
    · rw [if_pos cy]
    · have ea : enA (endN 0 k y) = k := (en_dec2 ⟨k, hk⟩ ⟨y, hy⟩ (Ne.symm cy)).1
      rw [if_neg cy, ea, if_neg cc]
      split <;> rfl
theorem c_linkOf {κ : Prop} {a : Ab} (ha : AWf a) {L : Lb} (hl : labs a L) {S : CS} (hI : CI κ a S) (hC : ptd S 32 (4 * aP a) L.2.1) (hE : ptd S 34 (12 * aP a) L.1) (h44 : kF S 44 = nI (cnL L.1 (12 * aP a))) {c : Nat} (hc : c < 4 * aP a) (hLc : L.2.1 c = c) {post : Int32 → CS → Prop} (h : post (lnkR a L c) S) : C_linkOf (nI (nC L c)) S post := by
  apply C_linkOf_ok
  intro T10 T22 T68 T132 r10 r22 r68 r132
  have hP := ha.1
  have l2 := lab2 ha hl
  have l4 := lab4 ha hl
  have hm := cnL_le L.1 (12 * aP a)
  have hcl : nC L c ≤ 12 := by have := nC_le L c; omega
  have hcol : ∀ x, x < 4 * aP a → (nI (cnL L.2.1 (L.2.1 x)) = nI (nC L c) ↔ L.2.1 x = c) := fun x hx => by
    have b1 := cnL_le L.2.1 (L.2.1 x)
    have b2 := l2.1 x hx
    rw [nI_eqE (by omega) (by omega)]
    exact ⟨fun e => cnL_inj (isLab_id l2 hx) hLc e, fun e => by rw [e]; rfl⟩
  have tb : twN a L c (4 * aP a) ≤ 96 := by
    have := sumN_ub (f := fun k => if L.2.1 k = c then tw1 a k 4 else 0) 8 (4 * aP a) (fun k _ => by
      show (if L.2.1 k = c then tw1 a k 4 else 0) ≤ 8
      split
      · have := sumN_ub (f := fun s => if s = k % 4 then 0 else 1 + opi a (4 * (k / 4) + s)) 2 4 (fun s _ => by
          show (if s = k % 4 then 0 else 1 + opi a (4 * (k / 4) + s)) ≤ 2
          have := opi_le a (4 * (k / 4) + s)
          split <;> omega)
        unfold tw1
        omega
      · omega)
    unfold twN
    omega
  let F : Nat → Nat := fun z => if L.2.1 (enC z) = c then 1 else 0
  have K132 : ∀ e, e ≤ cnL L.1 (12 * aP a) → T132 (nI (nC L c)) (nI (sumN (fun e => F (fsN L.1 (12 * aP a) e)) e)) (nI (twN a L c (4 * aP a))) (nI (lnkM L c (4 * aP a))) (nI e) S := by
    refine loopUp (P := fun e => T132 (nI (nC L c)) (nI (sumN (fun e => F (fsN L.1 (12 * aP a) e)) e)) (nI (twN a L c (4 * aP a))) (nI (lnkM L c (4 * aP a))) (nI e) S) (cnL L.1 (12 * aP a)) (fun e he ih => ?_)
    apply r132
    unfold C_linkOf_w132
    rw [h44, nI_leE (by omega) (by omega)]
    refine ⟨fun q => ?_, fun q => ?_⟩
    · rw [show e = cnL L.1 (12 * aP a) by omega, fsN_sum L.1 (12 * aP a) F (12 * aP a) (Nat.le_refl _)]
      have ev : sumN (fun x => if L.1 x = x then F x else 0) (12 * aP a) = lnkV L c (4 * aP a) := lnkV_ends ha L c
      rw [ev]
      have eh : nI (twN a L c (4 * aP a)) / 2 = nI (lnkS a L c (4 * aP a)) := by
        have := tw_half ha hl c
        simp (disch := omega) only [n0, n1, n2, n3, n4, n5, n6, n7, n8, n9, n10, n11, n12, n14, n16, n18, n21, n22, n36, n48, n63, n100, n108, n400, n1000, pk_mul, nI_add, pk_div, nI_subm, nI_ltE, nI_leE, nI_eqE, nI_clamp, vp_inE, nIm1, nIm1', nIm1n, nIm1n', nI_addn]
        congr 1
        omega
      rw [eh]
      exact h
    · obtain ⟨k1, k2, k3⟩ := fsN_spec (show e < cnL L.1 (12 * aP a) by omega)
      have ih := ih (by omega)
      have ih : T132 (nI (nC L c)) (nI (sumN (fun e => F (fsN L.1 (12 * aP a) e)) e + F (fsN L.1 (12 * aP a) e))) (nI (twN a L c (4 * aP a))) (nI (lnkM L c (4 * aP a))) (nI (e + 1)) S := ih
      generalize hz : fsN L.1 (12 * aP a) e = z at k1 k2 k3 ih
      subst k3
      refine c_firstS4 (k := z) hE (by omega) (lab_le l4) k1 k2 ?_
      have ea := lowF_nI (z % 12 / 2) (by omega)
      have l := eFT_lt (z % 12 / 2)
      have e1 : nI z - nI z / 12 * 12 = nI (z % 12) := by
        simp (disch := omega) only [n0, n1, n2, n3, n4, n5, n6, n7, n8, n9, n10, n11, n12, n14, n16, n18, n21, n22, n36, n48, n63, n100, n108, n400, n1000, pk_mul, nI_add, pk_div, nI_subm, nI_ltE, nI_leE, nI_eqE, nI_clamp, vp_inE, nIm1, nIm1', nIm1n, nIm1n', nI_addn]
        rw [show z - z / 12 * 12 = z % 12 by omega]
      have e2 : nI (z % 12) / 2 = nI (z % 12 / 2) := by simp (disch := omega) only [n0, n1, n2, n3, n4, n5, n6, n7, n8, n9, n10, n11, n12, n14, n16, n18, n21, n22, n36, n48, n63, n100, n108, n400, n1000, pk_mul, nI_add, pk_div, nI_subm, nI_ltE, nI_leE, nI_eqE, nI_clamp, vp_inE, nIm1, nIm1', nIm1n, nIm1n', nI_addn]
      have e3 : nI (z % 12) - nI (z % 12) / 2 * 2 = nI (z % 12 % 2) := by
        simp (disch := omega) only [n0, n1, n2, n3, n4, n5, n6, n7, n8, n9, n10, n11, n12, n14, n16, n18, n21, n22, n36, n48, n63, n100, n108, n400, n1000, pk_mul, nI_add, pk_div, nI_subm, nI_ltE, nI_leE, nI_eqE, nI_clamp, vp_inE, nIm1, nIm1', nIm1n, nIm1n', nI_addn]
        rw [show z % 12 - z % 12 / 2 * 2 = z % 12 % 2 by omega]
      have e4 : nI z / 12 = nI (z / 12) := by simp (disch := omega) only [n0, n1, n2, n3, n4, n5, n6, n7, n8, n9, n10, n11, n12, n14, n16, n18, n21, n22, n36, n48, n63, n100, n108, n400, n1000, pk_mul, nI_add, pk_div, nI_subm, nI_ltE, nI_leE, nI_eqE, nI_clamp, vp_inE, nIm1, nIm1', nIm1n, nIm1n', nI_addn]
      rw [e1, e3, e2, e4, nI_clamp (by omega), ea.1, ea.2, vp_inE (by omega) (by omega)]
      have main : ∀ j, j = enA (z % 12) → C_linkOf_w198 post T10 T22 T68 T132 (nI j) (nI (z / 12)) (nI (sumN (fun e => F (fsN L.1 (12 * aP a) e)) (cnL L.1 z))) (nI (nC L c)) (nI (twN a L c (4 * aP a))) (nI (lnkM L c (4 * aP a))) (nI (cnL L.1 z)) S := by
        intro j hj
        have hj4 : j < 4 := by
          rw [hj]
          unfold enA
          split
          · exact l.1
          · exact l.2
        unfold C_linkOf_w198 C_linkOf_w210
        refine c_ofS2 hC (by omega) hj4 (by omega) ?_
        have ex : z / 12 * 4 + j = enC z := by unfold enC; omega
        have hlt : enC z < 4 * aP a := by omega
        rw [ex, hcol _ hlt, show (nI (cnL L.1 z) : Int32) + 1 = nI (cnL L.1 z + 1) from nI_add _ 1]
        have ih : T132 (nI (nC L c)) (nI (sumN (fun e => F (fsN L.1 (12 * aP a) e)) (cnL L.1 z) + (if L.2.1 (enC z) = c then 1 else 0))) (nI (twN a L c (4 * aP a))) (nI (lnkM L c (4 * aP a))) (nI (cnL L.1 z + 1)) S := ih
        refine ⟨fun q2 => ?_, fun q2 => ?_⟩
        · rw [if_neg q2] at ih
          rw [Int32.add_zero]; exact ih
        · rw [if_pos q2, ← nI_add] at ih
          exact ih
      rw [show (0 : Int32) = nI 0 from rfl, nI_eqE (by omega) (by omega)]
      refine ⟨fun q2 => ⟨by omega, main _ ?_⟩, fun q2 => ⟨by omega, main _ ?_⟩⟩
      · unfold enA; rw [if_neg q2]
      · unfold enA; rw [if_pos q2]
  have K10 : ∀ p, p ≤ aP a → T10 (nI (nC L c)) 0 (nI (twN a L c (4 * p))) (nI (lnkM L c (4 * p))) (nI p) S := by
    refine loopUp (P := fun p => T10 (nI (nC L c)) 0 (nI (twN a L c (4 * p))) (nI (lnkM L c (4 * p))) (nI p) S) (aP a) (fun p hp ih => ?_)
    apply r10
    unfold C_linkOf_w10
    rw [hI.1.1, nI_leE (by omega) (by omega)]
    refine ⟨fun q => by rw [show p = aP a by omega]; exact K132 0 (by omega), fun q => ?_⟩
    have ih := ih (by omega)
    refine loopUp (P := fun j => T22 (nI (nC L c)) 0 (nI (twN a L c (4 * p + j))) (nI (lnkM L c (4 * p + j))) (nI p) (nI j) S) 4 (fun j hj ihj => ?_) 0 (by omega)
    apply r22
    unfold C_linkOf_w22
    rw [show (4 : Int32) = nI 4 from rfl, nI_leE (by omega) (by omega), show (nI p : Int32) + 1 = nI (p + 1) from nI_add p 1]
    refine ⟨fun q2 => by rw [show j = 4 by omega]; exact ih, fun q2 => c_ofS2 hC (by omega) (by omega) (by omega) ?_⟩
    have ihj := ihj (by omega)
    have ihj : T22 (nI (nC L c)) 0 (nI (twN a L c (4 * p + j) + (if L.2.1 (4 * p + j) = c then tw1 a (4 * p + j) 4 else 0))) (nI (lnkM L c (4 * p + j) + (if L.2.1 (4 * p + j) = c then 1 else 0))) (nI p) (nI (j + 1)) S := ihj
    rw [Nat.mul_comm p 4, hcol _ (show 4 * p + j < 4 * aP a by omega)]
    unfold C_linkOf_w48 C_linkOf_w62
    refine ⟨fun c1 => ⟨fun _ => ?_, fun c2 => absurd rfl c2⟩, fun c1 => ⟨fun c2 => absurd c2 (by decide), fun _ => ?_⟩⟩
    · rw [if_neg c1, if_neg c1] at ihj
      rw [Int32.add_zero]
      apply r68
      unfold C_linkOf_w68 C_linkOf_w117
      rw [show (nI j : Int32) + 1 = nI (j + 1) from nI_add j 1]
      exact ⟨fun _ => ihj, fun _ => ⟨fun _ => ihj, fun c2 => absurd rfl c2⟩⟩
    · rw [if_pos c1, if_pos c1] at ihj
      rw [show (nI (lnkM L c (4 * p + j)) : Int32) + 1 = nI (lnkM L c (4 * p + j) + 1) from nI_add _ 1]
      refine loopUp (P := fun s => T68 (nI (nC L c)) 0 (nI (twN a L c (4 * p + j) + tw1 a (4 * p + j) s)) (nI (lnkM L c (4 * p + j) + 1)) (nI p) (nI j) 1 (nI s) S) 4 (fun s hs ihs => ?_) 0 (by omega)
      apply r68
      unfold C_linkOf_w68 C_linkOf_w109 C_linkOf_w117
      rw [show (4 : Int32) = nI 4 from rfl, nI_leE (by omega) (by omega), nI_eqE (by omega) (by omega), nI_clamp (by omega), nI_clamp (by omega), vp_inE (by omega) (by omega), vp_inE (by omega) (by omega), show (nI j : Int32) + 1 = nI (j + 1) from nI_add j 1, show (nI s : Int32) + 1 = nI (s + 1) from nI_add s 1]
      refine ⟨fun q3 => by rw [show s = 4 by omega]; exact ihj, fun q3 => ⟨fun c2 => absurd c2 (by decide), fun _ => ?_⟩⟩
      have ihs := ihs (by omega)
      have ihs : T68 (nI (nC L c)) 0 (nI (twN a L c (4 * p + j) + (tw1 a (4 * p + j) s + (if s = (4 * p + j) % 4 then 0 else 1 + opi a (4 * ((4 * p + j) / 4) + s))))) (nI (lnkM L c (4 * p + j) + 1)) (nI p) (nI j) 1 (nI (s + 1)) S := ihs
      rw [show (4 * p + j) % 4 = j by omega, show (4 * p + j) / 4 = p by omega, ← Nat.add_assoc, ← nI_add] at ihs
      have e1 : (4 * p + s) / 4 = p := by omega
      have e2 : (4 * p + s) % 4 = s := by omega
      refine ⟨fun c2 => ⟨by omega, by omega, ?_⟩, fun c2 => ?_⟩
      · rw [if_neg c2] at ihs
        unfold opi at ihs
        cases e : aG a (4 * p + s) with
        | none =>
          rw [e] at ihs
          have hn := CR_none hI.1 (show 4 * p + s < 4 * aP a by omega) e
          rw [e1, e2] at hn
          exact ⟨fun g hg => absurd (hn.symm.trans hg) (by simp), fun _ => ihs⟩
        | some t =>
          rw [e] at ihs
          obtain ⟨g, g1, _⟩ := CR_some hI.1 (show 4 * p + s < 4 * aP a by omega) e
          rw [e1, e2] at g1
          exact ⟨fun _ _ => ihs, fun z => absurd (g1.symm.trans z) (by simp)⟩
      · rw [if_pos c2] at ihs
        exact ihs
  exact K10 0 (by omega)
theorem c_link {κ : Prop} {a : Ab} (ha : AWf a) {L : Lb} (hl : labs a L) {S : CS} (hI : CI κ a S) {x : Int32} {post : Int32 → CS → Prop} (h0 : ¬ inN x (nC L (4 * aP a)) → ∀ S', CI κ a S' → post (-2147483648) S')
    (h1 : ∀ k, k < 4 * aP a → L.2.1 k = k → x = nI (nC L k) → ∀ S', CI κ a S' → post (lnkR a L k) S') : C_link x S post := by
  apply C_link_ok
  unfold C_link_VC C_link_w0 C_link_w40
  have hP := ha.1
  have hle := cnL_le L.2.1 (4 * aP a)
  refine c_findS2 ha (lab2 ha hl) (sym2 ha) hI (fun S1 f1 f2 f3 => ?_)
  have hI1 := CI_ext hI f1.1
  apply c_isIn
  by_cases i1 : inN x (nC L (4 * aP a))
  · rw [if_pos ((inN_iff (show cnL L.2.1 (4 * aP a) < 2 ^ 30 by omega)).mpr i1)]
    refine ⟨fun _ => c_findS4 ha (lab4 ha hl) (sym4 ha) hI1 (fun S2 g1 g2 g3 => ?_), fun c => absurd c (by decide)⟩
    have hI2 := CI_ext hI1 g1.1
    obtain ⟨j, hj, rfl⟩ := i1
    obtain ⟨k, k1, k2, k3⟩ := cnL_ex hj
    have hpos := nE_pos ha hl (show 1 ≤ aP a by omega)
    have hle4 := cnL_le L.1 (12 * aP a)
    rw [show (0 : Int32) = nI 0 from rfl, nI_leE (by omega) (by omega)]
    have k3 : nC L k = j := k3
    refine ⟨fun q => absurd q (by omega), fun _ => ?_⟩
    rw [← k3]
    exact c_linkOf ha hl hI2 (fun x hx => by rw [g1.2.1 32 x (by decide)]; exact f2 x hx) g2 g3 k1 k2 (h1 k k1 k2 (by rw [k3]) S2 hI2)
  · rw [if_neg (fun q => i1 ((inN_iff (show cnL L.2.1 (4 * aP a) < 2 ^ 30 by omega)).mp q))]
    exact ⟨fun c => absurd rfl c, fun _ => h0 i1 S1 hI1⟩
theorem c_isWhole {κ : Prop} {a : Ab} (ha : AWf a) {L : Lb} (hl : labs a L) {S : CS} (hI : CI κ a S) {post : Int32 → CS → Prop} (h1 : wholeP a L → ∀ S', CI κ a S' → post 1 S') (h0 : ¬ wholeP a L → ∀ S', CI κ a S' → post 0 S') : C_isWhole S post := by
  apply C_isWhole_ok
  intro T r
  have hP := ha.1
  have hle := cnL_le L.2.1 (4 * aP a)
  have K0 : ¬ wholeP a L → ∀ S1, CI κ a S1 → C_isWhole_w26 post T 0 S1 := by
    intro hn S1 hI1
    unfold C_isWhole_w26
    refine c_findS2 ha (lab2 ha hl) (sym2 ha) hI1 (fun S2 f1 f2 f3 => ?_)
    have z := h0 hn S2 (CI_ext hI1 f1.1)
    apply r
    unfold C_isWhole_w37 C_isWhole_w67
    exact ⟨fun _ => ⟨zok0, z⟩, fun _ => ⟨fun _ => ⟨zok0, z⟩, fun c => absurd rfl c⟩⟩
  unfold C_isWhole_w0 C_isWhole_w25
  rw [hI.1.1, show (0 : Int32) = nI 0 from rfl, nI_leE (by omega) (by omega)]
  refine ⟨fun q => K0 (fun w => by have := w.1; omega) S hI, fun q => c_openOnes ha hI ?_⟩
  have hb := sumN_ub (f := opi a) 1 (4 * aP a) (fun k _ => opi_le a k)
  rw [nI_eqE (by omega) (by omega)]
  refine ⟨fun q2 => K0 (fun w => q2 w.2.1) S hI, fun q2 => c_hasBent ha hl hI (fun b S1 f1 f2 => ⟨fun _ => K0 (fun w => w.2.2.1 b) S1 (CI_ext hI f1.1), fun c => absurd c (by decide)⟩) (fun b S1 f1 f2 f3 => ⟨fun c => absurd rfl c, fun _ => ?_⟩)⟩
  obtain ⟨fE, f44⟩ := f3 (by omega)
  have hI1 := CI_ext hI f1.1
  unfold C_isWhole_w26
  refine c_findS2 ha (lab2 ha hl) (sym2 ha) hI1 (fun S2 g1 g2 g3 => ?_)
  have hI2 := CI_ext hI1 g1.1
  suffices K : ∀ k, k ≤ cnL L.2.1 (4 * aP a) → (∀ j, j < 4 * aP a → L.2.1 j = j → nC L j < k → lnkR a L j = 2) → T 1 (nI (cnL L.2.1 (4 * aP a))) (nI k) S2 from K 0 (by omega) (fun j _ _ h => absurd h (Nat.not_lt_zero _))
  refine loopUp (P := fun k => (∀ j, j < 4 * aP a → L.2.1 j = j → nC L j < k → lnkR a L j = 2) → T 1 (nI (cnL L.2.1 (4 * aP a))) (nI k) S2) (cnL L.2.1 (4 * aP a)) (fun k hk ih hj => ?_)
  apply r
  unfold C_isWhole_w37 C_isWhole_w60 C_isWhole_w67
  rw [nI_leE (by omega) (by omega), show (nI k : Int32) + 1 = nI (k + 1) from nI_add k 1]
  refine ⟨fun q3 => ⟨zok1, h1 ⟨by omega, q2, b, fun j j1 j2 => hj j j1 j2 (Nat.lt_of_lt_of_le (cnL_lt L.2.1 j1 j2) (by omega))⟩ S2 hI2⟩, fun q3 => ⟨fun c => absurd c (by decide), fun _ => ?_⟩⟩
  obtain ⟨j, j1, j2, j3⟩ := cnL_ex (show k < cnL L.2.1 (4 * aP a) by omega)
  have j3 : nC L j = k := j3
  have call := c_linkOf ha hl hI2 g2 (fun x hx => by rw [g1.2.1 34 x (by decide)]; exact fE.2 x hx) (by rw [g1.2.2.1 44 (by decide)]; exact f44) j1 j2 (post := fun r1 S1 => ((¬ r1 = 2 → T 0 (nI (cnL L.2.1 (4 * aP a))) (nI (k + 1)) S1) ∧ (r1 = 2 → T 1 (nI (cnL L.2.1 (4 * aP a))) (nI (k + 1)) S1))) ⟨fun c => ?_, fun c => ih (by omega) (fun i i1 i2 i3 => ?_)⟩
  · rw [j3] at call
    exact call
  · have z := h0 (fun w => c (w.2.2.2 j j1 j2)) S2 hI2
    apply r
    unfold C_isWhole_w37 C_isWhole_w67
    exact ⟨fun _ => ⟨zok0, z⟩, fun _ => ⟨fun _ => ⟨zok0, z⟩, fun c => absurd rfl c⟩⟩
  · by_cases c2 : nC L i < k
    · exact hj i i1 i2 c2
    · have : i = j := cnL_inj i2 j2 (by have j3 : cnL L.2.1 j = k := j3; have c2 : ¬ cnL L.2.1 i < k := c2; have i3 : cnL L.2.1 i < k + 1 := i3; omega)
      rw [this]; exact c
