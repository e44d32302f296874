/-! pairs of glued sides, in order -/
def prB (a : Ab) (s : Nat) : Nat := match aG a s with
  | none => 0
  | some t => if s < t then 1 else 0
def prN (a : Ab) (n : Nat) : Nat := sumN (prB a) n
/-- the number of a glued side's pair -/
def pIx (a : Ab) (s t : Nat) : Nat := prN a (if s < t then s else t)
theorem prN_s (a : Ab) (n : Nat) : prN a (n + 1) = prN a n + prB a n := rfl
theorem prN_mono (a : Ab) {i j : Nat} (h : i ≤ j) : prN a i ≤ prN a j := by
  induction j with
  | zero => rw [show i = 0 by omega]; exact Nat.le_refl _
  | succ j ih =>
    by_cases c : i = j + 1
    · rw [c]; exact Nat.le_refl _
    · exact Nat.le_trans (ih (by omega)) (Nat.le_add_right _ _)
theorem prB_le (a : Ab) (s : Nat) : prB a s ≤ 1 := by
  unfold prB
  cases aG a s with
  | none => exact Nat.zero_le _
  | some t =>
    show (if s < t then 1 else 0) ≤ 1
    split <;> omega
theorem prB_one {a : Ab} {s t : Nat} (h : aG a s = some t) (hst : s < t) : prB a s = 1 := by
  unfold prB
  rw [h]
  exact if_pos hst
theorem s_findPairs {a : Ab} (ha : AWf a) {S : MS} (hR : MR a S) {post : MS → Prop} (h : ∀ S', (∀ k, k ≠ 12 → gF S' k = gF S k) → (∀ b j, b ≠ 13 → gI S' b j = gI S b j) → (∀ j, gL S' j = gL S j) → gF S' 12 = nI (prN a (4 * aP a)) → (∀ s t, s < 4 * aP a → aG a s = some t → gI S' 13 s = nI (pIx a s t)) → post S') : M_findPairs S post := by
  apply M_findPairs_ok
  intro T r
  have hP := ha.1
  unfold M_findPairs_w0
  suffices K : ∀ s, s ≤ 4 * aP a → ∀ S', (∀ k, k ≠ 12 → gF S' k = gF S k) → (∀ b j, b ≠ 13 → gI S' b j = gI S b j) → (∀ j, gL S' j = gL S j) → gF S' 12 = nI (prN a s) → (∀ s' t, s' < 4 * aP a → aG a s' = some t → (if s' < t then s' else t) < s → gI S' 13 s' = nI (pIx a s' t)) → T (nI s) S' from K 0 (by omega) _ (fun k hk => by rw [gF_sF, if_neg hk]) (fun _ _ _ => rfl) (fun _ => rfl) (by rw [gF_sF, if_pos rfl]; rfl) (fun s' t _ _ h => absurd h (Nat.not_lt_zero _))
  refine loopUp (P := fun s => ∀ S', (∀ k, k ≠ 12 → gF S' k = gF S k) → (∀ b j, b ≠ 13 → gI S' b j = gI S b j) → (∀ j, gL S' j = gL S j) → gF S' 12 = nI (prN a s) → (∀ s' t, s' < 4 * aP a → aG a s' = some t → (if s' < t then s' else t) < s → gI S' 13 s' = nI (pIx a s' t)) → T (nI s) S') (4 * aP a) (fun s hs ih S' g1 g2 g3 g4 g5 => ?_)
  apply r
  unfold M_findPairs_w7 M_findPairs_w72
  have e4 : (4 : Int32) * nI (aP a) = nI (4 * aP a) := by simp (disch := omega) only [n0, n1, n2, n3, n4, n5, n6, n7, n8, n9, n10, n11, n12, n14, n16, n18, n21, n22, n36, n48, n63, n100, n108, n400, n1000, pk_mul, nI_add, pk_div, nI_subm, nI_ltE, nI_leE, nI_eqE, nI_clamp, vp_inE, nIm1, nIm1', nIm1n, nIm1n', nI_addn]
  rw [g1 0 (by decide), hR.1, e4, nI_leE (by omega) (by omega), nI_clamp (by omega), vp_inE (by omega) (by omega), show (nI s : Int32) + 1 = nI (s + 1) from nI_add s 1, g2 1 s (by decide)]
  refine ⟨fun q => ?_, fun q => ⟨by omega, ?_⟩⟩
  · have e : s = 4 * aP a := by omega
    subst e
    refine h S' g1 g2 g3 g4 (fun s' t hs' ht => g5 s' t hs' ht ?_)
    split <;> omega
  · rw [hR.2.2.1 s (by omega)]
    cases e : aG a s with
    | none =>
      refine ⟨fun _ => ih (by omega) S' g1 g2 g3 ?_ (fun s' t hs' ht hm => ?_), fun c => absurd rfl c⟩
      · rw [prN_s, show prB a s = 0 by unfold prB; rw [e]]; exact g4
      · refine g5 s' t hs' ht ?_
        by_cases c : (if s' < t then s' else t) = s
        · obtain ⟨t1, t2, t3, _⟩ := ha.2.1 s' t hs' ht
          by_cases c2 : s' < t
          · rw [if_pos c2] at c; rw [c, e] at ht; exact absurd ht (by simp)
          · rw [if_neg c2] at c; subst c; rw [e] at t3; exact absurd t3 (by simp)
        · omega
    | some t =>
      obtain ⟨t1, t2, t3, _⟩ := ha.2.1 s t (by omega) e
      have hgl : glN (some t) = nI t := rfl
      rw [hgl, nIm1 (by omega), nI_leE (by omega) (by omega)]
      refine ⟨fun c => absurd c id, fun _ => ⟨by omega, fun c => ?_, fun c => ⟨by omega, ?_⟩⟩⟩
      · refine ih (by omega) S' g1 g2 g3 ?_ (fun s' t' hs' ht' hm => ?_)
        · rw [prN_s, show prB a s = 0 by unfold prB; rw [e]; exact if_neg (by omega)]; exact g4
        · refine g5 s' t' hs' ht' ?_
          by_cases c1 : (if s' < t' then s' else t') = s
          · by_cases c2 : s' < t'
            · rw [if_pos c2] at c1; subst c1; rw [e] at ht'; injection ht' with ht'; omega
            · rw [if_neg c2] at c1; subst c1
              have := (ha.2.1 s' t' hs' ht').2.2.1
              rw [e] at this; injection this with this; omega
          · omega
      · dsimp only
        have k1 : gI (sI S' 13 s (gF S' 12)) 1 s = nI t := by
          rw [gI_sI, if_neg (by omega), g2 1 s (by decide), hR.2.2.1 s (by omega), e]; rfl
        rw [k1, nI_clamp (by omega), vp_inE (by omega) (by omega)]
        refine ⟨by omega, t1 |> fun _ => by omega, ?_⟩
        have k2 : gF (sI (sI S' 13 s (gF S' 12)) 13 t (gF (sI S' 13 s (gF S' 12)) 12)) 12 = nI (prN a s) := g4
        rw [k2, show (nI (prN a s) : Int32) + 1 = nI (prN a s + 1) from nI_add _ 1]
        refine ih (by omega) _ (fun k hk => by rw [gF_sF, if_neg hk]; exact g1 k hk) (fun b j hb => by show gI (sI (sI S' 13 s (gF S' 12)) 13 t _) b j = _; rw [gI_sI, if_neg (fun z => hb z.1), gI_sI, if_neg (fun z => hb z.1)]; exact g2 b j hb) g3 (by rw [gF_sF, if_pos rfl, prN_s, prB_one e (by omega)]) (fun s' t' hs' ht' hm => ?_)
        show gI (sI (sI S' 13 s (gF S' 12)) 13 t _) 13 s' = _
        rw [gI_sI, gI_sI]
        by_cases c1 : s' = t
        · subst c1
          rw [if_pos ⟨rfl, rfl⟩]
          rw [t3] at ht'; injection ht' with ht'
          subst ht'
          unfold pIx
          rw [if_neg (by omega)]
          exact g4
        · rw [if_neg (fun z => c1 z.2)]
          by_cases c2 : s' = s
          · subst c2
            rw [if_pos ⟨rfl, rfl⟩]
            rw [e] at ht'; injection ht' with ht'
            subst ht'
            unfold pIx
            rw [if_pos (by omega)]
            exact g4
          · rw [if_neg (fun z => c2 z.2)]
            refine g5 s' t' hs' ht' ?_
            by_cases c3 : (if s' < t' then s' else t') = s
            · by_cases c4 : s' < t'
              · rw [if_pos c4] at c3; exact absurd c3 c2
              · rw [if_neg c4] at c3
                subst c3
                have := (ha.2.1 s' t' hs' ht').2.2.1
                rw [e] at this; injection this with this
                exact absurd this.symm c1
            · omega
