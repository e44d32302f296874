/-! the model: layLoops, cell -/
abbrev Mat : Type := List (Nat → Int)
/-- the rows of the closed loops among the first n edges -/
def lpL (a : Ab) (L : Lb) : Nat → Mat
  | 0 => []
  | n + 1 => lpL a L n ++ (if eL L n = n ∧ (lpF a n).1 = true then [(lpF a n).2] else [])
theorem lpL_s (a : Ab) (L : Lb) (n : Nat) : lpL a L (n + 1) = lpL a L n ++ (if eL L n = n ∧ (lpF a n).1 = true then [(lpF a n).2] else []) := rfl
theorem lpL_le (a : Ab) (L : Lb) (n : Nat) : (lpL a L n).length ≤ n := by
  induction n with
  | zero => exact Nat.le_refl _
  | succ n ih =>
    rw [lpL_s, List.length_append]
    split <;> simp <;> omega
/-- the model's rows hold the matrix A of n columns -/
def hasA (S : MS) (A : Mat) (n : Nat) : Prop := gF S 11 = nI A.length ∧ gF S 12 = nI n ∧ ∀ r, (hr : r < A.length) → ∀ j, j < n → gL S (6 * r + j) = lZ (A[r] j)
theorem hold_b {S S' : MS} {L : Lb} (h : hold S L) (e : ∀ b j, b ≠ 13 → gI S' b j = gI S b j) : hold S' L := by
  unfold hold hasL at *
  refine ⟨fun k hk => ?_, fun k hk => ?_, fun k hk => ?_⟩
  · rw [e 6 k (by decide)]; exact h.1 k hk
  · rw [e 7 k (by decide)]; exact h.2.1 k hk
  · rw [e 8 k (by decide)]; exact h.2.2 k hk
theorem s_layLoops {a : Ab} (ha : AWf a) {L : Lb} (hl : labs a L) {S : MS} (hR : MR a S) (hS : hold S L) {post : MS → Prop} (h : ∀ S', MR a S' → hold S' L → hasA S' (lpL a L (6 * aP a)) (prN a (4 * aP a)) → post S') : M_layLoops S post := by
  apply M_layLoops_ok
  intro T r
  have hP := ha.1
  have hnp := prN_le ha
  unfold M_layLoops_w0
  refine s_findPairs ha hR (fun S1 f1 f2 f3 f4 f5 => ?_)
  dsimp only
  suffices K : ∀ k, k ≤ 6 * aP a → ∀ S', (∀ j, j ≠ 11 → j ≠ 12 → gF S' j = gF S j) → (∀ b j, b ≠ 13 → gI S' b j = gI S b j) → (∀ s t, s < 4 * aP a → aG a s = some t → gI S' 13 s = nI (pIx a s t)) → hasA S' (lpL a L k) (prN a (4 * aP a)) → T (nI k) S' from K 0 (by omega) _ (fun j h1 h2 => by rw [gF_sF, if_neg h1]; exact f1 j h2) (fun b j hb => f2 b j hb) (fun s t hs ht => f5 s t hs ht) ⟨by rw [gF_sF, if_pos rfl]; rfl, by rw [gF_sF, if_neg (by decide)]; exact f4, fun r hr => absurd hr (Nat.not_lt_zero _)⟩
  refine loopUp (P := fun k => ∀ S', (∀ j, j ≠ 11 → j ≠ 12 → gF S' j = gF S j) → (∀ b j, b ≠ 13 → gI S' b j = gI S b j) → (∀ s t, s < 4 * aP a → aG a s = some t → gI S' 13 s = nI (pIx a s t)) → hasA S' (lpL a L k) (prN a (4 * aP a)) → T (nI k) S') (6 * aP a) (fun k hk ih S' g1 g2 g3 g4 => ?_)
  apply r
  have hR' : MR a S' := MR_same hR ⟨g1 0 (by decide) (by decide), fun b j hb => g2 b j (by omega)⟩
  have hS' := hold_b hS g2
  have hll := lpL_le a L k
  unfold M_layLoops_w11 M_layLoops_w48
  have e6 : (6 : Int32) * nI (aP a) = nI (6 * aP a) := by simp (disch := omega) only [n0, n1, n2, n3, n4, n5, n6, n7, n8, n9, n10, n11, n12, n14, n16, n18, n21, n22, n36, n48, n63, n100, n108, n400, n1000, pk_mul, nI_add, pk_div, nI_subm, nI_ltE, nI_leE, nI_eqE, nI_clamp, vp_inE, nIm1, nIm1', nIm1n, nIm1n', nI_addn]
  rw [hR'.1, e6, nI_leE (by omega) (by omega), show (nI k : Int32) + 1 = nI (k + 1) from nI_add k 1]
  refine ⟨fun q => by rw [show k = 6 * aP a by omega] at g4; exact h S' hR' hS' g4, fun q => s_isFirstEdge hl hS' (by omega) ?_⟩
  have ih := ih (by omega)
  rw [lpL_s] at ih
  by_cases c : eL L k = k
  · rw [if_pos c]
    refine ⟨fun z => absurd z (by decide), fun _ => s_goAround ha hR' (by omega) (show (lpL a L k).length < 18 by omega) g4.1 g4.2.1 g3 (fun S2 k1 k2 k3 k4 => ?_)⟩
    have fr : ∀ j, j ≠ 11 → j ≠ 12 → gF S2 j = gF S j := fun j h1 h2 => by rw [k1 j]; exact g1 j h1 h2
    have frI : ∀ b j, b ≠ 13 → gI S2 b j = gI S b j := fun b j hb => by rw [k2 b j]; exact g2 b j hb
    have fr13 : ∀ s t, s < 4 * aP a → aG a s = some t → gI S2 13 s = nI (pIx a s t) := fun s t hs ht => by rw [k2 13 s]; exact g3 s t hs ht
    cases e : (lpF a k).1 with
    | false =>
      rw [if_neg (fun z => by rw [e] at z; exact absurd z.2 Bool.false_ne_true), List.append_nil] at ih
      refine ⟨fun _ => ih S2 fr frI fr13 ⟨by rw [k1 11]; exact g4.1, by rw [k1 12]; exact g4.2.1, fun r hr j hj => ?_⟩, fun z => absurd rfl z⟩
      rw [k3 _ (by omega)]
      exact g4.2.2 r hr j hj
    | true =>
      rw [if_pos ⟨c, e⟩] at ih
      refine ⟨fun z => absurd z (by decide), fun _ => ?_⟩
      dsimp only
      have e11 : gF S2 11 + 1 = nI ((lpL a L k).length + 1) := by rw [k1 11, g4.1]; exact nI_add _ 1
      rw [e11]
      have hlen : (lpL a L k ++ [(lpF a k).2]).length = (lpL a L k).length + 1 := by simp
      refine ih _ (fun j h1 h2 => by rw [gF_sF, if_neg h1]; exact fr j h1 h2) (fun b j hb => frI b j hb) (fun s t hs ht => fr13 s t hs ht) ⟨by rw [gF_sF, if_pos rfl, hlen], by rw [gF_sF, if_neg (by decide), k1 12]; exact g4.2.1, fun r hr j hj => ?_⟩
      show gL S2 (6 * r + j) = _
      rw [hlen] at hr
      by_cases c2 : r = (lpL a L k).length
      · subst c2
        rw [k4 e j hj]
        rw [show (lpL a L k ++ [(lpF a k).2])[(lpL a L k).length] = (lpF a k).2 by simp]
      · have hr' : r < (lpL a L k).length := by omega
        rw [k3 _ (by omega), g4.2.2 r hr' j hj, List.getElem_append_left hr']
  · rw [if_neg c]
    rw [if_neg (fun z => c z.1), List.append_nil] at ih
    exact ⟨fun _ => ih S' g1 g2 g3 g4, fun z => absurd rfl z⟩
