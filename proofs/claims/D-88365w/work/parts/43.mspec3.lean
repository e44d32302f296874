/-! the model: empty, clear, put, drop -/
/-- all but array b stays -/
def keepI (b : Nat) (S S' : MS) : Prop := (∀ k, gF S' k = gF S k) ∧ (∀ a j, a ≠ b → gI S' a j = gI S a j) ∧ ∀ j, gL S' j = gL S j
theorem keepI_rf {b : Nat} {S : MS} : keepI b S S := ⟨fun _ => rfl, fun _ _ _ => rfl, fun _ => rfl⟩
theorem keepI_s {b j : Nat} {v : Int32} {S S' : MS} (h : keepI b S S') : keepI b S (sI S' b j v) :=
  ⟨fun k => h.1 k, fun a i ha => by rw [gI_sI, if_neg (fun q => ha q.1)]; exact h.2.1 a i ha, fun i => h.2.2 i⟩
theorem s_empty {S : MS} {post : MS → Prop} (h : ∀ S', keepI 3 S S' → (∀ j, j < 21 → gI S' 3 j = 0) → post S') : M_empty S post := by
  apply M_empty_ok
  intro T r
  have L : ∀ n i S', i + n = 21 → keepI 3 S S' → (∀ j, j < i → gI S' 3 j = 0) → T (nI i) S' := by
    intro n
    induction n with
    | zero =>
      intro i S' hi hk hz
      have hi : i = 21 := by omega
      subst hi
      apply r
      unfold M_empty_w2
      simp (disch := omega) only [n0, n1, n2, n3, n4, n5, n6, n7, n8, n9, n10, n11, n12, n14, n16, n18, n21, n22, n36, n48, n63, n100, n108, n400, n1000, pk_mul, nI_add, pk_div, nI_subm, nI_ltE, nI_leE, nI_eqE, nI_clamp, vp_inE, nIm1, nIm1', nIm1n, nIm1n', nI_addn]
      exact ⟨fun _ => h S' hk hz, fun c => absurd (Nat.le_refl 21) c⟩
    | succ n ih =>
      intro i S' hi hk hz
      apply r
      unfold M_empty_w2
      simp (disch := omega) only [n0, n1, n2, n3, n4, n5, n6, n7, n8, n9, n10, n11, n12, n14, n16, n18, n21, n22, n36, n48, n63, n100, n108, n400, n1000, pk_mul, nI_add, pk_div, nI_subm, nI_ltE, nI_leE, nI_eqE, nI_clamp, vp_inE, nIm1, nIm1', nIm1n, nIm1n', nI_addn]
      refine ⟨fun c => by omega, fun _ => ⟨by omega, ?_⟩⟩
      refine ih (i + 1) _ (by omega) (keepI_s hk) (fun j hj => ?_)
      rw [gI_sI]
      by_cases hji : j = i
      · rw [if_pos ⟨rfl, hji⟩]; rfl
      · rw [if_neg (fun q => hji q.2)]
        exact hz j (by omega)
  exact L 21 0 S rfl keepI_rf (fun j hj => absurd hj (Nat.not_lt_zero _))
theorem MR_sheet {a : Ab} {S S' : MS} {sh : Nat → Nat} (h : MR a S) (hk : keepI 3 S S') (hs : ∀ i, i < 21 → gI S' 3 i = nI (sh i)) : MR (aP a, aG a, aW a, sh) S' := by
  obtain ⟨h1, h2, h3, h4, h5⟩ := h
  exact ⟨by rw [hk.1]; exact h1, fun e he => ⟨by rw [hk.2.1 4 e (by decide)]; exact (h2 e he).1, by rw [hk.2.1 5 e (by decide)]; exact (h2 e he).2⟩, fun s hs' => by rw [hk.2.1 1 s (by decide)]; exact h3 s hs', fun s t hs' ht c hc => by rw [hk.2.1 2 _ (by decide)]; exact h4 s t hs' ht c hc, hs⟩
/-- clear -/
def ab_clear (a : Ab) : Ab := (0, aG a, aW a, fun _ => 0)
theorem s_clear {a : Ab} {S : MS} (h : MR a S) {post : Int32 → MS → Prop} (hp : ∀ S', MR (ab_clear a) S' → post (nI (aP a)) S') : M_clear S post := by
  apply M_clear_ok
  unfold M_clear_VC M_clear_w0
  apply s_empty
  intro S' hk hz
  rw [h.1]
  apply hp
  refine ⟨hk.1 0, fun e he => ⟨by rw [hk.2.1 4 e (by decide)]; exact (h.2.1 e he).1, by rw [hk.2.1 5 e (by decide)]; exact (h.2.1 e he).2⟩, fun s hs => absurd hs (Nat.not_lt_zero _), fun s t hs => absurd hs (Nat.not_lt_zero _), fun i hi => by rw [hz i hi]; rfl⟩
