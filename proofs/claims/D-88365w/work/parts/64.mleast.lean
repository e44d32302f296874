/-! the model: order, swap, all least rows -/
theorem lxl_cg {n : Nat} {u v w : Vec} (h : ∀ i, i < n → u i = v i) (k : lxl n w u) : lxl n w v := by
  obtain ⟨i, h1, h2, h3⟩ := k
  exact ⟨i, h1, fun j hj => by rw [h2 j hj]; exact h j (by omega), by rw [← h i h1]; exact h3⟩
theorem lxle_tr {n : Nat} {u v w : Vec} (h1 : ¬ lxl n v u) (h2 : ¬ lxl n w v) : ¬ lxl n w u := by
  intro k
  rcases lxl_tot n v u with c | c | c
  · exact h2 (lxl_cg (fun i hi => (c i hi).symm) k)
  · exact h1 c
  · exact h2 (lxl_tr k c)
theorem s_isBefore {P : Nat} (hP : P ≤ 3) (hP1 : 1 ≤ P) {S : MS} (h0 : gF S 0 = nI P) {u v : Nat} (hu : u < 2000) (hv : v < 2000) {U V : Vec} (hU : rowI S 15 u (7 * P) U) (hV : rowI S 15 v (7 * P) V) (bU : ∀ i, U i ≤ 10000) (bV : ∀ i, V i ≤ 10000) {post : Int32 → MS → Prop} (h1 : lxl (7 * P) U V → post 1 S) (h2 : ¬ lxl (7 * P) U V → post 0 S) : M_isBefore (nI u) (nI v) S post := by
  apply M_isBefore_ok
  intro T r
  suffices K : ∀ i, i ≤ 7 * P - 1 → (∀ j, j < i → U j = V j) → T (nI u) (nI v) (nI i) S from K 0 (by omega) (fun j hj => absurd hj (Nat.not_lt_zero _))
  refine loopUp (P := fun i => (∀ j, j < i → U j = V j) → T (nI u) (nI v) (nI i) S) (7 * P - 1) (fun i hi ih he => ?_)
  apply r
  unfold M_isBefore_w2 M_isBefore_w46 M_isBefore_w76
  have e1 : (7 : Int32) * nI P - 1 = nI (7 * P - 1) := by simp (disch := omega) only [n0, n1, n2, n3, n4, n5, n6, n7, n8, n9, n10, n11, n12, n14, n16, n18, n21, n22, n36, n48, n63, n100, n108, n400, n1000, pk_mul, nI_add, pk_div, nI_subm, nI_ltE, nI_leE, nI_eqE, nI_clamp, vp_inE, nIm1, nIm1', nIm1n, nIm1n', nI_addn]
  have e2 : (21 : Int32) * nI u + nI i = nI (21 * u + i) := by simp (disch := omega) only [n0, n1, n2, n3, n4, n5, n6, n7, n8, n9, n10, n11, n12, n14, n16, n18, n21, n22, n36, n48, n63, n100, n108, n400, n1000, pk_mul, nI_add, pk_div, nI_subm, nI_ltE, nI_leE, nI_eqE, nI_clamp, vp_inE, nIm1, nIm1', nIm1n, nIm1n', nI_addn]
  have e3 : (21 : Int32) * nI v + nI i = nI (21 * v + i) := by simp (disch := omega) only [n0, n1, n2, n3, n4, n5, n6, n7, n8, n9, n10, n11, n12, n14, n16, n18, n21, n22, n36, n48, n63, n100, n108, n400, n1000, pk_mul, nI_add, pk_div, nI_subm, nI_ltE, nI_leE, nI_eqE, nI_clamp, vp_inE, nIm1, nIm1', nIm1n, nIm1n', nI_addn]
  have b1 := bU i
  have b2 := bV i
  rw [h0, e1, e2, e3, nI_leE (by omega) (by omega), nI_clamp (by omega), nI_clamp (by omega), vp_inE (by omega) (by omega), vp_inE (by omega) (by omega), hU i (by omega), hV i (by omega), nI_leE (by omega) (by omega), nI_eqE (by omega) (by omega), show (nI i : Int32) + 1 = nI (i + 1) from nI_add i 1]
  have fin : (i = 7 * P - 1 ∨ ¬ U i = V i) → (V i ≤ U i → zok 0 ∧ post 0 S) ∧ (¬ V i ≤ U i → zok 1 ∧ post 1 S) := by
    intro hh
    refine ⟨fun q => ⟨zok0, h2 (fun ⟨j, j1, j2, j3⟩ => ?_)⟩, fun q => ⟨zok1, h1 ⟨i, by omega, he, by omega⟩⟩⟩
    rcases Nat.lt_trichotomy i j with c | c | c
    · have := j2 i c
      omega
    · subst c; omega
    · have := he j c
      omega
  refine ⟨fun q => ⟨by omega, by omega, fin (Or.inl (by omega))⟩, fun q => ⟨by omega, by omega, fun q2 => ⟨by omega, by omega, fin (Or.inr q2)⟩, fun q2 => ih (by omega) (fun j hj => ?_)⟩⟩
  by_cases c : j = i
  · subst c; exact q2
  · exact he j (by omega)
theorem s_swap {P : Nat} (hP : P ≤ 3) {S : MS} (h0 : gF S 0 = nI P) {u v : Nat} (hu : u < 2000) (hv : v < 2000) (hne : u ≠ v) {U V : Vec} (hU : rowI S 15 u (7 * P) U) (hV : rowI S 15 v (7 * P) V) {post : MS → Prop} (h : ∀ S', butI 15 S S' → (∀ r i, r ≠ u → r ≠ v → i < 21 → gI S' 15 (21 * r + i) = gI S 15 (21 * r + i)) → rowI S' 15 u (7 * P) V → rowI S' 15 v (7 * P) U → post S') : M_swap (nI u) (nI v) S post := by
  apply M_swap_ok
  intro T r
  have hd : u + 1 ≤ v ∨ v + 1 ≤ u := by omega
  suffices K : ∀ i, i ≤ 7 * P → ∀ S', butI 15 S S' → (∀ r i, r ≠ u → r ≠ v → i < 21 → gI S' 15 (21 * r + i) = gI S 15 (21 * r + i)) → (∀ j, j < i → gI S' 15 (21 * u + j) = nI (V j) ∧ gI S' 15 (21 * v + j) = nI (U j)) → (∀ j, i ≤ j → j < 7 * P → gI S' 15 (21 * u + j) = nI (U j) ∧ gI S' 15 (21 * v + j) = nI (V j)) → T (nI u) (nI v) (nI i) S' from K 0 (by omega) S butI_rf (fun _ _ _ _ _ => rfl) (fun j hj => absurd hj (Nat.not_lt_zero _)) (fun j _ hj => ⟨hU j hj, hV j hj⟩)
  refine loopUp (P := fun i => ∀ S', butI 15 S S' → (∀ r i, r ≠ u → r ≠ v → i < 21 → gI S' 15 (21 * r + i) = gI S 15 (21 * r + i)) → (∀ j, j < i → gI S' 15 (21 * u + j) = nI (V j) ∧ gI S' 15 (21 * v + j) = nI (U j)) → (∀ j, i ≤ j → j < 7 * P → gI S' 15 (21 * u + j) = nI (U j) ∧ gI S' 15 (21 * v + j) = nI (V j)) → T (nI u) (nI v) (nI i) S') (7 * P) (fun i hi ih S' g1 g2 g3 g4 => ?_)
  apply r
  unfold M_swap_w2
  rw [g1.1 0, h0]
  simp (disch := omega) only [n0, n1, n2, n3, n4, n5, n6, n7, n8, n9, n10, n11, n12, n14, n16, n18, n21, n22, n36, n48, n63, n100, n108, n400, n1000, pk_mul, nI_add, pk_div, nI_subm, nI_ltE, nI_leE, nI_eqE, nI_clamp, vp_inE, nIm1, nIm1', nIm1n, nIm1n', nI_addn]
  refine ⟨fun q => h S' g1 g2 (fun j hj => (g3 j (by omega)).1) (fun j hj => (g3 j (by omega)).2), fun q => ⟨by omega, by omega, by omega, by omega, ?_⟩⟩
  obtain ⟨k1, k2⟩ := g4 i (Nat.le_refl _) (by omega)
  rw [k1, k2]
  refine ih (by omega) _ (butI_s (butI_s g1)) (fun r j h1 h2 h3 => ?_) (fun j hj => ?_) (fun j hj1 hj2 => ?_)
  · have : r + 1 ≤ u ∨ u + 1 ≤ r := by omega
    have : r + 1 ≤ v ∨ v + 1 ≤ r := by omega
    rw [gI_sI, if_neg (by omega), gI_sI, if_neg (by omega)]
    exact g2 r j h1 h2 h3
  · by_cases c : j = i
    · subst c
      refine ⟨?_, ?_⟩
      · rw [gI_sI, if_neg (by omega), gI_sI, if_pos ⟨rfl, rfl⟩]
      · rw [gI_sI, if_pos ⟨rfl, rfl⟩]
    · have := g3 j (by omega)
      refine ⟨?_, ?_⟩
      · rw [gI_sI, if_neg (by omega), gI_sI, if_neg (by omega)]; exact this.1
      · rw [gI_sI, if_neg (by omega), gI_sI, if_neg (by omega)]; exact this.2
  · have := g4 j (by omega) hj2
    refine ⟨?_, ?_⟩
    · rw [gI_sI, if_neg (by omega), gI_sI, if_neg (by omega)]; exact this.1
    · rw [gI_sI, if_neg (by omega), gI_sI, if_neg (by omega)]; exact this.2
/-! the stages -/
def unitV (r : Nat) : Vec := fun i => if i = r then 1 else 0
def unitsL (n : Nat) : List Vec := (List.range n).map unitV
noncomputable def rowsC (a : Ab) (s t : Nat) (R : List Vec) : Nat → List Vec
  | 0 => R
  | c + 1 => if c = s % 4 then rowsC a s t R c else stepL (aP a) (eqn a s t c) (rowsC a s t R c)
noncomputable def rowsS (a : Ab) : Nat → List Vec
  | 0 => unitsL (7 * aP a)
  | s + 1 => match aG a s with
    | none => rowsS a s
    | some t => if s < t then rowsC a s t (rowsS a s) 4 else rowsS a s
def goodR (P : Nat) (R : List Vec) : Prop := R.length ≤ 2000 ∧ (∀ u, u ∈ R → rowOk (7 * P) u) ∧ R.Nodup
/-- every stage is small -/
def ddB (a : Ab) : Prop := (∀ s, s ≤ 4 * aP a → goodR (aP a) (rowsS a s)) ∧ ∀ s t, s < 4 * aP a → aG a s = some t → s < t → ∀ c, c ≤ 4 → goodR (aP a) (rowsC a s t (rowsS a s) c)
theorem goodR_perm {P : Nat} {R R' : List Vec} (h : List.Perm R R') (g : goodR P R') : goodR P R := ⟨by rw [h.length_eq]; exact g.1, fun u hu => g.2.1 u (h.mem_iff.mp hu), h.symm.nodup g.2.2⟩
theorem holdR_ext {S S' : MS} {n : Nat} {L : List Vec} (h : holdR S 15 n L) (hb : ∀ j, gI S' 15 j = gI S 15 j) : holdR S' 15 n L := fun r hr i hi => by rw [hb]; exact h r hr i hi
/-- what the rows' search may change -/
def frD (S S' : MS) : Prop := (∀ k, k ≠ 14 → k ≠ 18 → gF S' k = gF S k) ∧ ∀ b j, b < 15 → gI S' b j = gI S b j
theorem frD_rf {S : MS} : frD S S := ⟨fun _ _ _ => rfl, fun _ _ _ => rfl⟩
theorem frD_sameB {S S' : MS} (h : frD S S') : sameB S S' := ⟨h.1 0 (by decide) (by decide), fun b j hb => h.2 b j (by omega)⟩
theorem frD_I {S S' : MS} {b j : Nat} {v : Int32} (hb : 15 ≤ b) (h : frD S S') : frD S (sI S' b j v) := ⟨h.1, fun b' j' hb' => by rw [gI_sI, if_neg (by omega)]; exact h.2 b' j' hb'⟩
theorem frD_but {S S' S'' : MS} {b : Nat} (hb : 15 ≤ b) (h : frD S S') (h' : butI b S' S'') : frD S S'' := ⟨fun k h1 h2 => by rw [h'.1 k]; exact h.1 k h1 h2, fun b' j hb' => by rw [h'.2 b' j (by omega)]; exact h.2 b' j hb'⟩
theorem s_findLeast {a : Ab} (ha : AWf a) (hD : ddB a) {S : MS} (hR : MR a S) {post : MS → Prop} (h : ∀ S' M, MR a S' → List.Perm M (rowsS a (4 * aP a)) → srt (7 * aP a) M → gF S' 14 = nI M.length → holdR S' 15 (7 * aP a) M → post S') : M_findLeast S post := by
  apply M_findLeast_ok
  intro T13 T23 T64 T76 T132 T142 r13 r23 r64 r76 r132 r142
  have hP := ha.1
  have gF' := hD.1 (4 * aP a) (Nat.le_refl _)
  -- the sort
  have K142 : ∀ (A : List Vec) (x : Vec) (D B : List Vec) S', frD S S' → List.Perm (A ++ x :: (D ++ B)) (rowsS a (4 * aP a)) → srt (7 * aP a) (A ++ D) → (∀ d, d ∈ D → lxl (7 * aP a) x d) → gF S' 14 = nI (A ++ x :: (D ++ B)).length → holdR S' 15 (7 * aP a) (A ++ x :: (D ++ B)) → (∀ S2 A2, A2.length = A.length + D.length + 1 → frD S S2 → List.Perm (A2 ++ B) (rowsS a (4 * aP a)) → srt (7 * aP a) A2 → gF S2 14 = nI (A2 ++ B).length → holdR S2 15 (7 * aP a) (A2 ++ B) → T132 (nI (A.length + D.length + 1)) S2) → T142 (nI (A.length + D.length)) (nI A.length) S' := by
    intro A
    induction hk : A.length generalizing A with
    | zero =>
      intro x D B S' g1 g2 g3 g4 g5 g6 kk
      have e : A = [] := List.eq_nil_of_length_eq_zero hk
      subst e
      apply r142
      unfold M_findLeast_w142 M_findLeast_w171
      refine ⟨fun _ => ?_, fun q => absurd (by decide) q⟩
      rw [show (nI (0 + D.length) : Int32) + 1 = nI (0 + D.length + 1) from nI_add _ 1]
      refine kk S' (x :: D) (by simp) g1 g2 ?_ g5 g6
      refine List.Pairwise.cons (fun d hd => lxl_as (g4 d hd)) g3
    | succ k ih =>
      intro x D B S' g1 g2 g3 g4 g5 g6 kk
      have hA : A ≠ [] := fun e => by rw [e] at hk; exact absurd hk (by simp)
      obtain ⟨A', y, rfl⟩ : ∃ A' y, A = A' ++ [y] := ⟨A.dropLast, A.getLast hA, (List.dropLast_concat_getLast hA).symm⟩
      have hk' : A'.length = k := by simpa using hk
      have hgood := goodR_perm g2 gF'
      have hlen := hgood.1
      have hlen' : A'.length + 1 + 1 + D.length + B.length ≤ 2000 := by
        have := hlen
        simp only [List.length_append, List.length_cons, List.length_nil] at this
        omega
      have ely : (A' ++ [y] ++ x :: (D ++ B))[k]'(by simp; omega) = y := by
        simp [← hk']
      have elx : (A' ++ [y] ++ x :: (D ++ B))[k + 1]'(by simp; omega) = x := by
        simp [← hk']
      have hP1 : 1 ≤ aP a := by
        rcases Nat.eq_zero_or_pos (aP a) with e | e
        · have hx := hgood.2.1 x (by simp)
          obtain ⟨i, hi, _⟩ := hx.2.2.1
          rw [e] at hi
          exact absurd hi (by omega)
        · exact e
      have hRy := g6 k (by simp; omega)
      have hRx := g6 (k + 1) (by simp; omega)
      rw [ely] at hRy
      rw [elx] at hRx
      have oky := hgood.2.1 y (by simp)
      have okx := hgood.2.1 x (by simp)
      have h0' : gF S' 0 = nI (aP a) := by rw [g1.1 0 (by decide) (by decide)]; exact hR.1
      apply r142
      unfold M_findLeast_w142 M_findLeast_w171
      rw [show (0 : Int32) = nI 0 from rfl, nI_leE (by omega) (by omega), show (nI (k + 1) : Int32) - 1 = nI k from nI_pred k, show (nI (k + 1) : Int32) + -1 = nI k from by rw [← Int32.sub_eq_add_neg]; exact nI_pred k, show (nI (k + 1 + D.length) : Int32) + 1 = nI (k + 1 + D.length + 1) from nI_add _ 1]
      refine ⟨fun q => absurd q (by omega), fun _ => s_isBefore hP hP1 h0' (by omega) (by omega) hRx hRy okx.2.2.2 oky.2.2.2 (fun hb => ⟨fun c => absurd c (by decide), fun _ => ?_⟩) (fun hb => ⟨fun _ => ?_, fun c => absurd rfl c⟩)⟩
      · refine s_swap hP h0' (by omega) (by omega) (by omega) hRx hRy (fun S2 m1 m2 m3 m4 => ?_)
        have ih := ih A' hk' x (y :: D) B S2 (frD_but (by decide) g1 m1) ?_ ?_ ?_ ?_ ?_ ?_
        · rw [List.length_cons, show k + (D.length + 1) = k + 1 + D.length by omega] at ih
          exact ih
        · refine List.Perm.trans ?_ g2
          rw [List.append_assoc]
          exact (List.Perm.refl A').append (List.Perm.swap _ _ _)
        · rw [List.append_assoc] at g3
          exact g3
        · intro d hd
          rcases List.mem_cons.mp hd with hd | hd
          · rw [hd]; exact hb
          · exact g4 d hd
        · rw [m1.1 14, g5]
          congr 1
          simp
        · intro r hr
          by_cases c1 : r = k
          · subst c1
            have : (A' ++ x :: (y :: D ++ B))[r]'hr = x := by simp [← hk']
            rw [this]
            exact m4
          · by_cases c2 : r = k + 1
            · subst c2
              have : (A' ++ x :: (y :: D ++ B))[k + 1]'hr = y := by simp [← hk']
              rw [this]
              exact m3
            · have hr2 : r < (A' ++ [y] ++ x :: (D ++ B)).length := by
                simp at hr ⊢
                omega
              have e : (A' ++ x :: (y :: D ++ B))[r]'hr = (A' ++ [y] ++ x :: (D ++ B))[r]'hr2 := by
                rcases Nat.lt_or_ge r k with c | c
                · simp only [List.append_assoc]
                  rw [List.getElem_append_left (by omega), List.getElem_append_left (by omega)]
                · simp only [List.append_assoc]
                  rw [List.getElem_append_right (by omega), List.getElem_append_right (by omega)]
                  obtain ⟨q, hq⟩ : ∃ q, r - A'.length = q + 2 := ⟨r - A'.length - 2, by omega⟩
                  simp [hq]
              rw [e]
              intro i hi
              rw [m2 r i c2 c1 (by omega)]
              exact g6 r hr2 i hi
        · intro S3 A2 l1 l2 l3 l4 l5 l6
          rw [List.length_cons] at l1
          have := kk S3 A2 (by omega) l2 l3 l4 l5 l6
          rw [List.length_cons, show k + (D.length + 1) + 1 = k + 1 + D.length + 1 by omega]
          exact this
      · refine kk S' (A' ++ [y] ++ x :: D) (by simp [hk']; omega) g1 (by simpa using g2) ?_ (by simpa using g5) (by simpa using g6)
        have s1 := List.pairwise_append.mp g3
        refine List.pairwise_append.mpr ⟨s1.1, List.Pairwise.cons (fun d hd => lxl_as (g4 d hd)) s1.2.1, fun u hu w hw => ?_⟩
        rcases List.mem_cons.mp hw with hw | hw
        · rw [hw]
          rcases List.mem_append.mp hu with hu | hu
          · have s2 := (List.pairwise_append.mp s1.1).2.2 u hu y (by simp)
            exact lxle_tr s2 hb
          · rw [List.mem_singleton.mp hu]; exact hb
        · exact s1.2.2 u hu w hw
  have K132 : ∀ B A S', (A ≠ [] ∨ B = []) → frD S S' → List.Perm (A ++ B) (rowsS a (4 * aP a)) → srt (7 * aP a) A → gF S' 14 = nI (A ++ B).length → holdR S' 15 (7 * aP a) (A ++ B) → T132 (nI A.length) S' := by
    intro B
    induction B with
    | nil =>
      intro A S' _ g1 g2 g3 g4 g5
      apply r132
      unfold M_findLeast_w132
      rw [List.append_nil] at g2 g4 g5
      have hl := (goodR_perm g2 gF').1
      rw [g4, nI_leE (by omega) (by omega)]
      exact ⟨fun _ => h S' A (MR_same hR (frD_sameB g1)) g2 g3 g4 g5, fun q => absurd (Nat.le_refl _) q⟩
    | cons x B ih =>
      intro A S' hA g1 g2 g3 g4 g5
      have hl := (goodR_perm g2 gF').1
      have hl' : A.length + (B.length + 1) ≤ 2000 := by simpa using hl
      apply r132
      unfold M_findLeast_w132
      rw [g4, nI_leE (by omega) (by omega)]
      refine ⟨fun q => absurd q (by simp), fun _ => ?_⟩
      have := K142 A x [] B S' g1 (by simpa using g2) (by simpa using g3) (fun d hd => absurd hd (by simp)) (by simpa using g4) (by simpa using g5) (fun S2 A2 l1 l2 l3 l4 l5 l6 => ?_)
      · simpa using this
      · have hA2 : A2 ≠ [] := fun e => by rw [e] at l1; simp at l1
        have := ih A2 S2 (Or.inl hA2) l2 l3 l4 l5 l6
        rw [l1] at this
        exact this
  have K132' : ∀ M S', frD S S' → List.Perm M (rowsS a (4 * aP a)) → gF S' 14 = nI M.length → holdR S' 15 (7 * aP a) M → T132 1 S' := by
    intro M S' g1 g2 g3 g4
    cases M with
    | nil =>
      apply r132
      unfold M_findLeast_w132
      rw [g3]
      exact ⟨fun _ => h S' [] (MR_same hR (frD_sameB g1)) g2 List.Pairwise.nil g3 g4, fun q => absurd (by decide) q⟩
    | cons x B => exact K132 B [x] S' (Or.inl (by simp)) g1 g2 (List.pairwise_singleton _ _) g3 g4
  have K64 : ∀ s, s ≤ 4 * aP a → ∀ M S', frD S S' → List.Perm M (rowsS a s) → gF S' 14 = nI M.length → holdR S' 15 (7 * aP a) M → T64 (nI s) S' := by
    refine loopUp (P := fun s => ∀ M S', frD S S' → List.Perm M (rowsS a s) → gF S' 14 = nI M.length → holdR S' 15 (7 * aP a) M → T64 (nI s) S') (4 * aP a) (fun s hs ih M S' g1 g2 g3 g4 => ?_)
    apply r64
    unfold M_findLeast_w64
    have hR' := MR_same hR (frD_sameB g1)
    rw [hR'.1]
    simp (disch := omega) only [n0, n1, n2, n3, n4, n5, n6, n7, n8, n9, n10, n11, n12, n14, n16, n18, n21, n22, n36, n48, n63, n100, n108, n400, n1000, pk_mul, nI_add, pk_div, nI_subm, nI_ltE, nI_leE, nI_eqE, nI_clamp, vp_inE, nIm1, nIm1', nIm1n, nIm1n', nI_addn]
    refine ⟨fun q => ?_, fun q => ?_⟩
    · rw [show s = 4 * aP a by omega] at g2
      exact K132' M S' g1 g2 g3 g4
    · have ih := ih (by omega)
      have nx : (∀ t, aG a s = some t → ¬ s < t) → ∀ M S', frD S S' → List.Perm M (rowsS a s) → gF S' 14 = nI M.length → holdR S' 15 (7 * aP a) M → T64 (nI (s + 1)) S' := by
        intro hno M S' l1 l2 l3 l4
        refine ih M S' l1 ?_ l3 l4
        show List.Perm M (match aG a s with | none => rowsS a s | some t => if s < t then rowsC a s t (rowsS a s) 4 else rowsS a s)
        cases e : aG a s with
        | none => exact l2
        | some t =>
          show List.Perm M (if s < t then rowsC a s t (rowsS a s) 4 else rowsS a s)
          rw [if_neg (hno t e)]
          exact l2
      cases e : aG a s with
      | none =>
        apply r76
        unfold M_findLeast_w76 M_findLeast_w124
        rw [nI_clamp (by omega), hR'.2.2.1 s (by omega), e, show (nI s : Int32) + 1 = nI (s + 1) from nI_add s 1]
        have z := nx (fun t ht => absurd (e.symm.trans ht) (by simp)) M S' g1 g2 g3 g4
        exact ⟨fun _ => z, fun _ => ⟨by rw [vp_inE (by omega) (by omega)]; omega, fun _ => z, fun c => absurd rfl c⟩⟩
      | some t =>
        have hgl : glN (some t) = nI t := rfl
        obtain ⟨ht1, ht2, ht3, ht4, hw⟩ := ha.2.1 s t (by omega) e
        by_cases hst : s < t
        · have hDs := hD.2 s t (by omega) e hst
          suffices K76 : ∀ c, c ≤ 4 → ∀ M S', frD S S' → List.Perm M (rowsC a s t (rowsS a s) c) → gF S' 14 = nI M.length → holdR S' 15 (7 * aP a) M → T76 (nI s) (nI c) S' from K76 0 (by omega) M S' g1 g2 g3 g4
          refine loopUp (P := fun c => ∀ M S', frD S S' → List.Perm M (rowsC a s t (rowsS a s) c) → gF S' 14 = nI M.length → holdR S' 15 (7 * aP a) M → T76 (nI s) (nI c) S') 4 (fun c hc ihc M S' g1 g2 g3 g4 => ?_)
          apply r76
          have hR' := MR_same hR (frD_sameB g1)
          unfold M_findLeast_w76 M_findLeast_w124 M_findLeast_w118
          rw [nI_clamp (by omega), hR'.2.2.1 s (by omega), e, hgl, show (nI s : Int32) + 1 = nI (s + 1) from nI_add s 1, show (nI c : Int32) + 1 = nI (c + 1) from nI_add c 1]
          simp (disch := omega) only [n0, n1, n2, n3, n4, n5, n6, n7, n8, n9, n10, n11, n12, n14, n16, n18, n21, n22, n36, n48, n63, n100, n108, n400, n1000, pk_mul, nI_add, pk_div, nI_subm, nI_ltE, nI_leE, nI_eqE, nI_clamp, vp_inE, nIm1, nIm1', nIm1n, nIm1n', nI_addn]
          refine ⟨fun q2 => ?_, fun q2 => ⟨by omega, fun q3 => absurd q3 id, fun _ => ⟨by omega, fun q3 => absurd q3 (by omega), fun _ => ⟨fun q4 => ?_, fun q4 => ?_⟩⟩⟩⟩
          · rw [show c = 4 by omega] at g2
            refine ih M S' g1 ?_ g3 g4
            show List.Perm M (match aG a s with | none => rowsS a s | some t => if s < t then rowsC a s t (rowsS a s) 4 else rowsS a s)
            rw [e]
            show List.Perm M (if s < t then rowsC a s t (rowsS a s) 4 else rowsS a s)
            rw [if_pos hst]
            exact g2
          · refine ihc (by omega) M S' g1 ?_ g3 g4
            show List.Perm M (if c = s % 4 then rowsC a s t (rowsS a s) c else stepL (aP a) (eqn a s t c) (rowsC a s t (rowsS a s) c))
            rw [if_pos (by omega)]
            exact g2
          · have hne : c ≠ s % 4 := by omega
            have hwc := (hw c (by omega)).1
            have hwne : aW a s c ≠ t % 4 := by
              rw [← ht4]
              exact AWf_inj ha (by omega) e (by omega) (by omega) hne
            have l1 := eq_lt (show s < 4 * aP a by omega) (show c < 4 by omega) hne
            have l2 := eq_lt ht1 hwc hwne
            refine s_layEquation ha hR' (by omega) e (by omega) hne (fun S2 k1 k2 => ?_)
            have hgM := goodR_perm g2 (hDs c hc)
            have hnext : rowsC a s t (rowsS a s) (c + 1) = stepL (aP a) (eqn a s t c) (rowsC a s t (rowsS a s) c) := by
              show (if c = s % 4 then rowsC a s t (rowsS a s) c else stepL (aP a) (eqn a s t c) (rowsC a s t (rowsS a s) c)) = _
              rw [if_neg hne]
            have hpm : List.Perm (stepM (aP a) (eqn a s t c) M) (rowsC a s t (rowsS a s) (c + 1)) := by
              rw [hnext]
              exact (stepM_perm _ _ _).trans (stepL_perm g2)
            have hgN := goodR_perm hpm (hDs (c + 1) (by omega))
            refine s_meet hP (by rw [k1.1 0]; exact hR'.1) k2 (fun u => coef_sum l1.1 l1.2 l2.1 l2.2 u) hgM.1 (by rw [k1.1 14]; exact g3) (holdR_ext g4 (fun j => k1.2 15 j (by decide))) hgM.2.1 hgM.2.2 (fun u hu => eqn_bd (hgM.2.1 u hu).2.2.2) hgN.1 (fun S3 m1 m2 m3 m4 => ?_)
            exact ihc (by omega) _ S3 ⟨fun k h1 h2 => by rw [m1 k h1 h2, k1.1 k]; exact g1.1 k h1 h2, fun b j hb => by rw [m2 b j (by omega) (by omega), k1.2 b j (by omega)]; exact g1.2 b j hb⟩ hpm m3 m4
        · apply r76
          unfold M_findLeast_w76 M_findLeast_w124
          rw [nI_clamp (by omega), hR'.2.2.1 s (by omega), e, hgl, show (nI s : Int32) + 1 = nI (s + 1) from nI_add s 1]
          have z := nx (fun t' ht' => by rw [e] at ht'; injection ht' with ht'; rw [← ht']; exact hst) M S' g1 g2 g3 g4
          rw [nI_leE (by omega) (by omega), vp_inE (by omega) (by omega)]
          exact ⟨fun _ => z, fun _ => ⟨by omega, fun _ => z, fun _ => ⟨by omega, fun _ => z, fun q3 => absurd (by omega) q3⟩⟩⟩
  unfold M_findLeast_w0
  rw [hR.1]
  have e7 : (7 : Int32) * nI (aP a) = nI (7 * aP a) := by simp (disch := omega) only [n0, n1, n2, n3, n4, n5, n6, n7, n8, n9, n10, n11, n12, n14, n16, n18, n21, n22, n36, n48, n63, n100, n108, n400, n1000, pk_mul, nI_add, pk_div, nI_subm, nI_ltE, nI_leE, nI_eqE, nI_clamp, vp_inE, nIm1, nIm1', nIm1n, nIm1n', nI_addn]
  rw [e7]
  suffices K13 : ∀ r, r ≤ 7 * aP a → ∀ S', frD S S' → gF S' 14 = nI (7 * aP a) → (∀ r' i, r' < r → i < 21 → gI S' 15 (21 * r' + i) = nI (unitV r' i)) → T13 (nI r) S' from K13 0 (by omega) _ ⟨fun k h1 h2 => by rw [gF_sF, if_neg h1], fun b j _ => rfl⟩ (by rw [gF_sF, if_pos rfl]) (fun r' i h => absurd h (Nat.not_lt_zero _))
  refine loopUp (P := fun r => ∀ S', frD S S' → gF S' 14 = nI (7 * aP a) → (∀ r' i, r' < r → i < 21 → gI S' 15 (21 * r' + i) = nI (unitV r' i)) → T13 (nI r) S') (7 * aP a) (fun r hr ih S' g1 g2 g3 => ?_)
  apply r13
  unfold M_findLeast_w13
  rw [g2, nI_leE (by omega) (by omega)]
  refine ⟨fun q => ?_, fun q => ?_⟩
  · refine K64 0 (by omega) (unitsL (7 * aP a)) S' g1 (List.Perm.refl _) (by rw [g2]; simp [unitsL]) (fun k hk i hi => ?_)
    have hk' : k < 7 * aP a := by simpa [unitsL] using hk
    have : (unitsL (7 * aP a))[k]'hk = unitV k := by simp [unitsL]
    rw [this]
    exact g3 k i (by omega) (by omega)
  · suffices K23 : ∀ i, i ≤ 21 → ∀ S', frD S S' → gF S' 14 = nI (7 * aP a) → (∀ r' i, r' < r → i < 21 → gI S' 15 (21 * r' + i) = nI (unitV r' i)) → (∀ j, j < i → gI S' 15 (21 * r + j) = nI (unitV r j)) → T23 (nI r) (nI i) S' from K23 0 (by omega) S' g1 g2 g3 (fun j hj => absurd hj (Nat.not_lt_zero _))
    refine loopUp (P := fun i => ∀ S', frD S S' → gF S' 14 = nI (7 * aP a) → (∀ r' i, r' < r → i < 21 → gI S' 15 (21 * r' + i) = nI (unitV r' i)) → (∀ j, j < i → gI S' 15 (21 * r + j) = nI (unitV r j)) → T23 (nI r) (nI i) S') 21 (fun i hi ihi S' g1 g2 g3 g4 => ?_)
    apply r23
    have put : i < 21 → ∀ v, v = unitV r i → T23 (nI r) (nI (i + 1)) (sI S' 15 (21 * r + i) (nI v)) := fun hi2 v hv => ihi hi2 _ (frD_I (by decide) g1) g2 (fun r' j h1 h2 => by rw [gI_sI, if_neg (by omega)]; exact g3 r' j h1 h2) (fun j hj => by
      rw [gI_sI]
      by_cases c : j = i
      · rw [if_pos ⟨rfl, by omega⟩, c, hv]
      · rw [if_neg (by omega)]; exact g4 j (by omega))
    unfold M_findLeast_w23 M_findLeast_w49
    simp (disch := omega) only [n0, n1, n2, n3, n4, n5, n6, n7, n8, n9, n10, n11, n12, n14, n16, n18, n21, n22, n36, n48, n63, n100, n108, n400, n1000, pk_mul, nI_add, pk_div, nI_subm, nI_ltE, nI_leE, nI_eqE, nI_clamp, vp_inE, nIm1, nIm1', nIm1n, nIm1n', nI_addn]
    refine ⟨fun q2 => ih (by omega) S' g1 g2 (fun r' j h1 h2 => ?_), fun q2 => ⟨fun q3 => ⟨by omega, put (by omega) 0 (by unfold unitV; rw [if_neg q3])⟩, fun q3 => ⟨by omega, put (by omega) 1 (by unfold unitV; rw [if_pos q3])⟩⟩⟩
    by_cases c : r' = r
    · rw [c]; exact g4 j (by omega)
    · exact g3 r' j (by omega) h2
