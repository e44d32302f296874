/-! the model: one equation more -/
def holdR (S : MS) (b n : Nat) (L : List Vec) : Prop := ∀ r, (hr : r < L.length) → rowI S b r n L[r]
theorem holdR_add {S S' : MS} {b n : Nat} {L : List Vec} {w : Vec} (h : holdR S b n L) (h1 : ∀ j, (j < 21 * L.length ∨ 21 * L.length + 21 ≤ j) → gI S' b j = gI S b j) (h2 : rowI S' b L.length n w) (hn : n ≤ 21) : holdR S' b n (L ++ [w]) := by
  intro r hr
  by_cases c : r < L.length
  · rw [List.getElem_append_left c]
    intro i hi
    rw [h1 _ (by omega)]
    exact h r c i hi
  · have hr' : r < L.length + 1 := by simpa using hr
    have e : r = L.length := by omega
    subst e
    rw [List.getElem_append_right (Nat.le_refl _)]
    simpa using h2
theorem getD_at {α : Type} {l : List α} {d : α} {r : Nat} (h : r < l.length) : l.getD r d = l[r] := by simp [List.getD, h]
theorem prs_app (P : Nat) (e : Vec → Int) (R l : List Vec) (u v : Vec) : prs P e R (l ++ [v]) u = prs P e R l u ++ (if dc (okP P R e u v) = true then [cmb (7 * P) e u v] else []) := by
  unfold prs
  rw [List.filter_append, List.map_append]
  congr 1
  by_cases c : okP P R e u v
  · rw [if_pos (dc_pos c)]
    simp [dc_pos c]
  · rw [if_neg (by rw [dc_neg c]; decide)]
    simp [dc_neg c]
theorem prs_nil {P : Nat} {e : Vec → Int} {R : List Vec} {u : Vec} (h : ¬ 0 < e u) (l : List Vec) : prs P e R l u = [] := by
  unfold prs
  rw [List.filter_eq_nil_iff.mpr]
  · rfl
  · intro v _
    rw [dc_neg (fun k => h k.1)]
    decide
/-- what all rows must be -/
def rowOk (n : Nat) (u : Vec) : Prop := vlen n u ∧ prim n u ∧ (∃ i, i < n ∧ u i ≠ 0) ∧ ∀ i, u i ≤ 10000
theorem eqn_bd {a : Ab} {s t c : Nat} {u : Vec} (h : ∀ i, u i ≤ 10000) : -20000 ≤ eqn a s t c u ∧ eqn a s t c u ≤ 20000 := by
  have h1 := h (eqA s c)
  have h2 := h (eqB s c)
  have h3 := h (eqA t (aW a s c))
  have h4 := h (eqB t (aW a s c))
  unfold eqn
  omega
theorem lin_bd {x y : Nat} {u v : Vec} {i : Nat} (hx : x ≤ 20000) (hy : y ≤ 20000) (hu : u i ≤ 10000) (hv : v i ≤ 10000) : lin x y u v i < 2 ^ 31 := by
  have h1 := Nat.mul_le_mul hx hu
  have h2 := Nat.mul_le_mul hy hv
  unfold lin
  omega
theorem lin_one (u v : Vec) : lin 1 0 u v = u := by
  funext i
  show 1 * u i + 0 * v i = u i
  omega
theorem s_meet {P : Nat} (hP : P ≤ 3) {S : MS} (h0 : gF S 0 = nI P) {f : Nat → Int} (hQ : hasQ S f) {e : Vec → Int} (he : ∀ u, sumZ (fun i => f i * u i) (7 * P) = e u) {R : List Vec} (hm : R.length ≤ 2000) (h14 : gF S 14 = nI R.length) (hR : holdR S 15 (7 * P) R) (hok : ∀ u, u ∈ R → rowOk (7 * P) u) (hnd : R.Nodup) (heb : ∀ u, u ∈ R → -20000 ≤ e u ∧ e u ≤ 20000) (hlen : (stepM P e R).length ≤ 2000) {post : MS → Prop}
    (h : ∀ S', (∀ j, j ≠ 14 → j ≠ 18 → gF S' j = gF S j) → (∀ b j, b ≠ 15 → b ≠ 16 → gI S' b j = gI S b j) → gF S' 14 = nI (stepM P e R).length → holdR S' 15 (7 * P) (stepM P e R) → post S') : M_meet S post := by
  apply M_meet_ok
  intro T7 T35 T124 r7 r35 r124
  have fr15 : ∀ S', (∀ b j, b ≠ 16 → gI S' b j = gI S b j) → holdR S' 15 (7 * P) R := fun S' hb r hr i hi => by rw [hb 15 _ (by decide)]; exact hR r hr i hi
  have frQ : ∀ S', (∀ b j, b ≠ 16 → gI S' b j = gI S b j) → hasQ S' f := fun S' hb i hi => by rw [hb 17 _ (by decide)]; exact hQ i hi
  have K124 : ∀ k, k ≤ 21 * (stepM P e R).length → ∀ S1, (∀ j, j ≠ 14 → j ≠ 18 → gF S1 j = gF S j) → gF S1 14 = nI (stepM P e R).length → holdR S1 16 (7 * P) (stepM P e R) → (∀ b j, b ≠ 15 → b ≠ 16 → gI S1 b j = gI S b j) → (∀ j, j < k → gI S1 15 j = gI S1 16 j) → T124 (nI k) S1 := by
    refine loopUp (P := fun k => ∀ S1, (∀ j, j ≠ 14 → j ≠ 18 → gF S1 j = gF S j) → gF S1 14 = nI (stepM P e R).length → holdR S1 16 (7 * P) (stepM P e R) → (∀ b j, b ≠ 15 → b ≠ 16 → gI S1 b j = gI S b j) → (∀ j, j < k → gI S1 15 j = gI S1 16 j) → T124 (nI k) S1) (21 * (stepM P e R).length) (fun k hk ih S1 g1 g2 g3 g4 g5 => ?_)
    apply r124
    unfold M_meet_w124
    rw [g2]
    simp (disch := omega) only [n0, n1, n2, n3, n4, n5, n6, n7, n8, n9, n10, n11, n12, n14, n16, n18, n21, n22, n36, n48, n63, n100, n108, n400, n1000, pk_mul, nI_add, pk_div, nI_subm, nI_ltE, nI_leE, nI_eqE, nI_clamp, vp_inE, nIm1, nIm1', nIm1n, nIm1n', nI_addn]
    refine ⟨fun q => h S1 g1 g4 g2 (fun r hr i hi => ?_), fun q => ⟨by omega, by omega, ih (by omega) _ g1 g2 (fun r hr i hi => by rw [gI_sI, if_neg (by omega)]; exact g3 r hr i hi) (fun b j h1 h2 => by rw [gI_sI, if_neg (fun z => h1 z.1)]; exact g4 b j h1 h2) (fun j hj => ?_)⟩⟩
    · rw [g5 _ (by omega)]
      exact g3 r hr i hi
    · rw [gI_sI, gI_sI]
      by_cases c : j = k
      · rw [if_pos ⟨rfl, c⟩, if_neg (by omega), c]
      · rw [if_neg (fun z => c z.2), if_neg (by omega)]; exact g5 j (by omega)
  have ht : R.take R.length = R := List.take_length
  suffices K7 : ∀ a, a ≤ R.length → ∀ S1 (L : List Vec), L = (R.take a).flatMap (fun u => zer e u ++ prs P e R R u) → (∀ j, j ≠ 18 → gF S1 j = gF S j) → (∀ b j, b ≠ 16 → gI S1 b j = gI S b j) → gF S1 18 = nI L.length → holdR S1 16 (7 * P) L → T7 (nI a) S1 by
    unfold M_meet_w0
    exact K7 0 (by omega) _ [] (by simp) (fun j hj => by rw [gF_sF, if_neg hj]) (fun b j _ => rfl) rfl (fun r hr => absurd hr (Nat.not_lt_zero _))
  refine loopUp (P := fun a => ∀ S1 (L : List Vec), L = (R.take a).flatMap (fun u => zer e u ++ prs P e R R u) → (∀ j, j ≠ 18 → gF S1 j = gF S j) → (∀ b j, b ≠ 16 → gI S1 b j = gI S b j) → gF S1 18 = nI L.length → holdR S1 16 (7 * P) L → T7 (nI a) S1) R.length (fun a ha ih S1 L hL g1 g2 g3 g4 => ?_)
  apply r7
  unfold M_meet_w7 M_meet_w33
  rw [g1 14 (by decide), h14, nI_leE (by omega) (by omega)]
  refine ⟨fun q => ?_, fun q => ?_⟩
  · have ea : a = R.length := by omega
    rw [ea, ht] at hL
    have hL : L = stepM P e R := hL
    subst hL
    rw [g3]
    exact K124 0 (by omega) _ (fun j h1 h2 => by rw [gF_sF, if_neg h1]; exact g1 j h2) (by rw [gF_sF, if_pos rfl]) g4 (fun b j h1 h2 => g2 b j h2) (fun j hj => absurd hj (Nat.not_lt_zero _))
  · have hal : a < R.length := by omega
    have hu : R[a] ∈ R := List.getElem_mem hal
    obtain ⟨o1, o2, o3, o4⟩ := hok _ hu
    have hts : R.take (a + 1) = R.take a ++ [R[a]] := List.take_succ_eq_append_getElem hal
    have hnext : (R.take (a + 1)).flatMap (fun u => zer e u ++ prs P e R R u) = L ++ (zer e R[a] ++ prs P e R R R[a]) := by
      rw [hts, List.flatMap_append, ← hL]
      simp
    have hpre : (L ++ (zer e R[a] ++ prs P e R R R[a])).length ≤ 2000 := by
      rw [← hnext]
      refine Nat.le_trans ?_ hlen
      unfold stepM
      have : R = R.take (a + 1) ++ R.drop (a + 1) := (List.take_append_drop _ _).symm
      rw [show (R.flatMap (fun u => zer e u ++ prs P e R R u)).length = ((R.take (a + 1)).flatMap (fun u => zer e u ++ prs P e R R u)).length + ((R.drop (a + 1)).flatMap (fun u => zer e u ++ prs P e R R u)).length by
        rw [← List.length_append, ← List.flatMap_append, List.take_append_drop]]
      omega
    have ih := ih hal
    rw [hnext] at ih
    have hb2 : ∀ r i, r < R.length → i < 7 * P → R.getD r (fun _ => 0) i < 2 ^ 31 := fun r i hr hi => by
      rw [getD_at hr]
      have := (hok _ (List.getElem_mem hr)).2.2.2 i
      omega
    have hb := heb _ hu
    refine s_side hP (by rw [g1 0 (by decide)]; exact h0) (frQ S1 g2) (by omega) (fr15 S1 g2 a hal) ?_
    rw [he]
    have K35 : ∀ b, b ≤ R.length → ∀ S2 (M : List Vec), M = L ++ (zer e R[a] ++ prs P e R (R.take b) R[a]) → (∀ j, j ≠ 18 → gF S2 j = gF S j) → (∀ b j, b ≠ 16 → gI S2 b j = gI S b j) → gF S2 18 = nI M.length → holdR S2 16 (7 * P) M → T35 (nI a) (zI (e R[a])) (nI b) S2 := by
      refine loopUp (P := fun b => ∀ S2 (M : List Vec), M = L ++ (zer e R[a] ++ prs P e R (R.take b) R[a]) → (∀ j, j ≠ 18 → gF S2 j = gF S j) → (∀ b j, b ≠ 16 → gI S2 b j = gI S b j) → gF S2 18 = nI M.length → holdR S2 16 (7 * P) M → T35 (nI a) (zI (e R[a])) (nI b) S2) R.length (fun b hb' ihb S2 M hM k1 k2 k3 k4 => ?_)
      apply r35
      unfold M_meet_w35 M_meet_w108 M_meet_w102
      rw [k1 14 (by decide), h14, nI_leE (by omega) (by omega), show (0 : Int32) = zI 0 from rfl, zI_le (by omega) (by omega) (by omega) (by omega), show (nI a : Int32) + 1 = nI (a + 1) from nI_add a 1, show (nI b : Int32) + 1 = nI (b + 1) from nI_add b 1]
      refine ⟨fun q2 => ?_, fun q2 => ⟨fun q3 => ?_, fun q3 => ?_⟩⟩
      · rw [show b = R.length by omega, ht] at hM
        exact ih S2 M hM k1 k2 k3 k4
      · rw [prs_nil (by omega)] at hM
        refine ih S2 M ?_ k1 k2 k3 k4
        rw [prs_nil (by omega)]
        exact hM
      · have hbl : b < R.length := by omega
        have hv : R[b] ∈ R := List.getElem_mem hbl
        obtain ⟨p1, p2, p3, p4⟩ := hok _ hv
        have hbb := heb _ hv
        have k0 : gF S2 0 = nI P := by rw [k1 0 (by decide)]; exact h0
        have htb : R.take (b + 1) = R.take b ++ [R[b]] := List.take_succ_eq_append_getElem hbl
        have ihb := ihb hbl
        rw [htb, prs_app, ← List.append_assoc (zer e R[a]), ← List.append_assoc L, ← hM] at ihb
        refine s_side hP k0 (frQ S2 k2) (by omega) (fr15 S2 k2 b hbl) ?_
        rw [he]
        refine s_supportOf hP k0 (by omega) (fr15 S2 k2 a hal) (fun i hi => by have := o4 i; omega) (fun x hx => ?_)
        refine s_supportOf hP k0 (by omega) (fr15 S2 k2 b hbl) (fun i hi => by have := p4 i; omega) (fun y hy => ?_)
        rw [zI_le (by omega) (by omega) (by omega) (by omega)]
        have skip : ¬ okP P R e R[a] R[b] → T35 (nI a) (zI (e R[a])) (nI (b + 1)) S2 := fun hn => by
          rw [if_neg (by rw [dc_neg hn]; decide)] at ihb
          exact ihb S2 M (by simp) k1 k2 k3 k4
        refine ⟨fun q4 => skip (fun k => by have := k.2.1; omega), fun q4 => ?_⟩
        have hxy := isSet_or hx hy
        have okk : oneKind (fun i => supS (7 * P) R[a] i ∨ supS (7 * P) R[b] i) P ↔ oneKind (fun i => R[a] i ≠ 0 ∨ R[b] i ≠ 0) P := oneKind_cg (fun i hi => ⟨fun z => z.elim (fun z => Or.inl z.2) (fun z => Or.inr z.2), fun z => z.elim (fun z => Or.inl ⟨hi, z⟩) (fun z => Or.inr ⟨hi, z⟩)⟩)
        refine s_hasOneKind hxy hP k0 (fun o => ⟨fun c => absurd c (by decide), fun _ => ?_⟩) (fun o => ⟨fun _ => skip (fun k => o (okk.mpr k.2.2.1)), fun c => absurd rfl c⟩)
        have bb : (∀ r, r < R.length → r = a ∨ r = b ∨ ¬ ∀ i, i < 32 → supS (7 * P) (R.getD r (fun _ => 0)) i → supS (7 * P) R[a] i ∨ supS (7 * P) R[b] i) ↔ bes R R[a] R[b] := by
          constructor
          · intro z w hw
            obtain ⟨r, hr, rfl⟩ := List.getElem_of_mem hw
            rcases z r hr with z | z | z
            · subst z; exact Or.inl rfl
            · subst z; exact Or.inr (Or.inl rfl)
            · refine Or.inr (Or.inr (fun k => z (fun i hi hs => ?_)))
              rw [getD_at hr] at hs
              rcases k i hs.2 with k | k
              · exact Or.inl ⟨hs.1, k⟩
              · exact Or.inr ⟨hs.1, k⟩
          · intro z r hr
            rcases z R[r] (List.getElem_mem hr) with z | z | z
            · exact Or.inl ((List.getElem_inj hnd).mp z)
            · exact Or.inr (Or.inl ((List.getElem_inj hnd).mp z))
            · refine Or.inr (Or.inr (fun k => z (fun i hi => ?_)))
              have hin : i < 7 * P := by
                rcases Nat.lt_or_ge i (7 * P) with c | c
                · exact c
                · exact absurd ((hok _ (List.getElem_mem hr)).1 i c) hi
              have := k i (by omega) (by rw [getD_at hr]; exact ⟨hin, hi⟩)
              exact this.elim (fun z => Or.inl z.2) (fun z => Or.inr z.2)
        refine s_areBeside hP k0 (R := fun r => R.getD r (fun _ => 0)) hm (by rw [k1 14 (by decide)]; exact h14) (fun r hr => by show rowI S2 15 r (7 * P) (R.getD r (fun _ => 0)); rw [getD_at hr]; exact fr15 S2 k2 r hr) hb2 hxy hal hbl (fun z => ⟨fun c => absurd c (by decide), fun _ => ?_⟩) (fun z => ⟨fun _ => skip (fun k => z (bb.mpr k.2.2.2)), fun c => absurd rfl c⟩)
        have hgood : okP P R e R[a] R[b] := ⟨by omega, by omega, okk.mp o, bb.mp z⟩
        rw [if_pos (dc_pos hgood)] at ihb
        have hM1 : (M ++ [cmb (7 * P) e R[a] R[b]]).length ≤ 2000 := by
          refine Nat.le_trans ?_ hpre
          rw [hM]
          have hsub : (prs P e R (R.take (b + 1)) R[a]).length ≤ (prs P e R R R[a]).length := by
            unfold prs
            rw [List.length_map, List.length_map]
            exact (List.Sublist.filter _ (List.take_sublist _ _)).length_le
          rw [htb, prs_app, if_pos (dc_pos hgood)] at hsub
          simp only [List.length_append] at hsub ⊢
          omega
        have hM1 : M.length + 1 ≤ 2000 := by simpa using hM1
        rw [zI_neg, zI_pos (show 0 ≤ -e R[b] by omega), zI_pos (show 0 ≤ e R[a] by omega)]
        obtain ⟨i0, hi0, hi1⟩ := o3
        refine s_layRay hP k0 (by omega) (by omega) (by omega) k3 (fr15 S2 k2 a hal) (fr15 S2 k2 b hbl) (fun i hi => lin_bd (by omega) (by omega) (o4 i) (p4 i)) ⟨i0, hi0, ?_⟩ (fun S3 m1 m2 m3 m4 m5 => ?_)
        · have : 0 < (-e R[b]).toNat * R[a] i0 := Nat.mul_pos (by omega) (by omega)
          unfold lin
          omega
        · rw [← zI_pos (show 0 ≤ e R[a] by omega)]
          refine ihb S3 _ rfl (fun j hj => by rw [m1 j hj]; exact k1 j hj) (fun b' j hb' => by rw [m3 b' j hb']; exact k2 b' j hb') (by rw [m2]; simp) (holdR_add k4 m4 m5 (by omega))
    rw [show (0 : Int32) = zI 0 from rfl, zI_eq (by omega) (by omega) (by omega) (by omega)]
    refine ⟨fun c => ?_, fun c => ?_⟩
    · refine K35 0 (by omega) S1 L ?_ g1 g2 g3 g4
      unfold zer prs
      rw [if_neg c]
      simp
    · have hM1 : L.length + 1 ≤ 2000 := by
        unfold zer at hpre
        rw [if_pos c] at hpre
        simp only [List.length_append, List.length_cons, List.length_nil] at hpre
        omega
      obtain ⟨i0, hi0, hi1⟩ := o3
      refine s_layRay (x := 1) (y := 0) hP (by rw [g1 0 (by decide)]; exact h0) (by omega) (by omega) (by omega) g3 (fr15 S1 g2 a hal) (fr15 S1 g2 a hal) (fun i hi => by rw [lin_one]; have := o4 i; omega) ⟨i0, hi0, by rw [lin_one]; exact hi1⟩ (fun S3 m1 m2 m3 m4 m5 => ?_)
      rw [lin_one, nrm_of_prim o2] at m5
      refine K35 0 (by omega) S3 (L ++ [R[a]]) ?_ (fun j hj => by rw [m1 j hj]; exact g1 j hj) (fun b' j hb' => by rw [m3 b' j hb']; exact g2 b' j hb') (by rw [m2]; simp) (holdR_add g4 m4 m5 (by omega))
      unfold zer prs
      rw [if_pos c]
      simp
