/-! the component: isBeside, match -/
theorem c_isBeside {a : Ab} (ha : AWf a) {S : CS} {R : List Vec} (hR : CR a S) (hA : arC S) (hH : holdC S (kA S 8) (7 * aP a) R) (hl : R.length ≤ kN S (kA S 8)) (h9 : kF S 9 = nI R.length) (hg : goodR (aP a) R) {i j : Nat} (hi : i < R.length) (hj : j < R.length) {post : Int32 → CS → Prop} (h1 : oneKind (fun k => R[i] k ≠ 0 ∨ R[j] k ≠ 0) (aP a) → bes R R[i] R[j] → post 1 S) (h0 : ¬ (oneKind (fun k => R[i] k ≠ 0 ∨ R[j] k ≠ 0) (aP a) ∧ bes R R[i] R[j]) → post 0 S) : C_isBeside (nI i) (nI j) S post := by
  apply C_isBeside_ok
  intro T r
  have hP := ha.1
  obtain ⟨g1, g2, g3⟩ := hg
  have n8 := hA.2.2.2.2.2.2.2.2.1
  obtain ⟨p, p1, p2⟩ := hH i hi
  obtain ⟨q, q1, q2⟩ := hH j hj
  have bi := (g2 _ (List.getElem_mem hi)).2.2.2
  have bj := (g2 _ (List.getElem_mem hj)).2.2.2
  unfold C_isBeside_w0
  rw [nI_clamp (n := i) (by omega), vp_inE (by omega) (by omega)]
  refine ⟨hA.2.1, by omega, p, p1, c_bitsOf p2 (by omega) bi (fun x hx => ?_)⟩
  rw [nI_clamp (n := j) (by omega), vp_inE (by omega) (by omega)]
  refine ⟨hA.2.1, by omega, q, q1, c_bitsOf q2 (by omega) bj (fun y hy => ?_)⟩
  have hxy := isSet_or hx hy
  have okk : oneKind (fun k => supS (7 * aP a) R[i] k ∨ supS (7 * aP a) R[j] k) (aP a) ↔ oneKind (fun k => R[i] k ≠ 0 ∨ R[j] k ≠ 0) (aP a) := oneKind_cg (fun k hk => ⟨fun z => z.elim (fun z => Or.inl z.2) (fun z => Or.inr z.2), fun z => z.elim (fun z => Or.inl ⟨hk, z⟩) (fun z => Or.inr ⟨hk, z⟩)⟩)
  have K0 : ¬ (oneKind (fun k => R[i] k ≠ 0 ∨ R[j] k ≠ 0) (aP a) ∧ bes R R[i] R[j]) → ∀ k, T (nI i) (nI j) (x ||| y) 0 k S := by
    intro hn k
    apply r
    unfold C_isBeside_w30 C_isBeside_w86
    exact ⟨fun _ => ⟨zok0, h0 hn⟩, fun _ => ⟨fun _ => ⟨zok0, h0 hn⟩, fun q => absurd rfl q⟩⟩
  refine c_isAlone hxy hP hR.1 (fun o => ?_) (fun o => K0 (fun z => o (okk.mpr z.1)) 0)
  have o := okk.mp o
  suffices K1 : ∀ k, k ≤ R.length → (∀ r, (hr : r < R.length) → r < k → r = i ∨ r = j ∨ ¬ inU R[r] R[i] R[j]) → T (nI i) (nI j) (x ||| y) 1 (nI k) S from K1 0 (by omega) (fun r _ hr => absurd hr (Nat.not_lt_zero _))
  refine loopUp (P := fun k => (∀ r, (hr : r < R.length) → r < k → r = i ∨ r = j ∨ ¬ inU R[r] R[i] R[j]) → T (nI i) (nI j) (x ||| y) 1 (nI k) S) R.length (fun k hk ih ho => ?_)
  apply r
  unfold C_isBeside_w30 C_isBeside_w73 C_isBeside_w78 C_isBeside_w86
  rw [h9, nI_leE (by omega) (by omega), nI_eqE (by omega) (by omega), nI_eqE (by omega) (by omega), show (nI k : Int32) + 1 = nI (k + 1) from nI_add k 1, nI_clamp (n := k) (by omega), vp_inE (by omega) (by omega)]
  have nx : (hk2 : k < R.length) → (k = i ∨ k = j ∨ ¬ inU R[k] R[i] R[j]) → T (nI i) (nI j) (x ||| y) 1 (nI (k + 1)) S := fun hk2 hh => ih hk2 (fun r hr hrk => by
    by_cases e : r = k
    · subst e; exact hh
    · exact ho r hr (by omega))
  refine ⟨fun c => ⟨zok1, h1 o (fun w hw => ?_)⟩, fun c => ⟨fun c2 => absurd c2 (by decide), fun _ => ⟨fun c2 => nx (by omega) (Or.inl c2), fun c2 => ⟨fun c3 => nx (by omega) (Or.inr (Or.inl c3)), fun c3 => ?_⟩⟩⟩⟩
  · obtain ⟨m, hm, rfl⟩ := List.getElem_of_mem hw
    rcases ho m hm (by omega) with z | z | z
    · subst z; exact Or.inl rfl
    · subst z; exact Or.inr (Or.inl rfl)
    · exact Or.inr (Or.inr z)
  · have hkl : k < R.length := by omega
    obtain ⟨z, z1, z2⟩ := hH k hkl
    have hz := g2 _ (List.getElem_mem hkl)
    refine ⟨hA.2.1, by omega, z, z1, c_bitsOf z2 (by omega) hz.2.2.2 (fun w hw => ?_)⟩
    rw [isSet_sub hw hxy]
    have eqv : (∀ m, m < 32 → supS (7 * aP a) R[k] m → supS (7 * aP a) R[i] m ∨ supS (7 * aP a) R[j] m) ↔ inU R[k] R[i] R[j] := by
      constructor
      · intro f m hm
        have hin : m < 7 * aP a := by
          rcases Nat.lt_or_ge m (7 * aP a) with c | c
          · exact c
          · exact absurd (hz.1 m c) hm
        exact (f m (by omega) ⟨hin, hm⟩).elim (fun z => Or.inl z.2) (fun z => Or.inr z.2)
      · intro f m _ hs
        exact (f m hs.2).elim (fun z => Or.inl ⟨hs.1, z⟩) (fun z => Or.inr ⟨hs.1, z⟩)
    rw [eqv]
    refine ⟨fun c4 => K0 (fun zz => ?_) _, fun c4 => nx (by omega) (Or.inr (Or.inr c4))⟩
    rcases zz.2 _ (List.getElem_mem hkl) with y | y | y
    · exact c2 ((List.getElem_inj g3).mp y)
    · exact c3 ((List.getElem_inj g3).mp y)
    · exact y c4
/-- the room of a list after m rows -/
def cap (N : Nat) : Nat → Nat
  | 0 => N
  | m + 1 => capS (cap N m) m
theorem cap_s (N m : Nat) : cap N (m + 1) = capS (cap N m) m := rfl
theorem capS_le (N m : Nat) : N ≤ capS N m := by unfold capS; split <;> omega
theorem cap_mono (N : Nat) {m m' : Nat} (h : m ≤ m') : cap N m ≤ cap N m' := by
  induction m' with
  | zero => rw [show m = 0 by omega]; exact Nat.le_refl _
  | succ k ih =>
    by_cases c : m = k + 1
    · rw [c]; exact Nat.le_refl _
    · exact Nat.le_trans (ih (by omega)) (capS_le _ _)
theorem cap_ge (N m : Nat) : N ≤ cap N m := cap_mono N (Nat.zero_le m)
def MQc (a : Ab) (R : List Vec) (N8 N : Nat) (f10 : Int32) (S : CS) (M : List Vec) (made uc us : Nat) : Prop := LJ a S R M ∧ kF S 9 = nI R.length ∧ kF S 10 = f10 ∧ kN S (kA S 8) = N8 ∧ kN S (kA S 11) = cap N M.length ∧ us = 21 * made + 2 * (cap N M.length - N) ∧ 64 * uc ≤ 64 * made + (cap N M.length - N)
theorem c_keepQ {a : Ab} {R M : List Vec} {N8 N : Nat} {f10 : Int32} {S : CS} {made uc us : Nat} (h : MQc a R N8 N f10 S M made uc us) (hN : 64 ≤ N) {T np mc ms : Nat} (hM : M.length + 1 ≤ T) (hT : T ≤ 2000) (hmade : made ≤ np) (hms : 21 * np + 2 * (cap N T - N) ≤ ms) (hmc : 64 * np + (cap N T - N) ≤ 64 * mc) {q : Nat} {w : Vec} (hq : rowC S q (7 * aP a) w) {post : Nat → Nat → CS → Prop} (hp : ∀ S' uc' us', MQc a R N8 N f10 S' (M ++ [w]) made uc' us' → post uc' us' S') : ∃ kc ks, uc + kc ≤ mc ∧ us + ks ≤ ms ∧ C_keep kc ks q S (fun S' => post (uc + kc) (us + ks) S') := by
  obtain ⟨h1, h2, h3, h4, h5, h6, h7⟩ := h
  have cm := cap_mono N hM
  have cg := cap_ge N M.length
  have cs := capS_le (cap N M.length) M.length
  rw [cap_s] at cm
  have len : (M ++ [w]).length = M.length + 1 := by simp
  have fin : ∀ kc ks, (M.length = kN S (kA S 11) → 1 ≤ kc ∧ 2 * M.length ≤ ks) → us + ks = 21 * made + 2 * (capS (cap N M.length) M.length - N) → 64 * (uc + kc) ≤ 64 * made + (capS (cap N M.length) M.length - N) → ∃ kc ks, uc + kc ≤ mc ∧ us + ks ≤ ms ∧ C_keep kc ks q S (fun S' => post (uc + kc) (us + ks) S') := by
    intro kc ks k1 k2 k3
    refine ⟨kc, ks, by omega, by omega, c_keep h1 (by omega) hq k1 (fun S' m1 m2 m3 m4 m5 => hp S' _ _ ⟨m1, by rw [m2]; exact h2, by rw [m3]; exact h3, by rw [m4]; exact h4, ?_, ?_, ?_⟩)⟩
    · rw [m5, h5, len]; rfl
    · rw [len, cap_s]; exact k2
    · rw [len, cap_s]; exact k3
  by_cases c : M.length = cap N M.length
  · have e : capS (cap N M.length) M.length = 2 * M.length := by unfold capS; rw [if_pos c]
    rw [e] at fin
    exact fin 1 (2 * M.length) (fun _ => ⟨by omega, by omega⟩) (by omega) (by omega)
  · have e : capS (cap N M.length) M.length = cap N M.length := by unfold capS; rw [if_neg c]
    rw [e] at fin
    exact fin 0 0 (fun z => absurd (z.trans h5) c) (by omega) (by omega)
theorem flat_take {α β : Type} (f : α → List β) (R : List α) (i : Nat) : ((R.take i).flatMap f).length ≤ (R.flatMap f).length := by
  have : (R.flatMap f).length = ((R.take i).flatMap f).length + ((R.drop i).flatMap f).length := by
    rw [← List.length_append, ← List.flatMap_append, List.take_append_drop]
  omega
theorem flat_next {α β : Type} (f : α → List β) {R : List α} {i : Nat} (hi : i < R.length) : (R.take (i + 1)).flatMap f = (R.take i).flatMap f ++ f R[i] := by
  rw [List.take_succ_eq_append_getElem hi, List.flatMap_append]
  simp
theorem MQc_ext {a : Ab} {R M : List Vec} {N8 N : Nat} {f10 : Int32} {S S' : CS} {made uc us : Nat} (h : MQc a R N8 N f10 S M made uc us) (e : extC S S') : MQc a R N8 N f10 S' M made uc us := by
  obtain ⟨h1, h2, h3, h4, h5, h6, h7⟩ := h
  obtain ⟨k1, k2, k3, k4⟩ := LJ_ext h1 e
  have e8 := (e.1 _ h1.2.1.2.1.1).2.2.2.1
  have e11 := (e.1 _ h1.2.1.2.2.1.1).2.2.2.1
  exact ⟨k1, by rw [k3]; exact h2, by rw [k4]; exact h3, by rw [e.2.2.1, e8]; exact h4, by rw [e.2.2.1, e11]; exact h5, h6, h7⟩
theorem c_match {a : Ab} (ha : AWf a) {mc ms : Nat} {S : CS} {R : List Vec} (hR : CR a S) (hA : arC S) (hH : holdC S (kA S 8) (7 * aP a) R) (hl : R.length ≤ kN S (kA S 8)) (h9 : kF S 9 = nI R.length) (hg : goodR (aP a) R) {s t c : Nat} (hs : s < 4 * aP a) (ht : aG a s = some t) (hc : c < 4) (hne : c ≠ s % 4)
    (hlen : (stepL (aP a) (eqn a s t c) R).length ≤ 2000) {N np T : Nat} (hN : kN S (kA S 11) = N) (hnp : np = (R.flatMap (prs (aP a) (eqn a s t c) R R)).length) (hT : T = (stepL (aP a) (eqn a s t c) R).length) (hms : 21 * np + 2 * (cap N T - N) ≤ ms) (hmc : 64 * np + (cap N T - N) ≤ 64 * mc) {post : CS → Prop}
    (h : ∀ S', CR a S' → arC S' → holdC S' (kA S' 8) (7 * aP a) (stepL (aP a) (eqn a s t c) R) → T ≤ kN S' (kA S' 8) → kF S' 9 = nI T → kF S' 10 = kF S 10 → kN S' (kA S' 8) = cap N T → kN S' (kA S' 11) = kN S (kA S 8) → post S') : C_match mc ms (nI (s / 4)) (nI (s % 4)) (nI c) S post := by
  apply C_match_ok
  intro T8 T56 T84 r8 r56 r84
  have hP := ha.1
  obtain ⟨g1, g2, g3⟩ := id hg
  generalize he : eqn a s t c = e at *
  have eb : ∀ u, u ∈ R → -20000 ≤ e u ∧ e u ≤ 20000 := fun u hu => by rw [← he]; exact eqn_bd (g2 u hu).2.2.2
  have hN64 : 64 ≤ N := by rw [← hN]; exact hA.2.2.2.2.2.2.2.1
  have TL : T = (R.flatMap (zer e)).length + np := by rw [hT, hnp]; unfold stepL; rw [List.length_append]
  have off : ∀ S1 M made uc us, MQc a R (kN S (kA S 8)) N (kF S 10) S1 M made uc us → ∀ i, (hi : i < R.length) → ∃ q, kO S1 (kA S1 8) i = some q ∧ rowC S1 q (7 * aP a) R[i] ∧ ∀ post : Int64 → CS → Prop, post (lZ (e R[i])) S1 → C_off q (nI (s / 4)) (nI (s % 4)) (nI c) S1 post := by
    intro S1 M made uc us hQ i hi
    obtain ⟨q, q1, q2⟩ := hQ.1.2.2.1 i hi
    refine ⟨q, q1, q2, fun post hp => c_off ha hQ.1.1 q2 (g2 _ (List.getElem_mem hi)).2.2.2 hs ht hc hne ?_⟩
    rw [he]; exact hp
  have n8 := hA.2.2.2.2.2.2.2.2.1
  have K56 : ∀ i, i ≤ R.length → ∀ S1 M made uc us, M = R.flatMap (zer e) ++ (R.take i).flatMap (prs (aP a) e R R) → made = ((R.take i).flatMap (prs (aP a) e R R)).length → MQc a R (kN S (kA S 8)) N (kF S 10) S1 M made uc us → T56 (nI (s / 4)) (nI (s % 4)) (nI c) (nI i) uc us S1 := by
    refine loopUp (P := fun i => ∀ S1 M made uc us, M = R.flatMap (zer e) ++ (R.take i).flatMap (prs (aP a) e R R) → made = ((R.take i).flatMap (prs (aP a) e R R)).length → MQc a R (kN S (kA S 8)) N (kF S 10) S1 M made uc us → T56 (nI (s / 4)) (nI (s % 4)) (nI c) (nI i) uc us S1) R.length (fun i hi ih S1 M made uc us hM hmade hQ => ?_)
    apply r56
    unfold C_match_w56
    have a8 := hQ.1.2.1.2.1
    rw [hQ.2.1, nI_leE (by omega) (by omega), nI_clamp (n := i) (by omega), hQ.2.2.2.1, vp_inE (by omega) (by omega)]
    refine ⟨fun q => ?_, fun q => ?_⟩
    · dsimp only
      rw [show i = R.length by omega, List.take_length] at hM
      have hM : M = stepL (aP a) e R := hM
      have hML : M.length = T := by rw [hM, hT]
      obtain ⟨j1, j2, j3, j4, j5, j6, j7⟩ := hQ.1
      obtain ⟨_, b1, b2, b3, b4, b5, b6, b7, b8, b9⟩ := id j2
      have fr : frW S1 (tF (tA (tA S1 8 (kA S1 11)) 11 (kA S1 8)) 9 (kF S1 12)) := frW_tF (by decide) (frW_tA (Or.inr rfl) (frW_tA (Or.inl rfl) frW_rf))
      have A8 : kA (tF (tA (tA S1 8 (kA S1 11)) 11 (kA S1 8)) 9 (kF S1 12)) 8 = kA S1 11 := by
        show va_up (va_up (kA S1) 8 (kA S1 11)) 11 (kA S1 8) 8 = _
        simp [va_up]
      have A11 : kA (tF (tA (tA S1 8 (kA S1 11)) 11 (kA S1 8)) 9 (kF S1 12)) 11 = kA S1 8 := by
        show va_up (va_up (kA S1) 8 (kA S1 11)) 11 (kA S1 8) 11 = _
        simp [va_up]
      have kn : kN (tF (tA (tA S1 8 (kA S1 11)) 11 (kA S1 8)) 9 (kF S1 12)) = kN S1 := rfl
      refine h (tF (tA (tA S1 8 (kA S1 11)) 11 (kA S1 8)) 9 (kF S1 12)) (CR_w j1 fr) (arC_w j2 fr (by rw [A8]; exact b2) (by rw [A11]; exact b1) (by rw [A8, A11]; exact fun z => b3 z.symm) (by rw [A8]; exact b5) (by rw [A11]; exact b4) (by rw [A8, kn]; exact b7) (by rw [A11, kn]; exact b6) (by rw [A8, kn]; exact b9) (by rw [A11, kn]; exact b8)) ?_ ?_ ?_ ?_ ?_ ?_
      · rw [A8, ← hM]
        intro r hr
        obtain ⟨z, z1, z2⟩ := j4 r hr
        exact ⟨z, z1, rowC_w fr z2⟩
      · rw [A8, kn, ← hML]; exact j6
      · rw [kF_tF, if_pos rfl, ← hML]; exact j7
      · rw [kF_tF, if_neg (by decide)]; exact hQ.2.2.1
      · rw [A8, kn, hQ.2.2.2.2.1, hML]
      · rw [A11, kn]; exact hQ.2.2.2.1
    · have hil : i < R.length := by omega
      have hui : R[i] ∈ R := List.getElem_mem hil
      obtain ⟨p, p1, p2, p3⟩ := off S1 M made uc us hQ i hil
      refine ⟨a8, by omega, p, p1, p3 _ ?_⟩
      have ih := ih hil
      have nxt := flat_next (prs (aP a) e R R) hil
      have np_le := flat_take (prs (aP a) e R R) R (i + 1)
      rw [nxt, List.length_append] at np_le
      rw [nxt] at ih
      have ebi := eb _ hui
      suffices K84 : ∀ j, j ≤ R.length → ∀ S2 M2 made2 uc2 us2, M2 = M ++ prs (aP a) e R (R.take j) R[i] → made2 = made + (prs (aP a) e R (R.take j) R[i]).length → MQc a R (kN S (kA S 8)) N (kF S 10) S2 M2 made2 uc2 us2 → T84 (nI (s / 4)) (nI (s % 4)) (nI c) (nI i) (lZ (e R[i])) (nI j) uc2 us2 S2 from K84 0 (by omega) S1 M made uc us (by simp [prs]) (by simp [prs]) hQ
      refine loopUp (P := fun j => ∀ S2 M2 made2 uc2 us2, M2 = M ++ prs (aP a) e R (R.take j) R[i] → made2 = made + (prs (aP a) e R (R.take j) R[i]).length → MQc a R (kN S (kA S 8)) N (kF S 10) S2 M2 made2 uc2 us2 → T84 (nI (s / 4)) (nI (s % 4)) (nI c) (nI i) (lZ (e R[i])) (nI j) uc2 us2 S2) R.length (fun j hj ihj S2 M2 made2 uc2 us2 hM2 hmade2 hQ2 => ?_)
      apply r84
      unfold C_match_w84 C_match_w160 C_match_w166
      have a82 := hQ2.1.2.1.2.1
      rw [hQ2.2.1, nI_leE (by omega) (by omega), show (0 : Int64) = lZ 0 from rfl, lZ_le (by omega) (by omega) (by omega) (by omega), nI_clamp (n := j) (by omega), hQ2.2.2.2.1, vp_inE (by omega) (by omega), show (nI i : Int32) + 1 = nI (i + 1) from nI_add i 1, show (nI j : Int32) + 1 = nI (j + 1) from nI_add j 1]
      have leave : prs (aP a) e R (R.take j) R[i] = prs (aP a) e R R R[i] → T56 (nI (s / 4)) (nI (s % 4)) (nI c) (nI (i + 1)) uc2 us2 S2 := by
        intro hh
        rw [hh] at hM2 hmade2
        exact ih S2 M2 made2 uc2 us2 (by rw [hM2, hM, List.append_assoc]) (by rw [hmade2, hmade, List.length_append]) hQ2
      refine ⟨fun y => leave (by rw [show j = R.length by omega, List.take_length]), fun y => ⟨fun y2 => leave (by rw [prs_nil (by omega), prs_nil (by omega)]), fun y2 => ?_⟩⟩
      have hjl : j < R.length := by omega
      have huj : R[j] ∈ R := List.getElem_mem hjl
      have ebj := eb _ huj
      obtain ⟨q', q1, q2, q3⟩ := off S2 M2 made2 uc2 us2 hQ2 j hjl
      obtain ⟨p', p1', p2', p3'⟩ := off S2 M2 made2 uc2 us2 hQ2 i hil
      have htb : R.take (j + 1) = R.take j ++ [R[j]] := List.take_succ_eq_append_getElem hjl
      have ihj := ihj hjl
      rw [htb, prs_app] at ihj
      refine ⟨a82, by omega, q', q1, q3 _ ?_⟩
      have skip : ¬ okP (aP a) R e R[i] R[j] → T84 (nI (s / 4)) (nI (s % 4)) (nI c) (nI i) (lZ (e R[i])) (nI (j + 1)) uc2 us2 S2 := fun hn => by
        rw [if_neg (by rw [dc_neg hn]; decide), List.append_nil] at ihj
        exact ihj S2 M2 made2 uc2 us2 hM2 hmade2 hQ2
      rw [lZ_le (by omega) (by omega) (by omega) (by omega)]
      refine ⟨fun y3 => skip (fun k => by have := k.2.1; omega), fun y3 => ?_⟩
      refine c_isBeside ha hQ2.1.1 hQ2.1.2.1 hQ2.1.2.2.1 hQ2.1.2.2.2.2.1 hQ2.2.1 hg hil hjl (fun o1 o2 => ⟨fun z => absurd z (by decide), fun _ => ?_⟩) (fun o => ⟨fun _ => skip (fun k => o ⟨k.2.2.1, k.2.2.2⟩), fun z => absurd rfl z⟩)
      have hgood : okP (aP a) R e R[i] R[j] := ⟨by omega, by omega, o1, o2⟩
      rw [if_pos (dc_pos hgood)] at ihj
      have pl : (prs (aP a) e R (R.take (j + 1)) R[i]).length ≤ (prs (aP a) e R R R[i]).length := by
        unfold prs
        rw [List.length_map, List.length_map]
        exact (List.Sublist.filter _ (List.take_sublist _ _)).length_le
      rw [htb, prs_app, if_pos (dc_pos hgood), List.length_append] at pl
      have pl1 : [cmb (7 * aP a) e R[i] R[j]].length = 1 := rfl
      have hM2l : M2.length = (R.flatMap (zer e)).length + made2 := by
        rw [hM2, hM, hmade2, hmade]
        simp only [List.length_append]
        omega
      have cm := cap_mono N (show M2.length ≤ T by omega)
      have cg := cap_ge N M2.length
      have u6 := hQ2.2.2.2.2.2.1
      have u7 := hQ2.2.2.2.2.2.2
      rw [nI_clamp (n := i) (by omega), hQ2.2.2.2.1, vp_inE (by omega) (by omega), vp_inE (by omega) (by omega)]
      refine ⟨a82, by omega, p', p1', a82, by omega, q', q1, by omega, by omega, ?_⟩
      have eU : lZ (e R[i]) = lI (e R[i]).toNat := by rw [← lZ_nat]; congr 1; omega
      have eV : -lZ (e R[j]) = lI (-(e R[j])).toNat := by rw [lZ_neg, ← lZ_nat]; congr 1; omega
      have gi := g2 _ hui
      have gj := g2 _ huj
      have call := c_grown (x := (-(e R[j])).toNat) (y := (e R[i]).toNat) hQ2.1.2.1 p2' q2 (by omega) (fun k _ => lin_bd (by omega) (by omega) (gi.2.2.2 k) (gj.2.2.2 k)) (by
        obtain ⟨k, k1, k2⟩ := gi.2.2.1
        refine ⟨k, k1, ?_⟩
        have := Nat.mul_pos (show 0 < (-(e R[j])).toNat by omega) (show 0 < R[i] k by omega)
        unfold lin
        omega) (post := fun r6 S6 => (∃ kc7 ks7 : Nat, (uc2 + 1) + kc7 ≤ mc ∧ (us2 + 21) + ks7 ≤ ms ∧ C_keep kc7 ks7 r6 S6 (fun S7 => T84 (nI (s / 4)) (nI (s % 4)) (nI c) (nI i) (lZ (e R[i])) (nI (j + 1)) ((uc2 + 1) + kc7) ((us2 + 21) + ks7) S7))) ?_
      · rw [← eV, ← eU] at call
        exact call
      · intro z S3 x1 x2
        have hQ3 := MQc_ext hQ2 x1
        have hQ4 : MQc a R (kN S (kA S 8)) N (kF S 10) S3 M2 (made2 + 1) (uc2 + 1) (us2 + 21) := ⟨hQ3.1, hQ3.2.1, hQ3.2.2.1, hQ3.2.2.2.1, hQ3.2.2.2.2.1, by omega, by omega⟩
        refine c_keepQ (post := fun uc us S7 => T84 (nI (s / 4)) (nI (s % 4)) (nI c) (nI i) (lZ (e R[i])) (nI (j + 1)) uc us S7) hQ4 hN64 (show M2.length + 1 ≤ T by omega) (by omega) (show made2 + 1 ≤ np by omega) hms hmc x2 (fun S7 uc7 us7 hQ7 => ?_)
        refine ihj S7 _ (made2 + 1) uc7 us7 ?_ ?_ hQ7
        · rw [hM2, List.append_assoc]; rfl
        · rw [hmade2, List.length_append, pl1, Nat.add_assoc]
  unfold C_match_w0
  have start : MQc a R (kN S (kA S 8)) N (kF S 10) (tF S 12 0) [] 0 0 0 := by
    refine ⟨⟨CR_w hR (frW_tF (by decide) frW_rf), arC_w hA (frW_tF (by decide) frW_rf) hA.2.1 hA.2.2.1 hA.2.2.2.1 hA.2.2.2.2.1 hA.2.2.2.2.2.1 hA.2.2.2.2.2.2.1 hA.2.2.2.2.2.2.2.1 hA.2.2.2.2.2.2.2.2.1 hA.2.2.2.2.2.2.2.2.2, hH, fun r hr => absurd hr (Nat.not_lt_zero _), hl, Nat.zero_le _, by rw [kF_tF, if_pos rfl]; rfl⟩, by rw [kF_tF, if_neg (by decide)]; exact h9, by rw [kF_tF, if_neg (by decide)], rfl, hN, ?_, ?_⟩
    · show 0 = 21 * 0 + 2 * (N - N)
      omega
    · show 64 * 0 ≤ 64 * 0 + (N - N)
      omega
  suffices K8 : ∀ i, i ≤ R.length → ∀ S1 M uc us, M = (R.take i).flatMap (zer e) → MQc a R (kN S (kA S 8)) N (kF S 10) S1 M 0 uc us → T8 (nI (s / 4)) (nI (s % 4)) (nI c) (nI i) uc us S1 from K8 0 (by omega) _ [] 0 0 (by simp) start
  refine loopUp (P := fun i => ∀ S1 M uc us, M = (R.take i).flatMap (zer e) → MQc a R (kN S (kA S 8)) N (kF S 10) S1 M 0 uc us → T8 (nI (s / 4)) (nI (s % 4)) (nI c) (nI i) uc us S1) R.length (fun i hi ih S1 M uc us hM hQ => ?_)
  apply r8
  unfold C_match_w8 C_match_w47
  have a8 := hQ.1.2.1.2.1
  rw [hQ.2.1, nI_leE (by omega) (by omega), nI_clamp (n := i) (by omega), hQ.2.2.2.1, vp_inE (by omega) (by omega), show (nI i : Int32) + 1 = nI (i + 1) from nI_add i 1]
  refine ⟨fun q => ?_, fun q => ?_⟩
  · rw [show i = R.length by omega, List.take_length] at hM
    exact K56 0 (by omega) S1 M 0 uc us (by rw [hM]; simp) (by simp) hQ
  · have hil : i < R.length := by omega
    have hui : R[i] ∈ R := List.getElem_mem hil
    obtain ⟨p, p1, p2, p3⟩ := off S1 M 0 uc us hQ i hil
    refine ⟨a8, by omega, p, p1, p3 _ ?_⟩
    have ih := ih hil
    have nxt := flat_next (zer e) hil
    have zl := flat_take (zer e) R (i + 1)
    rw [nxt, List.length_append] at zl
    rw [nxt, ← hM] at ih
    have ebi := eb _ hui
    rw [show (0 : Int64) = lZ 0 from rfl, lZ_eq (by omega) (by omega) (by omega) (by omega), hQ.2.2.2.1, vp_inE (by omega) (by omega)]
    refine ⟨fun c0 => ?_, fun c0 => ⟨a8, by omega, p, p1, ?_⟩⟩
    · have z : zer e R[i] = [] := by unfold zer; rw [if_neg c0]
      rw [z, List.append_nil] at ih
      exact ih S1 M uc us rfl hQ
    · have z : zer e R[i] = [R[i]] := by unfold zer; rw [if_pos c0]
      rw [z] at ih zl
      have z1 : [R[i]].length = 1 := rfl
      exact c_keepQ (post := fun uc us S7 => T8 (nI (s / 4)) (nI (s % 4)) (nI c) (nI (i + 1)) uc us S7) hQ hN64 (show M.length + 1 ≤ T by rw [hM]; omega) (by omega) (Nat.zero_le np) hms hmc p2 (fun S7 uc7 us7 hQ7 => ih S7 _ uc7 us7 rfl hQ7)
