/-! the component: keep, isBeside -/
/-- what may change while rows are made -/
def frW (S S' : CS) : Prop := (∀ q, q ∈ kLP S → q ∈ kLP S' ∧ kK S' q = kK S q ∧ kG S' q = kG S q ∧ kN S' q = kN S q ∧ kT S' q = kT S q ∧ kR S' q = kR S q) ∧ kGl S' = kGl S ∧ kF S' 1 = kF S 1 ∧ (∀ j, kI S' 13 j = kI S 13 j) ∧ kA S' 6 = kA S 6 ∧ kA S' 7 = kA S 7 ∧ kO S' (kA S 6) = kO S (kA S 6)
theorem frW_rf {S : CS} : frW S S := ⟨fun _ h => ⟨h, rfl, rfl, rfl, rfl, rfl⟩, rfl, rfl, fun _ => rfl, rfl, rfl, rfl⟩
theorem frW_pk {S S' : CS} (h : frW S S') {g k : Nat} (hg : pk S g k) : pk S' g k := ⟨(h.1 g hg.1).1, by rw [(h.1 g hg.1).2.1]; exact hg.2⟩
theorem frW_nO {S S' : CS} {q n : Nat} (h6 : kA S 6 ∈ kLP S) (hq : q ∉ kLP S') (h : frW S S') : frW S (nO S' q n) := by
  refine ⟨fun p hp => ?_, h.2.1, h.2.2.1, h.2.2.2.1, h.2.2.2.2.1, h.2.2.2.2.2.1, ?_⟩
  · obtain ⟨a1, a2, a3, a4, a5, a6⟩ := h.1 p hp
    have hne : p ≠ q := fun e => hq (e ▸ a1)
    refine ⟨List.mem_append_left _ a1, ?_, a3, ?_, a5, a6⟩
    · show va_up (kK S') q 2 p = _
      simp [va_up, hne]; exact a2
    · show va_up (kN S') q n p = _
      simp [va_up, hne]; exact a4
  · have hne : kA S 6 ≠ q := fun e => hq (e ▸ (h.1 _ h6).1)
    show va_up (kO S') q _ (kA S 6) = _
    simp [va_up, hne]; exact h.2.2.2.2.2.2
theorem frW_tOc {S S' : CS} {sa da sp dp n : Nat} (hd : kA S 6 ≠ da) (h : frW S S') : frW S (tOc S' sa da sp dp n) := by
  refine ⟨h.1, h.2.1, h.2.2.1, h.2.2.2.1, h.2.2.2.2.1, h.2.2.2.2.2.1, ?_⟩
  show va_up (kO S') da _ (kA S 6) = _
  simp [va_up, hd]; exact h.2.2.2.2.2.2
theorem frW_tO {S S' : CS} {b j : Nat} {x : Option Nat} (hd : kA S 6 ≠ b) (h : frW S S') : frW S (tO S' b j x) := by
  refine ⟨h.1, h.2.1, h.2.2.1, h.2.2.2.1, h.2.2.2.2.1, h.2.2.2.2.2.1, ?_⟩
  show va_up (kO S') b _ (kA S 6) = _
  simp [va_up, hd]; exact h.2.2.2.2.2.2
theorem frW_tA {S S' : CS} {k b : Nat} (hk : k = 8 ∨ k = 11) (h : frW S S') : frW S (tA S' k b) := by
  refine ⟨h.1, h.2.1, h.2.2.1, h.2.2.2.1, ?_, ?_, h.2.2.2.2.2.2⟩
  · show va_up (kA S') k b 6 = _
    have : 6 ≠ k := by omega
    simp [va_up, this]; exact h.2.2.2.2.1
  · show va_up (kA S') k b 7 = _
    have : 7 ≠ k := by omega
    simp [va_up, this]; exact h.2.2.2.2.2.1
theorem frW_tF {S S' : CS} {k : Nat} {v : Int32} (hk : k ≠ 1) (h : frW S S') : frW S (tF S' k v) := by
  refine ⟨h.1, h.2.1, ?_, h.2.2.2.1, h.2.2.2.2.1, h.2.2.2.2.2.1, h.2.2.2.2.2.2⟩
  rw [kF_tF, if_neg (fun e => hk e.symm)]
  exact h.2.2.1
theorem CR_w {a : Ab} {S S' : CS} (h : CR a S) (e : frW S S') : CR a S' := by
  refine ⟨by rw [e.2.2.1]; exact h.1, fun s hs => ?_, fun i hi => by rw [e.2.2.2.1 i]; exact h.2.2 i hi⟩
  have hg := h.2.1 s hs
  unfold glR at hg ⊢
  rw [e.2.1]
  cases hG : aG a s with
  | none => rw [hG] at hg; exact hg
  | some t =>
    rw [hG] at hg
    obtain ⟨g, g1, g2, g3, g4, g5, g6, g7⟩ := hg
    have eg := e.1 g g2.1
    have et := e.1 _ g5.1
    refine ⟨g, g1, frW_pk e g2, ?_, ?_, ?_, ?_, ?_⟩
    · rw [eg.2.2.1]; exact g3
    · rw [eg.2.2.1]; exact g4
    · rw [eg.2.2.1]; exact frW_pk e g5
    · rw [eg.2.2.1, et.2.2.2.1]; exact g6
    · rw [eg.2.2.1, et.2.2.2.2.1]; exact g7
theorem arC_w {S S' : CS} (h : arC S) (e : frW S S') (h1 : pk S' (kA S' 8) 2) (h2 : pk S' (kA S' 11) 2) (h3 : kA S' 8 ≠ kA S' 11) (h4 : kA S 6 ≠ kA S' 8) (h5 : kA S 6 ≠ kA S' 11) (n1 : 64 ≤ kN S' (kA S' 8)) (n2 : 64 ≤ kN S' (kA S' 11)) (n3 : kN S' (kA S' 8) ≤ 4096) (n4 : kN S' (kA S' 11) ≤ 4096) : arC S' := by
  obtain ⟨⟨a1, a2, a3, a4, a5, a6⟩, _⟩ := h
  have e6 := e.1 _ a1.1
  have e7 := e.1 _ a3.1
  unfold arC
  rw [e.2.2.2.2.1, e.2.2.2.2.2.1]
  refine ⟨⟨frW_pk e a1, by rw [e6.2.2.2.1]; exact a2, frW_pk e a3, by rw [e7.2.2.2.1]; exact a4, fun i hi => ?_, fun i j hi hj => by rw [e.2.2.2.2.2.2]; exact a6 i j hi hj⟩, h1, h2, h3, h4, h5, n1, n2, n3, n4⟩
  obtain ⟨r, r1, r2, r3, r4⟩ := a5 i hi
  exact ⟨r, by rw [e.2.2.2.2.2.2]; exact r1, frW_pk e r2, by rw [(e.1 r r2.1).2.2.2.1]; exact r3, r4⟩
theorem rowC_w {S S' : CS} (e : frW S S') {q n : Nat} {u : Vec} (h : rowC S q n u) : rowC S' q n u := by
  have eq := e.1 q h.1.1
  refine ⟨frW_pk e h.1, by rw [eq.2.2.2.1]; exact h.2.1, fun i hi => by rw [eq.2.2.2.2.2]; exact h.2.2.1 i hi, by rw [e.2.2.2.2.2.1]; exact h.2.2.2.1, fun i hi => by rw [e.2.2.2.2.1, e.2.2.2.2.2.2]; exact h.2.2.2.2 i hi⟩
theorem kO_tO (S : CS) (b j : Nat) (x : Option Nat) (b' j' : Nat) : kO (tO S b j x) b' j' = if b' = b ∧ j' = j then x else kO S b' j' := by
  show va_up (kO S) b (va_up (kO S b) j x) b' j' = _
  by_cases h : b' = b
  · subst h
    by_cases h2 : j' = j <;> simp [va_up, h2]
  · simp [va_up, h]
/-- the two lists of rows while they are made -/
def LJ (a : Ab) (S : CS) (R M : List Vec) : Prop := CR a S ∧ arC S ∧ holdC S (kA S 8) (7 * aP a) R ∧ holdC S (kA S 11) (7 * aP a) M ∧ R.length ≤ kN S (kA S 8) ∧ M.length ≤ kN S (kA S 11) ∧ kF S 12 = nI M.length
def szC (S : CS) : Nat := kN S (kA S 8) + kN S (kA S 11)
theorem LJ_ext {a : Ab} {S S' : CS} {R M : List Vec} (h : LJ a S R M) (e : extC S S') : LJ a S' R M ∧ szC S' = szC S ∧ kF S' 9 = kF S 9 ∧ kF S' 10 = kF S 10 := by
  obtain ⟨h1, h2, h3, h4, h5, h6, h7⟩ := h
  have e8 := (e.1 _ h2.2.1.1).2.2.2.1
  have e11 := (e.1 _ h2.2.2.1.1).2.2.2.1
  refine ⟨⟨CR_ext h1 e, arC_pool h2 (extC_pool e), ?_, ?_, by rw [e.2.2.1, e8]; exact h5, by rw [e.2.2.1, e11]; exact h6, by rw [e.2.2.2.1 12 (by omega)]; exact h7⟩, by unfold szC; rw [e.2.2.1, e8, e11], e.2.2.2.1 9 (by omega), e.2.2.2.1 10 (by omega)⟩
  · rw [e.2.2.1]; exact holdC_pool h2 (extC_pool e) h2.2.1.1 h3
  · rw [e.2.2.1]; exact holdC_pool h2 (extC_pool e) h2.2.2.1.1 h4
theorem keep_at {a : Ab} {S : CS} {R M : List Vec} (h : LJ a S R M) {q : Nat} {w : Vec} (hq : rowC S q (7 * aP a) w) (hlt : M.length < kN S (kA S 11)) : LJ a (tF (tO S (kA S 11) M.length (some q)) 12 (nI (M.length + 1))) R (M ++ [w]) := by
  obtain ⟨h1, h2, h3, h4, h5, h6, h7⟩ := h
  obtain ⟨_, b1, b2, b3, b4, b5, b6, b7, b8, b9⟩ := id h2
  have e : frW S (tF (tO S (kA S 11) M.length (some q)) 12 (nI (M.length + 1))) := frW_tF (by decide) (frW_tO b5 frW_rf)
  refine ⟨CR_w h1 e, arC_w h2 e b1 b2 b3 b4 b5 b6 b7 b8 b9, fun r hr => ?_, fun r hr => ?_, h5, ?_, ?_⟩
  · obtain ⟨z, z1, z2⟩ := h3 r hr
    refine ⟨z, ?_, rowC_w e z2⟩
    show kO (tO S (kA S 11) M.length (some q)) (kA S 8) r = some z
    rw [kO_tO, if_neg (fun y => b3 y.1)]; exact z1
  · show ∃ z, kO (tO S (kA S 11) M.length (some q)) (kA S 11) r = some z ∧ _
    by_cases c : r = M.length
    · subst c
      refine ⟨q, by rw [kO_tO, if_pos ⟨rfl, rfl⟩], ?_⟩
      rw [show (M ++ [w])[M.length] = w by simp]
      exact rowC_w e hq
    · have hr' : r < M.length := by have : (M ++ [w]).length = M.length + 1 := by simp
                                    omega
      obtain ⟨z, z1, z2⟩ := h4 r hr'
      refine ⟨z, by rw [kO_tO, if_neg (fun y => c y.2)]; exact z1, ?_⟩
      rw [show (M ++ [w])[r] = M[r] by rw [List.getElem_append_left hr']]
      exact rowC_w e z2
  · rw [show (M ++ [w]).length = M.length + 1 by simp]
    exact hlt
  · rw [show (M ++ [w]).length = M.length + 1 by simp, kF_tF, if_pos rfl]
/-- the room of a list after one row more -/
def capS (N m : Nat) : Nat := if m = N then 2 * m else N
theorem c_keep {a : Ab} {mc ms : Nat} {S : CS} {R M : List Vec} (h : LJ a S R M) (hM : M.length < 2000) {q : Nat} {w : Vec} (hq : rowC S q (7 * aP a) w) (hf : M.length = kN S (kA S 11) → 1 ≤ mc ∧ 2 * M.length ≤ ms) {post : CS → Prop} (hp : ∀ S', LJ a S' R (M ++ [w]) → kF S' 9 = kF S 9 → kF S' 10 = kF S 10 → kN S' (kA S' 8) = kN S (kA S 8) → kN S' (kA S' 11) = capS (kN S (kA S 11)) M.length → post S') : C_keep mc ms q S post := by
  apply C_keep_ok
  unfold C_keep_VC C_keep_w0
  obtain ⟨h1, h2, h3, h4, h5, h6, h7⟩ := id h
  obtain ⟨b0, b1, b2, b3, b4, b5, b6, b7, b8, b9⟩ := id h2
  rw [h7, nI_eqE (by omega) (by omega)]
  have fin : ∀ uc us S1, LJ a S1 R M → rowC S1 q (7 * aP a) w → M.length < kN S1 (kA S1 11) → (∀ S', LJ a S' R (M ++ [w]) → kF S' 9 = kF S1 9 → kF S' 10 = kF S1 10 → kN S' (kA S' 8) = kN S1 (kA S1 8) → kN S' (kA S' 11) = kN S1 (kA S1 11) → post S') → C_keep_w41 mc ms post q uc us S1 := by
    intro uc us S1 g1 g2 g3 g4
    unfold C_keep_w41
    have g7 := g1.2.2.2.2.2.2
    dsimp only
    rw [g7, nI_clamp (by omega), vp_inE (by omega) (by have := g1.2.1.2.2.2.2.2.2.2.2.2; omega)]
    refine ⟨g1.2.1.2.2.1, g2.1, g3, ?_⟩
    rw [show kF (tO S1 (kA S1 11) M.length (some q)) 12 = nI M.length from g7, show (nI M.length : Int32) + 1 = nI (M.length + 1) from nI_add _ 1]
    exact g4 _ (keep_at g1 g2 g3) (by rw [kF_tF, if_neg (by decide)]; rfl) (by rw [kF_tF, if_neg (by decide)]; rfl) rfl rfl
  refine ⟨b2, fun c => fin _ _ S h hq (by omega) (fun S' k1 k2 k3 k4 k5 => hp S' k1 k2 k3 k4 (by unfold capS; rw [if_neg c]; exact k5)), fun c => ?_⟩
  obtain ⟨f1, f2⟩ := hf c
  have e2 : (2 : Int32) * nI M.length = nI (2 * M.length) := by simp (disch := omega) only [n0, n1, n2, n3, n4, n5, n6, n7, n8, n9, n10, n11, n12, n14, n16, n18, n21, n22, n36, n48, n63, n100, n108, n400, n1000, pk_mul, nI_add, pk_div, nI_subm, nI_ltE, nI_leE, nI_eqE, nI_clamp, vp_inE, nIm1, nIm1', nIm1n, nIm1n', nI_addn]
  have ez : (0 : Int32).toNatClampNeg = 0 := rfl
  rw [e2, show (0 : Int32) = nI 0 from rfl, nI_ltE (by omega) (by omega), nI_clamp (by omega)]
  refine ⟨by omega, by omega, by omega, by omega, fun q1 hq1 => ?_⟩
  have n11 : kA S 11 ≠ q1 := fun e => hq1 (e ▸ b2.1)
  have n8 : kA S 8 ≠ q1 := fun e => hq1 (e ▸ b1.1)
  have n6 : kA S 6 ≠ q1 := fun e => hq1 (e ▸ b0.1.1)
  have fr1 : frW S (nO S q1 (2 * M.length)) := frW_nO b0.1.1 hq1 frW_rf
  have hk11 : kA (nO S q1 (2 * M.length)) 11 = kA S 11 := rfl
  have hk12 : kF (nO S q1 (2 * M.length)) 12 = nI M.length := h7
  dsimp only
  rw [hk11, hk12, nI_clamp (n := M.length) (by omega), nI_ltE (by omega) (by omega), nI_ltE (by omega) (by omega), nI_clamp (n := 0) (by omega)]
  have kO1 : ∀ b, b ≠ q1 → kO (nO S q1 (2 * M.length)) b = kO S b := fun b hb => by
    show va_up (kO S) q1 _ b = _
    simp [va_up, hb]
  have kNq : kN (nO S q1 (2 * M.length)) q1 = 2 * M.length := by
    show va_up (kN S) q1 _ q1 = _
    simp [va_up]
  have pkq : pk (nO S q1 (2 * M.length)) q1 2 := ⟨List.mem_append_right _ (List.mem_singleton.mpr rfl), by
    show va_up (kK S) q1 2 q1 = _
    simp [va_up]⟩
  have kN11 : kN (nO S q1 (2 * M.length)) (kA S 11) = kN S (kA S 11) := (fr1.1 _ b2.1).2.2.2.1
  refine ⟨frW_pk fr1 b2, pkq, fun i hi y hy => ?_, by omega, by omega, by omega, by rw [kN11]; omega, by rw [kNq]; omega, ?_⟩
  · rw [kO1 _ n11, Nat.zero_add] at hy
    obtain ⟨z, z1, z2⟩ := h4 i hi
    rw [z1] at hy
    injection hy with hy
    rw [← hy]; exact frW_pk fr1 z2.1
  · have e : frW S (tA (tOc (nO S q1 (2 * M.length)) (kA S 11) q1 0 0 M.length) 11 q1) := frW_tA (Or.inr rfl) (frW_tOc n6 fr1)
    have A8 : kA (tA (tOc (nO S q1 (2 * M.length)) (kA S 11) q1 0 0 M.length) 11 q1) 8 = kA S 8 := by
      show va_up (kA S) 11 q1 8 = _
      simp [va_up]
    have A11 : kA (tA (tOc (nO S q1 (2 * M.length)) (kA S 11) q1 0 0 M.length) 11 q1) 11 = q1 := by
      show va_up (kA S) 11 q1 11 = _
      simp [va_up]
    have N8 : kN (tA (tOc (nO S q1 (2 * M.length)) (kA S 11) q1 0 0 M.length) 11 q1) (kA S 8) = kN S (kA S 8) := (e.1 _ b1.1).2.2.2.1
    have Nq : kN (tA (tOc (nO S q1 (2 * M.length)) (kA S 11) q1 0 0 M.length) 11 q1) q1 = 2 * M.length := kNq
    refine fin _ _ _ ⟨CR_w h1 e, arC_w h2 e (by rw [A8]; exact frW_pk e b1) (by rw [A11]; exact pkq) (by rw [A8, A11]; exact n8) (by rw [A8]; exact b4) (by rw [A11]; exact n6) (by rw [A8, N8]; exact b6) (by rw [A11, Nq]; omega) (by rw [A8, N8]; exact b8) (by rw [A11, Nq]; omega), fun r hr => ?_, fun r hr => ?_, by rw [A8, N8]; exact h5, by rw [A11, Nq]; omega, h7⟩ (rowC_w e hq) (by rw [A11, Nq]; omega) (fun S' k1 k2 k3 k4 k5 => hp S' k1 k2 k3 (by rw [k4, A8, N8]) ?_)
    · obtain ⟨z, z1, z2⟩ := h3 r hr
      refine ⟨z, ?_, rowC_w e z2⟩
      rw [A8]
      show va_up (kO (nO S q1 (2 * M.length))) q1 _ (kA S 8) r = some z
      simp only [va_up, n8, if_false]
      rw [kO1 _ n8]; exact z1
    · obtain ⟨z, z1, z2⟩ := h4 r hr
      refine ⟨z, ?_, rowC_w e z2⟩
      rw [A11]
      show va_up (kO (nO S q1 (2 * M.length))) q1 (va_cpy (kO (nO S q1 (2 * M.length)) (kA S 11)) (kO (nO S q1 (2 * M.length)) q1) 0 0 M.length) q1 r = some z
      simp only [va_up, if_true]
      unfold va_cpy
      rw [if_pos ⟨by omega, by omega⟩, kO1 _ n11, show 0 + (r - 0) = r by omega]
      exact z1
    · unfold capS
      rw [k5, if_pos c, A11, Nq]
