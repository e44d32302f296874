/-! the component: loops -/
def lqL (a : Ab) (L : Lb) : Nat → Mat
  | 0 => []
  | e + 1 => lqL a L e ++ (if (lpF a (fsN (eL L) (6 * aP a) e)).1 = true then [(lpF a (fsN (eL L) (6 * aP a) e)).2] else [])
theorem lqL_lp (a : Ab) (L : Lb) : ∀ m, m ≤ 6 * aP a → lqL a L (cnL (eL L) m) = lpL a L m := by
  intro m
  induction m with
  | zero => intro _; rfl
  | succ m ih =>
    intro hm
    have ih := ih (by omega)
    rw [cnL_s, lpL_s]
    by_cases c : eL L m = m
    · rw [if_pos c]
      show lqL a L (cnL (eL L) m) ++ (if (lpF a (fsN (eL L) (6 * aP a) (cnL (eL L) m))).1 = true then [(lpF a (fsN (eL L) (6 * aP a) (cnL (eL L) m))).2] else []) = _
      rw [ih, fsN_at (by omega) c]
      congr 1
      by_cases c2 : (lpF a m).1 = true
      · rw [if_pos c2, if_pos ⟨c, c2⟩]
      · rw [if_neg c2, if_neg (fun z => c2 z.2)]
    · rw [if_neg c, if_neg (fun z => c z.1), List.append_nil]
      exact ih
theorem lqL_le (a : Ab) (L : Lb) (e : Nat) : (lqL a L e).length ≤ e := by
  induction e with
  | zero => exact Nat.le_refl _
  | succ e ih =>
    show (lqL a L e ++ _).length ≤ e + 1
    rw [List.length_append]
    split <;> simp <;> omega
/-- the component's rows hold the matrix A -/
def matC (S : CS) (A : Mat) : Prop := ∀ r, (hr : r < A.length) → ∃ q, kO S (kA S 6) r = some q ∧ ∀ j, j < 6 → kR S q j = lZ (A[r] j)
theorem c_loops {κ : Prop} {a : Ab} (ha : AWf a) {L : Lb} (hl : labs a L) {S : CS} (hI : CI κ a S) {post : Int32 → CS → Prop} (h : ∀ S', CI κ a S' → matC S' (lpL a L (6 * aP a)) → post (nI (lpL a L (6 * aP a)).length) S') : C_loops S post := by
  apply C_loops_ok
  intro T r
  have hP := ha.1
  have l3 := lab3 ha hl
  have hm := cnL_le (eL L) (6 * aP a)
  unfold C_loops_w0
  refine c_findS3 ha l3 (fun x y => lk3_sy ha) hI (fun S1 f1 f2 f3 => ?_)
  have hI1 := CI_ext hI f1.1
  suffices K : ∀ e, e ≤ cnL (eL L) (6 * aP a) → ∀ S', CI κ a S' → ptd S' 33 (6 * aP a) (eL L) → matC S' (lqL a L e) → T (nI (cnL (eL L) (6 * aP a))) (nI (lqL a L e).length) (nI e) S' from K 0 (by omega) S1 hI1 f2 (fun r hr => absurd hr (Nat.not_lt_zero _))
  refine loopUp (P := fun e => ∀ S', CI κ a S' → ptd S' 33 (6 * aP a) (eL L) → matC S' (lqL a L e) → T (nI (cnL (eL L) (6 * aP a))) (nI (lqL a L e).length) (nI e) S') (cnL (eL L) (6 * aP a)) (fun e he ih S' g0 g1 g2 => ?_)
  apply r
  unfold C_loops_w12
  rw [nI_leE (by omega) (by omega)]
  refine ⟨fun c => ?_, fun c => ?_⟩
  · rw [show e = cnL (eL L) (6 * aP a) by omega, lqL_lp a L _ (Nat.le_refl _)] at g2 ⊢
    exact h S' g0 g2
  · obtain ⟨k1, k2, k3⟩ := fsN_spec (show e < cnL (eL L) (6 * aP a) by omega)
    have hle := lqL_le a L e
    have ih := ih (by omega)
    have edef : lqL a L (e + 1) = lqL a L e ++ (if (lpF a (fsN (eL L) (6 * aP a) e)).1 = true then [(lpF a (fsN (eL L) (6 * aP a) e)).2] else []) := rfl
    rw [edef] at ih
    generalize hz : fsN (eL L) (6 * aP a) e = z at k1 k2 k3 ih
    have call := c_firstS3 (k := z) g1 (by omega) (lab_le l3) k1 k2 (post := fun r1 S1 => (pk S1 (kA S1 6) 2 ∧ vp_in (nI (lqL a L e).length) (kN S1 (kA S1 6)) ∧ ∃ r2 : Nat, kO S1 (kA S1 6) (nI (lqL a L e).length).toNatClampNeg = some r2 ∧ C_goAround r1 r2 S1 (fun r3 S3 => ((r3 = 0 → C_loops_w44 post T 0 (nI (lqL a L e).length) (nI (cnL (eL L) (6 * aP a))) (nI e) S3) ∧ (¬ r3 = 0 → C_loops_w44 post T 1 (nI (lqL a L e).length) (nI (cnL (eL L) (6 * aP a))) (nI e) S3))))) ?_
    · rw [k3] at call
      exact call
    · obtain ⟨⟨a1, a2, a3, a4, a5, a6⟩, _⟩ := id g0.2.1
      obtain ⟨q, q1, q2, q3, q4⟩ := a5 (lqL a L e).length (by omega)
      rw [a2, nI_clamp (by omega), vp_inE (by omega) (by omega)]
      refine ⟨a1, by omega, q, q1, c_goAround ha g0 k1 (Or.inr ⟨_, by omega, q1⟩) q2 q3 (fun S2 m1 m2 m3 => ?_)⟩
      unfold C_loops_w44
      rw [show (nI e : Int32) + 1 = nI (e + 1) from nI_add e 1]
      have pt2 : ptd S2 33 (6 * aP a) (eL L) := fun x hx => by rw [m2.2.1]; exact g1 x hx
      have old : ∀ r, (hr : r < (lqL a L e).length) → ∃ q, kO S2 (kA S2 6) r = some q ∧ ∀ j, j < 6 → kR S2 q j = lZ ((lqL a L e)[r] j) := fun r hr => by
        obtain ⟨p, p1, p2⟩ := g2 r hr
        refine ⟨p, by rw [m2.2.2.2.1, m2.2.2.2.2.2.2.2.2.2.1]; exact p1, fun j hj => ?_⟩
        have hne : p ≠ q := fun ee => by
          have := a6 r (lqL a L e).length (by omega) (by omega) (by rw [p1, q1, ee])
          omega
        rw [m2.2.2.2.2.2.2.2.2.2.2 p hne]
        exact p2 j hj
      cases ec : (lpF a z).1 with
      | false =>
        rw [if_neg (by rw [ec]; exact Bool.false_ne_true), List.append_nil] at ih
        refine ⟨fun _ => ?_, fun y => absurd rfl y⟩
        rw [Int32.add_zero]
        exact ih S2 m1 pt2 old
      | true =>
        rw [if_pos ec] at ih
        refine ⟨fun y => absurd y (by decide), fun _ => ?_⟩
        have hlen : (lqL a L e ++ [(lpF a z).2]).length = (lqL a L e).length + 1 := by simp
        have ih := ih S2 m1 pt2 (fun r hr => by
          rw [hlen] at hr
          by_cases c2 : r = (lqL a L e).length
          · subst c2
            refine ⟨q, by rw [m2.2.2.2.1, m2.2.2.2.2.2.2.2.2.2.1]; exact q1, fun j hj => ?_⟩
            rw [m3 ec j hj, show (lqL a L e ++ [(lpF a z).2])[(lqL a L e).length] = (lpF a z).2 by simp]
          · have hr' : r < (lqL a L e).length := by omega
            obtain ⟨p, p1, p2⟩ := old r hr'
            refine ⟨p, p1, fun j hj => ?_⟩
            rw [p2 j hj, List.getElem_append_left hr'])
        rw [hlen, ← nI_add] at ih
        exact ih
