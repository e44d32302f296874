/-! the component: signs, sets, count -/
def cv1 (a : Ab) (s i n : Nat) : Nat := sumN (fun j => if j < i ∧ aW a s i < aW a s j then 1 else 0) n
def cvS (a : Ab) (s n : Nat) : Nat := sumN (fun i => cv1 a s i 4) n
theorem cv1_top (a : Ab) (s i : Nat) (h : i ≤ 4) : cv1 a s i 4 = cv1 a s i i := by
  have e : 4 = i + (4 - i) := by omega
  unfold cv1
  rw [e, sumN_split]
  have : sumN (fun k => if i + k < i ∧ aW a s i < aW a s (i + k) then 1 else 0) (4 - i) = 0 := sumN_zero _ (fun k _ => if_neg (by omega))
  rw [this]
  rfl
theorem cvS_inv (a : Ab) (s : Nat) : cvS a s 4 = invS a s 4 := by
  unfold cvS invS cv1 inv1
  rw [sumN_comm]
theorem cv1_le (a : Ab) (s i n : Nat) : cv1 a s i n ≤ n := by
  have h := sumN_ub (f := fun j => if j < i ∧ aW a s i < aW a s j then 1 else 0) 1 n (fun k _ => by show (if _ then 1 else 0) ≤ 1; split <;> omega)
  unfold cv1; omega
theorem cvS_le (a : Ab) (s n : Nat) : cvS a s n ≤ 4 * n := sumN_ub 4 n (fun k _ => cv1_le a s k 4)
theorem c_isEvenG {a : Ab} (ha : AWf a) {S : CS} {s t g : Nat} (hs : s < 4 * aP a) (ht : aG a s = some t) (hg : pk S g 0) (hT : pk S (kG S g).2.2 1) (hN : kN S (kG S g).2.2 = 4) (hW : ∀ c, c < 4 → kT S (kG S g).2.2 c = nI (aW a s c)) {post : Int32 → CS → Prop} (h1 : evW a s → post 1 S) (h0 : ¬ evW a s → post 0 S) : C_isEvenG g S post := by
  apply C_isEvenG_ok
  intro T4 T11 r4 r11
  have hw := (ha.2.1 s t hs ht).2.2.2.2
  refine loopUp (P := fun i => T4 g (nI (cvS a s i)) (nI i) S) 4 (fun i hi ih => ?_) 0 (by omega)
  apply r4
  unfold C_isEvenG_w4 C_isEvenG_w62
  have hb := cvS_le a s i
  simp (disch := omega) only [n0, n1, n2, n3, n4, n5, n6, n7, n8, n9, n10, n11, n12, n14, n16, n18, n21, n22, n36, n48, n63, n100, n108, n400, n1000, pk_mul, nI_add, pk_div, nI_subm, nI_ltE, nI_leE, nI_eqE, nI_clamp, vp_inE, nIm1, nIm1', nIm1n, nIm1n', nI_addn]
  refine ⟨fun q => ?_, fun q => ?_⟩
  · have e : i = 4 := by omega
    subst e
    unfold evW at h1 h0
    rw [cvS_inv]
    exact ⟨fun q2 => ⟨zok0, h0 (by omega)⟩, fun q2 => ⟨zok1, h1 (by omega)⟩⟩
  · refine loopUp (P := fun j => T11 g (nI (cvS a s i + cv1 a s i j)) (nI i) (nI j) S) i (fun j hj ihj => ?_) 0 (by omega)
    apply r11
    unfold C_isEvenG_w11 C_isEvenG_w37
    have wi := (hw i (by omega)).1
    have wj := (hw j (by omega)).1
    rw [hN, nI_leE (by omega) (by omega), vp_inE (by omega) (by omega), vp_inE (by omega) (by omega), nI_clamp (by omega), nI_clamp (by omega), hW j (by omega), hW i (by omega), nI_leE (by omega) (by omega), show (nI i : Int32) + 1 = nI (i + 1) from nI_add i 1, show (nI j : Int32) + 1 = nI (j + 1) from nI_add j 1]
    refine ⟨fun q2 => ?_, fun q2 => ⟨hg, hT, by omega, hg, hT, by omega, ?_⟩⟩
    · have ih := ih (by omega)
      have ih : T4 g (nI (cvS a s i + cv1 a s i 4)) (nI (i + 1)) S := ih
      rw [cv1_top a s i (by omega)] at ih
      rw [show j = i by omega]
      exact ih
    · have ihj := ihj (by omega)
      have ihj : T11 g (nI (cvS a s i + (cv1 a s i j + (if j < i ∧ aW a s i < aW a s j then 1 else 0)))) (nI i) (nI (j + 1)) S := ihj
      rw [← Nat.add_assoc, ← nI_add] at ihj
      refine ⟨fun q3 => ?_, fun q3 => ?_⟩
      · rw [if_neg (by omega)] at ihj; exact ihj
      · rw [if_pos (by omega)] at ihj; exact ihj
/-! sets of pieces, with signs -/
def evB (a : Ab) (s : Nat) : Bool := invS a s 4 % 2 == 0
theorem evB_iff (a : Ab) (s : Nat) : evB a s = true ↔ evW a s := by unfold evB evW; simp
def sgo (o : Option Bool) : Int32 := match o with
  | none => 0
  | some b => sgI b
theorem sgo_0 (o : Option Bool) : sgo o = 0 ↔ o = none := by
  cases o with
  | none => exact ⟨fun _ => rfl, fun _ => rfl⟩
  | some b => cases b <;> exact ⟨fun h => absurd h (by decide), fun h => absurd h (by simp)⟩
theorem sgo_inj (o : Option Bool) (b : Bool) : sgo o = sgI b ↔ o = some b := by
  cases o with
  | none => cases b <;> exact ⟨fun h => absurd h (by decide), fun h => absurd h (by simp)⟩
  | some c => cases b <;> cases c <;> exact ⟨fun h => by first | rfl | exact absurd h (by decide), fun h => by first | rfl | exact absurd h (by simp)⟩
def duS (a : Ab) (s : Nat) (v : Bool) : Bool := if evB a s then !v else v
/-- a side's signs fit -/
def cons (a : Ab) (sg : Nat → Option Bool) (s : Nat) : Prop := ∀ t v, aG a s = some t → sg (s / 4) = some v → sg (t / 4) = some (duS a s v)
/-- signs that fit all sides -/
def fitT (a : Ab) (τ : Nat → Bool) : Prop := ∀ s t, s < 4 * aP a → aG a s = some t → (τ (s / 4) != τ (t / 4)) = evB a s
def sEq (a : Ab) (L : Lb) (sg : Nat → Option Bool) : Prop := ∀ τ, fitT a τ → ∀ p q, p < aP a → q < aP a → sg p ≠ none → sg q ≠ none → L.2.2 p = L.2.2 q → (sg p = sg q ↔ τ p = τ q)
theorem and_z : ∀ u v : Bool, zB u &&& zB v = zB (u && v) := by decide +kernel
theorem lk8_sy {a : Ab} (ha : AWf a) {x y : Nat} (h : lk8 a x y) : x < aP a ∧ y < aP a ∧ lk8 a y x := by
  obtain ⟨s, t, hs, ht, rfl, rfl⟩ := h
  obtain ⟨t1, t2, t3, _⟩ := ha.2.1 s t hs ht
  exact ⟨by omega, by omega, t, s, t1, t3, rfl, rfl⟩
/-- the world of sets(): two new arrays -/
def frT (S S' : CS) (q1 q2 : Nat) : Prop := extC S S' ∧ pk S' q1 1 ∧ pk S' q2 1 ∧ kN S' q1 = 3 ∧ kN S' q2 = 3
theorem frT_tT {S S' : CS} {q1 q2 q j : Nat} {v : Int32} (hq : q = q1 ∨ q = q2) (h1 : q1 ∉ kLP S) (h2 : q2 ∉ kLP S) (h : frT S S' q1 q2) : frT S (tT S' q j v) q1 q2 := by
  have hn : q ∉ kLP S := by rcases hq with e | e <;> rw [e] <;> assumption
  exact ⟨extC_tT hn h.1, h.2.1, h.2.2.1, h.2.2.2.1, h.2.2.2.2⟩
theorem frT_tF {S S' : CS} {q1 q2 : Nat} {v : Int32} (h : frT S S' q1 q2) : frT S (tF S' 5 v) q1 q2 := ⟨extC_tF (by decide) h.1, h.2⟩
theorem kT_tT (S : CS) (q j : Nat) (v : Int32) (q' j' : Nat) : kT (tT S q j v) q' j' = if q' = q ∧ j' = j then v else kT S q' j' := by
  show va_up (kT S) q (upd (kT S q) j v) q' j' = _
  by_cases h : q' = q
  · subst h
    rw [up_at]
    by_cases h2 : j' = j <;> simp [upd, h2]
  · rw [up_ne _ _ h, if_neg (fun z => h z.1)]
