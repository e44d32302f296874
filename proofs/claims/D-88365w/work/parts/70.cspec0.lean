/-! the component's state holds the abstract one -/
def glR (a : Ab) (S : CS) (s : Nat) : Prop := match aG a s with
  | none => kGl S (s / 4) (s % 4) = none
  | some t => ∃ g, kGl S (s / 4) (s % 4) = some g ∧ pk S g 0 ∧ (kG S g).1 = nI (t / 4) ∧ (kG S g).2.1 = nI (t % 4) ∧ pk S (kG S g).2.2 1 ∧ kN S (kG S g).2.2 = 4 ∧ ∀ c, c < 4 → kT S (kG S g).2.2 c = nI (aW a s c)
def CR (a : Ab) (S : CS) : Prop := kF S 1 = nI (aP a) ∧ (∀ s, s < 4 * aP a → glR a S s) ∧ ∀ i, i < 21 → kI S 13 i = nI (aS a i)
/-- all that lives goes on: cells may be new, scratch may change -/
def extC (S S' : CS) : Prop := (∀ q, q ∈ kLP S → q ∈ kLP S' ∧ kK S' q = kK S q ∧ kG S' q = kG S q ∧ kN S' q = kN S q ∧ kT S' q = kT S q ∧ kO S' q = kO S q ∧ kR S' q = kR S q) ∧ kGl S' = kGl S ∧ kA S' = kA S ∧ (∀ k, k = 1 ∨ k = 9 ∨ k = 10 ∨ k = 12 → kF S' k = kF S k) ∧ ∀ j, kI S' 13 j = kI S 13 j
theorem extC_rf {S : CS} : extC S S := ⟨fun _ h => ⟨h, rfl, rfl, rfl, rfl, rfl, rfl⟩, rfl, rfl, fun _ _ => rfl, fun _ => rfl⟩
theorem extC_tr {S S' S'' : CS} (h : extC S S') (h' : extC S' S'') : extC S S'' := by
  refine ⟨fun q hq => ?_, by rw [h'.2.1, h.2.1], by rw [h'.2.2.1, h.2.2.1], fun k hk => by rw [h'.2.2.2.1 k hk, h.2.2.2.1 k hk], fun j => by rw [h'.2.2.2.2 j, h.2.2.2.2 j]⟩
  obtain ⟨a1, a2, a3, a4, a5, a6, a7⟩ := h.1 q hq
  obtain ⟨b1, b2, b3, b4, b5, b6, b7⟩ := h'.1 q a1
  exact ⟨b1, b2.trans a2, b3.trans a3, b4.trans a4, b5.trans a5, b6.trans a6, b7.trans a7⟩
theorem extC_pk {S S' : CS} (h : extC S S') {g k : Nat} (hg : pk S g k) : pk S' g k := ⟨(h.1 g hg.1).1, by rw [(h.1 g hg.1).2.1]; exact hg.2⟩
theorem extC_tF {S S' : CS} {k : Nat} {v : Int32} (hk : k ≠ 1 ∧ k ≠ 9 ∧ k ≠ 10 ∧ k ≠ 12) (h : extC S S') : extC S (tF S' k v) :=
  ⟨h.1, h.2.1, h.2.2.1, fun k' hk' => by
    show upd (kF S') k v k' = _
    have : k' ≠ k := by omega
    rw [show upd (kF S') k v k' = kF S' k' by simp [upd, this]]
    exact h.2.2.2.1 k' hk', h.2.2.2.2⟩
theorem kI_tI (S : CS) (b j : Nat) (v : Int32) (b' j' : Nat) : kI (tI S b j v) b' j' = if b' = b ∧ j' = j then v else kI S b' j' := by
  show (if b' = b then upd (kI S b) j v else kI S b') j' = _
  by_cases h : b' = b
  · subst h
    by_cases h2 : j' = j <;> simp [upd, h2]
  · simp [h]
theorem kF_tF (S : CS) (k : Nat) (v : Int32) (k' : Nat) : kF (tF S k v) k' = if k' = k then v else kF S k' := by
  show upd (kF S) k v k' = _
  by_cases h : k' = k <;> simp [upd, h]
theorem extC_tI {S S' : CS} {b j : Nat} {v : Int32} (hb : b ≠ 13) (h : extC S S') : extC S (tI S' b j v) :=
  ⟨h.1, h.2.1, h.2.2.1, h.2.2.2.1, fun i => by rw [kI_tI, if_neg (fun q => hb q.1.symm)]; exact h.2.2.2.2 i⟩
theorem extC_nT {S S' : CS} {q n : Nat} (hq : q ∉ kLP S') (h : extC S S') : extC S (nT S' q n) := by
  refine extC_tr h ⟨fun p hp => ?_, rfl, rfl, fun _ _ => rfl, fun _ => rfl⟩
  have hne : p ≠ q := fun e => hq (e ▸ hp)
  refine ⟨List.mem_append_left _ hp, ?_, rfl, ?_, ?_, rfl, rfl⟩
  · show va_up (kK S') q 1 p = _
    simp [va_up, hne]
  · show va_up (kN S') q n p = _
    simp [va_up, hne]
  · show va_up (kT S') q _ p = _
    simp [va_up, hne]
theorem extC_tT {S S' : CS} {q j : Nat} {v : Int32} (hq : q ∉ kLP S) (h : extC S S') : extC S (tT S' q j v) := by
  refine ⟨fun p hp => ?_, h.2.1, h.2.2.1, h.2.2.2.1, h.2.2.2.2⟩
  have hne : p ≠ q := fun e => hq (e ▸ hp)
  obtain ⟨a1, a2, a3, a4, a5, a6, a7⟩ := h.1 p hp
  refine ⟨a1, a2, a3, a4, ?_, a6, a7⟩
  show va_up (kT S') q _ p = _
  simp [va_up, hne]
  exact a5
theorem CR_ext {a : Ab} {S S' : CS} (h : CR a S) (e : extC S S') : CR a S' := by
  refine ⟨by rw [e.2.2.2.1 1 (Or.inl rfl)]; exact h.1, fun s hs => ?_, fun i hi => by rw [e.2.2.2.2 i]; exact h.2.2 i hi⟩
  have hg := h.2.1 s hs
  unfold glR at hg ⊢
  rw [e.2.1]
  cases hG : aG a s with
  | none => rw [hG] at hg; exact hg
  | some t =>
    rw [hG] at hg
    obtain ⟨g, g1, g2, g3, g4, g5, g6, g7⟩ := hg
    have eg := e.1 g g2.1
    have et := e.1 _ g5.1
    refine ⟨g, g1, extC_pk e g2, ?_, ?_, ?_, ?_, ?_⟩
    · rw [eg.2.2.1]; exact g3
    · rw [eg.2.2.1]; exact g4
    · rw [eg.2.2.1]; exact extC_pk e g5
    · rw [eg.2.2.1, et.2.2.2.1]; exact g6
    · rw [eg.2.2.1, et.2.2.2.2.1]; exact g7
theorem CR_none {a : Ab} {S : CS} (h : CR a S) {s : Nat} (hs : s < 4 * aP a) (hg : aG a s = none) : kGl S (s / 4) (s % 4) = none := by
  have := h.2.1 s hs
  unfold glR at this
  rw [hg] at this
  exact this
theorem CR_some {a : Ab} {S : CS} (h : CR a S) {s t : Nat} (hs : s < 4 * aP a) (hg : aG a s = some t) : ∃ g, kGl S (s / 4) (s % 4) = some g ∧ pk S g 0 ∧ (kG S g).1 = nI (t / 4) ∧ (kG S g).2.1 = nI (t % 4) ∧ pk S (kG S g).2.2 1 ∧ kN S (kG S g).2.2 = 4 ∧ ∀ c, c < 4 → kT S (kG S g).2.2 c = nI (aW a s c) := by
  have := h.2.1 s hs
  unfold glR at this
  rw [hg] at this
  exact this
/-! small methods -/
theorem c_isIn {v a b : Int32} {S : CS} {post : Int32 → CS → Prop} (h : post (if a ≤ v ∧ v ≤ b then 1 else 0) S) : C_isIn v a b S post := by
  apply C_isIn_ok
  unfold C_isIn_VC C_isIn_w0 C_isIn_w14 C_isIn_w15
  constructor
  · intro c
    rw [if_neg (by rintro ⟨h1, h2⟩; exact absurd c (Int32.not_lt.mpr h1))] at h
    exact ⟨zok0, h⟩
  · intro c
    constructor
    · intro c2
      rw [if_neg (by rintro ⟨h1, h2⟩; exact absurd c2 (Int32.not_lt.mpr h2))] at h
      exact ⟨zok0, h⟩
    · intro c2
      rw [if_pos ⟨Int32.not_lt.mp c, Int32.not_lt.mp c2⟩] at h
      exact ⟨zok1, h⟩
theorem c_isPiece {v : Int32} {S : CS} {P : Nat} (hP : kF S 1 = nI P) (h3 : P ≤ 3) {post : Int32 → CS → Prop} (h1 : inN v P → post 1 S) (h0 : ¬ inN v P → post 0 S) : C_isPiece v S post := by
  apply C_isPiece_ok
  unfold C_isPiece_VC C_isPiece_w0
  rw [hP]
  apply c_isIn
  by_cases h : inN v P
  · rw [if_pos ((inN_iff (by omega)).mpr h)]
    exact ⟨zok1, h1 h⟩
  · rw [if_neg (fun q => h ((inN_iff (by omega)).mp q))]
    exact ⟨zok0, h0 h⟩
theorem c_isCorner {v : Int32} {S : CS} {post : Int32 → CS → Prop} (h1 : inN v 4 → post 1 S) (h0 : ¬ inN v 4 → post 0 S) : C_isCorner v S post := by
  apply C_isCorner_ok
  unfold C_isCorner_VC C_isCorner_w0
  apply c_isIn
  by_cases h : inN v 4
  · rw [if_pos (in03.mpr h)]
    exact ⟨zok1, h1 h⟩
  · rw [if_neg (fun q => h (in03.mp q))]
    exact ⟨zok0, h0 h⟩
theorem c_isNumber {v : Int32} {S : CS} {P : Nat} (hP : kF S 1 = nI P) (h3 : P ≤ 3) {post : Int32 → CS → Prop} (h1 : inN v (7 * P) → post 1 S) (h0 : ¬ inN v (7 * P) → post 0 S) : C_isNumber v S post := by
  apply C_isNumber_ok
  unfold C_isNumber_VC C_isNumber_w0
  have e7 : (7 : Int32) * nI P = nI (7 * P) := by simp (disch := omega) only [n0, n1, n2, n3, n4, n5, n6, n7, n8, n9, n10, n11, n12, n14, n16, n18, n21, n22, n36, n48, n63, n100, n108, n400, n1000, pk_mul, nI_add, pk_div, nI_subm, nI_ltE, nI_leE, nI_eqE, nI_clamp, vp_inE, nIm1, nIm1', nIm1n, nIm1n', nI_addn]
  rw [hP, e7]
  apply c_isIn
  by_cases h : inN v (7 * P)
  · rw [if_pos ((inN_iff (by omega)).mpr h)]
    exact ⟨zok1, h1 h⟩
  · rw [if_neg (fun q => h ((inN_iff (by omega)).mp q))]
    exact ⟨zok0, h0 h⟩
theorem lowF_nI : ∀ e, e < 6 → lowF e = nI (eFrom e) ∧ highF e = nI (eTo e) := by decide +kernel
theorem edgeN_c0 : ∀ a b : Fin 4, a.val ≠ b.val → eFrom (edgeN a.val b.val) = min a.val b.val ∧ eTo (edgeN a.val b.val) = a.val + b.val - min a.val b.val ∧ ∀ e : Fin 6, e.val < edgeN a.val b.val → ¬ (eFrom e.val = min a.val b.val ∧ eTo e.val = a.val + b.val - min a.val b.val) := by decide
theorem c_edgeOf {x y : Nat} (hx : x < 4) (hy : y < 4) (hne : x ≠ y) {S : CS} {post : Int32 → CS → Prop} (h : post (nI (edgeN x y)) S) : C_edgeOf (nI x) (nI y) S post := by
  apply C_edgeOf_ok
  intro T r
  have h6 := (edgeN_spec x hx y hy hne).1
  obtain ⟨k1, k2, k3⟩ := edgeN_c0 ⟨x, hx⟩ ⟨y, hy⟩ hne
  have k1 : eFrom (edgeN x y) = min x y := k1
  have k2 : eTo (edgeN x y) = x + y - min x y := k2
  have k3 : ∀ e, e < edgeN x y → ¬ (eFrom e = min x y ∧ eTo e = x + y - min x y) := fun e he => k3 ⟨e, by omega⟩ he
  unfold C_edgeOf_w0
  have em : (if nI y < nI x then nI y else nI x) = nI (min x y) := by
    by_cases c : y < x
    · rw [if_pos (by rw [nI_ltE (by omega) (by omega)]; exact c), Nat.min_eq_right (by omega)]
    · rw [if_neg (by rw [nI_ltE (by omega) (by omega)]; exact c), Nat.min_eq_left (by omega)]
  rw [em]
  refine loopUp (P := fun e => T (nI x) (nI y) (nI (min x y)) (nI e) S) (edgeN x y) (fun e he ih => ?_) 0 (by omega)
  apply r
  unfold C_edgeOf_w8 C_edgeOf_w30
  obtain ⟨q1, q2⟩ := lowF_nI e (by omega)
  have l := eFT_lt e
  simp (disch := omega) only [n0, n1, n2, n3, n4, n5, n6, n7, n8, n9, n10, n11, n12, n14, n16, n18, n21, n22, n36, n48, n63, n100, n108, n400, n1000, pk_mul, nI_add, pk_div, nI_subm, nI_ltE, nI_leE, nI_eqE, nI_clamp, vp_inE, nIm1, nIm1', nIm1n, nIm1n', nI_addn]
  rw [q1, q2]
  simp (disch := omega) only [n0, n1, n2, n3, n4, n5, n6, n7, n8, n9, n10, n11, n12, n14, n16, n18, n21, n22, n36, n48, n63, n100, n108, n400, n1000, pk_mul, nI_add, pk_div, nI_subm, nI_ltE, nI_leE, nI_eqE, nI_clamp, vp_inE, nIm1, nIm1', nIm1n, nIm1n', nI_addn]
  refine ⟨by omega, fun c => ih ?_, fun c => ⟨by omega, fun c2 => ?_, fun c2 => ih ?_⟩⟩
  · by_cases e2 : e = edgeN x y
    · rw [e2] at c; exact absurd k1 c
    · omega
  · by_cases e2 : e = edgeN x y
    · rw [e2]; exact h
    · exact absurd ⟨c, c2⟩ (k3 e (by omega))
  · by_cases e2 : e = edgeN x y
    · rw [e2] at c2; exact absurd k2 c2
    · omega
