/-! the walk round an edge: it ends -/
theorem pigeon : ∀ (n : Nat) (f : Nat → Nat), (∀ i, i ≤ n → f i < n) → ∃ i j, i < j ∧ j ≤ n ∧ f i = f j := by
  intro n
  induction n with
  | zero => intro f h; exact absurd (h 0 (Nat.le_refl _)) (Nat.not_lt_zero _)
  | succ n ih =>
    intro f h
    by_cases c : ∃ i, i < n + 1 ∧ f i = f (n + 1)
    · obtain ⟨i, hi, e⟩ := c
      exact ⟨i, n + 1, hi, Nat.le_refl _, e⟩
    · obtain ⟨i, j, hij, hj, e⟩ := ih (fun i => if f i = n then f (n + 1) else f i) (fun i hi => by
        have h1 := h i (by omega)
        have h2 := h (n + 1) (Nat.le_refl _)
        have h3 : f i ≠ f (n + 1) := fun e => c ⟨i, by omega, e⟩
        show (if f i = n then f (n + 1) else f i) < n
        split <;> omega)
      have e : (if f i = n then f (n + 1) else f i) = (if f j = n then f (n + 1) else f j) := e
      refine ⟨i, j, hij, by omega, ?_⟩
      have h1 : f i ≠ f (n + 1) := fun e => c ⟨i, by omega, e⟩
      have h2 : f j ≠ f (n + 1) := fun e => c ⟨j, by omega, e⟩
      by_cases c1 : f i = n
      · by_cases c2 : f j = n
        · omega
        · rw [if_pos c1, if_neg c2] at e; exact absurd e.symm h2
      · by_cases c2 : f j = n
        · rw [if_neg c1, if_pos c2] at e; exact absurd e h1
        · rw [if_neg c1, if_neg c2] at e; exact e
/-- a place of the walk: piece, the edge's two corners, the side to leave by -/
abbrev St : Type := Nat × Nat × Nat × Nat
def stOk (a : Ab) (x : St) : Prop := x.1 < aP a ∧ x.2.1 < 4 ∧ x.2.2.1 < 4 ∧ x.2.2.2 < 4 ∧ x.2.1 ≠ x.2.2.1 ∧ x.2.2.2 ≠ x.2.1 ∧ x.2.2.2 ≠ x.2.2.1
def sdS (x : St) : Nat := 4 * x.1 + x.2.2.2
def nxS (a : Ab) (x : St) (t : Nat) : St := (t / 4, aW a (sdS x) x.2.1, aW a (sdS x) x.2.2.1, 6 - aW a (sdS x) x.2.1 - aW a (sdS x) x.2.2.1 - t % 4)
def stepS (a : Ab) (x : St) : Option St := match aG a (sdS x) with
  | none => none
  | some t => some (nxS a x t)
theorem nxS_ok {a : Ab} (ha : AWf a) {x : St} (hx : stOk a x) {t : Nat} (ht : aG a (sdS x) = some t) : stOk a (nxS a x t) ∧ aW a (sdS x) x.2.1 + aW a (sdS x) x.2.2.1 + t % 4 + (nxS a x t).2.2.2 = 6 ∧ aW a (sdS x) x.2.1 ≠ t % 4 ∧ aW a (sdS x) x.2.2.1 ≠ t % 4 := by
  obtain ⟨p, c1, c2, f⟩ := x
  obtain ⟨h1, h2, h3, h4, h5, h6, h7⟩ := hx
  have hs : 4 * p + f < 4 * aP a := by dsimp only at *; omega
  have e : sdS (p, c1, c2, f) = 4 * p + f := rfl
  rw [e] at ht ⊢
  obtain ⟨t1, t2, t3, t4, hw⟩ := ha.2.1 _ t hs ht
  have w1 := (hw c1 h2).1
  have w2 := (hw c2 h3).1
  have em : (4 * p + f) % 4 = f := by dsimp only at *; omega
  rw [em] at t4
  have n1 := AWf_inj ha hs ht h2 h3 h5
  have n2 := AWf_inj ha hs ht h4 h2 h6
  have n3 := AWf_inj ha hs ht h4 h3 h7
  rw [t4] at n2 n3
  show stOk a (t / 4, aW a (4 * p + f) c1, aW a (4 * p + f) c2, 6 - aW a (4 * p + f) c1 - aW a (4 * p + f) c2 - t % 4) ∧ aW a (4 * p + f) c1 + aW a (4 * p + f) c2 + t % 4 + (6 - aW a (4 * p + f) c1 - aW a (4 * p + f) c2 - t % 4) = 6 ∧ _ ∧ _
  unfold stOk
  dsimp only
  generalize aW a (4 * p + f) c1 = y1 at *
  generalize aW a (4 * p + f) c2 = y2 at *
  have ht4 : t % 4 < 4 := by omega
  have tp : t / 4 < aP a := by omega
  generalize t % 4 = y3 at *
  refine ⟨⟨tp, w1, w2, by omega, n1, by omega, by omega⟩, by omega, fun z => n2 z.symm, fun z => n3 z.symm⟩
theorem stepS_inj {a : Ab} (ha : AWf a) {x y z : St} (hx : stOk a x) (hy : stOk a y) (h1 : stepS a x = some z) (h2 : stepS a y = some z) : x = y := by
  unfold stepS at h1 h2
  cases e1 : aG a (sdS x) with
  | none => rw [e1] at h1; exact absurd h1 (by simp)
  | some t =>
    cases e2 : aG a (sdS y) with
    | none => rw [e2] at h2; exact absurd h2 (by simp)
    | some u =>
      rw [e1] at h1
      rw [e2] at h2
      have h1 : some (nxS a x t) = some z := h1
      have h2 : some (nxS a y u) = some z := h2
      injection h1 with h1
      injection h2 with h2
      obtain ⟨_, x2, _, _⟩ := nxS_ok ha hx e1
      obtain ⟨_, y2, _, _⟩ := nxS_ok ha hy e2
      have h3 : nxS a x t = nxS a y u := h1.trans h2.symm
      have k1 : t / 4 = u / 4 := congrArg (fun v : St => v.1) h3
      have k2 : aW a (sdS x) x.2.1 = aW a (sdS y) y.2.1 := congrArg (fun v : St => v.2.1) h3
      have k3 : aW a (sdS x) x.2.2.1 = aW a (sdS y) y.2.2.1 := congrArg (fun v : St => v.2.2.1) h3
      have k4 : (nxS a x t).2.2.2 = (nxS a y u).2.2.2 := congrArg (fun v : St => v.2.2.2) h3
      have etu : t = u := by omega
      subst etu
      have sx : sdS x < 4 * aP a := by have := hx.1; have := hx.2.2.2.1; unfold sdS; omega
      have sy : sdS y < 4 * aP a := by have := hy.1; have := hy.2.2.2.1; unfold sdS; omega
      have es : sdS x = sdS y := by
        have m1 := (ha.2.1 _ t sx e1).2.2.1
        have m2 := (ha.2.1 _ t sy e2).2.2.1
        rw [m1] at m2
        injection m2
      have f1 : x.1 = y.1 ∧ x.2.2.2 = y.2.2.2 := by
        have := hx.2.2.2.1
        have := hy.2.2.2.1
        unfold sdS at es
        omega
      rw [← es] at k2 k3
      have g1 : x.2.1 = y.2.1 := by
        rcases Nat.decEq x.2.1 y.2.1 with c | c
        · exact absurd k2 (AWf_inj ha sx e1 hx.2.1 hy.2.1 c)
        · exact c
      have g2 : x.2.2.1 = y.2.2.1 := by
        rcases Nat.decEq x.2.2.1 y.2.2.1 with c | c
        · exact absurd k3 (AWf_inj ha sx e1 hx.2.2.1 hy.2.2.1 c)
        · exact c
      exact Prod.ext f1.1 (Prod.ext g1 (Prod.ext g2 f1.2))
/-- from x the walk ends, or is back at x0, within k steps -/
def endW (a : Ab) (x0 : St) : Nat → St → Prop
  | 0, _ => False
  | k + 1, x => ∀ y, stepS a x = some y → y = x0 ∨ endW a x0 k y
def seqS (a : Ab) (x0 : St) : Nat → Option St
  | 0 => some x0
  | n + 1 => match seqS a x0 n with
    | none => none
    | some x => stepS a x
theorem seqS_ok {a : Ab} (ha : AWf a) {x0 : St} (h0 : stOk a x0) {n : Nat} {x : St} (h : seqS a x0 n = some x) : stOk a x := by
  induction n generalizing x with
  | zero => injection h with h; rw [← h]; exact h0
  | succ n ih =>
    have h : (match seqS a x0 n with | none => none | some x => stepS a x) = some x := h
    cases e : seqS a x0 n with
    | none => rw [e] at h; exact absurd h (by simp)
    | some w =>
      rw [e] at h
      have h : stepS a w = some x := h
      unfold stepS at h
      cases e2 : aG a (sdS w) with
      | none => rw [e2] at h; exact absurd h (by simp)
      | some t =>
        rw [e2] at h
        injection h with h
        rw [← h]
        exact (nxS_ok ha (ih e) e2).1
theorem seqS_back {a : Ab} (ha : AWf a) {x0 : St} (h0 : stOk a x0) : ∀ i j x, i < j → seqS a x0 i = some x → seqS a x0 j = some x → ∃ d, 1 ≤ d ∧ d ≤ j ∧ seqS a x0 d = some x0 := by
  intro i
  induction i with
  | zero =>
    intro j x hij h1 h2
    injection h1 with h1
    exact ⟨j, by omega, Nat.le_refl _, h2.trans (congrArg some h1.symm)⟩
  | succ i ih =>
    intro j x hij h1 h2
    obtain ⟨j, rfl⟩ : ∃ j', j = j' + 1 := ⟨j - 1, by omega⟩
    have h1 : (match seqS a x0 i with | none => none | some x => stepS a x) = some x := h1
    have h2 : (match seqS a x0 j with | none => none | some x => stepS a x) = some x := h2
    cases e1 : seqS a x0 i with
    | none => rw [e1] at h1; exact absurd h1 (by simp)
    | some w =>
      cases e2 : seqS a x0 j with
      | none => rw [e2] at h2; exact absurd h2 (by simp)
      | some v =>
        rw [e1] at h1
        rw [e2] at h2
        have ew := stepS_inj ha (seqS_ok ha h0 e1) (seqS_ok ha h0 e2) h1 h2
        subst ew
        obtain ⟨d, d1, d2, d3⟩ := ih j w (by omega) e1 e2
        exact ⟨d, d1, by omega, d3⟩
theorem endW_seq {a : Ab} {x0 : St} : ∀ k i x, seqS a x0 i = some x → (∀ y, seqS a x0 (i + k) = some y → 1 ≤ i + k ∧ y = x0) → 1 ≤ k → endW a x0 k x := by
  intro k
  induction k with
  | zero => intro i x _ _ h; exact absurd h (by omega)
  | succ k ih =>
    intro i x hx hend _ y hy
    have hn : seqS a x0 (i + 1) = some y := by
      show (match seqS a x0 i with | none => none | some x => stepS a x) = some y
      rw [hx]
      exact hy
    by_cases c : k = 0
    · subst c
      exact Or.inl (hend y hn).2
    · exact Or.inr (ih (i + 1) y hn (fun z hz => hend z (by rw [show i + (k + 1) = i + 1 + k by omega]; exact hz) |> fun w => ⟨by omega, w.2⟩) (by omega))
theorem endW_up {a : Ab} {x0 : St} {k : Nat} : ∀ {k' x}, k ≤ k' → endW a x0 k x → endW a x0 k' x := by
  induction k with
  | zero => intro k' x _ h; exact absurd h id
  | succ k ih =>
    intro k' x hk h
    obtain ⟨k', rfl⟩ : ∃ m, k' = m + 1 := ⟨k' - 1, by omega⟩
    intro y hy
    rcases h y hy with z | z
    · exact Or.inl z
    · exact Or.inr (ih (by omega) z)
def codeS (x : St) : Nat := 64 * x.1 + 16 * x.2.1 + 4 * x.2.2.1 + x.2.2.2
theorem codeS_inj {a : Ab} {x y : St} (hx : stOk a x) (hy : stOk a y) (h : codeS x = codeS y) : x = y := by
  obtain ⟨x1, x2, x3, x4⟩ := x
  obtain ⟨y1, y2, y3, y4⟩ := y
  obtain ⟨_, a2, a3, a4, _⟩ := hx
  obtain ⟨_, b2, b3, b4, _⟩ := hy
  unfold codeS at h
  dsimp only at *
  have e4 : x4 = y4 := by omega
  have e3 : x3 = y3 := by omega
  have e2 : x2 = y2 := by omega
  have e1 : x1 = y1 := by omega
  rw [e1, e2, e3, e4]
theorem walk_ends {a : Ab} (ha : AWf a) {x0 : St} (h0 : stOk a x0) : endW a x0 200 x0 := by
  by_cases c : ∃ d, 1 ≤ d ∧ d ≤ 200 ∧ ∀ y, seqS a x0 d = some y → y = x0
  · obtain ⟨d, d1, d2, d3⟩ := c
    exact endW_up d2 (endW_seq d 0 x0 rfl (fun y hy => ⟨by omega, d3 y (by rw [Nat.zero_add] at hy; exact hy)⟩) d1)
  · have some' : ∀ i, i ≤ 200 → ∃ y, seqS a x0 i = some y := by
      intro i hi
      by_cases ci : i = 0
      · rw [ci]; exact ⟨x0, rfl⟩
      · cases e : seqS a x0 i with
        | none => exact absurd ⟨i, by omega, hi, fun y hy => by rw [e] at hy; exact absurd hy (by simp)⟩ c
        | some y => exact ⟨y, rfl⟩
    obtain ⟨i, j, hij, hj, e⟩ := pigeon 200 (fun i => ((seqS a x0 i).map codeS).getD 0) (fun i hi => by
      obtain ⟨y, hy⟩ := some' i hi
      show ((seqS a x0 i).map codeS).getD 0 < 200
      rw [hy]
      show codeS y < 200
      obtain ⟨o1, o2, o3, o4, _⟩ := seqS_ok ha h0 hy
      have hP := ha.1
      unfold codeS
      omega)
    obtain ⟨y, hy⟩ := some' i (by omega)
    obtain ⟨z, hz⟩ := some' j hj
    have e : ((seqS a x0 i).map codeS).getD 0 = ((seqS a x0 j).map codeS).getD 0 := e
    rw [hy, hz] at e
    have e : codeS y = codeS z := e
    have eyz := codeS_inj (seqS_ok ha h0 hy) (seqS_ok ha h0 hz) e
    subst eyz
    obtain ⟨d, d1, d2, d3⟩ := seqS_back ha h0 i j y hij hy hz
    exact absurd ⟨d, d1, by omega, fun w hw => by rw [d3] at hw; injection hw with hw; exact hw.symm⟩ c
