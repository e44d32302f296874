/-! parts, purely: cuts in order, a search in breadth -/
def cf (a : Ab) (i : Nat) : Nat := sumN (aS a) i
def srch (f : Nat → Bool) : Nat → Option Nat
  | 0 => none
  | n + 1 => match srch f n with
    | some i => some i
    | none => if f n then some n else none
theorem srch_some {f : Nat → Bool} {n i : Nat} (h : srch f n = some i) : i < n ∧ f i = true ∧ ∀ j, j < i → f j = false := by
  induction n with
  | zero => exact absurd h (by simp [srch])
  | succ n ih =>
    unfold srch at h
    cases e : srch f n with
    | some k =>
      rw [e] at h
      injection h with h
      subst h
      obtain ⟨h1, h2, h3⟩ := ih e
      exact ⟨by omega, h2, h3⟩
    | none =>
      rw [e] at h
      have h : (if f n then some n else none) = some i := h
      by_cases c : f n = true
      · rw [if_pos c] at h
        injection h with h
        subst h
        refine ⟨by omega, c, fun j hj => ?_⟩
        have N : ∀ m, srch f m = none → ∀ j, j < m → f j = false := by
          intro m
          induction m with
          | zero => intro _ j hj; exact absurd hj (Nat.not_lt_zero _)
          | succ m ihm =>
            intro hm j hj
            unfold srch at hm
            cases e2 : srch f m with
            | some k => rw [e2] at hm; exact absurd hm (by simp)
            | none =>
              rw [e2] at hm
              have hm : (if f m then some m else none) = none := hm
              by_cases c2 : f m = true
              · rw [if_pos c2] at hm; exact absurd hm (by simp)
              · by_cases e3 : j = m
                · subst e3; simpa using c2
                · exact ihm e2 j (by omega)
        exact N n e j hj
      · rw [if_neg c] at h; exact absurd h (by simp)
theorem srch_none {f : Nat → Bool} {n : Nat} (h : srch f n = none) : ∀ j, j < n → f j = false := by
  induction n with
  | zero => intro j hj; exact absurd hj (Nat.not_lt_zero _)
  | succ n ih =>
    intro j hj
    unfold srch at h
    cases e : srch f n with
    | some k => rw [e] at h; exact absurd h (by simp)
    | none =>
      rw [e] at h
      have h : (if f n then some n else none) = none := h
      by_cases c : f n = true
      · rw [if_pos c] at h; exact absurd h (by simp)
      · by_cases e3 : j = n
        · subst e3; simpa using c
        · exact ih e j (by omega)
theorem srch_at {f : Nat → Bool} {n i : Nat} (hi : i < n) (h1 : f i = true) (h2 : ∀ j, j < i → f j = false) : srch f n = some i := by
  cases e : srch f n with
  | none => exact absurd h1 (by rw [srch_none e i hi]; decide)
  | some k =>
    obtain ⟨q1, q2, q3⟩ := srch_some e
    congr 1
    by_cases c1 : i < k
    · have := q3 i c1
      rw [h1] at this
      exact absurd this (by decide)
    · by_cases c2 : k < i
      · have := h2 k c2
        rw [q2] at this
        exact absurd this (by decide)
      · omega
theorem cf_mono (a : Ab) {i j : Nat} (h : i ≤ j) : cf a i ≤ cf a j := by
  unfold cf
  induction j with
  | zero => rw [show i = 0 by omega]; exact Nat.le_refl _
  | succ j ih =>
    by_cases e : i = j + 1
    · rw [e]; exact Nat.le_refl _
    · have := ih (by omega)
      show sumN (aS a) i ≤ sumN (aS a) j + aS a j
      omega
theorem cf_s (a : Ab) (i : Nat) : cf a (i + 1) = cf a i + aS a i := rfl
theorem cf_le {a : Ab} (ha : AWf a) (i : Nat) : cf a i ≤ 1000 * i := sumN_ub 1000 i (fun k _ => ha.2.2.1 k)
/-- the cut that makes arc i around corner c of side s -/
def cutN (a : Ab) (s c i : Nat) : Nat := if i < aS a (7 * (s / 4) + c) then cf a (7 * (s / 4) + c) + i else cf a (7 * (s / 4) + 4 + kindN c (s % 4)) + (if c = 0 ∨ s % 4 = 0 then i - aS a (7 * (s / 4) + c) else aS a (7 * (s / 4) + 4 + kindN c (s % 4)) - 1 - (i - aS a (7 * (s / 4) + c)))
def lookN (a : Ab) (s c i : Nat) : Bool := decide (i < aS a (7 * (s / 4) + c) ∨ c = 0 ∨ s % 4 = 0)
theorem cutN_in {a : Ab} {s c i : Nat} (hc : c < 4) (hne : c ≠ s % 4) (hi : i < arcN a (s / 4) (s % 4) c) : (i < aS a (7 * (s / 4) + c) ∧ cutN a s c i = cf a (7 * (s / 4) + c) + i) ∨ (aS a (7 * (s / 4) + c) ≤ i ∧ ∃ j, j < aS a (7 * (s / 4) + 4 + kindN c (s % 4)) ∧ cutN a s c i = cf a (7 * (s / 4) + 4 + kindN c (s % 4)) + j ∧ (j = i - aS a (7 * (s / 4) + c) ∧ (c = 0 ∨ s % 4 = 0) ∨ j = aS a (7 * (s / 4) + 4 + kindN c (s % 4)) - 1 - (i - aS a (7 * (s / 4) + c)) ∧ ¬ (c = 0 ∨ s % 4 = 0))) := by
  unfold arcN at hi
  unfold cutN
  by_cases h : i < aS a (7 * (s / 4) + c)
  · rw [if_pos h]; exact Or.inl ⟨h, rfl⟩
  · rw [if_neg h]
    refine Or.inr ⟨by omega, ?_⟩
    by_cases h2 : c = 0 ∨ s % 4 = 0
    · rw [if_pos h2]; exact ⟨_, by omega, rfl, Or.inl ⟨rfl, h2⟩⟩
    · rw [if_neg h2]; exact ⟨_, by omega, rfl, Or.inr ⟨rfl, h2⟩⟩
theorem cutN_lt {a : Ab} {s c i : Nat} (hs : s < 4 * aP a) (hc : c < 4) (hne : c ≠ s % 4) (hi : i < arcN a (s / 4) (s % 4) c) : cutN a s c i < cf a (7 * aP a) := by
  have hk := kindN_lt hc (show s % 4 < 4 by omega) hne
  rcases cutN_in hc hne hi with ⟨h1, h2⟩ | ⟨h1, j, h2, h3, _⟩
  · rw [h2]
    have := cf_mono a (show 7 * (s / 4) + c + 1 ≤ 7 * aP a by omega)
    rw [cf_s] at this
    omega
  · rw [h3]
    have := cf_mono a (show 7 * (s / 4) + 4 + kindN c (s % 4) + 1 ≤ 7 * aP a by omega)
    rw [cf_s] at this
    omega
theorem cutN_inj {a : Ab} {s c i i' : Nat} (hc : c < 4) (hne : c ≠ s % 4) (hi : i < arcN a (s / 4) (s % 4) c) (hi' : i' < arcN a (s / 4) (s % 4) c) (h : cutN a s c i = cutN a s c i') : i = i' := by
  have hk := kindN_lt hc (show s % 4 < 4 by omega) hne
  have m := cf_mono a (show 7 * (s / 4) + c + 1 ≤ 7 * (s / 4) + 4 + kindN c (s % 4) by omega)
  rw [cf_s] at m
  unfold arcN at hi hi'
  rcases cutN_in hc hne hi with ⟨h1, h2⟩ | ⟨h1, j, h2, h3, h4⟩
  · rcases cutN_in hc hne hi' with ⟨q1, q2⟩ | ⟨q1, j', q2, q3, q4⟩
    · omega
    · omega
  · rcases cutN_in hc hne hi' with ⟨q1, q2⟩ | ⟨q1, j', q2, q3, q4⟩
    · omega
    · omega
/-! the search's state: part, sign (true: +), queue, its end, twisted -/
abbrev Bf : Type := (Nat → Option Nat) × (Nat → Bool) × (Nat → Nat) × Nat × Bool
abbrev bP (B : Bf) : Nat → Option Nat := B.1
abbrev bS (B : Bf) : Nat → Bool := B.2.1
abbrev bQ (B : Bf) : Nat → Nat := B.2.2.1
abbrev bT (B : Bf) : Nat := B.2.2.2.1
abbrev bW (B : Bf) : Bool := B.2.2.2.2
def upF {α : Type} (f : Nat → α) (k : Nat) (v : α) : Nat → α := fun i => if i = k then v else f i
theorem upF_at {α : Type} (f : Nat → α) (k : Nat) (v : α) : upF f k v k = v := if_pos rfl
theorem upF_ne {α : Type} (f : Nat → α) {k i : Nat} (v : α) (h : i ≠ k) : upF f k v i = f i := if_neg h
def visF (B : Bf) (cut o : Nat) (same : Bool) : Bf :=
  if bP B o = none then (upF (bP B) o (bP B cut), upF (bS B) o (if same then bS B cut else !bS B cut), upF (bQ B) (bT B) o, bT B + 1, bW B)
  else (bP B, bS B, bQ B, bT B, bW B || (bS B o != (if same then bS B cut else !bS B cut)))
def stepF (a : Ab) (B : Bf) (cut s c : Nat) : Bf := match aG a s with
  | none => B
  | some t => if c = s % 4 then B else match srch (fun i => cutN a s c i == cut) (arcN a (s / 4) (s % 4) c) with
    | none => B
    | some i => visF B cut (cutN a t (aW a s c) i) (lookN a s c i == lookN a t (aW a s c) i)
def stC (a : Ab) (B : Bf) (cut s : Nat) : Nat → Bf
  | 0 => B
  | n + 1 => stepF a (stC a B cut s n) cut s n
def stS (a : Ab) (B : Bf) (cut p : Nat) : Nat → Bf
  | 0 => B
  | n + 1 => stC a (stS a B cut p n) cut (4 * p + n) 4
def sortN (a : Ab) (cut : Nat) : Nat := (srch (fun k => decide (cut < cf a (k + 1))) (7 * aP a)).getD 0
def spreadF (a : Ab) (B : Bf) (cut : Nat) : Bf := stS a B cut (sortN a cut / 7) 4
theorem sortN_spec {a : Ab} {cut : Nat} (h : cut < cf a (7 * aP a)) : sortN a cut < 7 * aP a ∧ cf a (sortN a cut) ≤ cut ∧ cut < cf a (sortN a cut + 1) := by
  unfold sortN
  cases e : srch (fun k => decide (cut < cf a (k + 1))) (7 * aP a) with
  | none =>
    have hp : 0 < 7 * aP a := by
      rcases Nat.eq_zero_or_pos (7 * aP a) with e | e
      · rw [e] at h; exact absurd h (Nat.not_lt_zero _)
      · exact e
    have := srch_none e (7 * aP a - 1) (by omega)
    rw [show 7 * aP a - 1 + 1 = 7 * aP a by omega] at this
    simp at this
    omega
  | some k =>
    obtain ⟨h1, h2, h3⟩ := srch_some e
    refine ⟨h1, ?_, by simpa using h2⟩
    show cf a k ≤ cut
    rcases Nat.eq_zero_or_pos k with e | e
    · subst e; exact Nat.zero_le _
    · have := h3 (k - 1) (by omega)
      rw [show k - 1 + 1 = k by omega] at this
      simpa using this
def vcN (B : Bf) (n : Nat) : Nat := sumN (fun k => if bP B k = none then 0 else 1) n
/-- what holds all through a search -/
def BI (B : Bf) (n : Nat) : Prop := (∀ j, j < bT B → bQ B j < n ∧ bP B (bQ B j) ≠ none) ∧ bT B ≤ vcN B n ∧ ∀ k v, bP B k = some v → v < 400
theorem vcN_le (B : Bf) (n : Nat) : vcN B n ≤ n := by
  have h := sumN_ub (f := fun k => if bP B k = none then 0 else 1) 1 n (fun k _ => by show (if _ then 0 else 1) ≤ 1; split <;> omega)
  unfold vcN; omega
theorem vcN_lt {B : Bf} {n o : Nat} (ho : o < n) (h : bP B o = none) : vcN B n < n := by
  have h1 := sumN_lt (f := fun k => if bP B k = none then 0 else 1) (g := fun _ => 1) n (fun k _ => by show (if _ then 0 else 1) ≤ 1; split <;> omega) ho (by show (if _ then 0 else 1) < 1; rw [if_pos h]; omega)
  have h2 := sumN_ub (f := fun _ => 1) 1 n (fun _ _ => Nat.le_refl _)
  unfold vcN; omega
theorem sumN_up {f g : Nat → Nat} {o n : Nat} (ho : o < n) (h : ∀ k, k < n → k ≠ o → f k = g k) : sumN f n + g o = sumN g n + f o := by
  induction n with
  | zero => exact absurd ho (Nat.not_lt_zero _)
  | succ n ih =>
    by_cases e : o = n
    · subst e
      have : sumN f o = sumN g o := sumN_eq o (fun k hk => h k (by omega) (by omega))
      unfold sumN
      omega
    · have := ih (by omega) (fun k hk hn => h k (by omega) hn)
      have hn := h n (by omega) (Ne.symm e)
      unfold sumN
      omega
/-- grows: visited stays, the queue's begin stays -/
def bLe (B B' : Bf) : Prop := (∀ k, bP B k ≠ none → bP B' k = bP B k) ∧ bT B ≤ bT B' ∧ ∀ j, j < bT B → bQ B' j = bQ B j
theorem bLe_rf {B : Bf} : bLe B B := ⟨fun _ _ => rfl, Nat.le_refl _, fun _ _ => rfl⟩
theorem bLe_tr {B B' B'' : Bf} (h : bLe B B') (h' : bLe B' B'') : bLe B B'' :=
  ⟨fun k hk => by rw [h'.1 k (by rw [h.1 k hk]; exact hk), h.1 k hk], Nat.le_trans h.2.1 h'.2.1, fun j hj => by rw [h'.2.2 j (Nat.lt_of_lt_of_le hj h.2.1), h.2.2 j hj]⟩
theorem visF_ok {B : Bf} {n cut o : Nat} {same : Bool} (hB : BI B n) (hcut : bP B cut ≠ none) (ho : o < n) : BI (visF B cut o same) n ∧ bLe B (visF B cut o same) := by
  unfold visF
  by_cases c : bP B o = none
  · rw [if_pos c]
    have lt := vcN_lt ho c
    refine ⟨⟨fun j hj => ?_, ?_, fun k v hv => ?_⟩, ⟨fun k hk => ?_, Nat.le_succ _, fun j hj => ?_⟩⟩
    · have hj : j < bT B + 1 := hj
      show upF (bQ B) (bT B) o j < n ∧ upF (bP B) o (bP B cut) (upF (bQ B) (bT B) o j) ≠ none
      by_cases e : j = bT B
      · subst e
        rw [upF_at, upF_at]
        exact ⟨ho, hcut⟩
      · rw [upF_ne _ _ e]
        obtain ⟨q1, q2⟩ := hB.1 j (by omega)
        rw [upF_ne _ _ (fun e2 => q2 (by rw [e2]; exact c))]
        exact ⟨q1, q2⟩
    · show bT B + 1 ≤ sumN (fun k => if upF (bP B) o (bP B cut) k = none then 0 else 1) n
      have := sumN_up (f := fun k => if upF (bP B) o (bP B cut) k = none then 0 else 1) (g := fun k => if bP B k = none then 0 else 1) ho (fun k hk hne => by show (if upF (bP B) o (bP B cut) k = none then 0 else 1) = _; rw [upF_ne _ _ hne])
      simp only [upF_at, c, if_neg hcut, if_pos] at this
      have h2 := hB.2.1
      unfold vcN at h2
      omega
    · have hv : upF (bP B) o (bP B cut) k = some v := hv
      by_cases e : k = o
      · rw [e, upF_at] at hv; exact hB.2.2 cut v hv
      · rw [upF_ne _ _ e] at hv; exact hB.2.2 k v hv
    · show upF (bP B) o (bP B cut) k = bP B k
      exact upF_ne _ _ (fun e => hk (by rw [e]; exact c))
    · show upF (bQ B) (bT B) o j = bQ B j
      exact upF_ne _ _ (by omega)
  · rw [if_neg c]
    exact ⟨⟨hB.1, hB.2.1, hB.2.2⟩, ⟨fun _ _ => rfl, Nat.le_refl _, fun _ _ => rfl⟩⟩
theorem stepF_ok {a : Ab} (ha : AWf a) {B : Bf} {cut s c : Nat} (hB : BI B (cf a (7 * aP a))) (hcut : bP B cut ≠ none) (hs : s < 4 * aP a) (hc : c < 4) (hfit : fitA a) : BI (stepF a B cut s c) (cf a (7 * aP a)) ∧ bLe B (stepF a B cut s c) := by
  unfold stepF
  cases e : aG a s with
  | none => exact ⟨hB, bLe_rf⟩
  | some t =>
    show BI (if c = s % 4 then B else match srch (fun i => cutN a s c i == cut) (arcN a (s / 4) (s % 4) c) with | none => B | some i => visF B cut (cutN a t (aW a s c) i) (lookN a s c i == lookN a t (aW a s c) i)) (cf a (7 * aP a)) ∧ bLe B (if c = s % 4 then B else match srch (fun i => cutN a s c i == cut) (arcN a (s / 4) (s % 4) c) with | none => B | some i => visF B cut (cutN a t (aW a s c) i) (lookN a s c i == lookN a t (aW a s c) i))
    by_cases c1 : c = s % 4
    · rw [if_pos c1]; exact ⟨hB, bLe_rf⟩
    · rw [if_neg c1]
      cases e2 : srch (fun i => cutN a s c i == cut) (arcN a (s / 4) (s % 4) c) with
      | none => exact ⟨hB, bLe_rf⟩
      | some i =>
        obtain ⟨q1, q2, q3⟩ := srch_some e2
        obtain ⟨ht1, ht2, ht3, ht4, hw⟩ := ha.2.1 s t hs e
        have hwne : aW a s c ≠ t % 4 := by
          rw [← ht4]
          exact AWf_inj ha hs e hc (by omega) c1
        refine visF_ok hB hcut (cutN_lt ht1 (hw c hc).1 hwne ?_)
        rw [← hfit s t c hs e hc c1]
        exact q1
theorem stC_ok {a : Ab} (ha : AWf a) {B : Bf} {cut s : Nat} (hB : BI B (cf a (7 * aP a))) (hcut : bP B cut ≠ none) (hs : s < 4 * aP a) (hfit : fitA a) (n : Nat) (hn : n ≤ 4) : BI (stC a B cut s n) (cf a (7 * aP a)) ∧ bLe B (stC a B cut s n) := by
  induction n with
  | zero => exact ⟨hB, bLe_rf⟩
  | succ n ih =>
    obtain ⟨h1, h2⟩ := ih (by omega)
    obtain ⟨h3, h4⟩ := stepF_ok ha (c := n) h1 (by rw [h2.1 cut hcut]; exact hcut) hs (by omega) hfit
    exact ⟨h3, bLe_tr h2 h4⟩
theorem stS_ok {a : Ab} (ha : AWf a) {B : Bf} {cut p : Nat} (hB : BI B (cf a (7 * aP a))) (hcut : bP B cut ≠ none) (hp : p < aP a) (hfit : fitA a) (n : Nat) (hn : n ≤ 4) : BI (stS a B cut p n) (cf a (7 * aP a)) ∧ bLe B (stS a B cut p n) := by
  induction n with
  | zero => exact ⟨hB, bLe_rf⟩
  | succ n ih =>
    obtain ⟨h1, h2⟩ := ih (by omega)
    obtain ⟨h3, h4⟩ := stC_ok ha (s := 4 * p + n) h1 (by rw [h2.1 cut hcut]; exact hcut) (by omega) hfit 4 (by omega)
    exact ⟨h3, bLe_tr h2 h4⟩
theorem spreadF_ok {a : Ab} (ha : AWf a) {B : Bf} {cut : Nat} (hB : BI B (cf a (7 * aP a))) (hcut : bP B cut ≠ none) (hlt : cut < cf a (7 * aP a)) (hfit : fitA a) : BI (spreadF a B cut) (cf a (7 * aP a)) ∧ bLe B (spreadF a B cut) := by
  have h := sortN_spec hlt
  exact stS_ok ha hB hcut (by omega) hfit 4 (by omega)
def bfsF (a : Ab) : Nat → Nat → Bf → Bf
  | 0, _, B => B
  | f + 1, i, B => if i < bT B then bfsF a f (i + 1) (spreadF a B (bQ B i)) else B
/-- all parts: the state, how many, which are twisted -/
def fpF (a : Ab) : Nat → Bf × Nat × (Nat → Bool)
  | 0 => ((fun _ => none, fun _ => true, fun _ => 0, 0, false), 0, fun _ => false)
  | k + 1 => if bP (fpF a k).1 k = none then
      (bfsF a (cf a (7 * aP a)) 0 (upF (bP (fpF a k).1) k (some (fpF a k).2.1), upF (bS (fpF a k).1) k true, upF (bQ (fpF a k).1) 0 k, 1, false), (fpF a k).2.1 + 1, upF (fpF a k).2.2 (fpF a k).2.1 (bW (bfsF a (cf a (7 * aP a)) 0 (upF (bP (fpF a k).1) k (some (fpF a k).2.1), upF (bS (fpF a k).1) k true, upF (bQ (fpF a k).1) 0 k, 1, false))))
    else fpF a k
theorem bfsF_ok {a : Ab} (ha : AWf a) (hfit : fitA a) (f i : Nat) (B : Bf) (hB : BI B (cf a (7 * aP a))) : BI (bfsF a f i B) (cf a (7 * aP a)) ∧ bLe B (bfsF a f i B) := by
  induction f generalizing i B with
  | zero => exact ⟨hB, bLe_rf⟩
  | succ f ih =>
    unfold bfsF
    by_cases c : i < bT B
    · rw [if_pos c]
      obtain ⟨q1, q2⟩ := hB.1 i c
      obtain ⟨h1, h2⟩ := spreadF_ok ha hB q2 q1 hfit
      obtain ⟨h3, h4⟩ := ih (i + 1) _ h1
      exact ⟨h3, bLe_tr h2 h4⟩
    · rw [if_neg c]; exact ⟨hB, bLe_rf⟩
/-- a search begins -/
def beg (B : Bf) (k m : Nat) : Bf := (upF (bP B) k (some m), upF (bS B) k true, upF (bQ B) 0 k, 1, false)
theorem fpF_s (a : Ab) (k : Nat) : fpF a (k + 1) = if bP (fpF a k).1 k = none then (bfsF a (cf a (7 * aP a)) 0 (beg (fpF a k).1 k (fpF a k).2.1), (fpF a k).2.1 + 1, upF (fpF a k).2.2 (fpF a k).2.1 (bW (bfsF a (cf a (7 * aP a)) 0 (beg (fpF a k).1 k (fpF a k).2.1)))) else fpF a k := rfl
theorem beg_ok {B : Bf} {n k m : Nat} (hB : ∀ k v, bP B k = some v → v < 400) (hk : k < n) (hm : m < 400) : BI (beg B k m) n := by
  refine ⟨fun j hj => ?_, ?_, fun k' v hv => ?_⟩
  · have hj : j < 1 := hj
    have e : j = 0 := by omega
    subst e
    show upF (bQ B) 0 k 0 < n ∧ upF (bP B) k (some m) (upF (bQ B) 0 k 0) ≠ none
    rw [upF_at, upF_at]
    exact ⟨hk, by simp⟩
  · show 1 ≤ sumN (fun j => if upF (bP B) k (some m) j = none then 0 else 1) n
    have := sumN_lt (f := fun _ => 0) (g := fun j => if upF (bP B) k (some m) j = none then 0 else 1) n (fun _ _ => Nat.zero_le _) hk (by show 0 < (if upF (bP B) k (some m) k = none then 0 else 1); rw [upF_at]; simp)
    omega
  · have hv : upF (bP B) k (some m) k' = some v := hv
    by_cases e : k' = k
    · rw [e, upF_at] at hv; injection hv with hv; omega
    · rw [upF_ne _ _ e] at hv; exact hB k' v hv
theorem fpF_ok {a : Ab} (ha : AWf a) (hfit : fitA a) (hc : cf a (7 * aP a) ≤ 400) (k : Nat) (hk : k ≤ cf a (7 * aP a)) : (∀ j v, bP (fpF a k).1 j = some v → v < 400) ∧ (fpF a k).2.1 ≤ k ∧ ∀ j, j < k → bP (fpF a k).1 j ≠ none := by
  induction k with
  | zero => exact ⟨fun j v hv => absurd hv (by simp [fpF, bP]), Nat.le_refl _, fun j hj => absurd hj (Nat.not_lt_zero _)⟩
  | succ k ih =>
    obtain ⟨h1, h2, h3⟩ := ih (by omega)
    rw [fpF_s]
    by_cases c : bP (fpF a k).1 k = none
    · rw [if_pos c]
      obtain ⟨q1, q2⟩ := bfsF_ok ha hfit (cf a (7 * aP a)) 0 _ (beg_ok (n := cf a (7 * aP a)) (k := k) (m := (fpF a k).2.1) h1 (by omega) (by omega))
      refine ⟨q1.2.2, show (fpF a k).2.1 + 1 ≤ k + 1 by omega, fun j hj => ?_⟩
      have : bP (beg (fpF a k).1 k (fpF a k).2.1) j ≠ none := by
        show upF _ k _ j ≠ none
        by_cases e : j = k
        · rw [e, upF_at]; simp
        · rw [upF_ne _ _ e]; exact h3 j (by omega)
      show bP (bfsF a (cf a (7 * aP a)) 0 (beg (fpF a k).1 k (fpF a k).2.1)) j ≠ none
      rw [q2.1 j this]
      exact this
    · rw [if_neg c]
      refine ⟨h1, by omega, fun j hj => ?_⟩
      by_cases e : j = k
      · rw [e]; exact c
      · exact h3 j (by omega)
