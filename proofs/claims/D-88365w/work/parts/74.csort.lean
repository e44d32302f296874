/-! classes by painting: a sort has E things a piece; tt: what a thing becomes across a side -/
def tt2 (a : Ab) (s k : Nat) : Option Nat := if k = s % 4 then none else some (aW a s k)
def tt3 (a : Ab) (s k : Nat) : Option Nat := if eFrom k = s % 4 ∨ eTo k = s % 4 then none else some (edgeN (aW a s (eFrom k)) (aW a s (eTo k)))
def enA (k : Nat) : Nat := if k % 2 = 0 then eFrom (k / 2) else eTo (k / 2)
def enB (k : Nat) : Nat := if k % 2 = 0 then eTo (k / 2) else eFrom (k / 2)
def tt4 (a : Ab) (s k : Nat) : Option Nat := if enA k = s % 4 ∨ enB k = s % 4 then none else some (2 * edgeN (aW a s (enA k)) (aW a s (enB k)) + (if aW a s (enA k) ≤ aW a s (enB k) then 0 else 1))
/-- the thing beyond side f of its piece -/
def nbG (E : Nat) (tt : Ab → Nat → Nat → Option Nat) (a : Ab) (k f : Nat) : Option Nat := match aG a (4 * (k / E) + f) with
  | none => none
  | some t => match tt a (4 * (k / E) + f) (k % E) with
    | none => none
    | some j => some (t / 4 * E + j)
def lkG (E : Nat) (tt : Ab → Nat → Nat → Option Nat) (a : Ab) (x y : Nat) : Prop := x < E * aP a ∧ ∃ f, f < 4 ∧ nbG E tt a x f = some y
/-- a paint after a spread from k -/
def dfsR (E : Nat → Nat → Prop) (n : Nat) (p : Nat → Option Nat) (k col : Nat) (p' : Nat → Option Nat) : Prop := (∀ x, p x ≠ none → p' x = p x) ∧ p' k = some col ∧ (∀ x, x < n → p x = none → p' x ≠ none → p' x = some col ∧ cnx E k x) ∧ (∀ x, x < n → p x = none → p' x ≠ none → ∀ y, E x y → p' y ≠ none)
def unP (p : Nat → Option Nat) (n : Nat) : Nat := sumN (fun k => if p k = none then 1 else 0) n
theorem unP_mono {p p' : Nat → Option Nat} {n : Nat} (h : ∀ x, p x ≠ none → p' x ≠ none) : unP p' n ≤ unP p n := sumN_le n (fun k _ => by
  show (if p' k = none then 1 else 0) ≤ (if p k = none then 1 else 0)
  by_cases c : p k = none
  · rw [if_pos c]; split <;> omega
  · rw [if_neg c, if_neg (h k c)]; omega)
theorem unP_lt {p p' : Nat → Option Nat} {n k : Nat} (hk : k < n) (h : ∀ x, p x ≠ none → p' x ≠ none) (h1 : p k = none) (h2 : p' k ≠ none) : unP p' n < unP p n := sumN_lt n (fun k _ => by
  show (if p' k = none then 1 else 0) ≤ (if p k = none then 1 else 0)
  by_cases c : p k = none
  · rw [if_pos c]; split <;> omega
  · rw [if_neg c, if_neg (h k c)]; omega) hk (by
  show (if p' k = none then 1 else 0) < (if p k = none then 1 else 0)
  rw [if_pos h1, if_neg h2]; omega)
theorem unP_le (p : Nat → Option Nat) (n : Nat) : unP p n ≤ n := by
  have h := sumN_ub (f := fun k => if p k = none then 1 else 0) 1 n (fun k _ => by show (if _ then 1 else 0) ≤ 1; split <;> omega)
  unfold unP; omega
/-- classes that begin before m -/
def cnL (L : Nat → Nat) (m : Nat) : Nat := sumN (fun k => if L k = k then 1 else 0) m
theorem cnL_le (L : Nat → Nat) (m : Nat) : cnL L m ≤ m := by
  have h := sumN_ub (f := fun k => if L k = k then 1 else 0) 1 m (fun k _ => by show (if _ then 1 else 0) ≤ 1; split <;> omega)
  unfold cnL; omega
/-- what is painted when k things are done -/
def pnt (L : Nat → Nat) (n k : Nat) (p : Nat → Option Nat) : Prop := ∀ x, x < n → p x = if L x < k then some (cnL L (L x)) else none
theorem pnt_step {E : Nat → Nat → Prop} {n : Nat} {L : Nat → Nat} (hL : isLab n E L) (hE : ∀ x y, E x y → x < n ∧ y < n ∧ E y x) {k : Nat} (hk : k < n) {p p' : Nat → Option Nat} (hp : pnt L n k p) (hpk : p k = none) (h : dfsR E n p k (cnL L k) p') : pnt L n (k + 1) p' ∧ L k = k := by
  have hLk : L k = k := by
    have h1 := hL.1 k hk
    have h2 := hp k hk
    rw [hpk] at h2
    by_cases c : L k < k
    · rw [if_pos c] at h2; exact absurd h2 (by simp)
    · omega
  refine ⟨fun x hx => ?_, hLk⟩
  obtain ⟨d1, d2, d3, d4⟩ := h
  by_cases c : L x < k
  · have h2 := hp x hx
    rw [if_pos c] at h2
    rw [if_pos (by omega), d1 x (by rw [h2]; simp), h2]
  · have h2 := hp x hx
    rw [if_neg c] at h2
    by_cases c2 : L x = k
    · rw [if_pos (by omega), c2]
      have hcx : cnx E k x := by
        have := hL.2.1 x hx
        rw [c2] at this
        exact cnx_sy this
      have hq := hcx (fun y => y < n ∧ p' y ≠ none ∧ p y = none) ⟨hk, by rw [d2]; simp, hpk⟩ (fun u v e => by
        obtain ⟨e1, e2, e3⟩ := hE u v e
        have lab := hL.2.2 u v e
        have pu := hp u e1
        have pv := hp v e2
        constructor
        · rintro ⟨q1, q2, q3⟩
          refine ⟨e2, d4 u e1 q3 q2 v e, ?_⟩
          rw [pv, ← lab]
          rw [pu] at q3
          exact q3
        · rintro ⟨q1, q2, q3⟩
          refine ⟨e1, d4 v e2 q3 q2 u e3, ?_⟩
          rw [pu, lab]
          rw [pv] at q3
          exact q3)
      exact (d3 x hx h2 hq.2.1).1
    · rw [if_neg (by omega)]
      cases e : p' x with
      | none => rfl
      | some v =>
        have := (d3 x hx h2 (by rw [e]; simp)).2
        have l2 := this (fun y => L y = L k) rfl (fun u v e => by rw [hL.2.2 u v e])
        have l2 : L x = L k := l2
        omega
/-- what a method of a sort may change: its paint, its number -/
def frS (b m : Nat) (S S' : CS) : Prop := extC S S' ∧ (∀ b' j, b' ≠ b → kI S' b' j = kI S b' j) ∧ (∀ k, k ≠ m → kF S' k = kF S k) ∧ kLP S' = kLP S
theorem frS_rf {b m : Nat} {S : CS} : frS b m S S := ⟨extC_rf, fun _ _ _ => rfl, fun _ _ => rfl, rfl⟩
theorem frS_tr {b m : Nat} {S S' S'' : CS} (h : frS b m S S') (h' : frS b m S' S'') : frS b m S S'' := ⟨extC_tr h.1 h'.1, fun b' j hb => by rw [h'.2.1 b' j hb, h.2.1 b' j hb], fun k hk => by rw [h'.2.2.1 k hk, h.2.2.1 k hk], by rw [h'.2.2.2, h.2.2.2]⟩
theorem frS_tI {b m j : Nat} {v : Int32} {S S' : CS} (hb : b ≠ 13) (h : frS b m S S') : frS b m S (tI S' b j v) := ⟨extC_tI hb h.1, fun b' i hb' => by rw [kI_tI, if_neg (fun q => hb' q.1)]; exact h.2.1 b' i hb', h.2.2.1, h.2.2.2⟩
theorem frS_tF {b m : Nat} {v : Int32} {S S' : CS} (hm : m ≠ 1 ∧ m ≠ 9 ∧ m ≠ 10 ∧ m ≠ 12) (h : frS b m S S') : frS b m S (tF S' m v) := ⟨extC_tF hm h.1, h.2.1, fun k hk => by rw [kF_tF, if_neg hk]; exact h.2.2.1 k hk, h.2.2.2⟩
def hasPt (S : CS) (b n : Nat) (p : Nat → Option Nat) : Prop := ∀ x, x < n → kI S b x = glN (p x)
theorem c_acrossS2 {a : Ab} {S : CS} {s t g : Nat} (ha : AWf a) (hs : s < 4 * aP a) (ht : aG a s = some t) (hg : pk S g 0) (hT : pk S (kG S g).2.2 1) (hN : kN S (kG S g).2.2 = 4) (hW : ∀ c, c < 4 → kT S (kG S g).2.2 c = nI (aW a s c)) {k f : Nat} (hk : k < 4) (hf : f = s % 4) {post : Int32 → CS → Prop} (h : post (glN (tt2 a s k)) S) : C_acrossS2 (nI k) (nI f) g S post := by
  apply C_acrossS2_ok
  unfold C_acrossS2_VC C_acrossS2_w0 C_acrossS2_w15
  unfold tt2 at h
  rw [hN, vp_inE (by omega) (by omega), nI_clamp (by omega), nI_eqE (by omega) (by omega), hW k hk]
  refine ⟨fun c => ⟨hg, hT, by omega, ?_⟩, fun c => ?_⟩
  · rw [if_neg (by omega)] at h; exact h
  · rw [if_pos (by omega)] at h; exact h
theorem tt2_lt {a : Ab} (ha : AWf a) {s t : Nat} (hs : s < 4 * aP a) (ht : aG a s = some t) {k j : Nat} (hk : k < 4) (h : tt2 a s k = some j) : j < 4 := by
  unfold tt2 at h
  split at h
  · exact absurd h (by simp)
  · injection h with h
    have := ((ha.2.1 s t hs ht).2.2.2.2 k hk).1
    omega
theorem nb2_lt {a : Ab} (ha : AWf a) {k f y : Nat} (hk : k < 4 * aP a) (hf : f < 4) (h : nbG 4 tt2 a k f = some y) : y < 4 * aP a := by
  have hP := ha.1
  unfold nbG at h
  cases e : aG a (4 * (k / 4) + f) with
  | none => rw [e] at h; exact absurd h (by simp)
  | some t =>
    rw [e] at h
    have h : (match tt2 a (4 * (k / 4) + f) (k % 4) with | none => none | some j => some (t / 4 * 4 + j)) = some y := h
    cases e2 : tt2 a (4 * (k / 4) + f) (k % 4) with
    | none => rw [e2] at h; exact absurd h (by simp)
    | some j =>
      rw [e2] at h
      injection h with h
      have hs : 4 * (k / 4) + f < 4 * aP a := by omega
      have h1 := (ha.2.1 _ t hs e).1
      have h2 := tt2_lt ha hs e (show k % 4 < 4 by omega) e2
      omega
theorem c_spreadS2 {κ : Prop} {a : Ab} (ha : AWf a) : ∀ dd (S : CS) (p : Nat → Option Nat) (k col : Nat), CI κ a S → hasPt S 32 (4 * aP a) p → (∀ x v, p x = some v → v < 100) → unP p (4 * aP a) ≤ dd → k < 4 * aP a → p k = none → col < 100 → ∀ post : CS → Prop, (∀ S' p', frS 32 42 S S' → hasPt S' 32 (4 * aP a) p' → (∀ x v, p' x = some v → v < 100) → dfsR (lkG 4 tt2 a) (4 * aP a) p k col p' → (∀ k, kF S' k = kF S k) → post S') → C_spreadS2 dd (nI k) (nI col) S post := by
  intro dd
  have hP := ha.1
  induction dd with
  | zero =>
    intro S p k col hI hp hv hu hk hpk
    have := unP_lt (p := p) (p' := fun _ => some 0) hk (fun _ _ => by simp) hpk (by simp)
    omega
  | succ dd ih =>
    intro S p k col hI hp hv hu hk hpk hcol post h
    apply C_spreadS2_ok
    intro T r
    have hgl : ∀ v, glN (some v) = nI v := fun _ => rfl
    suffices K : ∀ f, f ≤ 4 → ∀ S' p', frS 32 42 S S' → hasPt S' 32 (4 * aP a) p' → (∀ x v, p' x = some v → v < 100) → (∀ k, kF S' k = kF S k) → (∀ x, p x ≠ none → p' x = p x) → p' k = some col → (∀ x, x < 4 * aP a → p x = none → p' x ≠ none → p' x = some col ∧ cnx (lkG 4 tt2 a) k x) → (∀ x, x < 4 * aP a → p x = none → p' x ≠ none → x ≠ k → ∀ y, lkG 4 tt2 a x y → p' y ≠ none) → (∀ f' y, f' < f → nbG 4 tt2 a k f' = some y → p' y ≠ none) → T (nI k) (nI col) (nI f) S' by
      unfold C_spreadS2_w0
      rw [vp_inE (by omega) (by omega), nI_clamp (by omega)]
      refine ⟨by omega, K 0 (by omega) _ (upF p k (some col)) (frS_tI (by decide) frS_rf) (fun x hx => ?_) (fun x v hxv => ?_) (fun _ => rfl) (fun x hx => ?_) (upF_at _ _ _) (fun x hx hpx hx2 => ?_) (fun x hx hpx hx2 hne => ?_) (fun f' y h => absurd h (Nat.not_lt_zero _))⟩
      · rw [kI_tI]
        by_cases c : x = k
        · rw [if_pos ⟨rfl, c⟩, c, upF_at]; rfl
        · rw [if_neg (fun z => c z.2), upF_ne _ _ c]; exact hp x hx
      · by_cases c : x = k
        · rw [c, upF_at] at hxv; injection hxv with hxv; omega
        · rw [upF_ne _ _ c] at hxv; exact hv x v hxv
      · exact upF_ne _ _ (fun e => hx (by rw [e]; exact hpk))
      · by_cases c : x = k
        · rw [c, upF_at]; exact ⟨rfl, cnx_rf⟩
        · rw [upF_ne _ _ c] at hx2; exact absurd hpx hx2
      · rw [upF_ne _ _ hne] at hx2; exact absurd hpx hx2
    refine loopUp (P := fun f => ∀ S' p', frS 32 42 S S' → hasPt S' 32 (4 * aP a) p' → (∀ x v, p' x = some v → v < 100) → (∀ k, kF S' k = kF S k) → (∀ x, p x ≠ none → p' x = p x) → p' k = some col → (∀ x, x < 4 * aP a → p x = none → p' x ≠ none → p' x = some col ∧ cnx (lkG 4 tt2 a) k x) → (∀ x, x < 4 * aP a → p x = none → p' x ≠ none → x ≠ k → ∀ y, lkG 4 tt2 a x y → p' y ≠ none) → (∀ f' y, f' < f → nbG 4 tt2 a k f' = some y → p' y ≠ none) → T (nI k) (nI col) (nI f) S') 4 (fun f hf ihf S' p' g1 g2 g3 g4 g5 g6 g7 g8 g9 => ?_)
    apply r
    unfold C_spreadS2_w9
    have ed : nI k / 4 = nI (k / 4) := by simp (disch := omega) only [n0, n1, n2, n3, n4, n5, n6, n7, n8, n9, n10, n11, n12, n14, n16, n18, n21, n22, n36, n48, n63, n100, n108, n400, n1000, pk_mul, nI_add, pk_div, nI_subm, nI_ltE, nI_leE, nI_eqE, nI_clamp, vp_inE, nIm1, nIm1', nIm1n, nIm1n', nI_addn]
    have em : nI k - nI k / 4 * 4 = nI (k % 4) := by
      simp (disch := omega) only [n0, n1, n2, n3, n4, n5, n6, n7, n8, n9, n10, n11, n12, n14, n16, n18, n21, n22, n36, n48, n63, n100, n108, n400, n1000, pk_mul, nI_add, pk_div, nI_subm, nI_ltE, nI_leE, nI_eqE, nI_clamp, vp_inE, nIm1, nIm1', nIm1n, nIm1n', nI_addn]
      rw [show k - k / 4 * 4 = k % 4 by omega]
    rw [em, ed, show (4 : Int32) = nI 4 from rfl, nI_leE (by omega) (by omega), nI_clamp (by omega), nI_clamp (by omega), vp_inE (by omega) (by omega), vp_inE (by omega) (by omega)]
    refine ⟨fun q => h S' p' g1 g2 g3 ⟨g5, g6, g7, fun x hx hpx hx2 y hy => ?_⟩ g4, fun q => ⟨by omega, by omega, ?_⟩⟩
    · by_cases c : x = k
      · obtain ⟨_, f', hf', hnb⟩ := hy
        rw [c] at hnb
        exact g9 f' y (by omega) hnb
      · exact g8 x hx hpx hx2 c y hy
    · have hI' := CI_ext hI g1.1
      have hs : 4 * (k / 4) + f < 4 * aP a := by omega
      have ihf := ihf (by omega)
      have e1 : (4 * (k / 4) + f) / 4 = k / 4 := by omega
      have e2 : (4 * (k / 4) + f) % 4 = f := by omega
      -- nothing to do beyond this side
      have skip : (∀ y, nbG 4 tt2 a k f = some y → p' y ≠ none) → T (nI k) (nI col) (nI (f + 1)) S' := fun hh => ihf S' p' g1 g2 g3 g4 g5 g6 g7 g8 (fun f' y h1 h2 => by
        by_cases c : f' = f
        · rw [c] at h2; exact hh y h2
        · exact g9 f' y (by omega) h2)
      cases e : aG a (4 * (k / 4) + f) with
      | none =>
        have hn := CR_none hI'.1 hs e
        rw [e1, e2] at hn
        refine ⟨fun g hg => absurd (hn.symm.trans hg) (by simp), fun _ => ?_⟩
        unfold C_spreadS2_w54 C_spreadS2_w102
        rw [show (nI f : Int32) + 1 = nI (f + 1) from nI_add f 1]
        refine ⟨fun _ => skip (fun y hy => ?_), fun c => absurd rfl c⟩
        unfold nbG at hy
        rw [e] at hy
        exact absurd hy (by simp)
      | some t =>
        obtain ⟨g, q1, q2, q3, q4, q5, q6, q7⟩ := CR_some hI'.1 hs e
        rw [e1, e2] at q1
        have ht := (ha.2.1 _ t hs e).1
        refine ⟨fun g' hg => ?_, fun c => absurd (q1.symm.trans c) (by simp)⟩
        rw [q1] at hg
        injection hg with hg
        subst hg
        refine c_acrossS2 ha hs e q2 q5 q6 q7 (by omega) (by omega) ?_
        unfold C_spreadS2_w54 C_spreadS2_w102
        rw [show (nI f : Int32) + 1 = nI (f + 1) from nI_add f 1]
        have hnb : nbG 4 tt2 a k f = match tt2 a (4 * (k / 4) + f) (k % 4) with | none => none | some j => some (t / 4 * 4 + j) := by
          unfold nbG
          rw [e]
        cases e3 : tt2 a (4 * (k / 4) + f) (k % 4) with
        | none =>
          rw [e3] at hnb
          have hnb : nbG 4 tt2 a k f = none := hnb
          exact ⟨fun _ => skip (fun y hy => absurd (hnb.symm.trans hy) (by simp)), fun c => absurd rfl c⟩
        | some j =>
          rw [e3] at hnb
          have hnb : nbG 4 tt2 a k f = some (t / 4 * 4 + j) := hnb
          have hj := tt2_lt ha hs e (show k % 4 < 4 by omega) e3
          have hy := nb2_lt ha hk (by omega) hnb
          have ei : (kG S' g).1 * 4 + nI j = nI (t / 4 * 4 + j) := by
            rw [q3]
            simp (disch := omega) only [n0, n1, n2, n3, n4, n5, n6, n7, n8, n9, n10, n11, n12, n14, n16, n18, n21, n22, n36, n48, n63, n100, n108, n400, n1000, pk_mul, nI_add, pk_div, nI_subm, nI_ltE, nI_leE, nI_eqE, nI_clamp, vp_inE, nIm1, nIm1', nIm1n, nIm1n', nI_addn]
          rw [hgl, nIm1 (by omega)]
          refine ⟨fun c => absurd c id, fun _ => ⟨g, rfl, q2, ?_⟩⟩
          rw [ei, vp_inE (by omega) (by omega), nI_clamp (by omega), g2 _ (by omega), glN_none (fun v hv => by have := g3 _ v hv; omega)]
          refine ⟨by omega, fun c => skip (fun y hy2 => ?_), fun c => ⟨g, rfl, q2, ?_⟩⟩
          · rw [hnb] at hy2
            injection hy2 with hy2
            rw [← hy2]
            exact c
          · rw [ei]
            have mono : ∀ x, p x ≠ none → p' x ≠ none := fun x hx => by rw [g5 x hx]; exact hx
            have lt := unP_lt (p := p) (p' := p') hk mono hpk (by rw [g6]; simp)
            refine ih S' p' (t / 4 * 4 + j) col hI' g2 g3 (by omega) hy c hcol _ (fun S2 p2 m1 m2 m3 m4 m5 => ?_)
            obtain ⟨d1, d2, d3, d4⟩ := m4
            have lnk : lkG 4 tt2 a k (t / 4 * 4 + j) := ⟨hk, f, by omega, hnb⟩
            refine ihf S2 p2 (frS_tr g1 m1) m2 m3 (fun k' => by rw [m5 k', g4 k']) (fun x hx => by rw [d1 x (mono x hx), g5 x hx]) (by rw [d1 k (by rw [g6]; simp)]; exact g6) (fun x hx hpx hx2 => ?_) (fun x hx hpx hx2 hne y hxy => ?_) (fun f' y h1 h2 => ?_)
            · by_cases c2 : p' x = none
              · obtain ⟨w1, w2⟩ := d3 x hx c2 hx2
                exact ⟨w1, cnx_tr (cnx_E lnk) w2⟩
              · rw [d1 x c2]; exact g7 x hx hpx c2
            · by_cases c2 : p' x = none
              · exact d4 x hx c2 hx2 y hxy
              · have := g8 x hx hpx c2 hne y hxy
                rw [d1 y this]; exact this
            · by_cases c2 : f' = f
              · rw [c2, hnb] at h2
                injection h2 with h2
                rw [← h2, d2]
                simp
              · have := g9 f' y (by omega) h2
                rw [d1 y this]; exact this
theorem c_findS2 {κ : Prop} {a : Ab} (ha : AWf a) {L : Nat → Nat} (hL : isLab (4 * aP a) (lkG 4 tt2 a) L) (hE : ∀ x y, lkG 4 tt2 a x y → x < 4 * aP a ∧ y < 4 * aP a ∧ lkG 4 tt2 a y x) {S : CS} (hI : CI κ a S) {post : Int32 → CS → Prop} (h : ∀ S', frS 32 42 S S' → (∀ x, x < 4 * aP a → kI S' 32 x = nI (cnL L (L x))) → kF S' 42 = nI (cnL L (4 * aP a)) → post (nI (cnL L (4 * aP a))) S') : C_findS2 S post := by
  apply C_findS2_ok
  intro T7 T38 r7 r38
  have hP := ha.1
  have e1 : ∀ S', frS 32 42 S S' → kF S' 1 * 4 = nI (4 * aP a) := fun S' hf => by
    rw [hf.2.2.1 1 (by decide), hI.1.1]
    simp (disch := omega) only [n0, n1, n2, n3, n4, n5, n6, n7, n8, n9, n10, n11, n12, n14, n16, n18, n21, n22, n36, n48, n63, n100, n108, n400, n1000, pk_mul, nI_add, pk_div, nI_subm, nI_ltE, nI_leE, nI_eqE, nI_clamp, vp_inE, nIm1, nIm1', nIm1n, nIm1n', nI_addn]
    rw [Nat.mul_comm]
  have K38 : ∀ k, k ≤ 4 * aP a → ∀ S' p, frS 32 42 S S' → hasPt S' 32 (4 * aP a) p → (∀ x v, p x = some v → v < 100) → pnt L (4 * aP a) k p → kF S' 42 = nI (cnL L k) → T38 (nI k) S' := by
    refine loopUp (P := fun k => ∀ S' p, frS 32 42 S S' → hasPt S' 32 (4 * aP a) p → (∀ x v, p x = some v → v < 100) → pnt L (4 * aP a) k p → kF S' 42 = nI (cnL L k) → T38 (nI k) S') (4 * aP a) (fun k hk ih S' p g1 g2 g3 g4 g5 => ?_)
    apply r38
    unfold C_findS2_w38 C_findS2_w83
    have hc := cnL_le L k
    rw [e1 S' g1, g5, nI_leE (by omega) (by omega), nI_clamp (by omega), show (nI k : Int32) + 1 = nI (k + 1) from nI_add k 1]
    refine ⟨fun q => ?_, fun q => ⟨by rw [vp_inE (by omega) (by omega)]; omega, ?_⟩⟩
    · have e : k = 4 * aP a := by omega
      rw [e] at g4 g5 ⊢
      refine h S' g1 (fun x hx => ?_) g5
      have := hL.1 x hx
      rw [g2 x (by omega), g4 x hx, if_pos (by omega)]
      rfl
    · rw [g2 k (by omega), glN_none (fun v hv => by have := g3 k v hv; omega)]
      have ih := ih (by omega)
      have hcs : cnL L (k + 1) = cnL L k + (if L k = k then 1 else 0) := rfl
      refine ⟨fun c => ih S' p g1 g2 g3 (fun x hx => ?_) ?_, fun c => ?_⟩
      · have hk2 := g4 k (by omega)
        by_cases c2 : L k < k
        · rw [g4 x hx]
          by_cases c3 : L x < k
          · rw [if_pos c3, if_pos (by omega)]
          · rw [if_neg c3, if_neg]
            intro c4
            have e : L x = k := by omega
            have l2 := hL.2.1 x hx (fun y => L y = L x) rfl (fun u v e => by rw [hL.2.2 u v e])
            have l2 : L (L x) = L x := l2
            rw [e] at l2
            omega
        · rw [if_neg c2] at hk2; exact absurd hk2 c
      · have hk2 := g4 k (by omega)
        by_cases c2 : L k < k
        · rw [g5, hcs, if_neg (by omega)]
          rfl
        · rw [if_neg c2] at hk2; exact absurd hk2 c
      · refine c_spreadS2 ha 36 S' p k (cnL L k) (CI_ext hI g1.1) g2 g3 (by have := unP_le p (4 * aP a); omega) (by omega) c (by omega) _ (fun S2 p2 m1 m2 m3 m4 m5 => ?_)
        have hst := pnt_step hL hE (show k < 4 * aP a by omega) g4 c m4
        refine ih _ p2 (frS_tF (by decide) (frS_tr g1 m1)) m2 m3 hst.1 ?_
        rw [kF_tF, if_pos rfl, m5 42, g5, hcs, if_pos hst.2]
        exact nI_add _ 1
  unfold C_findS2_w0
  suffices K7 : ∀ k, k ≤ 4 * aP a → ∀ S', frS 32 42 S S' → kF S' 42 = 0 → (∀ j, j < k → kI S' 32 j = -1) → T7 (nI k) S' from K7 0 (by omega) _ (frS_tF (by decide) frS_rf) (by rw [kF_tF, if_pos rfl]) (fun j hj => absurd hj (Nat.not_lt_zero _))
  refine loopUp (P := fun k => ∀ S', frS 32 42 S S' → kF S' 42 = 0 → (∀ j, j < k → kI S' 32 j = -1) → T7 (nI k) S') (4 * aP a) (fun k hk ih S' g1 g2 g3 => ?_)
  apply r7
  unfold C_findS2_w7
  rw [e1 S' g1, nI_leE (by omega) (by omega), nI_clamp (by omega), show (nI k : Int32) + 1 = nI (k + 1) from nI_add k 1]
  refine ⟨fun q => ?_, fun q => ⟨by rw [vp_inE (by omega) (by omega)]; omega, ih (by omega) _ (frS_tI (by decide) g1) g2 (fun j hj => ?_)⟩⟩
  · refine K38 0 (by omega) S' (fun _ => none) g1 (fun x hx => g3 x (by omega)) (fun x v h => absurd h (by simp)) (fun x hx => by rw [if_neg (Nat.not_lt_zero _)]) g2
  · rw [kI_tI]
    by_cases c : j = k
    · rw [if_pos ⟨rfl, c⟩]
    · rw [if_neg (fun z => c z.2)]; exact g3 j (by omega)
theorem c_acrossS3 {a : Ab} {S : CS} {s t g : Nat} (ha : AWf a) (hs : s < 4 * aP a) (ht : aG a s = some t) (hg : pk S g 0) (hT : pk S (kG S g).2.2 1) (hN : kN S (kG S g).2.2 = 4) (hW : ∀ c, c < 4 → kT S (kG S g).2.2 c = nI (aW a s c)) {k f : Nat} (hk : k < 6) (hf : f = s % 4) {post : Int32 → CS → Prop} (h : post (glN (tt3 a s k)) S) : C_acrossS3 (nI k) (nI f) g S post := by
  apply C_acrossS3_ok
  unfold C_acrossS3_VC C_acrossS3_w0 C_acrossS3_w18 C_acrossS3_w45
  obtain ⟨q1, q2⟩ := lowF_nI k hk
  have l := eFT_lt k
  unfold tt3 at h
  rw [nI_clamp (by omega), q1, q2, hN, vp_inE (by omega) (by omega), vp_inE (by omega) (by omega), vp_inE (by omega) (by omega), nI_eqE (by omega) (by omega), nI_eqE (by omega) (by omega), nI_clamp (by omega), nI_clamp (by omega), hW _ l.1, hW _ l.2]
  refine ⟨by omega, fun c => ?_, fun c => ⟨by omega, fun c2 => ⟨hg, by omega, hT, by omega, hg, by omega, hT, by omega, ?_⟩, fun c2 => ?_⟩⟩
  · rw [if_pos (by omega)] at h; exact h
  · rw [if_neg (by omega)] at h
    have w := (ha.2.1 s t hs ht).2.2.2.2
    exact c_edgeOf (w _ l.1).1 (w _ l.2).1 (AWf_inj ha hs ht l.1 l.2 (eFT_ne k hk)) h
  · rw [if_pos (by omega)] at h; exact h
theorem tt3_lt {a : Ab} (ha : AWf a) {s t : Nat} (hs : s < 4 * aP a) (ht : aG a s = some t) {k j : Nat} (hk : k < 6) (h : tt3 a s k = some j) : j < 6 := by
  unfold tt3 at h
  split at h
  · exact absurd h (by simp)
  · injection h with h
    have l := eFT_lt k
    have w := (ha.2.1 s t hs ht).2.2.2.2
    have := (edgeN_spec _ (w _ l.1).1 _ (w _ l.2).1 (AWf_inj ha hs ht l.1 l.2 (eFT_ne k hk))).1
    omega
theorem nb3_lt {a : Ab} (ha : AWf a) {k f y : Nat} (hk : k < 6 * aP a) (hf : f < 4) (h : nbG 6 tt3 a k f = some y) : y < 6 * aP a := by
  have hP := ha.1
  unfold nbG at h
  cases e : aG a (4 * (k / 6) + f) with
  | none => rw [e] at h; exact absurd h (by simp)
  | some t =>
    rw [e] at h
    have h : (match tt3 a (4 * (k / 6) + f) (k % 6) with | none => none | some j => some (t / 4 * 6 + j)) = some y := h
    cases e2 : tt3 a (4 * (k / 6) + f) (k % 6) with
    | none => rw [e2] at h; exact absurd h (by simp)
    | some j =>
      rw [e2] at h
      injection h with h
      have hs : 4 * (k / 6) + f < 4 * aP a := by omega
      have h1 := (ha.2.1 _ t hs e).1
      have h2 := tt3_lt ha hs e (show k % 6 < 6 by omega) e2
      omega
theorem c_spreadS3 {κ : Prop} {a : Ab} (ha : AWf a) : ∀ dd (S : CS) (p : Nat → Option Nat) (k col : Nat), CI κ a S → hasPt S 33 (6 * aP a) p → (∀ x v, p x = some v → v < 100) → unP p (6 * aP a) ≤ dd → k < 6 * aP a → p k = none → col < 100 → ∀ post : CS → Prop, (∀ S' p', frS 33 43 S S' → hasPt S' 33 (6 * aP a) p' → (∀ x v, p' x = some v → v < 100) → dfsR (lkG 6 tt3 a) (6 * aP a) p k col p' → (∀ k, kF S' k = kF S k) → post S') → C_spreadS3 dd (nI k) (nI col) S post := by
  intro dd
  have hP := ha.1
  induction dd with
  | zero =>
    intro S p k col hI hp hv hu hk hpk
    have := unP_lt (p := p) (p' := fun _ => some 0) hk (fun _ _ => by simp) hpk (by simp)
    omega
  | succ dd ih =>
    intro S p k col hI hp hv hu hk hpk hcol post h
    apply C_spreadS3_ok
    intro T r
    have hgl : ∀ v, glN (some v) = nI v := fun _ => rfl
    suffices K : ∀ f, f ≤ 4 → ∀ S' p', frS 33 43 S S' → hasPt S' 33 (6 * aP a) p' → (∀ x v, p' x = some v → v < 100) → (∀ k, kF S' k = kF S k) → (∀ x, p x ≠ none → p' x = p x) → p' k = some col → (∀ x, x < 6 * aP a → p x = none → p' x ≠ none → p' x = some col ∧ cnx (lkG 6 tt3 a) k x) → (∀ x, x < 6 * aP a → p x = none → p' x ≠ none → x ≠ k → ∀ y, lkG 6 tt3 a x y → p' y ≠ none) → (∀ f' y, f' < f → nbG 6 tt3 a k f' = some y → p' y ≠ none) → T (nI k) (nI col) (nI f) S' by
      unfold C_spreadS3_w0
      rw [vp_inE (by omega) (by omega), nI_clamp (by omega)]
      refine ⟨by omega, K 0 (by omega) _ (upF p k (some col)) (frS_tI (by decide) frS_rf) (fun x hx => ?_) (fun x v hxv => ?_) (fun _ => rfl) (fun x hx => ?_) (upF_at _ _ _) (fun x hx hpx hx2 => ?_) (fun x hx hpx hx2 hne => ?_) (fun f' y h => absurd h (Nat.not_lt_zero _))⟩
      · rw [kI_tI]
        by_cases c : x = k
        · rw [if_pos ⟨rfl, c⟩, c, upF_at]; rfl
        · rw [if_neg (fun z => c z.2), upF_ne _ _ c]; exact hp x hx
      · by_cases c : x = k
        · rw [c, upF_at] at hxv; injection hxv with hxv; omega
        · rw [upF_ne _ _ c] at hxv; exact hv x v hxv
      · exact upF_ne _ _ (fun e => hx (by rw [e]; exact hpk))
      · by_cases c : x = k
        · rw [c, upF_at]; exact ⟨rfl, cnx_rf⟩
        · rw [upF_ne _ _ c] at hx2; exact absurd hpx hx2
      · rw [upF_ne _ _ hne] at hx2; exact absurd hpx hx2
    refine loopUp (P := fun f => ∀ S' p', frS 33 43 S S' → hasPt S' 33 (6 * aP a) p' → (∀ x v, p' x = some v → v < 100) → (∀ k, kF S' k = kF S k) → (∀ x, p x ≠ none → p' x = p x) → p' k = some col → (∀ x, x < 6 * aP a → p x = none → p' x ≠ none → p' x = some col ∧ cnx (lkG 6 tt3 a) k x) → (∀ x, x < 6 * aP a → p x = none → p' x ≠ none → x ≠ k → ∀ y, lkG 6 tt3 a x y → p' y ≠ none) → (∀ f' y, f' < f → nbG 6 tt3 a k f' = some y → p' y ≠ none) → T (nI k) (nI col) (nI f) S') 4 (fun f hf ihf S' p' g1 g2 g3 g4 g5 g6 g7 g8 g9 => ?_)
    apply r
    unfold C_spreadS3_w9
    have ed : nI k / 6 = nI (k / 6) := by simp (disch := omega) only [n0, n1, n2, n3, n4, n5, n6, n7, n8, n9, n10, n11, n12, n14, n16, n18, n21, n22, n36, n48, n63, n100, n108, n400, n1000, pk_mul, nI_add, pk_div, nI_subm, nI_ltE, nI_leE, nI_eqE, nI_clamp, vp_inE, nIm1, nIm1', nIm1n, nIm1n', nI_addn]
    have em : nI k - nI k / 6 * 6 = nI (k % 6) := by
      simp (disch := omega) only [n0, n1, n2, n3, n4, n5, n6, n7, n8, n9, n10, n11, n12, n14, n16, n18, n21, n22, n36, n48, n63, n100, n108, n400, n1000, pk_mul, nI_add, pk_div, nI_subm, nI_ltE, nI_leE, nI_eqE, nI_clamp, vp_inE, nIm1, nIm1', nIm1n, nIm1n', nI_addn]
      rw [show k - k / 6 * 6 = k % 6 by omega]
    rw [em, ed, show (4 : Int32) = nI 4 from rfl, nI_leE (by omega) (by omega), nI_clamp (by omega), nI_clamp (by omega), vp_inE (by omega) (by omega), vp_inE (by omega) (by omega)]
    refine ⟨fun q => h S' p' g1 g2 g3 ⟨g5, g6, g7, fun x hx hpx hx2 y hy => ?_⟩ g4, fun q => ⟨by omega, by omega, ?_⟩⟩
    · by_cases c : x = k
      · obtain ⟨_, f', hf', hnb⟩ := hy
        rw [c] at hnb
        exact g9 f' y (by omega) hnb
      · exact g8 x hx hpx hx2 c y hy
    · have hI' := CI_ext hI g1.1
      have hs : 4 * (k / 6) + f < 4 * aP a := by omega
      have ihf := ihf (by omega)
      have e1 : (4 * (k / 6) + f) / 4 = k / 6 := by omega
      have e2 : (4 * (k / 6) + f) % 4 = f := by omega
      -- nothing to do beyond this side
      have skip : (∀ y, nbG 6 tt3 a k f = some y → p' y ≠ none) → T (nI k) (nI col) (nI (f + 1)) S' := fun hh => ihf S' p' g1 g2 g3 g4 g5 g6 g7 g8 (fun f' y h1 h2 => by
        by_cases c : f' = f
        · rw [c] at h2; exact hh y h2
        · exact g9 f' y (by omega) h2)
      cases e : aG a (4 * (k / 6) + f) with
      | none =>
        have hn := CR_none hI'.1 hs e
        rw [e1, e2] at hn
        refine ⟨fun g hg => absurd (hn.symm.trans hg) (by simp), fun _ => ?_⟩
        unfold C_spreadS3_w54 C_spreadS3_w102
        rw [show (nI f : Int32) + 1 = nI (f + 1) from nI_add f 1]
        refine ⟨fun _ => skip (fun y hy => ?_), fun c => absurd rfl c⟩
        unfold nbG at hy
        rw [e] at hy
        exact absurd hy (by simp)
      | some t =>
        obtain ⟨g, q1, q2, q3, q4, q5, q6, q7⟩ := CR_some hI'.1 hs e
        rw [e1, e2] at q1
        have ht := (ha.2.1 _ t hs e).1
        refine ⟨fun g' hg => ?_, fun c => absurd (q1.symm.trans c) (by simp)⟩
        rw [q1] at hg
        injection hg with hg
        subst hg
        refine c_acrossS3 ha hs e q2 q5 q6 q7 (by omega) (by omega) ?_
        unfold C_spreadS3_w54 C_spreadS3_w102
        rw [show (nI f : Int32) + 1 = nI (f + 1) from nI_add f 1]
        have hnb : nbG 6 tt3 a k f = match tt3 a (4 * (k / 6) + f) (k % 6) with | none => none | some j => some (t / 4 * 6 + j) := by
          unfold nbG
          rw [e]
        cases e3 : tt3 a (4 * (k / 6) + f) (k % 6) with
        | none =>
          rw [e3] at hnb
          have hnb : nbG 6 tt3 a k f = none := hnb
          exact ⟨fun _ => skip (fun y hy => absurd (hnb.symm.trans hy) (by simp)), fun c => absurd rfl c⟩
        | some j =>
          rw [e3] at hnb
          have hnb : nbG 6 tt3 a k f = some (t / 4 * 6 + j) := hnb
          have hj := tt3_lt ha hs e (show k % 6 < 6 by omega) e3
          have hy := nb3_lt ha hk (by omega) hnb
          have ei : (kG S' g).1 * 6 + nI j = nI (t / 4 * 6 + j) := by
            rw [q3]
            simp (disch := omega) only [n0, n1, n2, n3, n4, n5, n6, n7, n8, n9, n10, n11, n12, n14, n16, n18, n21, n22, n36, n48, n63, n100, n108, n400, n1000, pk_mul, nI_add, pk_div, nI_subm, nI_ltE, nI_leE, nI_eqE, nI_clamp, vp_inE, nIm1, nIm1', nIm1n, nIm1n', nI_addn]
          rw [hgl, nIm1 (by omega)]
          refine ⟨fun c => absurd c id, fun _ => ⟨g, rfl, q2, ?_⟩⟩
          rw [ei, vp_inE (by omega) (by omega), nI_clamp (by omega), g2 _ (by omega), glN_none (fun v hv => by have := g3 _ v hv; omega)]
          refine ⟨by omega, fun c => skip (fun y hy2 => ?_), fun c => ⟨g, rfl, q2, ?_⟩⟩
          · rw [hnb] at hy2
            injection hy2 with hy2
            rw [← hy2]
            exact c
          · rw [ei]
            have mono : ∀ x, p x ≠ none → p' x ≠ none := fun x hx => by rw [g5 x hx]; exact hx
            have lt := unP_lt (p := p) (p' := p') hk mono hpk (by rw [g6]; simp)
            refine ih S' p' (t / 4 * 6 + j) col hI' g2 g3 (by omega) hy c hcol _ (fun S2 p2 m1 m2 m3 m4 m5 => ?_)
            obtain ⟨d1, d2, d3, d4⟩ := m4
            have lnk : lkG 6 tt3 a k (t / 4 * 6 + j) := ⟨hk, f, by omega, hnb⟩
            refine ihf S2 p2 (frS_tr g1 m1) m2 m3 (fun k' => by rw [m5 k', g4 k']) (fun x hx => by rw [d1 x (mono x hx), g5 x hx]) (by rw [d1 k (by rw [g6]; simp)]; exact g6) (fun x hx hpx hx2 => ?_) (fun x hx hpx hx2 hne y hxy => ?_) (fun f' y h1 h2 => ?_)
            · by_cases c2 : p' x = none
              · obtain ⟨w1, w2⟩ := d3 x hx c2 hx2
                exact ⟨w1, cnx_tr (cnx_E lnk) w2⟩
              · rw [d1 x c2]; exact g7 x hx hpx c2
            · by_cases c2 : p' x = none
              · exact d4 x hx c2 hx2 y hxy
              · have := g8 x hx hpx c2 hne y hxy
                rw [d1 y this]; exact this
            · by_cases c2 : f' = f
              · rw [c2, hnb] at h2
                injection h2 with h2
                rw [← h2, d2]
                simp
              · have := g9 f' y (by omega) h2
                rw [d1 y this]; exact this
theorem c_findS3 {κ : Prop} {a : Ab} (ha : AWf a) {L : Nat → Nat} (hL : isLab (6 * aP a) (lkG 6 tt3 a) L) (hE : ∀ x y, lkG 6 tt3 a x y → x < 6 * aP a ∧ y < 6 * aP a ∧ lkG 6 tt3 a y x) {S : CS} (hI : CI κ a S) {post : Int32 → CS → Prop} (h : ∀ S', frS 33 43 S S' → (∀ x, x < 6 * aP a → kI S' 33 x = nI (cnL L (L x))) → kF S' 43 = nI (cnL L (6 * aP a)) → post (nI (cnL L (6 * aP a))) S') : C_findS3 S post := by
  apply C_findS3_ok
  intro T7 T38 r7 r38
  have hP := ha.1
  have e1 : ∀ S', frS 33 43 S S' → kF S' 1 * 6 = nI (6 * aP a) := fun S' hf => by
    rw [hf.2.2.1 1 (by decide), hI.1.1]
    simp (disch := omega) only [n0, n1, n2, n3, n4, n5, n6, n7, n8, n9, n10, n11, n12, n14, n16, n18, n21, n22, n36, n48, n63, n100, n108, n400, n1000, pk_mul, nI_add, pk_div, nI_subm, nI_ltE, nI_leE, nI_eqE, nI_clamp, vp_inE, nIm1, nIm1', nIm1n, nIm1n', nI_addn]
    rw [Nat.mul_comm]
  have K38 : ∀ k, k ≤ 6 * aP a → ∀ S' p, frS 33 43 S S' → hasPt S' 33 (6 * aP a) p → (∀ x v, p x = some v → v < 100) → pnt L (6 * aP a) k p → kF S' 43 = nI (cnL L k) → T38 (nI k) S' := by
    refine loopUp (P := fun k => ∀ S' p, frS 33 43 S S' → hasPt S' 33 (6 * aP a) p → (∀ x v, p x = some v → v < 100) → pnt L (6 * aP a) k p → kF S' 43 = nI (cnL L k) → T38 (nI k) S') (6 * aP a) (fun k hk ih S' p g1 g2 g3 g4 g5 => ?_)
    apply r38
    unfold C_findS3_w38 C_findS3_w83
    have hc := cnL_le L k
    rw [e1 S' g1, g5, nI_leE (by omega) (by omega), nI_clamp (by omega), show (nI k : Int32) + 1 = nI (k + 1) from nI_add k 1]
    refine ⟨fun q => ?_, fun q => ⟨by rw [vp_inE (by omega) (by omega)]; omega, ?_⟩⟩
    · have e : k = 6 * aP a := by omega
      rw [e] at g4 g5 ⊢
      refine h S' g1 (fun x hx => ?_) g5
      have := hL.1 x hx
      rw [g2 x (by omega), g4 x hx, if_pos (by omega)]
      rfl
    · rw [g2 k (by omega), glN_none (fun v hv => by have := g3 k v hv; omega)]
      have ih := ih (by omega)
      have hcs : cnL L (k + 1) = cnL L k + (if L k = k then 1 else 0) := rfl
      refine ⟨fun c => ih S' p g1 g2 g3 (fun x hx => ?_) ?_, fun c => ?_⟩
      · have hk2 := g4 k (by omega)
        by_cases c2 : L k < k
        · rw [g4 x hx]
          by_cases c3 : L x < k
          · rw [if_pos c3, if_pos (by omega)]
          · rw [if_neg c3, if_neg]
            intro c4
            have e : L x = k := by omega
            have l2 := hL.2.1 x hx (fun y => L y = L x) rfl (fun u v e => by rw [hL.2.2 u v e])
            have l2 : L (L x) = L x := l2
            rw [e] at l2
            omega
        · rw [if_neg c2] at hk2; exact absurd hk2 c
      · have hk2 := g4 k (by omega)
        by_cases c2 : L k < k
        · rw [g5, hcs, if_neg (by omega)]
          rfl
        · rw [if_neg c2] at hk2; exact absurd hk2 c
      · refine c_spreadS3 ha 36 S' p k (cnL L k) (CI_ext hI g1.1) g2 g3 (by have := unP_le p (6 * aP a); omega) (by omega) c (by omega) _ (fun S2 p2 m1 m2 m3 m4 m5 => ?_)
        have hst := pnt_step hL hE (show k < 6 * aP a by omega) g4 c m4
        refine ih _ p2 (frS_tF (by decide) (frS_tr g1 m1)) m2 m3 hst.1 ?_
        rw [kF_tF, if_pos rfl, m5 43, g5, hcs, if_pos hst.2]
        exact nI_add _ 1
  unfold C_findS3_w0
  suffices K7 : ∀ k, k ≤ 6 * aP a → ∀ S', frS 33 43 S S' → kF S' 43 = 0 → (∀ j, j < k → kI S' 33 j = -1) → T7 (nI k) S' from K7 0 (by omega) _ (frS_tF (by decide) frS_rf) (by rw [kF_tF, if_pos rfl]) (fun j hj => absurd hj (Nat.not_lt_zero _))
  refine loopUp (P := fun k => ∀ S', frS 33 43 S S' → kF S' 43 = 0 → (∀ j, j < k → kI S' 33 j = -1) → T7 (nI k) S') (6 * aP a) (fun k hk ih S' g1 g2 g3 => ?_)
  apply r7
  unfold C_findS3_w7
  rw [e1 S' g1, nI_leE (by omega) (by omega), nI_clamp (by omega), show (nI k : Int32) + 1 = nI (k + 1) from nI_add k 1]
  refine ⟨fun q => ?_, fun q => ⟨by rw [vp_inE (by omega) (by omega)]; omega, ih (by omega) _ (frS_tI (by decide) g1) g2 (fun j hj => ?_)⟩⟩
  · refine K38 0 (by omega) S' (fun _ => none) g1 (fun x hx => g3 x (by omega)) (fun x v h => absurd h (by simp)) (fun x hx => by rw [if_neg (Nat.not_lt_zero _)]) g2
  · rw [kI_tI]
    by_cases c : j = k
    · rw [if_pos ⟨rfl, c⟩]
    · rw [if_neg (fun z => c z.2)]; exact g3 j (by omega)
theorem c_acrossS4 {a : Ab} {S : CS} {s t g : Nat} (ha : AWf a) (hs : s < 4 * aP a) (ht : aG a s = some t) (hg : pk S g 0) (hT : pk S (kG S g).2.2 1) (hN : kN S (kG S g).2.2 = 4) (hW : ∀ c, c < 4 → kT S (kG S g).2.2 c = nI (aW a s c)) {k f : Nat} (hk : k < 12) (hf : f = s % 4) {post : Int32 → CS → Prop} (h : post (glN (tt4 a s k)) S) : C_acrossS4 (nI k) (nI f) g S post := by
  apply C_acrossS4_ok
  unfold C_acrossS4_VC C_acrossS4_w0 C_acrossS4_w23
  obtain ⟨q1, q2⟩ := lowF_nI (k / 2) (by omega)
  have l := eFT_lt (k / 2)
  have w := (ha.2.1 s t hs ht).2.2.2.2
  have main : ∀ u v, u = enA k → v = enB k → u < 4 → v < 4 → u ≠ v → C_acrossS4_w48 post (nI v) (nI f) g (nI u) S := by
    intro u v hu hv hu4 hv4 huv
    unfold C_acrossS4_w48 C_acrossS4_w62 C_acrossS4_w107 C_acrossS4_w108
    unfold tt4 at h
    rw [← hu, ← hv] at h
    rw [hN, vp_inE (by omega) (by omega), vp_inE (by omega) (by omega), nI_eqE (by omega) (by omega), nI_eqE (by omega) (by omega), nI_clamp (by omega), nI_clamp (by omega), hW _ hu4, hW _ hv4]
    refine ⟨fun c => ?_, fun c => ⟨fun c2 => ⟨hg, hT, by omega, hg, hT, by omega, ?_⟩, fun c2 => ?_⟩⟩
    · rw [if_pos (by omega)] at h; exact h
    · rw [if_neg (by omega)] at h
      have wu := (w _ hu4).1
      have wv := (w _ hv4).1
      have ne := AWf_inj ha hs ht hu4 hv4 huv
      have h6 := (edgeN_spec _ wu _ wv ne).1
      refine c_edgeOf wu wv ne ?_
      rw [hN, hW _ hu4, hW _ hv4, nI_leE (by omega) (by omega), vp_inE (by omega) (by omega), vp_inE (by omega) (by omega)]
      refine ⟨hg, hT, by omega, hg, hT, by omega, fun c3 => ?_, fun c3 => ?_⟩
      · rw [if_pos c3] at h
        simp (disch := omega) only [n0, n1, n2, n3, n4, n5, n6, n7, n8, n9, n10, n11, n12, n14, n16, n18, n21, n22, n36, n48, n63, n100, n108, n400, n1000, pk_mul, nI_add, pk_div, nI_subm, nI_ltE, nI_leE, nI_eqE, nI_clamp, vp_inE, nIm1, nIm1', nIm1n, nIm1n', nI_addn]
        exact h
      · rw [if_neg c3] at h
        simp (disch := omega) only [n0, n1, n2, n3, n4, n5, n6, n7, n8, n9, n10, n11, n12, n14, n16, n18, n21, n22, n36, n48, n63, n100, n108, n400, n1000, pk_mul, nI_add, pk_div, nI_subm, nI_ltE, nI_leE, nI_eqE, nI_clamp, vp_inE, nIm1, nIm1', nIm1n, nIm1n', nI_addn]
        exact h
    · rw [if_pos (by omega)] at h; exact h
  simp (disch := omega) only [n0, n1, n2, n3, n4, n5, n6, n7, n8, n9, n10, n11, n12, n14, n16, n18, n21, n22, n36, n48, n63, n100, n108, n400, n1000, pk_mul, nI_add, pk_div, nI_subm, nI_ltE, nI_leE, nI_eqE, nI_clamp, vp_inE, nIm1, nIm1', nIm1n, nIm1n', nI_addn]
  rw [q1, q2]
  refine ⟨fun c => ⟨by omega, fun _ => ⟨by omega, ?_⟩, fun c2 => absurd c2 c⟩, fun c => ⟨by omega, fun c2 => absurd c c2, fun _ => ⟨by omega, ?_⟩⟩⟩
  · exact main _ _ (by unfold enA; rw [if_neg (by omega)]) (by unfold enB; rw [if_neg (by omega)]) l.2 l.1 (Ne.symm (eFT_ne _ (by omega)))
  · exact main _ _ (by unfold enA; rw [if_pos (by omega)]) (by unfold enB; rw [if_pos (by omega)]) l.1 l.2 (eFT_ne _ (by omega))
theorem tt4_lt {a : Ab} (ha : AWf a) {s t : Nat} (hs : s < 4 * aP a) (ht : aG a s = some t) {k j : Nat} (hk : k < 12) (h : tt4 a s k = some j) : j < 12 := by
  unfold tt4 at h
  split at h
  · exact absurd h (by simp)
  · injection h with h
    have l := eFT_lt (k / 2)
    have ne := eFT_ne (k / 2) (by omega)
    have hA : enA k < 4 ∧ enB k < 4 ∧ enA k ≠ enB k := by
      unfold enA enB
      split
      · exact ⟨l.1, l.2, ne⟩
      · exact ⟨l.2, l.1, Ne.symm ne⟩
    have w := (ha.2.1 s t hs ht).2.2.2.2
    have := (edgeN_spec _ (w _ hA.1).1 _ (w _ hA.2.1).1 (AWf_inj ha hs ht hA.1 hA.2.1 hA.2.2)).1
    split at h <;> omega
theorem nb4_lt {a : Ab} (ha : AWf a) {k f y : Nat} (hk : k < 12 * aP a) (hf : f < 4) (h : nbG 12 tt4 a k f = some y) : y < 12 * aP a := by
  have hP := ha.1
  unfold nbG at h
  cases e : aG a (4 * (k / 12) + f) with
  | none => rw [e] at h; exact absurd h (by simp)
  | some t =>
    rw [e] at h
    have h : (match tt4 a (4 * (k / 12) + f) (k % 12) with | none => none | some j => some (t / 4 * 12 + j)) = some y := h
    cases e2 : tt4 a (4 * (k / 12) + f) (k % 12) with
    | none => rw [e2] at h; exact absurd h (by simp)
    | some j =>
      rw [e2] at h
      injection h with h
      have hs : 4 * (k / 12) + f < 4 * aP a := by omega
      have h1 := (ha.2.1 _ t hs e).1
      have h2 := tt4_lt ha hs e (show k % 12 < 12 by omega) e2
      omega
theorem c_spreadS4 {κ : Prop} {a : Ab} (ha : AWf a) : ∀ dd (S : CS) (p : Nat → Option Nat) (k col : Nat), CI κ a S → hasPt S 34 (12 * aP a) p → (∀ x v, p x = some v → v < 100) → unP p (12 * aP a) ≤ dd → k < 12 * aP a → p k = none → col < 100 → ∀ post : CS → Prop, (∀ S' p', frS 34 44 S S' → hasPt S' 34 (12 * aP a) p' → (∀ x v, p' x = some v → v < 100) → dfsR (lkG 12 tt4 a) (12 * aP a) p k col p' → (∀ k, kF S' k = kF S k) → post S') → C_spreadS4 dd (nI k) (nI col) S post := by
  intro dd
  have hP := ha.1
  induction dd with
  | zero =>
    intro S p k col hI hp hv hu hk hpk
    have := unP_lt (p := p) (p' := fun _ => some 0) hk (fun _ _ => by simp) hpk (by simp)
    omega
  | succ dd ih =>
    intro S p k col hI hp hv hu hk hpk hcol post h
    apply C_spreadS4_ok
    intro T r
    have hgl : ∀ v, glN (some v) = nI v := fun _ => rfl
    suffices K : ∀ f, f ≤ 4 → ∀ S' p', frS 34 44 S S' → hasPt S' 34 (12 * aP a) p' → (∀ x v, p' x = some v → v < 100) → (∀ k, kF S' k = kF S k) → (∀ x, p x ≠ none → p' x = p x) → p' k = some col → (∀ x, x < 12 * aP a → p x = none → p' x ≠ none → p' x = some col ∧ cnx (lkG 12 tt4 a) k x) → (∀ x, x < 12 * aP a → p x = none → p' x ≠ none → x ≠ k → ∀ y, lkG 12 tt4 a x y → p' y ≠ none) → (∀ f' y, f' < f → nbG 12 tt4 a k f' = some y → p' y ≠ none) → T (nI k) (nI col) (nI f) S' by
      unfold C_spreadS4_w0
      rw [vp_inE (by omega) (by omega), nI_clamp (by omega)]
      refine ⟨by omega, K 0 (by omega) _ (upF p k (some col)) (frS_tI (by decide) frS_rf) (fun x hx => ?_) (fun x v hxv => ?_) (fun _ => rfl) (fun x hx => ?_) (upF_at _ _ _) (fun x hx hpx hx2 => ?_) (fun x hx hpx hx2 hne => ?_) (fun f' y h => absurd h (Nat.not_lt_zero _))⟩
      · rw [kI_tI]
        by_cases c : x = k
        · rw [if_pos ⟨rfl, c⟩, c, upF_at]; rfl
        · rw [if_neg (fun z => c z.2), upF_ne _ _ c]; exact hp x hx
      · by_cases c : x = k
        · rw [c, upF_at] at hxv; injection hxv with hxv; omega
        · rw [upF_ne _ _ c] at hxv; exact hv x v hxv
      · exact upF_ne _ _ (fun e => hx (by rw [e]; exact hpk))
      · by_cases c : x = k
        · rw [c, upF_at]; exact ⟨rfl, cnx_rf⟩
        · rw [upF_ne _ _ c] at hx2; exact absurd hpx hx2
      · rw [upF_ne _ _ hne] at hx2; exact absurd hpx hx2
    refine loopUp (P := fun f => ∀ S' p', frS 34 44 S S' → hasPt S' 34 (12 * aP a) p' → (∀ x v, p' x = some v → v < 100) → (∀ k, kF S' k = kF S k) → (∀ x, p x ≠ none → p' x = p x) → p' k = some col → (∀ x, x < 12 * aP a → p x = none → p' x ≠ none → p' x = some col ∧ cnx (lkG 12 tt4 a) k x) → (∀ x, x < 12 * aP a → p x = none → p' x ≠ none → x ≠ k → ∀ y, lkG 12 tt4 a x y → p' y ≠ none) → (∀ f' y, f' < f → nbG 12 tt4 a k f' = some y → p' y ≠ none) → T (nI k) (nI col) (nI f) S') 4 (fun f hf ihf S' p' g1 g2 g3 g4 g5 g6 g7 g8 g9 => ?_)
    apply r
    unfold C_spreadS4_w9
    have ed : nI k / 12 = nI (k / 12) := by simp (disch := omega) only [n0, n1, n2, n3, n4, n5, n6, n7, n8, n9, n10, n11, n12, n14, n16, n18, n21, n22, n36, n48, n63, n100, n108, n400, n1000, pk_mul, nI_add, pk_div, nI_subm, nI_ltE, nI_leE, nI_eqE, nI_clamp, vp_inE, nIm1, nIm1', nIm1n, nIm1n', nI_addn]
    have em : nI k - nI k / 12 * 12 = nI (k % 12) := by
      simp (disch := omega) only [n0, n1, n2, n3, n4, n5, n6, n7, n8, n9, n10, n11, n12, n14, n16, n18, n21, n22, n36, n48, n63, n100, n108, n400, n1000, pk_mul, nI_add, pk_div, nI_subm, nI_ltE, nI_leE, nI_eqE, nI_clamp, vp_inE, nIm1, nIm1', nIm1n, nIm1n', nI_addn]
      rw [show k - k / 12 * 12 = k % 12 by omega]
    rw [em, ed, show (4 : Int32) = nI 4 from rfl, nI_leE (by omega) (by omega), nI_clamp (by omega), nI_clamp (by omega), vp_inE (by omega) (by omega), vp_inE (by omega) (by omega)]
    refine ⟨fun q => h S' p' g1 g2 g3 ⟨g5, g6, g7, fun x hx hpx hx2 y hy => ?_⟩ g4, fun q => ⟨by omega, by omega, ?_⟩⟩
    · by_cases c : x = k
      · obtain ⟨_, f', hf', hnb⟩ := hy
        rw [c] at hnb
        exact g9 f' y (by omega) hnb
      · exact g8 x hx hpx hx2 c y hy
    · have hI' := CI_ext hI g1.1
      have hs : 4 * (k / 12) + f < 4 * aP a := by omega
      have ihf := ihf (by omega)
      have e1 : (4 * (k / 12) + f) / 4 = k / 12 := by omega
      have e2 : (4 * (k / 12) + f) % 4 = f := by omega
      -- nothing to do beyond this side
      have skip : (∀ y, nbG 12 tt4 a k f = some y → p' y ≠ none) → T (nI k) (nI col) (nI (f + 1)) S' := fun hh => ihf S' p' g1 g2 g3 g4 g5 g6 g7 g8 (fun f' y h1 h2 => by
        by_cases c : f' = f
        · rw [c] at h2; exact hh y h2
        · exact g9 f' y (by omega) h2)
      cases e : aG a (4 * (k / 12) + f) with
      | none =>
        have hn := CR_none hI'.1 hs e
        rw [e1, e2] at hn
        refine ⟨fun g hg => absurd (hn.symm.trans hg) (by simp), fun _ => ?_⟩
        unfold C_spreadS4_w54 C_spreadS4_w102
        rw [show (nI f : Int32) + 1 = nI (f + 1) from nI_add f 1]
        refine ⟨fun _ => skip (fun y hy => ?_), fun c => absurd rfl c⟩
        unfold nbG at hy
        rw [e] at hy
        exact absurd hy (by simp)
      | some t =>
        obtain ⟨g, q1, q2, q3, q4, q5, q6, q7⟩ := CR_some hI'.1 hs e
        rw [e1, e2] at q1
        have ht := (ha.2.1 _ t hs e).1
        refine ⟨fun g' hg => ?_, fun c => absurd (q1.symm.trans c) (by simp)⟩
        rw [q1] at hg
        injection hg with hg
        subst hg
        refine c_acrossS4 ha hs e q2 q5 q6 q7 (by omega) (by omega) ?_
        unfold C_spreadS4_w54 C_spreadS4_w102
        rw [show (nI f : Int32) + 1 = nI (f + 1) from nI_add f 1]
        have hnb : nbG 12 tt4 a k f = match tt4 a (4 * (k / 12) + f) (k % 12) with | none => none | some j => some (t / 4 * 12 + j) := by
          unfold nbG
          rw [e]
        cases e3 : tt4 a (4 * (k / 12) + f) (k % 12) with
        | none =>
          rw [e3] at hnb
          have hnb : nbG 12 tt4 a k f = none := hnb
          exact ⟨fun _ => skip (fun y hy => absurd (hnb.symm.trans hy) (by simp)), fun c => absurd rfl c⟩
        | some j =>
          rw [e3] at hnb
          have hnb : nbG 12 tt4 a k f = some (t / 4 * 12 + j) := hnb
          have hj := tt4_lt ha hs e (show k % 12 < 12 by omega) e3
          have hy := nb4_lt ha hk (by omega) hnb
          have ei : (kG S' g).1 * 12 + nI j = nI (t / 4 * 12 + j) := by
            rw [q3]
            simp (disch := omega) only [n0, n1, n2, n3, n4, n5, n6, n7, n8, n9, n10, n11, n12, n14, n16, n18, n21, n22, n36, n48, n63, n100, n108, n400, n1000, pk_mul, nI_add, pk_div, nI_subm, nI_ltE, nI_leE, nI_eqE, nI_clamp, vp_inE, nIm1, nIm1', nIm1n, nIm1n', nI_addn]
          rw [hgl, nIm1 (by omega)]
          refine ⟨fun c => absurd c id, fun _ => ⟨g, rfl, q2, ?_⟩⟩
          rw [ei, vp_inE (by omega) (by omega), nI_clamp (by omega), g2 _ (by omega), glN_none (fun v hv => by have := g3 _ v hv; omega)]
          refine ⟨by omega, fun c => skip (fun y hy2 => ?_), fun c => ⟨g, rfl, q2, ?_⟩⟩
          · rw [hnb] at hy2
            injection hy2 with hy2
            rw [← hy2]
            exact c
          · rw [ei]
            have mono : ∀ x, p x ≠ none → p' x ≠ none := fun x hx => by rw [g5 x hx]; exact hx
            have lt := unP_lt (p := p) (p' := p') hk mono hpk (by rw [g6]; simp)
            refine ih S' p' (t / 4 * 12 + j) col hI' g2 g3 (by omega) hy c hcol _ (fun S2 p2 m1 m2 m3 m4 m5 => ?_)
            obtain ⟨d1, d2, d3, d4⟩ := m4
            have lnk : lkG 12 tt4 a k (t / 4 * 12 + j) := ⟨hk, f, by omega, hnb⟩
            refine ihf S2 p2 (frS_tr g1 m1) m2 m3 (fun k' => by rw [m5 k', g4 k']) (fun x hx => by rw [d1 x (mono x hx), g5 x hx]) (by rw [d1 k (by rw [g6]; simp)]; exact g6) (fun x hx hpx hx2 => ?_) (fun x hx hpx hx2 hne y hxy => ?_) (fun f' y h1 h2 => ?_)
            · by_cases c2 : p' x = none
              · obtain ⟨w1, w2⟩ := d3 x hx c2 hx2
                exact ⟨w1, cnx_tr (cnx_E lnk) w2⟩
              · rw [d1 x c2]; exact g7 x hx hpx c2
            · by_cases c2 : p' x = none
              · exact d4 x hx c2 hx2 y hxy
              · have := g8 x hx hpx c2 hne y hxy
                rw [d1 y this]; exact this
            · by_cases c2 : f' = f
              · rw [c2, hnb] at h2
                injection h2 with h2
                rw [← h2, d2]
                simp
              · have := g9 f' y (by omega) h2
                rw [d1 y this]; exact this
theorem c_findS4 {κ : Prop} {a : Ab} (ha : AWf a) {L : Nat → Nat} (hL : isLab (12 * aP a) (lkG 12 tt4 a) L) (hE : ∀ x y, lkG 12 tt4 a x y → x < 12 * aP a ∧ y < 12 * aP a ∧ lkG 12 tt4 a y x) {S : CS} (hI : CI κ a S) {post : Int32 → CS → Prop} (h : ∀ S', frS 34 44 S S' → (∀ x, x < 12 * aP a → kI S' 34 x = nI (cnL L (L x))) → kF S' 44 = nI (cnL L (12 * aP a)) → post (nI (cnL L (12 * aP a))) S') : C_findS4 S post := by
  apply C_findS4_ok
  intro T7 T38 r7 r38
  have hP := ha.1
  have e1 : ∀ S', frS 34 44 S S' → kF S' 1 * 12 = nI (12 * aP a) := fun S' hf => by
    rw [hf.2.2.1 1 (by decide), hI.1.1]
    simp (disch := omega) only [n0, n1, n2, n3, n4, n5, n6, n7, n8, n9, n10, n11, n12, n14, n16, n18, n21, n22, n36, n48, n63, n100, n108, n400, n1000, pk_mul, nI_add, pk_div, nI_subm, nI_ltE, nI_leE, nI_eqE, nI_clamp, vp_inE, nIm1, nIm1', nIm1n, nIm1n', nI_addn]
    rw [Nat.mul_comm]
  have K38 : ∀ k, k ≤ 12 * aP a → ∀ S' p, frS 34 44 S S' → hasPt S' 34 (12 * aP a) p → (∀ x v, p x = some v → v < 100) → pnt L (12 * aP a) k p → kF S' 44 = nI (cnL L k) → T38 (nI k) S' := by
    refine loopUp (P := fun k => ∀ S' p, frS 34 44 S S' → hasPt S' 34 (12 * aP a) p → (∀ x v, p x = some v → v < 100) → pnt L (12 * aP a) k p → kF S' 44 = nI (cnL L k) → T38 (nI k) S') (12 * aP a) (fun k hk ih S' p g1 g2 g3 g4 g5 => ?_)
    apply r38
    unfold C_findS4_w38 C_findS4_w83
    have hc := cnL_le L k
    rw [e1 S' g1, g5, nI_leE (by omega) (by omega), nI_clamp (by omega), show (nI k : Int32) + 1 = nI (k + 1) from nI_add k 1]
    refine ⟨fun q => ?_, fun q => ⟨by rw [vp_inE (by omega) (by omega)]; omega, ?_⟩⟩
    · have e : k = 12 * aP a := by omega
      rw [e] at g4 g5 ⊢
      refine h S' g1 (fun x hx => ?_) g5
      have := hL.1 x hx
      rw [g2 x (by omega), g4 x hx, if_pos (by omega)]
      rfl
    · rw [g2 k (by omega), glN_none (fun v hv => by have := g3 k v hv; omega)]
      have ih := ih (by omega)
      have hcs : cnL L (k + 1) = cnL L k + (if L k = k then 1 else 0) := rfl
      refine ⟨fun c => ih S' p g1 g2 g3 (fun x hx => ?_) ?_, fun c => ?_⟩
      · have hk2 := g4 k (by omega)
        by_cases c2 : L k < k
        · rw [g4 x hx]
          by_cases c3 : L x < k
          · rw [if_pos c3, if_pos (by omega)]
          · rw [if_neg c3, if_neg]
            intro c4
            have e : L x = k := by omega
            have l2 := hL.2.1 x hx (fun y => L y = L x) rfl (fun u v e => by rw [hL.2.2 u v e])
            have l2 : L (L x) = L x := l2
            rw [e] at l2
            omega
        · rw [if_neg c2] at hk2; exact absurd hk2 c
      · have hk2 := g4 k (by omega)
        by_cases c2 : L k < k
        · rw [g5, hcs, if_neg (by omega)]
          rfl
        · rw [if_neg c2] at hk2; exact absurd hk2 c
      · refine c_spreadS4 ha 36 S' p k (cnL L k) (CI_ext hI g1.1) g2 g3 (by have := unP_le p (12 * aP a); omega) (by omega) c (by omega) _ (fun S2 p2 m1 m2 m3 m4 m5 => ?_)
        have hst := pnt_step hL hE (show k < 12 * aP a by omega) g4 c m4
        refine ih _ p2 (frS_tF (by decide) (frS_tr g1 m1)) m2 m3 hst.1 ?_
        rw [kF_tF, if_pos rfl, m5 44, g5, hcs, if_pos hst.2]
        exact nI_add _ 1
  unfold C_findS4_w0
  suffices K7 : ∀ k, k ≤ 12 * aP a → ∀ S', frS 34 44 S S' → kF S' 44 = 0 → (∀ j, j < k → kI S' 34 j = -1) → T7 (nI k) S' from K7 0 (by omega) _ (frS_tF (by decide) frS_rf) (by rw [kF_tF, if_pos rfl]) (fun j hj => absurd hj (Nat.not_lt_zero _))
  refine loopUp (P := fun k => ∀ S', frS 34 44 S S' → kF S' 44 = 0 → (∀ j, j < k → kI S' 34 j = -1) → T7 (nI k) S') (12 * aP a) (fun k hk ih S' g1 g2 g3 => ?_)
  apply r7
  unfold C_findS4_w7
  rw [e1 S' g1, nI_leE (by omega) (by omega), nI_clamp (by omega), show (nI k : Int32) + 1 = nI (k + 1) from nI_add k 1]
  refine ⟨fun q => ?_, fun q => ⟨by rw [vp_inE (by omega) (by omega)]; omega, ih (by omega) _ (frS_tI (by decide) g1) g2 (fun j hj => ?_)⟩⟩
  · refine K38 0 (by omega) S' (fun _ => none) g1 (fun x hx => g3 x (by omega)) (fun x v h => absurd h (by simp)) (fun x hx => by rw [if_neg (Nat.not_lt_zero _)]) g2
  · rw [kI_tI]
    by_cases c : j = k
    · rw [if_pos ⟨rfl, c⟩]
    · rw [if_neg (fun z => c z.2)]; exact g3 j (by omega)
