/-! the model: counts, links, signs -/
def opi (a : Ab) (s : Nat) : Nat := match aG a s with
  | none => 1
  | some _ => 0
/-- a side is counted: open, or the lesser one -/
def cnd (a : Ab) (s : Nat) : Nat := match aG a s with
  | none => 1
  | some t => if s < t then 1 else 0
theorem opi_le (a : Ab) (s : Nat) : opi a s ≤ 1 := by unfold opi; split <;> omega
theorem cnd_le (a : Ab) (s : Nat) : cnd a s ≤ 1 := by
  unfold cnd
  split
  · omega
  · split <;> omega
theorem s_sides {a : Ab} (ha : AWf a) {S : MS} (hR : MR a S) {x : Int32} {post : Int32 → MS → Prop} (h0 : x = 0 → post (nI (sumN (cnd a) (4 * aP a))) S) (h1 : ¬ x = 0 → post (nI (sumN (opi a) (4 * aP a))) S) : M_sides x S post := by
  apply M_sides_ok
  intro T r
  have hP := ha.1
  unfold M_sides_w0
  by_cases hx : x = 0
  · refine loopUp (P := fun i => T x (nI (sumN (cnd a) i)) (nI i) S) (4 * aP a) (fun i hi ih => ?_) 0 (by omega)
    apply r
    unfold M_sides_w4 M_sides_w43 M_sides_w39 M_sides_w44
    rw [hR.1]
    simp (disch := omega) only [n0, n1, n2, n3, n4, n5, n6, n7, n8, n9, n10, n11, n12, n14, n16, n18, n21, n22, n36, n48, n63, n100, n108, n400, n1000, pk_mul, nI_add, pk_div, nI_subm, nI_ltE, nI_leE, nI_eqE, nI_clamp, vp_inE, nIm1, nIm1', nIm1n, nIm1n', nI_addn]
    refine ⟨fun c => by rw [show i = 4 * aP a by omega]; exact h0 hx, fun c => ⟨by omega, ?_⟩⟩
    have ih := ih (by omega)
    rw [hR.2.2.1 i (by omega)]
    unfold sumN cnd at ih
    cases e : aG a i with
    | none =>
      rw [e] at ih
      refine ⟨fun _ => ih, fun q => absurd rfl q⟩
    | some t =>
      have ht := (ha.2.1 i t (by omega) e).1
      rw [e] at ih
      unfold glN
      simp (disch := omega) only [n0, n1, n2, n3, n4, n5, n6, n7, n8, n9, n10, n11, n12, n14, n16, n18, n21, n22, n36, n48, n63, n100, n108, n400, n1000, pk_mul, nI_add, pk_div, nI_subm, nI_ltE, nI_leE, nI_eqE, nI_clamp, vp_inE, nIm1, nIm1', nIm1n, nIm1n', nI_addn]
      refine ⟨fun q => absurd q id, fun _ => ⟨fun q => absurd hx q, fun _ => ⟨by omega, fun q => ?_, fun q => ?_⟩⟩⟩
      · have ih : T x (nI (sumN (cnd a) i + if i < t then 1 else 0)) (nI (i + 1)) S := ih
        rw [if_neg (by omega)] at ih; exact ih
      · have ih : T x (nI (sumN (cnd a) i + if i < t then 1 else 0)) (nI (i + 1)) S := ih
        rw [if_pos (by omega)] at ih; exact ih
  · refine loopUp (P := fun i => T x (nI (sumN (opi a) i)) (nI i) S) (4 * aP a) (fun i hi ih => ?_) 0 (by omega)
    apply r
    unfold M_sides_w4 M_sides_w43 M_sides_w39 M_sides_w44
    rw [hR.1]
    simp (disch := omega) only [n0, n1, n2, n3, n4, n5, n6, n7, n8, n9, n10, n11, n12, n14, n16, n18, n21, n22, n36, n48, n63, n100, n108, n400, n1000, pk_mul, nI_add, pk_div, nI_subm, nI_ltE, nI_leE, nI_eqE, nI_clamp, vp_inE, nIm1, nIm1', nIm1n, nIm1n', nI_addn]
    refine ⟨fun c => by rw [show i = 4 * aP a by omega]; exact h1 hx, fun c => ⟨by omega, ?_⟩⟩
    have ih := ih (by omega)
    rw [hR.2.2.1 i (by omega)]
    unfold sumN opi at ih
    cases e : aG a i with
    | none =>
      rw [e] at ih
      refine ⟨fun _ => ih, fun q => absurd rfl q⟩
    | some t =>
      have ht := (ha.2.1 i t (by omega) e).1
      rw [e] at ih
      unfold glN
      simp (disch := omega) only [n0, n1, n2, n3, n4, n5, n6, n7, n8, n9, n10, n11, n12, n14, n16, n18, n21, n22, n36, n48, n63, n100, n108, n400, n1000, pk_mul, nI_add, pk_div, nI_subm, nI_ltE, nI_leE, nI_eqE, nI_clamp, vp_inE, nIm1, nIm1', nIm1n, nIm1n', nI_addn]
      exact ⟨fun q => absurd q id, fun _ => ⟨fun _ => ih, fun q => absurd q hx⟩⟩
def lnkV1 (L : Lb) (k n : Nat) : Nat := sumN (fun x => if x = k % 4 then 0 else if L.1 (endN (k / 4) (k % 4) x) = endN (k / 4) (k % 4) x then 1 else 0) n
def lnkS1 (a : Ab) (k n : Nat) : Nat := sumN (fun x => if x = k % 4 then 0 else cnd a (4 * (k / 4) + x)) n
def lnkV (L : Lb) (c n : Nat) : Nat := sumN (fun k => if L.2.1 k = c then lnkV1 L k 4 else 0) n
def lnkS (a : Ab) (L : Lb) (c n : Nat) : Nat := sumN (fun k => if L.2.1 k = c then lnkS1 a k 4 else 0) n
def lnkM (L : Lb) (c n : Nat) : Nat := sumN (fun k => if L.2.1 k = c then 1 else 0) n
def lnkR (a : Ab) (L : Lb) (c : Nat) : Int32 := (nI (lnkV L c (4 * aP a)) - nI (lnkS a L c (4 * aP a))) + nI (lnkM L c (4 * aP a))
theorem s_linkOf {a : Ab} (ha : AWf a) {L : Lb} (hl : labs a L) {S : MS} (hR : MR a S) (hS : hold S L) {c : Nat} (hc : c < 12) {post : Int32 → MS → Prop} (h : post (lnkR a L c) S) : M_linkOf (nI c) S post := by
  apply M_linkOf_ok
  intro T10 T47 r10 r47
  have hP := ha.1
  refine loopUp (P := fun k => T10 (nI c) (nI (lnkV L c k)) (nI (lnkS a L c k)) (nI (lnkM L c k)) (nI k) S) (4 * aP a) (fun k hk ih => ?_) 0 (by omega)
  apply r10
  unfold M_linkOf_w10 M_linkOf_w142
  rw [hR.1]
  simp (disch := omega) only [n0, n1, n2, n3, n4, n5, n6, n7, n8, n9, n10, n11, n12, n14, n16, n18, n21, n22, n36, n48, n63, n100, n108, n400, n1000, pk_mul, nI_add, pk_div, nI_subm, nI_ltE, nI_leE, nI_eqE, nI_clamp, vp_inE, nIm1, nIm1', nIm1n, nIm1n', nI_addn]
  refine ⟨fun q => by rw [show k = 4 * aP a by omega]; exact h, fun q => ⟨by omega, ?_⟩⟩
  have ih := ih (by omega)
  have hk' := labs_lt7 hl (show k < 12 by omega)
  rw [hS.2.1 k (by omega)]
  simp (disch := omega) only [n0, n1, n2, n3, n4, n5, n6, n7, n8, n9, n10, n11, n12, n14, n16, n18, n21, n22, n36, n48, n63, n100, n108, n400, n1000, pk_mul, nI_add, pk_div, nI_subm, nI_ltE, nI_leE, nI_eqE, nI_clamp, vp_inE, nIm1, nIm1', nIm1n, nIm1n', nI_addn]
  unfold lnkV lnkS lnkM sumN at ih
  refine ⟨fun e => ?_, fun e => ?_⟩
  · rw [if_pos e, if_pos e, if_pos e] at ih
    refine loopUp (P := fun x => T47 (nI c) (nI (lnkV L c k + lnkV1 L k x)) (nI (lnkS a L c k + lnkS1 a k x)) (nI (lnkM L c k + 1)) (nI k) (nI (k / 4)) (nI x) S) 4 (fun x hx ihx => ?_) 0 (by omega)
    apply r47
    unfold M_linkOf_w47 M_linkOf_w142 M_linkOf_w94 M_linkOf_w129 M_linkOf_w134 M_linkOf_w136
    simp (disch := omega) only [n0, n1, n2, n3, n4, n5, n6, n7, n8, n9, n10, n11, n12, n14, n16, n18, n21, n22, n36, n48, n63, n100, n108, n400, n1000, pk_mul, nI_add, pk_div, nI_subm, nI_ltE, nI_leE, nI_eqE, nI_clamp, vp_inE, nIm1, nIm1', nIm1n, nIm1n', nI_addn]
    refine ⟨fun q2 => by rw [show x = 4 by omega]; exact ih, fun q2 => ⟨fun q3 => ?_, fun q3 => ?_⟩⟩
    · have ihx := ihx (by omega)
      unfold lnkV1 lnkS1 sumN at ihx
      rw [if_pos (by omega), if_pos (by omega)] at ihx
      exact ihx
    · have ihx := ihx (by omega)
      unfold lnkV1 lnkS1 sumN at ihx
      rw [if_neg (show ¬ x = k % 4 by omega), if_neg (show ¬ x = k % 4 by omega)] at ihx
      rw [show k - k / 4 * 4 = k % 4 by omega]
      refine s_endOf (by omega) (by omega) (by omega) (by omega) hR.2.1 ?_
      have hend := endN_lt (show k / 4 < 3 by omega) (show k % 4 < 4 by omega) (show x < 4 by omega) (by omega)
      have hlab := labs_lt6 hl hend
      simp (disch := omega) only [n0, n1, n2, n3, n4, n5, n6, n7, n8, n9, n10, n11, n12, n14, n16, n18, n21, n22, n36, n48, n63, n100, n108, n400, n1000, pk_mul, nI_add, pk_div, nI_subm, nI_ltE, nI_leE, nI_eqE, nI_clamp, vp_inE, nIm1, nIm1', nIm1n, nIm1n', nI_addn]
      rw [hS.1 _ hend]
      simp (disch := omega) only [n0, n1, n2, n3, n4, n5, n6, n7, n8, n9, n10, n11, n12, n14, n16, n18, n21, n22, n36, n48, n63, n100, n108, n400, n1000, pk_mul, nI_add, pk_div, nI_subm, nI_ltE, nI_leE, nI_eqE, nI_clamp, vp_inE, nIm1, nIm1', nIm1n, nIm1n', nI_addn]
      have tail : ∀ v, T47 (nI c) (nI (lnkV L c k + (lnkV1 L k x + v))) (nI (lnkS a L c k + (lnkS1 a k x + cnd a (4 * (k / 4) + x)))) (nI (lnkM L c k + 1)) (nI k) (nI (k / 4)) (nI (x + 1)) S → 4 * (k / 4) + x < 12 ∧ (gI S 1 (4 * (k / 4) + x) = -nI 1 → T47 (nI c) (nI (lnkV L c k + lnkV1 L k x + v)) (nI (lnkS a L c k + lnkS1 a k x + 1)) (nI (lnkM L c k + 1)) (nI k) (nI (k / 4)) (nI (x + 1)) S) ∧ (¬ gI S 1 (4 * (k / 4) + x) = -nI 1 → 4 * (k / 4) + x < 12 ∧ (gI S 1 (4 * (k / 4) + x) ≤ nI (4 * (k / 4) + x) → T47 (nI c) (nI (lnkV L c k + lnkV1 L k x + v)) (nI (lnkS a L c k + lnkS1 a k x + 0)) (nI (lnkM L c k + 1)) (nI k) (nI (k / 4)) (nI (x + 1)) S) ∧ (¬ gI S 1 (4 * (k / 4) + x) ≤ nI (4 * (k / 4) + x) → T47 (nI c) (nI (lnkV L c k + lnkV1 L k x + v)) (nI (lnkS a L c k + lnkS1 a k x + 1)) (nI (lnkM L c k + 1)) (nI k) (nI (k / 4)) (nI (x + 1)) S)) := by
        intro v hv
        rw [hR.2.2.1 _ (show 4 * (k / 4) + x < 4 * aP a by omega)]
        rw [← Nat.add_assoc, ← Nat.add_assoc] at hv
        unfold cnd at hv
        refine ⟨by omega, ?_⟩
        cases e2 : aG a (4 * (k / 4) + x) with
        | none =>
          rw [e2] at hv
          exact ⟨fun _ => hv, fun q => absurd rfl q⟩
        | some t =>
          have ht := (ha.2.1 _ t (by omega) e2).1
          rw [e2] at hv
          have hv : T47 (nI c) (nI (lnkV L c k + lnkV1 L k x + v)) (nI (lnkS a L c k + lnkS1 a k x + if 4 * (k / 4) + x < t then 1 else 0)) (nI (lnkM L c k + 1)) (nI k) (nI (k / 4)) (nI (x + 1)) S := hv
          unfold glN
          simp (disch := omega) only [n0, n1, n2, n3, n4, n5, n6, n7, n8, n9, n10, n11, n12, n14, n16, n18, n21, n22, n36, n48, n63, n100, n108, n400, n1000, pk_mul, nI_add, pk_div, nI_subm, nI_ltE, nI_leE, nI_eqE, nI_clamp, vp_inE, nIm1, nIm1', nIm1n, nIm1n', nI_addn]
          refine ⟨fun q => absurd q id, fun _ => ⟨by omega, fun q => ?_, fun q => ?_⟩⟩
          · rw [if_neg (by omega)] at hv; exact hv
          · rw [if_pos (by omega)] at hv; exact hv
      refine ⟨by omega, fun q4 => tail 0 ?_, fun q4 => tail 1 ?_⟩
      · rw [if_neg q4] at ihx; exact ihx
      · rw [if_pos q4] at ihx; exact ihx
  · rw [if_neg e, if_neg e, if_neg e] at ih
    exact ih
/-- the inversions of a side's corners -/
def inv1 (a : Ab) (s x n : Nat) : Nat := sumN (fun y => if x < y ∧ aW a s y < aW a s x then 1 else 0) n
def invS (a : Ab) (s n : Nat) : Nat := sumN (fun x => inv1 a s x 4) n
def evW (a : Ab) (s : Nat) : Prop := invS a s 4 % 2 = 0
theorem inv1_low (a : Ab) (s x n : Nat) (h : n ≤ x + 1) : inv1 a s x n = 0 := by
  unfold inv1
  induction n with
  | zero => rfl
  | succ n ih =>
    unfold sumN
    rw [ih (by omega), if_neg (by omega)]
theorem inv1_le (a : Ab) (s x n : Nat) : inv1 a s x n ≤ n := by
  have h := sumN_ub (f := fun y => if x < y ∧ aW a s y < aW a s x then 1 else 0) 1 n (fun k _ => by show (if _ then 1 else 0) ≤ 1; split <;> omega)
  unfold inv1; omega
theorem invS_le (a : Ab) (s n : Nat) : invS a s n ≤ 4 * n := sumN_ub 4 n (fun k _ => inv1_le a s k 4)
theorem s_isEvenChange {a : Ab} (ha : AWf a) {S : MS} (hR : MR a S) {s t : Nat} (hs : s < 4 * aP a) (ht : aG a s = some t) {post : Int32 → MS → Prop} (h1 : evW a s → post 1 S) (h0 : ¬ evW a s → post 0 S) : M_isEvenChange (nI s) S post := by
  apply M_isEvenChange_ok
  intro T4 T14 r4 r14
  have hP := ha.1
  have hw := (ha.2.1 s t hs ht).2.2.2.2
  refine loopUp (P := fun x => T4 (nI s) (nI (invS a s x)) (nI x) S) 4 (fun x hx ih => ?_) 0 (by omega)
  apply r4
  unfold M_isEvenChange_w4 M_isEvenChange_w75
  have hb := invS_le a s x
  simp (disch := omega) only [n0, n1, n2, n3, n4, n5, n6, n7, n8, n9, n10, n11, n12, n14, n16, n18, n21, n22, n36, n48, n63, n100, n108, n400, n1000, pk_mul, nI_add, pk_div, nI_subm, nI_ltE, nI_leE, nI_eqE, nI_clamp, vp_inE, nIm1, nIm1', nIm1n, nIm1n', nI_addn]
  refine ⟨fun q => ?_, fun q => ?_⟩
  · have e : x = 4 := by omega
    subst e
    unfold evW at h1 h0
    exact ⟨fun q2 => ⟨zok0, h0 (by omega)⟩, fun q2 => ⟨zok1, h1 (by omega)⟩⟩
  · have K : ∀ y, y ≤ 4 → x + 1 ≤ y → T14 (nI s) (nI (invS a s x + inv1 a s x y)) (nI x) (nI y) S := by
      refine loopUp (P := fun y => x + 1 ≤ y → T14 (nI s) (nI (invS a s x + inv1 a s x y)) (nI x) (nI y) S) 4 (fun y hy ihy hxy => ?_)
      apply r14
      unfold M_isEvenChange_w14 M_isEvenChange_w50
      have wx := (hw x (by omega)).1
      simp (disch := omega) only [n0, n1, n2, n3, n4, n5, n6, n7, n8, n9, n10, n11, n12, n14, n16, n18, n21, n22, n36, n48, n63, n100, n108, n400, n1000, pk_mul, nI_add, pk_div, nI_subm, nI_ltE, nI_leE, nI_eqE, nI_clamp, vp_inE, nIm1, nIm1', nIm1n, nIm1n', nI_addn]
      refine ⟨fun q2 => ?_, fun q2 => ⟨by omega, by omega, ?_⟩⟩
      · have ih := ih (by omega)
        unfold invS sumN at ih
        rw [show y = 4 by omega]
        exact ih
      · have wy := (hw y (by omega)).1
        rw [hR.2.2.2.1 s t hs ht x (by omega), hR.2.2.2.1 s t hs ht y (by omega)]
        simp (disch := omega) only [n0, n1, n2, n3, n4, n5, n6, n7, n8, n9, n10, n11, n12, n14, n16, n18, n21, n22, n36, n48, n63, n100, n108, n400, n1000, pk_mul, nI_add, pk_div, nI_subm, nI_ltE, nI_leE, nI_eqE, nI_clamp, vp_inE, nIm1, nIm1', nIm1n, nIm1n', nI_addn]
        have ihy := ihy (by omega) (by omega)
        unfold inv1 sumN at ihy
        rw [← Nat.add_assoc] at ihy
        refine ⟨fun q3 => ?_, fun q3 => ?_⟩
        · rw [if_neg (by omega)] at ihy; exact ihy
        · rw [if_pos (by omega)] at ihy; exact ihy
    have := K (x + 1) (by omega) (by omega)
    rw [inv1_low a s x (x + 1) (by omega)] at this
    exact this
def bitN (t p : Nat) : Nat := t / 2 ^ p % 2
theorem bit_t0 : ∀ t : Fin 8, ∀ p : Fin 3, ((nI t.val >>> (nI p.val &&& 31)) &&& 1) = nI (bitN t.val p.val) := by decide +kernel
theorem bit_t {t p : Nat} (ht : t < 8) (hp : p < 3) : ((nI t >>> (nI p &&& 31)) &&& 1) = nI (bitN t p) := bit_t0 ⟨t, ht⟩ ⟨p, hp⟩
theorem bitN_lt (t p : Nat) : bitN t p < 2 := Nat.mod_lt _ (by decide)
/-- signs t fit at side s -/
def fitS (a : Ab) (t s : Nat) : Prop := ∀ u, aG a s = some u → ((bitN t (s / 4) ≠ bitN t (u / 4)) ↔ evW a s)
def evenP (a : Ab) : Prop := ∃ t, t < 8 ∧ ∀ s, s < 4 * aP a → fitS a t s
theorem s_isEven {a : Ab} (ha : AWf a) {S : MS} (hR : MR a S) {post : Int32 → MS → Prop} (h1 : evenP a → post 1 S) (h0 : ¬ evenP a → post 0 S) : M_isEven S post := by
  apply M_isEven_ok
  intro T2 T12 r2 r12
  have hP := ha.1
  suffices H : ∀ t, t ≤ 8 → (∀ t', t' < t → ¬ ∀ s, s < 4 * aP a → fitS a t' s) → T2 (nI t) S from H 0 (by omega) (fun t' h => absurd h (Nat.not_lt_zero _))
  refine loopUp (P := fun t => (∀ t', t' < t → ¬ ∀ s, s < 4 * aP a → fitS a t' s) → T2 (nI t) S) 8 (fun t ht ih hno => ?_)
  apply r2
  unfold M_isEven_w2
  simp (disch := omega) only [n0, n1, n2, n3, n4, n5, n6, n7, n8, n9, n10, n11, n12, n14, n16, n18, n21, n22, n36, n48, n63, n100, n108, n400, n1000, pk_mul, nI_add, pk_div, nI_subm, nI_ltE, nI_leE, nI_eqE, nI_clamp, vp_inE, nIm1, nIm1', nIm1n, nIm1n', nI_addn]
  refine ⟨fun q => h0 (fun ⟨t', h1, h2⟩ => hno t' (by omega) h2), fun q => ?_⟩
  have K : ∀ s, s ≤ 4 * aP a → ((∀ s', s' < s → fitS a t s') → T12 (nI t) 1 (nI s) S) ∧ ((¬ ∀ s', s' < s → fitS a t s') → T12 (nI t) 0 (nI s) S) := by
    refine loopUp (P := fun s => ((∀ s', s' < s → fitS a t s') → T12 (nI t) 1 (nI s) S) ∧ ((¬ ∀ s', s' < s → fitS a t s') → T12 (nI t) 0 (nI s) S)) (4 * aP a) (fun s hs ihs => ?_)
    have nx1 : s < 4 * aP a → (∀ s', s' < s → fitS a t s') → fitS a t s → T12 (nI t) 1 (nI (s + 1)) S := fun h1 h2 h3 => (ihs h1).1 (fun s' hs' => by
      by_cases e : s' = s
      · subst e; exact h3
      · exact h2 s' (by omega))
    have nx0 : s < 4 * aP a → (¬ ∀ s', s' < s → fitS a t s') → T12 (nI t) 0 (nI (s + 1)) S := fun h1 h2 => (ihs h1).2 (fun h3 => h2 (fun s' hs' => h3 s' (by omega)))
    have nx2 : s < 4 * aP a → ¬ fitS a t s → T12 (nI t) 0 (nI (s + 1)) S := fun h1 h2 => (ihs h1).2 (fun h3 => h2 (h3 s (by omega)))
    refine ⟨fun hf => ?_, fun hf => ?_⟩
    · apply r12
      unfold M_isEven_w12 M_isEven_w59 M_isEven_w79 M_isEven_w80 M_isEven_w81
      rw [hR.1]
      simp (disch := omega) only [n0, n1, n2, n3, n4, n5, n6, n7, n8, n9, n10, n11, n12, n14, n16, n18, n21, n22, n36, n48, n63, n100, n108, n400, n1000, pk_mul, nI_add, pk_div, nI_subm, nI_ltE, nI_leE, nI_eqE, nI_clamp, vp_inE, nIm1, nIm1', nIm1n, nIm1n', nI_addn]
      refine ⟨fun q2 => ⟨fun q3 => absurd q3 (by decide), fun _ => h1 ⟨t, by omega, fun s' hs' => hf s' (by omega)⟩⟩, fun q2 => ⟨by omega, ?_⟩⟩
      rw [hR.2.2.1 s (by omega)]
      cases e : aG a s with
      | none =>
        refine ⟨fun _ => nx1 (by omega) hf (fun u hu => absurd (e.symm.trans hu) (by simp)), fun q => absurd rfl q⟩
      | some u =>
        have hu := (ha.2.1 s u (by omega) e).1
        unfold glN
        rw [← n1]
        simp (disch := omega) only [n0, n1, n2, n3, n4, n5, n6, n7, n8, n9, n10, n11, n12, n14, n16, n18, n21, n22, n36, n48, n63, n100, n108, n400, n1000, pk_mul, nI_add, pk_div, nI_subm, nI_ltE, nI_leE, nI_eqE, nI_clamp, vp_inE, nIm1, nIm1', nIm1n, nIm1n', nI_addn]
        refine ⟨fun q => absurd q id, fun _ => ⟨by omega, ?_⟩⟩
        have b1 := bit_t (show t < 8 by omega) (show s / 4 < 3 by omega)
        have b2 := bit_t (show t < 8 by omega) (show u / 4 < 3 by omega)
        have b1 : (nI t >>> (nI (s / 4) &&& 31)) &&& nI 1 = nI (bitN t (s / 4)) := b1
        have b2 : (nI t >>> (nI (u / 4) &&& 31)) &&& nI 1 = nI (bitN t (u / 4)) := b2
        rw [b1, b2]
        have l1 := bitN_lt t (s / 4)
        have l2 := bitN_lt t (u / 4)
        simp (disch := omega) only [n0, n1, n2, n3, n4, n5, n6, n7, n8, n9, n10, n11, n12, n14, n16, n18, n21, n22, n36, n48, n63, n100, n108, n400, n1000, pk_mul, nI_add, pk_div, nI_subm, nI_ltE, nI_leE, nI_eqE, nI_clamp, vp_inE, nIm1, nIm1', nIm1n, nIm1n', nI_addn]
        refine ⟨fun q3 => ⟨fun q4 => absurd q4 (by decide), fun _ => s_isEvenChange ha hR (by omega) e (fun ev => ⟨fun _ => nx2 (by omega) (fun h => ((h u e).mpr ev) q3), fun q5 => absurd q5 (by decide)⟩) (fun ev => ⟨fun q5 => absurd rfl q5, fun _ => nx1 (by omega) hf (fun u' hu' => ?_)⟩)⟩, fun q3 => ⟨fun q4 => absurd q4 (by decide), fun _ => s_isEvenChange ha hR (by omega) e (fun ev => ⟨fun q5 => absurd rfl q5, fun _ => nx1 (by omega) hf (fun u' hu' => ?_)⟩) (fun ev => ⟨fun _ => nx2 (by omega) (fun h => ev ((h u e).mp q3)), fun q5 => absurd q5 (by decide)⟩)⟩⟩
        · rw [e] at hu'
          injection hu' with hu'
          subst hu'
          exact ⟨fun h => absurd q3 h, fun h => absurd h ev⟩
        · rw [e] at hu'
          injection hu' with hu'
          subst hu'
          exact ⟨fun _ => ev, fun _ => q3⟩
    · apply r12
      unfold M_isEven_w12 M_isEven_w59 M_isEven_w79 M_isEven_w80 M_isEven_w81
      rw [hR.1]
      simp (disch := omega) only [n0, n1, n2, n3, n4, n5, n6, n7, n8, n9, n10, n11, n12, n14, n16, n18, n21, n22, n36, n48, n63, n100, n108, n400, n1000, pk_mul, nI_add, pk_div, nI_subm, nI_ltE, nI_leE, nI_eqE, nI_clamp, vp_inE, nIm1, nIm1', nIm1n, nIm1n', nI_addn]
      have n0' := fun h => nx0 h hf
      refine ⟨fun q2 => ⟨fun _ => ih (by omega) (fun t' ht' => ?_), fun q3 => absurd trivial q3⟩, fun q2 => ⟨by omega, fun _ => n0' (by omega), fun _ => ⟨by omega, fun _ => ⟨fun _ => n0' (by omega), fun q3 => absurd trivial q3⟩, fun _ => ⟨fun _ => n0' (by omega), fun q3 => absurd trivial q3⟩⟩⟩⟩
      by_cases e : t' = t
      · subst e
        rw [show s = 4 * aP a by omega] at hf
        exact hf
      · exact hno t' (by omega)
  exact (K 0 (by omega)).1 (fun s' hs' => absurd hs' (Nat.not_lt_zero _))
