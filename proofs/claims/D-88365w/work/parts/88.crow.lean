/-! the component: longs, bitsOf, grown, off -/
def lZ (z : Int) : Int64 := Int64.ofInt z
theorem lZ_nat (n : Nat) : lZ (n : Int) = lI n := Int64.ofInt_eq_ofNat
theorem lZ_add (a b : Int) : lZ a + lZ b = lZ (a + b) := (Int64.ofInt_add a b).symm
theorem lZ_sub (a b : Int) : lZ a - lZ b = lZ (a - b) := (Int64.ofInt_sub a b).symm
theorem lZ_mul (a b : Int) : lZ a * lZ b = lZ (a * b) := (Int64.ofInt_mul a b).symm
theorem lZ_neg (a : Int) : -lZ a = lZ (-a) := (Int64.ofInt_neg a).symm
theorem lZ_toInt {a : Int} (h1 : -2 ^ 63 ≤ a) (h2 : a < 2 ^ 63) : (lZ a).toInt = a := Int64.toInt_ofInt_of_le h1 h2
theorem lZ_le {a b : Int} (a1 : -2 ^ 63 ≤ a) (a2 : a < 2 ^ 63) (b1 : -2 ^ 63 ≤ b) (b2 : b < 2 ^ 63) : lZ a ≤ lZ b ↔ a ≤ b := by
  rw [Int64.le_iff_toInt_le, lZ_toInt a1 a2, lZ_toInt b1 b2]
theorem lZ_eq {a b : Int} (a1 : -2 ^ 63 ≤ a) (a2 : a < 2 ^ 63) (b1 : -2 ^ 63 ≤ b) (b2 : b < 2 ^ 63) : lZ a = lZ b ↔ a = b := by
  rw [← Int64.toInt_inj, lZ_toInt a1 a2, lZ_toInt b1 b2]
theorem lI_eqE {a b : Nat} (ha : a < 2 ^ 63) (hb : b < 2 ^ 63) : lI a = lI b ↔ a = b := by
  rw [← lZ_nat, ← lZ_nat, lZ_eq (by omega) (by omega) (by omega) (by omega)]
  omega
theorem lI_leE {a b : Nat} (ha : a < 2 ^ 63) (hb : b < 2 ^ 63) : lI a ≤ lI b ↔ a ≤ b := by
  rw [← lZ_nat, ← lZ_nat, lZ_le (by omega) (by omega) (by omega) (by omega)]
  omega
theorem lI_mul (a b : Nat) : lI a * lI b = lI (a * b) := (Int64.ofNat_mul a b).symm
theorem lI_add (a b : Nat) : lI a + lI b = lI (a + b) := (Int64.ofNat_add a b).symm
theorem lI_sub {a b : Nat} (h : b ≤ a) : lI a - lI b = lI (a - b) := (Int64.ofNat_sub a b h).symm
theorem lI_div {a b : Nat} (ha : a < 2 ^ 63) (hb : b < 2 ^ 63) : lI a / lI b = lI (a / b) := (Int64.ofNat_div ha hb).symm
theorem lI_toI (n : Nat) : (lI n).toInt32 = nI n := Int64.toInt32_ofNat'
theorem nI_toL {n : Nat} (h : n < 2 ^ 31) : (nI n).toInt64 = lI n := Int32.toInt64_ofNat' (by rw [Int32.toInt_maxValue]; omega)
/-! new rows -/
theorem kR_tR (S : CS) (q j : Nat) (v : Int64) (q' j' : Nat) : kR (tR S q j v) q' j' = if q' = q ∧ j' = j then v else kR S q' j' := by
  show va_up (kR S) q (vp_updL (kR S q) j v) q' j' = _
  by_cases h : q' = q
  · subst h
    by_cases h2 : j' = j <;> simp [va_up, vp_updL, h2]
  · simp [va_up, h]
theorem extC_nR {S S' : CS} {q n : Nat} (hq : q ∉ kLP S') (h : extC S S') : extC S (nR S' q n) := by
  refine extC_tr h ⟨fun p hp => ?_, rfl, rfl, fun _ _ => rfl, fun _ => rfl⟩
  have hne : p ≠ q := fun e => hq (e ▸ hp)
  refine ⟨List.mem_append_left _ hp, ?_, rfl, ?_, rfl, rfl, ?_⟩
  · show va_up (kK S') q 3 p = _
    simp [va_up, hne]
  · show va_up (kN S') q n p = _
    simp [va_up, hne]
  · show va_up (kR S') q _ p = _
    simp [va_up, hne]
theorem extC_tR {S S' : CS} {q j : Nat} {v : Int64} (hq : q ∉ kLP S) (h : extC S S') : extC S (tR S' q j v) := by
  refine ⟨fun p hp => ?_, h.2.1, h.2.2.1, h.2.2.2.1, h.2.2.2.2⟩
  have hne : p ≠ q := fun e => hq (e ▸ hp)
  obtain ⟨a1, a2, a3, a4, a5, a6, a7⟩ := h.1 p hp
  refine ⟨a1, a2, a3, a4, a5, a6, ?_⟩
  show va_up (kR S') q _ p = _
  simp [va_up, hne]
  exact a7
theorem nR_at (S : CS) (q n : Nat) : pk (nR S q n) q 3 ∧ kN (nR S q n) q = n ∧ ∀ i, kR (nR S q n) q i = 0 := by
  refine ⟨⟨List.mem_append_right _ (List.mem_singleton.mpr rfl), ?_⟩, ?_, fun i => ?_⟩
  · show va_up (kK S) q 3 q = 3
    simp [va_up]
  · show va_up (kN S) q n q = n
    simp [va_up]
  · show va_up (kR S) q (fun _ => 0) q i = 0
    simp [va_up]
/-- a new cell is none of the holes' -/
theorem new_row {S S' : CS} (hs : arC S) (e : extC S S') {q n : Nat} {u : Vec} (hq : q ∉ kLP S) (h1 : pk S' q 3) (h2 : kN S' q = n) (h3 : ∀ i, i < n → kR S' q i = lI (u i)) : rowC S' q n u := by
  refine ⟨h1, h2, h3, fun e7 => hq ?_, fun i hi e6 => hq ?_⟩
  · rw [e.2.2.1] at e7
    rw [e7]; exact hs.1.2.2.1.1
  · have a6 := (e.1 _ hs.1.1.1).2.2.2.2.2.1
    rw [e.2.2.1, a6] at e6
    obtain ⟨r, r1, r2, _⟩ := hs.1.2.2.2.2.1 i hi
    rw [r1] at e6
    injection e6 with e6
    rw [← e6]; exact r2.1
theorem c_bitsOf {S : CS} {q n : Nat} {u : Vec} (hq : rowC S q n u) (hn : n ≤ 21) (hb : ∀ i, u i ≤ 10000) {post : Int32 → CS → Prop} (h : ∀ x, isSet x (supS n u) → post x S) : C_bitsOf q S post := by
  apply C_bitsOf_ok
  intro T r
  unfold C_bitsOf_w0
  suffices K : ∀ i, i ≤ n → ∀ x, isSet x (fun j => j < i ∧ u j ≠ 0) → T q x (nI i) S from K 0 (by omega) 0 (isSet_cg (fun j _ => ⟨fun f => absurd f id, fun f => absurd f.1 (Nat.not_lt_zero _)⟩) isSet_0)
  refine loopUp (P := fun i => ∀ x, isSet x (fun j => j < i ∧ u j ≠ 0) → T q x (nI i) S) n (fun i hi ih x hx => ?_)
  apply r
  unfold C_bitsOf_w4 C_bitsOf_w26
  rw [hq.2.1, nI_leE (by omega) (by omega), show (nI i : Int32) + 1 = nI (i + 1) from nI_add i 1, vp_inE (by omega) (by omega), nI_clamp (by omega)]
  refine ⟨hq.1, fun c => h x (isSet_cg (fun j _ => ?_) hx), fun c => ⟨hq.1, by omega, ?_⟩⟩
  · unfold supS
    rw [show i = n by omega]
  · have hbi := hb i
    rw [hq.2.2.1 i (by omega), show (0 : Int64) = lI 0 from rfl, lI_eqE (by omega) (by omega)]
    refine ⟨fun c2 => ih (by omega) _ (isSet_cg (fun j _ => ?_) (isSet_or hx isSet_0)), fun c2 => ih (by omega) _ (isSet_cg (fun j _ => ?_) (isSet_or hx (isSet_one (show i < 32 by omega))))⟩
    · constructor
      · intro z; rcases z with z | z
        · exact ⟨by omega, z.2⟩
        · exact absurd z id
      · intro z
        by_cases e : j = i
        · rw [e] at z; exact absurd c2 z.2
        · exact Or.inl ⟨by omega, z.2⟩
    · constructor
      · intro z; rcases z with z | z
        · exact ⟨by omega, z.2⟩
        · rw [z]; exact ⟨by omega, c2⟩
      · intro z
        by_cases e : j = i
        · exact Or.inr e
        · exact Or.inl ⟨by omega, z.2⟩
theorem c_grown {S : CS} (hs : arC S) {p q n x y : Nat} {u v : Vec} (hp : rowC S p n u) (hq : rowC S q n v) (hn : n ≤ 21) (hb : ∀ i, i < n → lin x y u v i < 2 ^ 31) (hne : ∃ i, i < n ∧ lin x y u v i ≠ 0) {post : Nat → CS → Prop} (h : ∀ z S', extC S S' → rowC S' z n (nrm n (lin x y u v)) → post z S') : C_grown p (lI x) q (lI y) S post := by
  apply C_grown_ok
  intro T12 T46 T80 r12 r46 r80
  obtain ⟨j0, hj0, hjn⟩ := hne
  have hg0 := gcdN_pos hj0 hjn
  have hgl : ∀ i, i ≤ n → gcdN (lin x y u v) i < 2 ^ 31 := fun i hi => Nat.lt_of_le_of_lt (gcdN_le (m := 2 ^ 31 - 1) (fun j hj => by have := hb j (by omega); omega)) (by decide)
  unfold C_grown_w0
  rw [hp.2.1, show (0 : Int32) = nI 0 from rfl, nI_ltE (by omega) (by omega), nI_clamp (by omega)]
  refine ⟨hp.1, by omega, by omega, fun z hz => ?_⟩
  have hzp : z ≠ p := fun e => hz (e ▸ hp.1.1)
  have hzq : z ≠ q := fun e => hz (e ▸ hq.1.1)
  have K80 : ∀ i, i ≤ n → ∀ S', extC S S' → pk S' z 3 → kN S' z = n → (∀ j, j < i → kR S' z j = lI (nrm n (lin x y u v) j)) → (∀ j, i ≤ j → j < n → kR S' z j = lI (lin x y u v j)) → T80 z (lI (gcdN (lin x y u v) n)) (nI i) S' := by
    refine loopUp (P := fun i => ∀ S', extC S S' → pk S' z 3 → kN S' z = n → (∀ j, j < i → kR S' z j = lI (nrm n (lin x y u v) j)) → (∀ j, i ≤ j → j < n → kR S' z j = lI (lin x y u v j)) → T80 z (lI (gcdN (lin x y u v) n)) (nI i) S') n (fun i hi ih S' g1 g2 g3 g4 g5 => ?_)
    apply r80
    unfold C_grown_w80
    rw [g3, nI_leE (by omega) (by omega), nI_clamp (by omega), vp_inE (by omega) (by omega), show (nI i : Int32) + 1 = nI (i + 1) from nI_add i 1]
    have gl := hgl n (Nat.le_refl _)
    refine ⟨g2, fun c => h z S' g1 (new_row hs g1 hz g2 g3 (fun j hj => g4 j (by omega))), fun c => ⟨g2, by omega, ?_, g2, by omega, ?_⟩⟩
    · rw [show (0 : Int64) = lI 0 from rfl, lI_eqE (by omega) (by omega)]; omega
    · have hbi := hb i (by omega)
      rw [g5 i (Nat.le_refl _) (by omega), lI_div (by omega) (by omega)]
      refine ih (by omega) _ (extC_tR hz g1) g2 g3 (fun j hj => ?_) (fun j hj1 hj2 => by rw [kR_tR, if_neg (by omega)]; exact g5 j (by omega) hj2)
      rw [kR_tR]
      by_cases e : j = i
      · rw [if_pos ⟨rfl, e⟩, e]; rfl
      · rw [if_neg (by omega)]; exact g4 j (by omega)
  suffices K12 : ∀ i, i ≤ n → ∀ S', extC S S' → pk S' z 3 → kN S' z = n → (∀ j, j < i → kR S' z j = lI (lin x y u v j)) → T12 p (lI x) q (lI y) z (lI (gcdN (lin x y u v) i)) (nI i) S' from K12 0 (by omega) _ (extC_nR hz extC_rf) (nR_at S z n).1 (nR_at S z n).2.1 (fun j hj => absurd hj (Nat.not_lt_zero _))
  refine loopUp (P := fun i => ∀ S', extC S S' → pk S' z 3 → kN S' z = n → (∀ j, j < i → kR S' z j = lI (lin x y u v j)) → T12 p (lI x) q (lI y) z (lI (gcdN (lin x y u v) i)) (nI i) S') n (fun i hi ih S' g1 g2 g3 g4 => ?_)
  apply r12
  unfold C_grown_w12
  have hp' := rowC_pool hs (extC_pool g1) hp
  have hq' := rowC_pool hs (extC_pool g1) hq
  dsimp only
  have kn : kN (tR S' z (nI i).toNatClampNeg (((kR S' p (nI i).toNatClampNeg) * lI x) + ((kR S' q (nI i).toNatClampNeg) * lI y))) z = n := g3
  rw [kn, g3, hp'.2.1, hq'.2.1, nI_leE (by omega) (by omega), nI_clamp (by omega), vp_inE (by omega) (by omega)]
  refine ⟨g2, fun c => ?_, fun c => ⟨hp'.1, by omega, hq'.1, by omega, g2, by omega, g2, by omega, ?_⟩⟩
  · rw [show i = n by omega] at g4 ⊢
    exact K80 0 (by omega) S' g1 g2 g3 (fun j hj => absurd hj (Nat.not_lt_zero _)) (fun j _ hj => g4 j hj)
  · have hbi := hb i (by omega)
    have hv : ((kR S' p i) * lI x) + ((kR S' q i) * lI y) = lI (lin x y u v i) := by
      rw [hp'.2.2.1 i (by omega), hq'.2.2.1 i (by omega), lI_mul, lI_mul, lI_add]
      unfold lin
      rw [Nat.mul_comm (u i), Nat.mul_comm (v i)]
    rw [hv, kR_tR, if_pos ⟨rfl, rfl⟩]
    have ih := ih (by omega) (tR S' z i (lI (lin x y u v i))) (extC_tR hz g1) g2 g3 (fun j hj => by
      rw [kR_tR]
      by_cases e : j = i
      · rw [if_pos ⟨rfl, e⟩, e]
      · rw [if_neg (by omega)]; exact g4 j (by omega))
    have ih : T12 p (lI x) q (lI y) z (lI (Nat.gcd (gcdN (lin x y u v) i) (lin x y u v i))) (nI (i + 1)) (tR S' z i (lI (lin x y u v i))) := ih
    have hgi := hgl i (by omega)
    generalize gcdN (lin x y u v) i = G at ih hgi
    generalize tR S' z i (lI (lin x y u v i)) = S2 at ih
    generalize lin x y u v i = W at ih hbi
    have K46 : ∀ m G W, W < m → G < 2 ^ 31 → W < 2 ^ 31 → T12 p (lI x) q (lI y) z (lI (Nat.gcd G W)) (nI (i + 1)) S2 → T46 p (lI x) q (lI y) z (lI G) (nI i) (lI W) S2 := by
      intro m
      induction m with
      | zero => intro G W hm; exact absurd hm (Nat.not_lt_zero _)
      | succ m ihm =>
        intro G W hm hG hW hp
        apply r46
        unfold C_grown_w46
        rw [show (0 : Int64) = lI 0 from rfl, lI_eqE (by omega) (by omega), show (nI i : Int32) + 1 = nI (i + 1) from nI_add i 1]
        refine ⟨fun c => by rw [c, Nat.gcd_zero_right] at hp; exact hp, fun c => ⟨c, ?_⟩⟩
        have hlt := Nat.mod_lt G (show 0 < W by omega)
        have e : lI G - lI G / lI W * lI W = lI (G % W) := by
          rw [lI_div (by omega) (by omega), lI_mul, lI_sub (Nat.div_mul_le_self G W)]
          congr 1
          have := Nat.div_add_mod G W
          rw [Nat.mul_comm] at this
          omega
        rw [e]
        refine ihm W (G % W) (by omega) hW (by omega) ?_
        rw [Nat.gcd_comm G W, Nat.gcd_rec W G, Nat.gcd_comm] at hp
        exact hp
    exact K46 (W + 1) G W (Nat.lt_succ_self _) hgi hbi ih
theorem c_off {a : Ab} (ha : AWf a) {S : CS} (hR : CR a S) {q : Nat} {u : Vec} (hq : rowC S q (7 * aP a) u) (hb : ∀ i, u i ≤ 10000) {s t c : Nat} (hs : s < 4 * aP a) (ht : aG a s = some t) (hc : c < 4) (hne : c ≠ s % 4) {post : Int64 → CS → Prop} (h : post (lZ (eqn a s t c u)) S) : C_off q (nI (s / 4)) (nI (s % 4)) (nI c) S post := by
  apply C_off_ok
  unfold C_off_VC C_off_w0
  have hP := ha.1
  obtain ⟨g, w1, w2, w3, w4, w5, w6, w7⟩ := CR_some hR hs ht
  obtain ⟨ht1, ht2, ht3, ht4, hw⟩ := ha.2.1 s t hs ht
  have hwc := (hw c hc).1
  have hwne : aW a s c ≠ t % 4 := by
    rw [← ht4]
    exact AWf_inj ha hs ht hc (by omega) hne
  have hk1 := kindN_lt hc (show s % 4 < 4 by omega) hne
  have hk2 := kindN_lt hwc (show t % 4 < 4 by omega) hwne
  rw [nI_clamp (n := s / 4) (by omega), nI_clamp (n := s % 4) (by omega), nI_clamp (n := c) (by omega), vp_inE (by omega) (by omega), vp_inE (by omega) (by omega)]
  have e1 : (7 : Int32) * nI (s / 4) + nI c = nI (7 * (s / 4) + c) := by simp (disch := omega) only [n0, n1, n2, n3, n4, n5, n6, n7, n8, n9, n10, n11, n12, n14, n16, n18, n21, n22, n36, n48, n63, n100, n108, n400, n1000, pk_mul, nI_add, pk_div, nI_subm, nI_ltE, nI_leE, nI_eqE, nI_clamp, vp_inE, nIm1, nIm1', nIm1n, nIm1n', nI_addn]
  rw [e1, hq.2.1, vp_inE (a := 7 * (s / 4) + c) (by omega) (by omega), nI_clamp (n := 7 * (s / 4) + c) (by omega)]
  refine ⟨by omega, by omega, g, w1, w2, w5, by rw [w6, vp_inE (by omega) (by omega)]; exact hc, hq.1, by omega, c_kindOf hc (by omega) hne ⟨hq.1, ?_⟩⟩
  have e2 : ((7 : Int32) * nI (s / 4) + 4) + nI (kindN c (s % 4)) = nI (7 * (s / 4) + 4 + kindN c (s % 4)) := by simp (disch := omega) only [n0, n1, n2, n3, n4, n5, n6, n7, n8, n9, n10, n11, n12, n14, n16, n18, n21, n22, n36, n48, n63, n100, n108, n400, n1000, pk_mul, nI_add, pk_div, nI_subm, nI_ltE, nI_leE, nI_eqE, nI_clamp, vp_inE, nIm1, nIm1', nIm1n, nIm1n', nI_addn]
  rw [e2, hq.2.1, vp_inE (by omega) (by omega), nI_clamp (n := 7 * (s / 4) + 4 + kindN c (s % 4)) (by omega)]
  refine ⟨by omega, g, w1, w2, hq.1, ?_⟩
  rw [w3, w7 c hc]
  have e3 : (7 : Int32) * nI (t / 4) + nI (aW a s c) = nI (7 * (t / 4) + aW a s c) := by simp (disch := omega) only [n0, n1, n2, n3, n4, n5, n6, n7, n8, n9, n10, n11, n12, n14, n16, n18, n21, n22, n36, n48, n63, n100, n108, n400, n1000, pk_mul, nI_add, pk_div, nI_subm, nI_ltE, nI_leE, nI_eqE, nI_clamp, vp_inE, nIm1, nIm1', nIm1n, nIm1n', nI_addn]
  rw [e3, vp_inE (by omega) (by omega), nI_clamp (n := 7 * (t / 4) + aW a s c) (by omega)]
  refine ⟨by omega, g, w1, w2, g, w1, w2, ?_⟩
  rw [w4]
  refine c_kindOf hwc (by omega) hwne ⟨hq.1, ?_⟩
  rw [w3]
  have e4 : ((7 : Int32) * nI (t / 4) + 4) + nI (kindN (aW a s c) (t % 4)) = nI (7 * (t / 4) + 4 + kindN (aW a s c) (t % 4)) := by simp (disch := omega) only [n0, n1, n2, n3, n4, n5, n6, n7, n8, n9, n10, n11, n12, n14, n16, n18, n21, n22, n36, n48, n63, n100, n108, n400, n1000, pk_mul, nI_add, pk_div, nI_subm, nI_ltE, nI_leE, nI_eqE, nI_clamp, vp_inE, nIm1, nIm1', nIm1n, nIm1n', nI_addn]
  rw [e4, hq.2.1, vp_inE (by omega) (by omega), nI_clamp (n := 7 * (t / 4) + 4 + kindN (aW a s c) (t % 4)) (by omega)]
  refine ⟨by omega, ?_⟩
  rw [hq.2.2.1 _ (by omega), hq.2.2.1 _ (by omega), hq.2.2.1 _ (by omega), hq.2.2.1 _ (by omega), ← lZ_nat, ← lZ_nat, ← lZ_nat, ← lZ_nat, lZ_add, lZ_sub, lZ_sub]
  exact h
