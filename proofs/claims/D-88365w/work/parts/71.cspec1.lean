/-! the component's whole invariant: the state, the arrays of holes and rows, the rows that are known -/
def poolE (S S' : CS) : Prop := (∀ q, q ∈ kLP S → q ∈ kLP S' ∧ kK S' q = kK S q ∧ kG S' q = kG S q ∧ kN S' q = kN S q ∧ kT S' q = kT S q ∧ kO S' q = kO S q ∧ kR S' q = kR S q) ∧ kA S' = kA S
theorem poolE_rf {S : CS} : poolE S S := ⟨fun _ h => ⟨h, rfl, rfl, rfl, rfl, rfl, rfl⟩, rfl⟩
theorem poolE_tr {S S' S'' : CS} (h : poolE S S') (h' : poolE S' S'') : poolE S S'' := by
  refine ⟨fun q hq => ?_, by rw [h'.2, h.2]⟩
  obtain ⟨a1, a2, a3, a4, a5, a6, a7⟩ := h.1 q hq
  obtain ⟨b1, b2, b3, b4, b5, b6, b7⟩ := h'.1 q a1
  exact ⟨b1, b2.trans a2, b3.trans a3, b4.trans a4, b5.trans a5, b6.trans a6, b7.trans a7⟩
theorem extC_pool {S S' : CS} (h : extC S S') : poolE S S' := ⟨h.1, h.2.2.1⟩
theorem poolE_pk {S S' : CS} (h : poolE S S') {g k : Nat} (hg : pk S g k) : pk S' g k := ⟨(h.1 g hg.1).1, by rw [(h.1 g hg.1).2.1]; exact hg.2⟩
/-- holes' rows and forms; the two lists of rows -/
def arC (S : CS) : Prop := (pk S (kA S 6) 2 ∧ kN S (kA S 6) = 18 ∧ pk S (kA S 7) 3 ∧ kN S (kA S 7) = 6 ∧ (∀ i, i < 18 → ∃ r, kO S (kA S 6) i = some r ∧ pk S r 3 ∧ kN S r = 6 ∧ r ≠ kA S 7) ∧ ∀ i j, i < 18 → j < 18 → kO S (kA S 6) i = kO S (kA S 6) j → i = j) ∧
  pk S (kA S 8) 2 ∧ pk S (kA S 11) 2 ∧ kA S 8 ≠ kA S 11 ∧ kA S 6 ≠ kA S 8 ∧ kA S 6 ≠ kA S 11 ∧ 64 ≤ kN S (kA S 8) ∧ 64 ≤ kN S (kA S 11) ∧ kN S (kA S 8) ≤ 4096 ∧ kN S (kA S 11) ≤ 4096
def lI (n : Nat) : Int64 := Int64.ofNat n
/-- a made long row holds u, and is none of the holes' -/
def rowC (S : CS) (q n : Nat) (u : Vec) : Prop := pk S q 3 ∧ kN S q = n ∧ (∀ i, i < n → kR S q i = lI (u i)) ∧ q ≠ kA S 7 ∧ ∀ i, i < 18 → kO S (kA S 6) i ≠ some q
def holdC (S : CS) (b n : Nat) (L : List Vec) : Prop := ∀ r, (hr : r < L.length) → ∃ q, kO S b r = some q ∧ rowC S q n L[r]
def knC (κ : Prop) (a : Ab) (S : CS) : Prop := (kF S 10 = 0 ∧ ¬ κ) ∨ (kF S 10 = 1 ∧ ∃ Ls, isLs a Ls ∧ kF S 9 = nI Ls.length ∧ Ls.length ≤ kN S (kA S 8) ∧ holdC S (kA S 8) (7 * aP a) Ls)
def CI (κ : Prop) (a : Ab) (S : CS) : Prop := CR a S ∧ arC S ∧ knC κ a S
theorem arC_pool {S S' : CS} (h : arC S) (e : poolE S S') : arC S' := by
  obtain ⟨⟨h1, h2, h3, h4, h5, h6⟩, h7, h8, h9, h10, h11, h12, h13, h14, h15⟩ := h
  have e6 := e.1 _ h1.1
  have e7 := e.1 _ h3.1
  have e8 := e.1 _ h7.1
  have e11 := e.1 _ h8.1
  unfold arC
  rw [e.2]
  refine ⟨⟨poolE_pk e h1, by rw [e6.2.2.2.1]; exact h2, poolE_pk e h3, by rw [e7.2.2.2.1]; exact h4, fun i hi => ?_, fun i j hi hj => by rw [e6.2.2.2.2.2.1]; exact h6 i j hi hj⟩, poolE_pk e h7, poolE_pk e h8, h9, h10, h11, by rw [e8.2.2.2.1]; exact h12, by rw [e11.2.2.2.1]; exact h13, by rw [e8.2.2.2.1]; exact h14, by rw [e11.2.2.2.1]; exact h15⟩
  obtain ⟨r, r1, r2, r3, r4⟩ := h5 i hi
  exact ⟨r, by rw [e6.2.2.2.2.2.1]; exact r1, poolE_pk e r2, by rw [(e.1 r r2.1).2.2.2.1]; exact r3, r4⟩
theorem rowC_pool {S S' : CS} (hs : arC S) (e : poolE S S') {q n : Nat} {u : Vec} (h : rowC S q n u) : rowC S' q n u := by
  have eq := e.1 q h.1.1
  have e6 := e.1 _ hs.1.1.1
  refine ⟨poolE_pk e h.1, by rw [eq.2.2.2.1]; exact h.2.1, fun i hi => by rw [eq.2.2.2.2.2.2]; exact h.2.2.1 i hi, by rw [e.2]; exact h.2.2.2.1, fun i hi => by rw [e.2, e6.2.2.2.2.2.1]; exact h.2.2.2.2 i hi⟩
theorem holdC_pool {S S' : CS} (hs : arC S) (e : poolE S S') {b n : Nat} {L : List Vec} (hb : b ∈ kLP S) (h : holdC S b n L) : holdC S' b n L := fun r hr => by
  obtain ⟨q, h1, h2⟩ := h r hr
  exact ⟨q, by rw [(e.1 b hb).2.2.2.2.2.1]; exact h1, rowC_pool hs e h2⟩
theorem knC_ext {κ : Prop} {a : Ab} {S S' : CS} (hs : arC S) (h : knC κ a S) (e : extC S S') : knC κ a S' := by
  have ep := extC_pool e
  have e8 := e.1 _ hs.2.1.1
  unfold knC
  rw [e.2.2.2.1 10 (by omega), e.2.2.2.1 9 (by omega), e.2.2.1, e8.2.2.2.1]
  rcases h with h | ⟨h, Ls, h1, h2, h3, h4⟩
  · exact Or.inl h
  · exact Or.inr ⟨h, Ls, h1, h2, h3, holdC_pool hs ep hs.2.1.1 h4⟩
theorem CI_ext {κ : Prop} {a : Ab} {S S' : CS} (h : CI κ a S) (e : extC S S') : CI κ a S' := ⟨CR_ext h.1 e, arC_pool h.2.1 (extC_pool e), knC_ext h.2.1 h.2.2 e⟩
/-! rows don't hang on the sheet -/
theorem rowsC_sh (P : Nat) (G : Nat → Option Nat) (W : Nat → Nat → Nat) (sh sh' : Nat → Nat) (s t : Nat) (R : List Vec) (c : Nat) : rowsC (P, G, W, sh) s t R c = rowsC (P, G, W, sh') s t R c := by
  induction c with
  | zero => rfl
  | succ c ih =>
    show (if c = s % 4 then rowsC (P, G, W, sh) s t R c else stepL P (eqn (P, G, W, sh) s t c) (rowsC (P, G, W, sh) s t R c)) = (if c = s % 4 then rowsC (P, G, W, sh') s t R c else stepL P (eqn (P, G, W, sh') s t c) (rowsC (P, G, W, sh') s t R c))
    rw [ih]
    rfl
theorem rowsS_sh (P : Nat) (G : Nat → Option Nat) (W : Nat → Nat → Nat) (sh sh' : Nat → Nat) (s : Nat) : rowsS (P, G, W, sh) s = rowsS (P, G, W, sh') s := by
  induction s with
  | zero => rfl
  | succ s ih =>
    show (match G s with | none => rowsS (P, G, W, sh) s | some t => if s < t then rowsC (P, G, W, sh) s t (rowsS (P, G, W, sh) s) 4 else rowsS (P, G, W, sh) s) = (match G s with | none => rowsS (P, G, W, sh') s | some t => if s < t then rowsC (P, G, W, sh') s t (rowsS (P, G, W, sh') s) 4 else rowsS (P, G, W, sh') s)
    rw [ih]
    cases G s with
    | none => rfl
    | some t =>
      show (if s < t then rowsC (P, G, W, sh) s t (rowsS (P, G, W, sh') s) 4 else _) = (if s < t then rowsC (P, G, W, sh') s t (rowsS (P, G, W, sh') s) 4 else _)
      rw [rowsC_sh P G W sh sh']
theorem isLs_sh {a : Ab} {sh : Nat → Nat} {Ls : List Vec} (h : isLs a Ls) : isLs (aP a, aG a, aW a, sh) Ls := by
  unfold isLs at h ⊢
  rw [show rowsS (aP a, aG a, aW a, sh) (4 * aP (aP a, aG a, aW a, sh)) = rowsS a (4 * aP a) from rowsS_sh _ _ _ sh (aS a) _]
  exact h
theorem knC_sh {κ : Prop} {a : Ab} {sh : Nat → Nat} {S S' : CS} (hs : arC S) (h : knC κ a S) (e : poolE S S') (e10 : kF S' 10 = kF S 10) (e9 : kF S' 9 = kF S 9) : knC κ (aP a, aG a, aW a, sh) S' := by
  have e8 := e.1 _ hs.2.1.1
  unfold knC
  rw [e10, e9, e.2, e8.2.2.2.1]
  rcases h with h | ⟨h, Ls, h1, h2, h3, h4⟩
  · exact Or.inl h
  · exact Or.inr ⟨h, Ls, isLs_sh h1, h2, h3, holdC_pool hs e hs.2.1.1 h4⟩
/-! drop, put -/
theorem CI_sheet {κ : Prop} {a : Ab} {S S' : CS} (h : CI κ a S) {sh : Nat → Nat} (e : poolE S S') (eF : ∀ k, kF S' k = kF S k) (eG : kGl S' = kGl S) (hs : ∀ i, i < 21 → kI S' 13 i = nI (sh i)) : CI κ (aP a, aG a, aW a, sh) S' := by
  refine ⟨⟨by rw [eF 1]; exact h.1.1, fun s hs' => ?_, hs⟩, arC_pool h.2.1 e, knC_sh h.2.1 h.2.2 e (eF 10) (eF 9)⟩
  have hg := h.1.2.1 s hs'
  unfold glR at hg ⊢
  rw [eG]
  show match aG a s with | none => _ | some t => _
  cases hG : aG a s with
  | none => rw [hG] at hg; exact hg
  | some t =>
    rw [hG] at hg
    obtain ⟨g, g1, g2, g3, g4, g5, g6, g7⟩ := hg
    have eg := e.1 g g2.1
    have et := e.1 _ g5.1
    refine ⟨g, g1, poolE_pk e g2, ?_, ?_, ?_, ?_, ?_⟩
    · rw [eg.2.2.1]; exact g3
    · rw [eg.2.2.1]; exact g4
    · rw [eg.2.2.1]; exact poolE_pk e g5
    · rw [eg.2.2.1, et.2.2.2.1]; exact g6
    · rw [eg.2.2.1, et.2.2.2.2.1]; exact g7
theorem poolE_tI {S S' : CS} {b j : Nat} {v : Int32} (h : poolE S S') : poolE S (tI S' b j v) := ⟨h.1, h.2⟩
theorem poolE_tF {S S' : CS} {k : Nat} {v : Int32} (h : poolE S S') : poolE S (tF S' k v) := ⟨h.1, h.2⟩
theorem poolE_tGl {S S' : CS} {p f : Nat} {x : Option Nat} (h : poolE S S') : poolE S (tGl S' p f x) := ⟨h.1, h.2⟩
theorem c_drop {S : CS} {sh : Nat → Nat} (hs : ∀ i, i < 21 → kI S 13 i = nI (sh i)) (hb : ∀ i, sh i ≤ 1000) {post : Int32 → CS → Prop} (h : ∀ S', poolE S S' → (∀ k, kF S' k = kF S k) → kGl S' = kGl S → (∀ i, i < 21 → kI S' 13 i = 0) → post (nI (nz sh 21)) S') : C_drop S post := by
  apply C_drop_ok
  intro T r
  suffices K : ∀ i, i ≤ 21 → ∀ S', poolE S S' → (∀ k, kF S' k = kF S k) → kGl S' = kGl S → (∀ j, j < i → kI S' 13 j = 0) → (∀ j, i ≤ j → j < 21 → kI S' 13 j = nI (sh j)) → T (nI (nz sh i)) (nI i) S' from K 0 (by omega) S poolE_rf (fun _ => rfl) rfl (fun j hj => absurd hj (Nat.not_lt_zero _)) (fun j _ hj => hs j hj)
  refine loopUp (P := fun i => ∀ S', poolE S S' → (∀ k, kF S' k = kF S k) → kGl S' = kGl S → (∀ j, j < i → kI S' 13 j = 0) → (∀ j, i ≤ j → j < 21 → kI S' 13 j = nI (sh j)) → T (nI (nz sh i)) (nI i) S') 21 (fun i hi ih S' g1 g2 g3 g4 g5 => ?_)
  apply r
  unfold C_drop_w4 C_drop_w28
  have hbi := hb i
  have hle := nz_le sh i
  simp (disch := omega) only [n0, n1, n2, n3, n4, n5, n6, n7, n8, n9, n10, n11, n12, n14, n16, n18, n21, n22, n36, n48, n63, n100, n108, n400, n1000, pk_mul, nI_add, pk_div, nI_subm, nI_ltE, nI_leE, nI_eqE, nI_clamp, vp_inE, nIm1, nIm1', nIm1n, nIm1n', nI_addn]
  refine ⟨fun q => by rw [show i = 21 by omega]; exact h S' g1 g2 g3 (fun j hj => g4 j (by omega)), fun q => ⟨by omega, ?_⟩⟩
  rw [g5 i (Nat.le_refl _) (by omega)]
  simp (disch := omega) only [n0, n1, n2, n3, n4, n5, n6, n7, n8, n9, n10, n11, n12, n14, n16, n18, n21, n22, n36, n48, n63, n100, n108, n400, n1000, pk_mul, nI_add, pk_div, nI_subm, nI_ltE, nI_leE, nI_eqE, nI_clamp, vp_inE, nIm1, nIm1', nIm1n, nIm1n', nI_addn]
  have ih := fun v => ih (by omega) (tI S' 13 i v) (poolE_tI g1) g2 g3
  have nx : T (nI (nz sh i + (if sh i = 0 then 0 else 1))) (nI (i + 1)) (tI S' 13 i (nI 0)) := ih (nI 0) (fun j hj => by
    rw [kI_tI]
    by_cases c : j = i
    · rw [if_pos ⟨rfl, c⟩]; rfl
    · rw [if_neg (fun z => c z.2)]; exact g4 j (by omega)) (fun j hj1 hj2 => by rw [kI_tI, if_neg (by omega)]; exact g5 j (by omega) hj2)
  refine ⟨fun c => ⟨by omega, ?_⟩, fun c => ⟨by omega, ?_⟩⟩
  · rw [if_pos c] at nx; exact nx
  · rw [if_neg c] at nx; exact nx
theorem c_changed {S : CS} {post : CS → Prop} (h : post (tF S 10 0)) : C_changed S post := by
  apply C_changed_ok
  unfold C_changed_VC C_changed_w0
  exact h
theorem c_dropOp {κ : Prop} {a : Ab} (ha : AWf a) {S : CS} (hI : CI κ a S) {post : Int32 → CS → Prop} (h : ∀ S', CI κ (aP a, aG a, aW a, fun _ => 0) S' → post (nI (nz (aS a) 21)) S') : C_drop S post :=
  c_drop hI.1.2.2 ha.2.2.1 (fun S' h1 h2 h3 h4 => h S' (CI_sheet hI h1 h2 h3 (fun i hi => h4 i hi)))
theorem c_put {κ : Prop} {a : Ab} (ha : AWf a) {S : CS} (hI : CI κ a S) {x v : Int32} {post : Int32 → CS → Prop} (h0 : ¬ (inN x (7 * aP a) ∧ inN v 1001) → post (-2) S) (h1 : ∀ i k, x = nI i → v = nI k → i < 7 * aP a → k < 1001 → ∀ S', CI κ (aP a, aG a, aW a, fun j => if j = i then k else aS a j) S' → post (nI (aS a i)) S') : C_put x v S post := by
  apply C_put_ok
  unfold C_put_VC C_put_w0 C_put_w19
  have hP := ha.1
  refine c_isNumber hI.1.1 hP (fun hx => ⟨fun c => absurd c (by decide), fun _ => ?_⟩) (fun hx => ⟨fun _ => h0 (fun q => hx q.1), fun c => absurd rfl c⟩)
  apply c_isIn
  by_cases hv : inN v 1001
  · rw [if_pos (show (0 : Int32) ≤ v ∧ v ≤ 1000 from (in_iff (n := 1000) (by decide)).mpr hv)]
    refine ⟨fun _ => ?_, fun c => absurd c (by decide)⟩
    obtain ⟨i, hi, rfl⟩ := hx
    obtain ⟨k, hk, rfl⟩ := hv
    simp (disch := omega) only [n0, n1, n2, n3, n4, n5, n6, n7, n8, n9, n10, n11, n12, n14, n16, n18, n21, n22, n36, n48, n63, n100, n108, n400, n1000, pk_mul, nI_add, pk_div, nI_subm, nI_ltE, nI_leE, nI_eqE, nI_clamp, vp_inE, nIm1, nIm1', nIm1n, nIm1n', nI_addn]
    refine ⟨by omega, by omega, ?_⟩
    rw [hI.1.2.2 i (by omega)]
    refine h1 i k rfl rfl hi hk _ (CI_sheet hI (poolE_tI poolE_rf) (fun _ => rfl) rfl (fun j hj => ?_))
    rw [kI_tI]
    by_cases hji : j = i
    · rw [if_pos ⟨rfl, hji⟩, if_pos hji]
    · rw [if_neg (fun q => hji q.2), if_neg hji]
      exact hI.1.2.2 j hj
  · rw [if_neg (show ¬ ((0 : Int32) ≤ v ∧ v ≤ 1000) from fun q => hv ((in_iff (n := 1000) (by decide)).mp q))]
    exact ⟨fun c => absurd rfl c, fun _ => h0 (fun q => hv q.2)⟩
