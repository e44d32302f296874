/-! the component: isLess, findSheets -/
theorem c_isLess {S : CS} {p q n : Nat} {u v : Vec} (hp : rowC S p n u) (hq : rowC S q n v) (hn : n ≤ 21) (bu : ∀ i, u i ≤ 10000) (bv : ∀ i, v i ≤ 10000) {post : Int32 → CS → Prop} (h1 : lxl n u v → post 1 S) (h0 : ¬ lxl n u v → post 0 S) : C_isLess p q S post := by
  apply C_isLess_ok
  intro T r
  unfold C_isLess_w0
  suffices K : ∀ i, i ≤ n → (∀ j, j < i → u j = v j) → T p q (nI i) S from K 0 (by omega) (fun j hj => absurd hj (Nat.not_lt_zero _))
  refine loopUp (P := fun i => (∀ j, j < i → u j = v j) → T p q (nI i) S) n (fun i hi ih hj => ?_)
  apply r
  unfold C_isLess_w2 C_isLess_w24 C_isLess_w44 C_isLess_w45
  have b1 := bu i
  have b2 := bv i
  rw [hp.2.1, hq.2.1, nI_leE (by omega) (by omega), vp_inE (by omega) (by omega), nI_clamp (by omega), show (nI i : Int32) + 1 = nI (i + 1) from nI_add i 1]
  refine ⟨hp.1, fun c => ⟨hp.1, fun _ => ⟨zok0, h0 (fun z => ?_)⟩, fun c2 => absurd c c2⟩, fun c => ⟨hp.1, by omega, hq.1, by omega, ?_⟩⟩
  · obtain ⟨k, k1, k2, k3⟩ := z
    have := hj k (by omega)
    omega
  · rw [hp.2.2.1 i (by omega), hq.2.2.1 i (by omega), lI_eqE (by omega) (by omega), lI_leE (by omega) (by omega)]
    refine ⟨fun c2 => ⟨hp.1, fun z => absurd z c, fun _ => ⟨hp.1, by omega, hq.1, by omega, fun c3 => ⟨zok0, h0 (fun z => ?_)⟩, fun c3 => ⟨zok1, h1 ⟨i, by omega, hj, by omega⟩⟩⟩⟩, fun c2 => ih (by omega) (fun j hj2 => ?_)⟩
    · obtain ⟨k, k1, k2, k3⟩ := z
      rcases Nat.lt_trichotomy k i with z | z | z
      · have := hj k z; omega
      · subst z; omega
      · exact c2 (k2 i z)
    · by_cases e : j = i
      · subst e; exact c2
      · exact hj j (by omega)
/-! the list of known rows while it is sorted -/
def SJ (a : Ab) (S : CS) (L : List Vec) : Prop := CR a S ∧ arC S ∧ holdC S (kA S 8) (7 * aP a) L ∧ L.length ≤ kN S (kA S 8)
theorem SJ_set {a : Ab} {S : CS} {L : List Vec} (h : SJ a S L) {k q : Nat} {w : Vec} (hq : rowC S q (7 * aP a) w) : SJ a (tO S (kA S 8) k (some q)) (L.set k w) ∧ ∀ z u, rowC S z (7 * aP a) u → rowC (tO S (kA S 8) k (some q)) z (7 * aP a) u := by
  obtain ⟨h1, h2, h3, h4⟩ := h
  obtain ⟨_, b1, b2, b3, b4, b5, b6, b7, b8, b9⟩ := id h2
  have e : frW S (tO S (kA S 8) k (some q)) := frW_tO b4 frW_rf
  refine ⟨⟨CR_w h1 e, arC_w h2 e b1 b2 b3 b4 b5 b6 b7 b8 b9, fun r hr => ?_, by rw [List.length_set]; exact h4⟩, fun z u hz => rowC_w e hz⟩
  show ∃ z, kO (tO S (kA S 8) k (some q)) (kA S 8) r = some z ∧ _
  rw [List.length_set] at hr
  by_cases c : r = k
  · subst c
    refine ⟨q, by rw [kO_tO, if_pos ⟨rfl, rfl⟩], ?_⟩
    rw [List.getElem_set_self]
    exact rowC_w e hq
  · obtain ⟨z, z1, z2⟩ := h3 r hr
    refine ⟨z, by rw [kO_tO, if_neg (fun y => c y.2)]; exact z1, ?_⟩
    rw [List.getElem_set_ne (fun y => c y.symm)]
    exact rowC_w e z2
theorem set_mid {α : Type} (X Y : List α) (v w : α) : (X ++ v :: Y).set X.length w = X ++ w :: Y := by
  rw [List.set_append_right _ _ (Nat.le_refl _)]
  simp
theorem ins_srt {n : Nat} {X Y : List Vec} {w : Vec} (h : srt n (X ++ Y)) (hY : ∀ y, y ∈ Y → lxl n w y) (hX : ∀ x, x ∈ X → ¬ lxl n w x) : srt n (X ++ w :: Y) := by
  unfold srt at *
  rw [List.pairwise_append] at h ⊢
  refine ⟨h.1, List.pairwise_cons.mpr ⟨fun y hy => lxl_as (hY y hy), h.2.1⟩, fun x hx y hy => ?_⟩
  rcases List.mem_cons.mp hy with e | e
  · rw [e]; exact hX x hx
  · exact h.2.2 x hx y e
theorem srt_last {n : Nat} {X : List Vec} {x w : Vec} (h : srt n (X ++ [x])) (hw : ¬ lxl n w x) : ∀ y, y ∈ X ++ [x] → ¬ lxl n w y := by
  intro y hy
  unfold srt at h
  rw [List.pairwise_append] at h
  rcases List.mem_append.mp hy with z | z
  · exact lxle_tr (h.2.2 y z x (List.mem_singleton.mpr rfl)) hw
  · rw [List.mem_singleton.mp z]; exact hw
/-! how many rows are made -/
noncomputable def mdC (a : Ab) (s t : Nat) (R : List Vec) : Nat → Nat
  | 0 => 0
  | c + 1 => mdC a s t R c + (if c = s % 4 then 0 else ((rowsC a s t R c).flatMap (prs (aP a) (eqn a s t c) (rowsC a s t R c) (rowsC a s t R c))).length)
noncomputable def mdS (a : Ab) : Nat → Nat
  | 0 => 7 * aP a
  | s + 1 => mdS a s + (match aG a s with
    | none => 0
    | some t => if s < t then mdC a s t (rowsS a s) 4 else 0)
theorem mdS_mono (a : Ab) {i j : Nat} (h : i ≤ j) : mdS a i ≤ mdS a j := by
  induction j with
  | zero => rw [show i = 0 by omega]; exact Nat.le_refl _
  | succ j ih =>
    by_cases c : i = j + 1
    · rw [c]; exact Nat.le_refl _
    · exact Nat.le_trans (ih (by omega)) (Nat.le_add_right _ _)
theorem mdC_mono (a : Ab) (s t : Nat) (R : List Vec) {i j : Nat} (h : i ≤ j) : mdC a s t R i ≤ mdC a s t R j := by
  induction j with
  | zero => rw [show i = 0 by omega]; exact Nat.le_refl _
  | succ j ih =>
    by_cases c : i = j + 1
    · rw [c]; exact Nat.le_refl _
    · exact Nat.le_trans (ih (by omega)) (Nat.le_add_right _ _)
def FJ (a : Ab) (z0 : Nat) (S : CS) (L : List Vec) (md cnt uc us : Nat) : Prop := SJ a S L ∧ kF S 9 = nI L.length ∧ kF S 10 = 0 ∧ z0 ≤ szC S ∧ us ≤ 21 * md + 2 * (szC S - z0) ∧ 64 * uc ≤ 64 * md + (szC S - z0) + 64 * cnt
theorem szC_le {S : CS} (h : arC S) : szC S ≤ 8192 := by
  have h1 := h.2.2.2.2.2.2.2.2.1
  have h2 := h.2.2.2.2.2.2.2.2.2
  unfold szC
  omega
theorem cap_le {N m : Nat} (hN : N ≤ 4096) (hm : m ≤ 2000) : cap N m ≤ 4096 := by
  induction m with
  | zero => exact hN
  | succ m ih =>
    have ih := ih (by omega)
    rw [cap_s]
    unfold capS
    split <;> omega
theorem c_findSheets {κ : Prop} {a : Ab} (ha : AWf a) (hD : ddB a) {Ls : List Vec} (hL : isLs a Ls) {mc ms : Nat} {S : CS} (hI : CI κ a S) (hb : ¬ κ → mdS a (4 * aP a) + 176 ≤ mc ∧ 21 * mdS a (4 * aP a) + 16384 ≤ ms) {post : CS → Prop} (h : ∀ S', CI True a S' → kF S' 9 = nI Ls.length → Ls.length ≤ kN S' (kA S' 8) → holdC S' (kA S' 8) (7 * aP a) Ls → kF S' 10 = 1 → post S') : C_findSheets mc ms S post := by
  apply C_findSheets_ok
  intro T15 T79 T89 T140 T185 T203 r15 r79 r89 r140 r185 r203
  have hP := ha.1
  unfold C_findSheets_w0
  refine ⟨fun c0 => ?_, fun c0 => ?_⟩
  rotate_left
  · rcases hI.2.2 with z | ⟨z, L', l1, l2, l3, l4⟩
    · exact absurd z.1 c0
    · have hI' : CI True a S := ⟨hI.1, hI.2.1, Or.inr ⟨z, L', l1, l2, l3, l4⟩⟩
      rw [isLs_eq hD l1 hL] at l2 l3 l4
      exact h S hI' l2 l3 l4 z
  have nk : ¬ κ := by
    rcases hI.2.2 with z | ⟨z, _⟩
    · exact z.2
    · rw [c0] at z; exact absurd z (by decide)
  obtain ⟨hmc, hms⟩ := hb nk
  have hgF := hD.1 _ (Nat.le_refl (4 * aP a))
  -- the sort
  have done : ∀ S1 A uc us (x : Int32), SJ a S1 A → List.Perm A (rowsS a (4 * aP a)) → srt (7 * aP a) A → kF S1 9 = nI A.length → nI A.length ≤ x → T185 x uc us S1 := by
    intro S1 A uc us x hJ hp hs h9 hx
    apply r185
    unfold C_findSheets_w185
    rw [h9]
    refine ⟨fun _ => ?_, fun c => absurd hx c⟩
    dsimp only
    have e : frW S1 (tF S1 10 1) := frW_tF (by decide) frW_rf
    obtain ⟨j1, j2, j3, j4⟩ := hJ
    obtain ⟨_, b1, b2, b3, b4, b5, b6, b7, b8, b9⟩ := id j2
    have eA : A = Ls := isLs_eq hD ⟨hp, hs⟩ hL
    have hh : holdC (tF S1 10 1) (kA S1 8) (7 * aP a) A := fun r hr => by
      obtain ⟨z, z1, z2⟩ := j3 r hr
      exact ⟨z, z1, rowC_w e z2⟩
    have h9' : kF (tF S1 10 1) 9 = nI A.length := by rw [kF_tF, if_neg (by decide)]; exact h9
    have h10 : kF (tF S1 10 1) 10 = 1 := by rw [kF_tF, if_pos rfl]
    exact h (tF S1 10 1) ⟨CR_w j1 e, arC_w j2 e b1 b2 b3 b4 b5 b6 b7 b8 b9, Or.inr ⟨h10, A, ⟨hp, hs⟩, h9', j4, hh⟩⟩ (by rw [← eA]; exact h9') (by rw [← eA]; exact j4) (by rw [← eA]; exact hh) h10
  have K185 : ∀ i, ∀ S1 A B uc us, A.length = i → SJ a S1 (A ++ B) → List.Perm (A ++ B) (rowsS a (4 * aP a)) → srt (7 * aP a) A → kF S1 9 = nI (A ++ B).length → T185 (nI i) uc us S1 := by
    intro i S1 A B
    induction B generalizing i S1 A with
    | nil =>
      intro uc us hi hJ hp hs h9
      rw [List.append_nil] at hJ hp h9
      have hle := (goodR_perm hp hgF).1
      exact done S1 A uc us _ hJ hp hs h9 (by rw [nI_leE (by omega) (by omega)]; omega)
    | cons w B ih =>
      intro uc us hi hJ hp hs h9
      have hgA := goodR_perm hp hgF
      have len : (A ++ w :: B).length = i + 1 + B.length := by rw [List.length_append, List.length_cons, hi]; omega
      have hle := hgA.1
      have n8 := hJ.2.1.2.2.2.2.2.2.2.2.1
      have hl8 := hJ.2.2.2
      rw [len] at hle h9 hl8
      apply r185
      unfold C_findSheets_w185
      rw [h9, nI_leE (by omega) (by omega), nI_clamp (by omega), vp_inE (by omega) (by omega)]
      refine ⟨fun c => absurd c (by omega), fun _ => ?_⟩
      obtain ⟨p, p1, p2⟩ := hJ.2.2.1 i (by rw [len]; omega)
      have ew : (A ++ w :: B)[i]'(by rw [len]; omega) = w := by
        rw [List.getElem_append_right (by omega)]
        simp [hi]
      rw [ew] at p2
      refine ⟨hJ.2.1.2.1, by omega, p, p1, ?_⟩
      have bw := (hgA.2.1 w (List.mem_append_right _ (List.mem_cons_self ..))).2.2.2
      have K203 : ∀ k X Y v S2, X.length = k → k + Y.length = i → SJ a S2 (X ++ v :: (Y ++ B)) → rowC S2 p (7 * aP a) w → List.Perm (X ++ w :: (Y ++ B)) (rowsS a (4 * aP a)) → srt (7 * aP a) (X ++ Y) → (∀ y, y ∈ Y → lxl (7 * aP a) w y) → kF S2 9 = nI (i + 1 + B.length) → T203 (nI i) p (nI k) uc us S2 := by
        intro k
        induction k with
        | zero =>
          intro X Y v S2 hX hk hJ2 hw hp2 hs2 hY h92
          have hX0 : X = [] := List.length_eq_zero_iff.mp hX
          subst hX0
          apply r203
          unfold C_findSheets_w203 C_findSheets_w246
          have n82 := hJ2.2.1.2.2.2.2.2.2.2.2.1
          have l8 := hJ2.2.2.2
          simp only [List.nil_append, List.length_cons, List.length_append] at l8
          have hst := SJ_set hJ2 (k := 0) hw
          rw [show (nI 0 : Int32) ≤ 0 ↔ True from ⟨fun _ => trivial, fun _ => by decide⟩, nI_clamp (by omega), vp_inE (by omega) (by omega), show (nI i : Int32) + 1 = nI (i + 1) from nI_add i 1]
          refine ⟨fun _ => ⟨hJ2.2.1.2.1, hw.1, by omega, ?_⟩, fun c => absurd trivial c⟩
          have e1 : ([] ++ v :: (Y ++ B)).set 0 w = (w :: Y) ++ B := rfl
          rw [e1] at hst
          refine ih (i + 1) _ (w :: Y) uc us (by simp only [List.length_cons]; omega) hst.1 hp2 ?_ ?_
          · exact ins_srt (X := []) hs2 hY (fun x hx => absurd hx (by simp))
          · rw [show ((w :: Y) ++ B).length = i + 1 + B.length by simp only [List.length_append, List.length_cons]; omega]
            exact h92
        | succ k ihk =>
          intro X Y v S2 hX hk hJ2 hw hp2 hs2 hY h92
          obtain ⟨X', x, rfl⟩ : ∃ X' x, X = X' ++ [x] := ⟨X.dropLast, X.getLast (fun e => by rw [e] at hX; simp at hX), (List.dropLast_concat_getLast _).symm⟩
          have hX' : X'.length = k := by simpa using hX
          have hgp := goodR_perm hp2 hgF
          have bx := (hgp.2.1 x (by simp)).2.2.2
          have n82 := hJ2.2.1.2.2.2.2.2.2.2.2.1
          have l8 := hJ2.2.2.2
          have ll : (X' ++ [x] ++ v :: (Y ++ B)).length = i + 1 + B.length := by simp only [List.length_append, List.length_cons, List.length_nil]; omega
          rw [ll] at l8
          obtain ⟨q, q1, q2⟩ := hJ2.2.2.1 k (by rw [ll]; omega)
          have ex : (X' ++ [x] ++ v :: (Y ++ B))[k]'(by rw [ll]; omega) = x := by
            rw [List.getElem_append_left (by simp; omega), List.getElem_append_right (by omega)]
            simp [hX']
          rw [ex] at q2
          apply r203
          unfold C_findSheets_w203 C_findSheets_w246
          have em : (nI (k + 1) : Int32) + -1 = nI k := by
            rw [← Int32.sub_eq_add_neg, show (1 : Int32) = nI 1 from rfl, nI_subm (by omega)]
            rfl
          have em2 : (nI (k + 1) : Int32) - 1 = nI k := by
            rw [show (1 : Int32) = nI 1 from rfl, nI_subm (by omega)]
            rfl
          rw [em, em2, show (0 : Int32) = nI 0 from rfl, nI_leE (by omega) (by omega), nI_clamp (n := k + 1) (by omega), nI_clamp (n := k) (by omega), vp_inE (by omega) (by omega), vp_inE (by omega) (by omega), show (nI i : Int32) + 1 = nI (i + 1) from nI_add i 1]
          refine ⟨fun c => absurd c (by omega), fun _ => ⟨hJ2.2.1.2.1, by omega, q, q1, ?_⟩⟩
          refine c_isLess hw q2 (by omega) bw bx (fun lt => ⟨fun c => absurd c (by decide), fun _ => ?_⟩) (fun nlt => ⟨fun _ => ?_, fun c => absurd rfl c⟩)
          · rw [vp_inE (by omega) (by omega)]
            refine ⟨hJ2.2.1.2.1, by omega, q, q1, hJ2.2.1.2.1, q2.1, by rw [vp_inE (by omega) (by omega)]; omega, ?_⟩
            have hst := SJ_set hJ2 (k := k + 1) q2
            have e1 : (X' ++ [x] ++ v :: (Y ++ B)).set (k + 1) x = X' ++ x :: ((x :: Y) ++ B) := by
              have := set_mid (X' ++ [x]) (Y ++ B) v x
              rw [show (X' ++ [x]).length = k + 1 by simp; exact hX'] at this
              rw [this]; simp
            rw [e1] at hst
            refine ihk X' (x :: Y) x _ hX' (by simp only [List.length_cons]; omega) hst.1 (hst.2 p w hw) ?_ ?_ (fun y hy => ?_) h92
            · refine List.Perm.trans ?_ hp2
              rw [List.append_assoc]
              refine (List.Perm.refl X').append ?_
              exact List.Perm.swap x w (Y ++ B)
            · rw [List.append_assoc] at hs2; exact hs2
            · rcases List.mem_cons.mp hy with e | e
              · rw [e]; exact lt
              · exact hY y e
          · refine ⟨hJ2.2.1.2.1, hw.1, by rw [vp_inE (by omega) (by omega)]; omega, ?_⟩
            have hst := SJ_set hJ2 (k := k + 1) hw
            have e1 : (X' ++ [x] ++ v :: (Y ++ B)).set (k + 1) w = (X' ++ [x] ++ w :: Y) ++ B := by
              have := set_mid (X' ++ [x]) (Y ++ B) v w
              rw [show (X' ++ [x]).length = k + 1 by simp; exact hX'] at this
              rw [this]; simp
            rw [e1] at hst
            refine ih (i + 1) _ (X' ++ [x] ++ w :: Y) uc us (by simp only [List.length_append, List.length_cons, List.length_nil]; omega) hst.1 (by rw [List.append_assoc]; exact hp2) ?_ ?_
            · have s1 : srt (7 * aP a) (X' ++ [x]) := by
                unfold srt at hs2 ⊢
                exact (List.pairwise_append.mp hs2).1
              exact ins_srt hs2 hY (srt_last s1 nlt)
            · rw [show ((X' ++ [x] ++ w :: Y) ++ B).length = i + 1 + B.length by simp only [List.length_append, List.length_cons, List.length_nil]; omega]
              exact h92
      refine K203 i A [] w S1 hi (by simp) ?_ p2 hp (by rw [List.append_nil]; exact hs) (fun y hy => absurd hy (by simp)) h9
      exact hJ
  -- the equations
  have z64 : szC S ≤ 8192 := szC_le hI.2.1
  have fin79 : ∀ S1 cnt uc us, cnt ≤ 48 → FJ a (szC S) S1 (rowsS a (4 * aP a)) (mdS a (4 * aP a)) cnt uc us → T185 1 uc us S1 := by
    intro S1 cnt uc us _ hF
    obtain ⟨f1, f2, f3, f4, f5, f6⟩ := hF
    cases e : rowsS a (4 * aP a) with
    | nil =>
      rw [e] at f1 f2
      exact done S1 [] uc us 1 f1 (by rw [e]) List.Pairwise.nil f2 (by decide)
    | cons w B =>
      rw [e] at f1 f2
      exact K185 1 S1 [w] B uc us rfl f1 (by rw [e]; exact List.Perm.refl _) (List.pairwise_singleton _ _) f2
  have K79 : ∀ p, p ≤ aP a → ∀ S1 uc us, FJ a (szC S) S1 (rowsS a (4 * p)) (mdS a (4 * p)) (4 * (4 * p)) uc us → T79 (nI p) uc us S1 := by
    refine loopUp (P := fun p => ∀ S1 uc us, FJ a (szC S) S1 (rowsS a (4 * p)) (mdS a (4 * p)) (4 * (4 * p)) uc us → T79 (nI p) uc us S1) (aP a) (fun p hp ih S1 uc us hF => ?_)
    apply r79
    unfold C_findSheets_w79
    rw [hF.1.1.1, nI_leE (by omega) (by omega)]
    refine ⟨fun q => ?_, fun q => ?_⟩
    · rw [show p = aP a by omega] at hF
      exact fin79 S1 _ uc us (by omega) hF
    · have ih := ih (by omega)
      suffices K89 : ∀ f, f ≤ 4 → ∀ S1 uc us, FJ a (szC S) S1 (rowsS a (4 * p + f)) (mdS a (4 * p + f)) (4 * (4 * p + f)) uc us → T89 (nI p) (nI f) uc us S1 from K89 0 (by omega) S1 uc us hF
      refine loopUp (P := fun f => ∀ S1 uc us, FJ a (szC S) S1 (rowsS a (4 * p + f)) (mdS a (4 * p + f)) (4 * (4 * p + f)) uc us → T89 (nI p) (nI f) uc us S1) 4 (fun f hf ihf S1 uc us hF => ?_)
      apply r89
      unfold C_findSheets_w89 C_findSheets_w134 C_findSheets_w135
      rw [show (4 : Int32) = nI 4 from rfl, nI_leE (by omega) (by omega), nI_clamp (by omega), nI_clamp (by omega), vp_inE (by omega) (by omega), vp_inE (by omega) (by omega), show (nI p : Int32) + 1 = nI (p + 1) from nI_add p 1]
      refine ⟨fun q2 => by rw [show f = 4 by omega] at hF; exact ih S1 uc us hF, fun q2 => ⟨by omega, by omega, ?_⟩⟩
      have ihf := ihf (by omega)
      have hs : 4 * p + f < 4 * aP a := by omega
      have e1 : (4 * p + f) / 4 = p := by omega
      have e2 : (4 * p + f) % 4 = f := by omega
      have skip : rowsS a (4 * p + f + 1) = rowsS a (4 * p + f) → mdS a (4 * p + f + 1) = mdS a (4 * p + f) → T140 (nI p) (nI f) 0 0 uc us S1 := by
        intro k1 k2
        apply r140
        unfold C_findSheets_w140 C_findSheets_w171
        rw [show (nI f : Int32) + 1 = nI (f + 1) from nI_add f 1]
        have z : T89 (nI p) (nI (f + 1)) uc us S1 := by
          refine ihf S1 uc us ?_
          show FJ a (szC S) S1 (rowsS a (4 * p + f + 1)) (mdS a (4 * p + f + 1)) (4 * (4 * p + f + 1)) uc us
          rw [k1, k2]
          exact ⟨hF.1, hF.2.1, hF.2.2.1, hF.2.2.2.1, hF.2.2.2.2.1, by have := hF.2.2.2.2.2; omega⟩
        exact ⟨fun _ => z, fun _ => ⟨fun _ => z, fun c => absurd rfl c⟩⟩
      have eR : rowsS a (4 * p + f + 1) = match aG a (4 * p + f) with | none => rowsS a (4 * p + f) | some t => if 4 * p + f < t then rowsC a (4 * p + f) t (rowsS a (4 * p + f)) 4 else rowsS a (4 * p + f) := rfl
      have eM : mdS a (4 * p + f + 1) = mdS a (4 * p + f) + (match aG a (4 * p + f) with | none => 0 | some t => if 4 * p + f < t then mdC a (4 * p + f) t (rowsS a (4 * p + f)) 4 else 0) := rfl
      cases e : aG a (4 * p + f) with
      | none =>
        have hnn := CR_none hF.1.1 hs e
        rw [e1, e2] at hnn
        rw [e] at eR eM
        exact ⟨fun _ => skip eR eM, fun g hg => absurd (hnn.symm.trans hg) (by simp)⟩
      | some t =>
        rw [e] at eR eM
        have eR : rowsS a (4 * p + f + 1) = if 4 * p + f < t then rowsC a (4 * p + f) t (rowsS a (4 * p + f)) 4 else rowsS a (4 * p + f) := eR
        have eM : mdS a (4 * p + f + 1) = mdS a (4 * p + f) + (if 4 * p + f < t then mdC a (4 * p + f) t (rowsS a (4 * p + f)) 4 else 0) := eM
        obtain ⟨g, w1, w2, w3, w4, w5, w6, w7⟩ := CR_some hF.1.1 hs e
        rw [e1, e2] at w1
        obtain ⟨ht1, ht2, ht3, ht4, hw⟩ := ha.2.1 _ t hs e
        refine ⟨fun y => absurd (w1.symm.trans y) (by simp), fun g' hg => ?_⟩
        have eg : g' = g := by rw [w1] at hg; injection hg with hg; exact hg.symm
        subst eg
        rw [w3, w4]
        have x1 : (nI (t / 4) * nI 4 + nI (t % 4) : Int32) = nI t := by
          rw [pk_mul, nI_add]
          congr 1
          omega
        have x2 : (nI p * nI 4 + nI f : Int32) = nI (4 * p + f) := by
          rw [pk_mul, nI_add]
          congr 1
          omega
        rw [x1, x2, nI_leE (by omega) (by omega)]
        refine ⟨w2, w2, fun c => ?_, fun c => ?_⟩
        · rw [if_neg (by omega)] at eR eM
          exact skip eR eM
        · rw [if_pos (by omega)] at eR eM
          have hDs := hD.2 _ t hs e (by omega)
          suffices K140 : ∀ c, c ≤ 4 → ∀ S1 uc us, FJ a (szC S) S1 (rowsC a (4 * p + f) t (rowsS a (4 * p + f)) c) (mdS a (4 * p + f) + mdC a (4 * p + f) t (rowsS a (4 * p + f)) c) (4 * (4 * p + f) + c) uc us → T140 (nI p) (nI f) 1 (nI c) uc us S1 from K140 0 (by omega) S1 uc us hF
          refine loopUp (P := fun c => ∀ S1 uc us, FJ a (szC S) S1 (rowsC a (4 * p + f) t (rowsS a (4 * p + f)) c) (mdS a (4 * p + f) + mdC a (4 * p + f) t (rowsS a (4 * p + f)) c) (4 * (4 * p + f) + c) uc us → T140 (nI p) (nI f) 1 (nI c) uc us S1) 4 (fun c hc ihc S1 uc us hF => ?_)
          apply r140
          unfold C_findSheets_w140 C_findSheets_w171 C_findSheets_w165
          rw [show (4 : Int32) = nI 4 from rfl, nI_leE (by omega) (by omega), nI_eqE (by omega) (by omega), show (nI f : Int32) + 1 = nI (f + 1) from nI_add f 1, show (nI c : Int32) + 1 = nI (c + 1) from nI_add c 1]
          refine ⟨fun q3 => ?_, fun q3 => ⟨fun y => absurd y (by decide), fun _ => ⟨fun q4 => ?_, fun q4 => ?_⟩⟩⟩
          · rw [show c = 4 by omega] at hF
            refine ihf S1 uc us ?_
            show FJ a (szC S) S1 (rowsS a (4 * p + f + 1)) (mdS a (4 * p + f + 1)) (4 * (4 * p + f + 1)) uc us
            rw [eR, eM]
            exact hF
          · refine ihc (by omega) S1 uc us ?_
            have k1 : rowsC a (4 * p + f) t (rowsS a (4 * p + f)) (c + 1) = rowsC a (4 * p + f) t (rowsS a (4 * p + f)) c := if_pos (by omega)
            have k2 : mdC a (4 * p + f) t (rowsS a (4 * p + f)) (c + 1) = mdC a (4 * p + f) t (rowsS a (4 * p + f)) c := by
              show mdC a (4 * p + f) t (rowsS a (4 * p + f)) c + (if c = (4 * p + f) % 4 then 0 else _) = _
              rw [if_pos (by omega)]
              rfl
            rw [k1, k2]
            exact ⟨hF.1, hF.2.1, hF.2.2.1, hF.2.2.2.1, hF.2.2.2.2.1, by have := hF.2.2.2.2.2; omega⟩
          · have ihc := ihc (by omega)
            have k1 : rowsC a (4 * p + f) t (rowsS a (4 * p + f)) (c + 1) = stepL (aP a) (eqn a (4 * p + f) t c) (rowsC a (4 * p + f) t (rowsS a (4 * p + f)) c) := if_neg (by omega)
            have k2 : mdC a (4 * p + f) t (rowsS a (4 * p + f)) (c + 1) = mdC a (4 * p + f) t (rowsS a (4 * p + f)) c + ((rowsC a (4 * p + f) t (rowsS a (4 * p + f)) c).flatMap (prs (aP a) (eqn a (4 * p + f) t c) (rowsC a (4 * p + f) t (rowsS a (4 * p + f)) c) (rowsC a (4 * p + f) t (rowsS a (4 * p + f)) c))).length := by
              show mdC a (4 * p + f) t (rowsS a (4 * p + f)) c + (if c = (4 * p + f) % 4 then 0 else _) = _
              rw [if_neg (by omega)]
            have hDc := hDs c hc
            have hDn := hDs (c + 1) (by omega)
            have mm := mdC_mono a (4 * p + f) t (rowsS a (4 * p + f)) (show c + 1 ≤ 4 by omega)
            have ms2 := mdS_mono a (show 4 * p + f + 1 ≤ 4 * aP a by omega)
            rw [eM] at ms2
            rw [k1] at hDn
            rw [k2] at mm
            rw [k1, k2] at ihc
            obtain ⟨⟨f1, f1a, f1b, f1c⟩, f2, f3, f4, f5, f6⟩ := hF
            generalize hnp : ((rowsC a (4 * p + f) t (rowsS a (4 * p + f)) c).flatMap (prs (aP a) (eqn a (4 * p + f) t c) (rowsC a (4 * p + f) t (rowsS a (4 * p + f)) c) (rowsC a (4 * p + f) t (rowsS a (4 * p + f)) c))).length = np at mm ihc
            generalize hT : (stepL (aP a) (eqn a (4 * p + f) t c) (rowsC a (4 * p + f) t (rowsS a (4 * p + f)) c)).length = T
            have zs := szC_le f1a
            have n8 := f1a.2.2.2.2.2.2.2.2.1
            have n11 := f1a.2.2.2.2.2.2.2.2.2
            have hT2 : T ≤ 2000 := by rw [← hT]; exact hDn.1
            have cbd : cap (kN S1 (kA S1 11)) T ≤ 4096 := cap_le n11 hT2
            have cge := cap_ge (kN S1 (kA S1 11)) T
            have zdef : szC S1 = kN S1 (kA S1 8) + kN S1 (kA S1 11) := rfl
            refine ⟨np + (cap (kN S1 (kA S1 11)) T - kN S1 (kA S1 11)) / 64 + 1, 21 * np + 2 * (cap (kN S1 (kA S1 11)) T - kN S1 (kA S1 11)), by omega, by omega, ?_⟩
            have call := c_match (mc := np + (cap (kN S1 (kA S1 11)) T - kN S1 (kA S1 11)) / 64 + 1) (ms := 21 * np + 2 * (cap (kN S1 (kA S1 11)) T - kN S1 (kA S1 11))) ha f1 f1a f1b f1c f2 hDc hs e (show c < 4 by omega) (show c ≠ (4 * p + f) % 4 by omega) hDn.1 rfl hnp.symm hT.symm (Nat.le_refl _) (by omega) (post := fun S2 => T140 (nI p) (nI f) 1 (nI (c + 1)) (uc + (np + (cap (kN S1 (kA S1 11)) T - kN S1 (kA S1 11)) / 64 + 1)) (us + (21 * np + 2 * (cap (kN S1 (kA S1 11)) T - kN S1 (kA S1 11)))) S2) ?_
            · rw [e1, e2] at call
              exact call
            · intro S2 m1 m2 m3 m4 m5 m6 m7 m8
              have zdef2 : szC S2 = kN S2 (kA S2 8) + kN S2 (kA S2 11) := rfl
              rw [m7, m8] at zdef2
              rw [← hT] at m4 m5
              exact ihc S2 _ _ ⟨⟨m1, m2, m3, m4⟩, m5, by rw [m6]; exact f3, by omega, by omega, by omega⟩
  -- the unit rows
  have e7 : (7 : Int32) * nI (aP a) = nI (7 * aP a) := by simp (disch := omega) only [n0, n1, n2, n3, n4, n5, n6, n7, n8, n9, n10, n11, n12, n14, n16, n18, n21, n22, n36, n48, n63, n100, n108, n400, n1000, pk_mul, nI_add, pk_div, nI_subm, nI_ltE, nI_leE, nI_eqE, nI_clamp, vp_inE, nIm1, nIm1', nIm1n, nIm1n', nI_addn]
  have fr0 : frW S (tF S 12 0) := frW_tF (by decide) frW_rf
  obtain ⟨_, b1, b2, b3, b4, b5, b6, b7, b8, b9⟩ := id hI.2.1
  suffices K15 : ∀ i, i ≤ 7 * aP a → ∀ S1, LJ a S1 [] (unitsL i) → kF S1 10 = 0 → szC S1 = szC S → T15 (nI i) i (7 * aP a * i) S1 from K15 0 (by omega) (tF S 12 0) ⟨CR_w hI.1 fr0, arC_w hI.2.1 fr0 b1 b2 b3 b4 b5 b6 b7 b8 b9, fun r hr => absurd hr (Nat.not_lt_zero _), fun r hr => absurd hr (Nat.not_lt_zero _), Nat.zero_le _, Nat.zero_le _, by rw [kF_tF, if_pos rfl]; rfl⟩ (by rw [kF_tF, if_neg (by decide)]; exact c0) rfl
  refine loopUp (P := fun i => ∀ S1, LJ a S1 [] (unitsL i) → kF S1 10 = 0 → szC S1 = szC S → T15 (nI i) i (7 * aP a * i) S1) (7 * aP a) (fun i hi ih S1 hJ h10 hz => ?_)
  apply r15
  unfold C_findSheets_w15
  obtain ⟨j1, j2, j3, j4, j5, j6, j7⟩ := id hJ
  obtain ⟨_, d1, d2, d3, d4, d5, d6, d7, d8, d9⟩ := id j2
  have hul : (unitsL i).length = i := by simp [unitsL]
  have mono := mdS_mono a (Nat.zero_le (4 * aP a))
  have mono : 7 * aP a ≤ mdS a (4 * aP a) := mono
  have mm := Nat.mul_le_mul (show 7 * aP a ≤ 21 by omega) (show i ≤ 7 * aP a from hi)
  rw [j1.1, e7, nI_leE (by omega) (by omega), show (0 : Int32) = nI 0 from rfl, nI_ltE (by omega) (by omega), nI_clamp (by omega)]
  refine ⟨fun q => ?_, fun q => ⟨by omega, by omega, by omega, ?_, fun q4 hq4 => ?_⟩⟩
  · dsimp only
    have ei : i = 7 * aP a := by omega
    subst ei
    have fr : frW S1 (tF (tA (tA S1 8 (kA S1 11)) 11 (kA S1 8)) 9 (kF S1 12)) := frW_tF (by decide) (frW_tA (Or.inr rfl) (frW_tA (Or.inl rfl) frW_rf))
    have A8 : kA (tF (tA (tA S1 8 (kA S1 11)) 11 (kA S1 8)) 9 (kF S1 12)) 8 = kA S1 11 := by
      show va_up (va_up (kA S1) 8 (kA S1 11)) 11 (kA S1 8) 8 = _
      simp [va_up]
    have A11 : kA (tF (tA (tA S1 8 (kA S1 11)) 11 (kA S1 8)) 9 (kF S1 12)) 11 = kA S1 8 := by
      show va_up (va_up (kA S1) 8 (kA S1 11)) 11 (kA S1 8) 11 = _
      simp [va_up]
    have kn : kN (tF (tA (tA S1 8 (kA S1 11)) 11 (kA S1 8)) 9 (kF S1 12)) = kN S1 := rfl
    have zz : szC (tF (tA (tA S1 8 (kA S1 11)) 11 (kA S1 8)) 9 (kF S1 12)) = szC S := by
      rw [← hz]
      unfold szC
      rw [A8, A11, kn, Nat.add_comm]
    refine K79 0 (by omega) (tF (tA (tA S1 8 (kA S1 11)) 11 (kA S1 8)) 9 (kF S1 12)) _ _ ⟨⟨CR_w j1 fr, arC_w j2 fr (by rw [A8]; exact d2) (by rw [A11]; exact d1) (by rw [A8, A11]; exact fun z => d3 z.symm) (by rw [A8]; exact d5) (by rw [A11]; exact d4) (by rw [A8, kn]; exact d7) (by rw [A11, kn]; exact d6) (by rw [A8, kn]; exact d9) (by rw [A11, kn]; exact d8), ?_, ?_⟩, ?_, ?_, ?_, ?_, ?_⟩
    · rw [A8]
      intro r hr
      obtain ⟨z, z1, z2⟩ := j4 r hr
      exact ⟨z, z1, rowC_w fr z2⟩
    · rw [A8, kn]; exact j6
    · rw [kF_tF, if_pos rfl]; exact j7
    · rw [kF_tF, if_neg (by decide)]; exact h10
    · rw [zz]; exact Nat.le_refl _
    · rw [zz]
      show 7 * aP a * (7 * aP a) ≤ 21 * (7 * aP a) + 2 * (szC S - szC S)
      omega
    · rw [zz]
      show 64 * (7 * aP a) ≤ 64 * (7 * aP a) + (szC S - szC S) + 64 * (4 * (4 * 0))
      omega
  · rw [← Nat.mul_succ]
    have := Nat.mul_le_mul (show 7 * aP a ≤ 21 by omega) (show i + 1 ≤ 7 * aP a by omega)
    show 7 * aP a * (i + 1) ≤ ms
    omega
  · dsimp only
    obtain ⟨w1, w2, w3⟩ := nR_at S1 q4 (7 * aP a)
    have ex : extC S1 (tR (nR S1 q4 (7 * aP a)) q4 i 1) := extC_tR hq4 (extC_nR hq4 extC_rf)
    obtain ⟨x1, x2, x3, x4⟩ := LJ_ext hJ ex
    rw [w2, vp_inE (by omega) (by omega), nI_clamp (by omega)]
    refine ⟨w1, by omega, 0, 0, by omega, ?_, ?_⟩
    · have := Nat.mul_le_mul (show 7 * aP a ≤ 21 by omega) (show i + 1 ≤ 7 * aP a by omega)
      rw [Nat.mul_succ] at this
      omega
    have hrow : rowC (tR (nR S1 q4 (7 * aP a)) q4 i 1) q4 (7 * aP a) (unitV i) := new_row j2 ex hq4 w1 w2 (fun j hj => by
      rw [kR_tR]
      unfold unitV
      by_cases c : j = i
      · rw [if_pos ⟨rfl, c⟩, if_pos c]; rfl
      · rw [if_neg (fun z => c z.2), if_neg c, w3 j]; rfl)
    have n64 := x1.2.1.2.2.2.2.2.2.2.1
    refine c_keep x1 (by rw [hul]; omega) hrow (fun z => absurd z (by rw [hul]; omega)) (fun S2 k1 k2 k3 k4 k5 => ?_)
    rw [show (nI i : Int32) + 1 = nI (i + 1) from nI_add i 1, Nat.add_zero, Nat.add_zero, ← Nat.mul_succ]
    refine ih (by omega) S2 ?_ (by rw [k3, x4]; exact h10) ?_
    · have : unitsL (i + 1) = unitsL i ++ [unitV i] := by
        unfold unitsL
        rw [List.range_succ, List.map_append]
        rfl
      rw [this]
      exact k1
    · rw [← hz, ← x2]
      unfold szC
      rw [k4, k5]
      unfold capS
      rw [if_neg (by rw [hul]; omega)]
