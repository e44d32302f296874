/-! rows of the component's world -/
theorem in_X2' : ∀ w ∈ u_ws RX2 TX2 4, w ∈ lw_all := fun w h => in_X2 w (by obtain ⟨k, hk, rfl⟩ := List.mem_map.mp h; exact List.mem_map.mpr ⟨k, List.mem_range.mpr (Nat.lt_succ_of_lt (List.mem_range.mp hk)), rfl⟩)
theorem in_X3' : ∀ w ∈ u_ws RX3 TX3 4, w ∈ lw_all := fun w h => in_X3 w (by obtain ⟨k, hk, rfl⟩ := List.mem_map.mp h; exact List.mem_map.mpr ⟨k, List.mem_range.mpr (Nat.lt_succ_of_lt (List.mem_range.mp hk)), rfl⟩)
theorem in_X4' : ∀ w ∈ u_ws RX4 TX4 4, w ∈ lw_all := fun w h => in_X4 w (by obtain ⟨k, hk, rfl⟩ := List.mem_map.mp h; exact List.mem_map.mpr ⟨k, List.mem_range.mpr (Nat.lt_succ_of_lt (List.mem_range.mp hk)), rfl⟩)
theorem nmX2' : ∀ a, a < 4 → ∀ b, b < 4 → a ≠ b → (TX2 a).2.1 ≠ (TX2 b).2.1 := by decide +kernel
theorem nmX3' : ∀ a, a < 4 → ∀ b, b < 4 → a ≠ b → (TX3 a).2.1 ≠ (TX3 b).2.1 := by decide +kernel
theorem nmX4' : ∀ a, a < 4 → ∀ b, b < 4 → a ≠ b → (TX4 a).2.1 ≠ (TX4 b).2.1 := by decide +kernel
theorem tyX2_ok' : ∀ k, k < 4 → parseFieldDescriptor (TX2 k).2.2.1 = some (tyX2 k) := fun k h => tyX2_ok k (Nat.lt_succ_of_lt h)
theorem tyX3_ok' : ∀ k, k < 4 → parseFieldDescriptor (TX3 k).2.2.1 = some (tyX3 k) := fun k h => tyX3_ok k (Nat.lt_succ_of_lt h)
theorem tyX4_ok' : ∀ k, k < 4 → parseFieldDescriptor (TX4 k).2.2.1 = some (tyX4 k) := fun k h => tyX4_ok k (Nat.lt_succ_of_lt h)
theorem pcl0 {dA : Nat → ClassId} {S : CS} {a : Nat} (h : kK S a = 0) : pcl dA S a = .inr (5, [.int (kG S a).1, .int (kG S a).2.1, .ref (kG S a).2.2]) := by unfold pcl; rw [h]; rfl
theorem pcl1 {dA : Nat → ClassId} {S : CS} {a : Nat} (h : kK S a = 1) : pcl dA S a = .inl (dA 0, kN S a, .inl (kT S a)) := by unfold pcl; rw [h]; rfl
theorem pcl2 {dA : Nat → ClassId} {S : CS} {a : Nat} (h : kK S a = 2) : pcl dA S a = .inl (dA 3, kN S a, .inr (.inr (.inr (.inr (kO S a))))) := by unfold pcl; rw [h]; rfl
theorem pcl3 {dA : Nat → ClassId} {S : CS} {a : Nat} (h : kK S a = 3) : pcl dA S a = .inl (dA 2, kN S a, .inr (.inl (kR S a))) := by unfold pcl; rw [h]; rfl
theorem pcl4 {dA : Nat → ClassId} {S : CS} {a : Nat} (h : kK S a = 4) : pcl dA S a = .inr (5, [.int (kG S a).1, .int (kG S a).2.1, .null]) := by unfold pcl; rw [h]; rfl
theorem cw_at {dA : Nat → ClassId} {o : Nat → Nat} {S : CS} {a : Nat} (h : a ∈ kLP S) : ∃ k : Nat, (CW dA o S)[k]? = some (a, pcl dA S a) := va_pl_get h
theorem cw_at0 {dA : Nat → ClassId} {o : Nat → Nat} {S : CS} {a : Nat} (h : pk S a 0) : ∃ k : Nat, (CW dA o S)[k]? = some (a, .inr (5, [.int (kG S a).1, .int (kG S a).2.1, .ref (kG S a).2.2])) := by rw [← pcl0 (dA := dA) h.2]; exact cw_at h.1
theorem cw_at1 {dA : Nat → ClassId} {o : Nat → Nat} {S : CS} {a : Nat} (h : pk S a 1) : ∃ k : Nat, (CW dA o S)[k]? = some (a, .inl (dA 0, kN S a, .inl (kT S a))) := by rw [← pcl1 (dA := dA) h.2]; exact cw_at h.1
theorem cw_at2 {dA : Nat → ClassId} {o : Nat → Nat} {S : CS} {a : Nat} (h : pk S a 2) : ∃ k : Nat, (CW dA o S)[k]? = some (a, .inl (dA 3, kN S a, .inr (.inr (.inr (.inr (kO S a)))))) := by rw [← pcl2 (dA := dA) h.2]; exact cw_at h.1
theorem cw_at3 {dA : Nat → ClassId} {o : Nat → Nat} {S : CS} {a : Nat} (h : pk S a 3) : ∃ k : Nat, (CW dA o S)[k]? = some (a, .inl (dA 2, kN S a, .inr (.inl (kR S a)))) := by rw [← pcl3 (dA := dA) h.2]; exact cw_at h.1
theorem cw_at4 {dA : Nat → ClassId} {o : Nat → Nat} {S : CS} {a : Nat} (h : pk S a 4) : ∃ k : Nat, (CW dA o S)[k]? = some (a, .inr (5, [.int (kG S a).1, .int (kG S a).2.1, .null])) := by rw [← pcl4 (dA := dA) h.2]; exact cw_at h.1
theorem cw_set {dA : Nat → ClassId} {o : Nat → Nat} {S S' : CS} {A : Nat → Prop} {a k : Nat} {e0 e : va_E} (hD : va_D A (CW dA o S)) (ha : a ∈ kLP S) (hk : (CW dA o S)[k]? = some (a, e0)) (he : e0 = pcl dA S a) (hX : CX dA o S' = CX dA o S) (hL : kLP S' = kLP S) (hp : ∀ b, va_up (pcl dA S) a e b = pcl dA S' b) : (CW dA o S).set k (a, e) = CW dA o S' := by
  subst he
  unfold CW at hk hD ⊢
  rw [va_pl_set hD ha hk, hX, hL, va_pl_congr hp]
theorem cw_push {dA : Nat → ClassId} {o : Nat → Nat} {S S' : CS} {q : Nat} {e : va_E} (hq : q ∉ kLP S) (hX : CX dA o S' = CX dA o S) (hL : kLP S' = kLP S ++ [q]) (hp : ∀ b, va_up (pcl dA S) q e b = pcl dA S' b) : CW dA o S ++ [(q, e)] = CW dA o S' := by
  unfold CW
  rw [List.append_assoc, va_pl_push hq, hX, hL, va_pl_congr hp]
theorem cw_setT {dA : Nat → ClassId} {o : Nat → Nat} {S : CS} {A : Nat → Prop} {a k j : Nat} {x : Int32} (hD : va_D A (CW dA o S)) (h : pk S a 1) (hk : (CW dA o S)[k]? = some (a, .inl (dA 0, kN S a, .inl (kT S a)))) : (CW dA o S).set k (a, .inl (dA 0, kN S a, .inl (upd (kT S a) j x))) = CW dA o (tT S a j x) := by
  refine cw_set hD h.1 hk (pcl1 h.2).symm rfl rfl (fun b => ?_)
  have h2 := h.2
  show va_up (pcl dA S) a (.inl (dA 0, kN S a, .inl (upd (kT S a) j x))) b = pclE dA (kK S b) (kG S b) (kN S b) (va_up (kT S) a (upd (kT S a) j x) b) (kO S b) (kR S b)
  by_cases hb : b = a
  · subst hb
    simp only [va_up_self, h2]
    rfl
  · simp only [va_up_ne _ _ hb]
    rfl
theorem cw_setO {dA : Nat → ClassId} {o : Nat → Nat} {S : CS} {A : Nat → Prop} {a k j : Nat} {x : Option Nat} (hD : va_D A (CW dA o S)) (h : pk S a 2) (hk : (CW dA o S)[k]? = some (a, .inl (dA 3, kN S a, .inr (.inr (.inr (.inr (kO S a))))))) : (CW dA o S).set k (a, .inl (dA 3, kN S a, .inr (.inr (.inr (.inr (va_up (kO S a) j x)))))) = CW dA o (tO S a j x) := by
  refine cw_set hD h.1 hk (pcl2 h.2).symm rfl rfl (fun b => ?_)
  have h2 := h.2
  show va_up (pcl dA S) a (.inl (dA 3, kN S a, .inr (.inr (.inr (.inr (va_up (kO S a) j x)))))) b = pclE dA (kK S b) (kG S b) (kN S b) (kT S b) (va_up (kO S) a (va_up (kO S a) j x) b) (kR S b)
  by_cases hb : b = a
  · subst hb
    simp only [va_up_self, h2]
    rfl
  · simp only [va_up_ne _ _ hb]
    rfl
theorem cw_setR {dA : Nat → ClassId} {o : Nat → Nat} {S : CS} {A : Nat → Prop} {a k j : Nat} {x : Int64} (hD : va_D A (CW dA o S)) (h : pk S a 3) (hk : (CW dA o S)[k]? = some (a, .inl (dA 2, kN S a, .inr (.inl (kR S a))))) : (CW dA o S).set k (a, .inl (dA 2, kN S a, .inr (.inl (vp_updL (kR S a) j x)))) = CW dA o (tR S a j x) := by
  refine cw_set hD h.1 hk (pcl3 h.2).symm rfl rfl (fun b => ?_)
  have h2 := h.2
  show va_up (pcl dA S) a (.inl (dA 2, kN S a, .inr (.inl (vp_updL (kR S a) j x)))) b = pclE dA (kK S b) (kG S b) (kN S b) (kT S b) (kO S b) (va_up (kR S) a (vp_updL (kR S a) j x) b)
  by_cases hb : b = a
  · subst hb
    simp only [va_up_self, h2]
    rfl
  · simp only [va_up_ne _ _ hb]
    rfl
theorem cw_setGp {dA : Nat → ClassId} {o : Nat → Nat} {S : CS} {A : Nat → Prop} {a k : Nat} {x : Int32} (hD : va_D A (CW dA o S)) (h : pk S a 4) (hk : (CW dA o S)[k]? = some (a, .inr (5, [.int (kG S a).1, .int (kG S a).2.1, .null]))) : (CW dA o S).set k (a, .inr (5, [.int x, .int (kG S a).2.1, .null])) = CW dA o (tG S a 4 (x, (kG S a).2)) := by
  refine cw_set hD h.1 hk (pcl4 h.2).symm rfl rfl (fun b => ?_)
  have h2 := h.2
  show va_up (pcl dA S) a (.inr (5, [.int x, .int (kG S a).2.1, .null])) b = pclE dA (va_up (kK S) a 4 b) (va_up (kG S) a (x, (kG S a).2) b) (kN S b) (kT S b) (kO S b) (kR S b)
  by_cases hb : b = a
  · subst hb
    simp only [va_up_self, h2]
    rfl
  · simp only [va_up_ne _ _ hb]
    rfl
theorem cw_setGs {dA : Nat → ClassId} {o : Nat → Nat} {S : CS} {A : Nat → Prop} {a k : Nat} {x : Int32} (hD : va_D A (CW dA o S)) (h : pk S a 4) (hk : (CW dA o S)[k]? = some (a, .inr (5, [.int (kG S a).1, .int (kG S a).2.1, .null]))) : (CW dA o S).set k (a, .inr (5, [.int (kG S a).1, .int x, .null])) = CW dA o (tG S a 4 ((kG S a).1, x, (kG S a).2.2)) := by
  refine cw_set hD h.1 hk (pcl4 h.2).symm rfl rfl (fun b => ?_)
  have h2 := h.2
  show va_up (pcl dA S) a (.inr (5, [.int (kG S a).1, .int x, .null])) b = pclE dA (va_up (kK S) a 4 b) (va_up (kG S) a ((kG S a).1, x, (kG S a).2.2) b) (kN S b) (kT S b) (kO S b) (kR S b)
  by_cases hb : b = a
  · subst hb
    simp only [va_up_self, h2]
    rfl
  · simp only [va_up_ne _ _ hb]
    rfl
theorem cw_setGt {dA : Nat → ClassId} {o : Nat → Nat} {S : CS} {A : Nat → Prop} {a k : Nat} {x : Nat} (hD : va_D A (CW dA o S)) (h : pk S a 4) (hk : (CW dA o S)[k]? = some (a, .inr (5, [.int (kG S a).1, .int (kG S a).2.1, .null]))) : (CW dA o S).set k (a, .inr (5, [.int (kG S a).1, .int (kG S a).2.1, .ref x])) = CW dA o (tG S a 0 ((kG S a).1, (kG S a).2.1, x)) := by
  refine cw_set hD h.1 hk (pcl4 h.2).symm rfl rfl (fun b => ?_)
  have h2 := h.2
  show va_up (pcl dA S) a (.inr (5, [.int (kG S a).1, .int (kG S a).2.1, .ref x])) b = pclE dA (va_up (kK S) a 0 b) (va_up (kG S) a ((kG S a).1, (kG S a).2.1, x) b) (kN S b) (kT S b) (kO S b) (kR S b)
  by_cases hb : b = a
  · subst hb
    simp only [va_up_self, h2]
    rfl
  · simp only [va_up_ne _ _ hb]
    rfl
theorem cw_nT {dA : Nat → ClassId} {o : Nat → Nat} {S : CS} {q n : Nat} (hq : q ∉ kLP S) : CW dA o S ++ [(q, .inl (dA 0, n, .inl (fun _ => 0)))] = CW dA o (nT S q n) := by
  refine cw_push hq rfl rfl (fun b => ?_)
  show va_up (pcl dA S) q (.inl (dA 0, n, .inl (fun _ => 0))) b = pclE dA (va_up (kK S) q 1 b) (kG S b) (va_up (kN S) q n b) (va_up (kT S) q (fun _ => 0) b) (kO S b) (kR S b)
  by_cases hb : b = q
  · subst hb
    simp only [va_up_self]
    rfl
  · simp only [va_up_ne _ _ hb]
    rfl
theorem cw_nR {dA : Nat → ClassId} {o : Nat → Nat} {S : CS} {q n : Nat} (hq : q ∉ kLP S) : CW dA o S ++ [(q, .inl (dA 2, n, .inr (.inl (fun _ => 0))))] = CW dA o (nR S q n) := by
  refine cw_push hq rfl rfl (fun b => ?_)
  show va_up (pcl dA S) q (.inl (dA 2, n, .inr (.inl (fun _ => 0)))) b = pclE dA (va_up (kK S) q 3 b) (kG S b) (va_up (kN S) q n b) (kT S b) (kO S b) (va_up (kR S) q (fun _ => 0) b)
  by_cases hb : b = q
  · subst hb
    simp only [va_up_self]
    rfl
  · simp only [va_up_ne _ _ hb]
    rfl
theorem cw_nO {dA : Nat → ClassId} {o : Nat → Nat} {S : CS} {q n : Nat} (hq : q ∉ kLP S) : CW dA o S ++ [(q, .inl (dA 3, n, .inr (.inr (.inr (.inr (fun _ => none))))))] = CW dA o (nO S q n) := by
  refine cw_push hq rfl rfl (fun b => ?_)
  show va_up (pcl dA S) q (.inl (dA 3, n, .inr (.inr (.inr (.inr (fun _ => none)))))) b = pclE dA (va_up (kK S) q 2 b) (kG S b) (va_up (kN S) q n b) (kT S b) (va_up (kO S) q (fun _ => none) b) (kR S b)
  by_cases hb : b = q
  · subst hb
    simp only [va_up_self]
    rfl
  · simp only [va_up_ne _ _ hb]
    rfl
theorem cw_nG4 {dA : Nat → ClassId} {o : Nat → Nat} {S : CS} {q : Nat} (hq : q ∉ kLP S) : CW dA o S ++ [(q, .inr (5, [.int 0, .int 0, .null]))] = CW dA o (nG4 S q) := by
  refine cw_push hq rfl rfl (fun b => ?_)
  show va_up (pcl dA S) q (.inr (5, [.int 0, .int 0, .null])) b = pclE dA (va_up (kK S) q 4 b) (va_up (kG S) q (0, 0, 0) b) (kN S b) (kT S b) (kO S b) (kR S b)
  by_cases hb : b = q
  · subst hb
    simp only [va_up_self]
    rfl
  · simp only [va_up_ne _ _ hb]
    rfl
