/-! the law's world: the component's and the model's side by side; the law's calls -/
def lwW (D : va_G) (dA dM : Nat → ClassId) (o oM : Nat → Nat) (A : Nat → Prop) (s : State) (S : CS) (T : MS) (H : Heap) (locs : List Loc) : Prop := va_K D vwCl (cT dA) s ∧ va_K D vwCl (mT dM) s ∧ va_P D vwCl (CW dA o S ++ MW dM oM T) H ∧ va_D A (CW dA o S ++ MW dM oM T) ∧ va_S A s.heap H locs ∧ cN s ∧ cSt A s s.heap
section LC
variable {p : Program} {l : Launch} {e : Env} {R : Room} {s : State} {m : MethodId} {args : Array Value} {below : List Frame} {meth : Method} {c : Code} {H : Heap} {locs : List Loc} {cells slots : Nat} {Q : State → Prop}
variable {own : String} {cc : ByteArray} {pc nL : Nat} {ls : Array Slot} {rest : List Value} {D : va_G} {dA dM : Nat → ClassId} {o oM : Nat → Nat} {A : Nat → Prop} {S : CS} {T : MS}
variable {y : MethodName} {cy : ByteArray} {ny idx n : Nat} {rety : Option FieldType} {rm : Room} {As : List Value} {st0 : List Value}
theorem lc_freeC (w : lwW D dA dM o oM A s S T H locs) (hA : ∀ q : Nat, s.heap.size ≤ q → A q) : ∀ q : Nat, va_A (CW dA o S) H.size q → A q := by
  intro q h
  rcases h with ⟨k, e, h⟩ | h
  · exact (wj_D w.2.2.2.1).1.2 k _ h
  · exact hA q (Nat.le_trans w.2.2.2.2.1.1 h)
theorem lc_freeM (w : lwW D dA dM o oM A s S T H locs) (hA : ∀ q : Nat, s.heap.size ≤ q → A q) : ∀ q : Nat, va_A (MW dM oM T) H.size q → A q := by
  intro q h
  rcases h with ⟨k, e, h⟩ | h
  · exact (wj_D w.2.2.2.1).2.1.2 k _ h
  · exact hA q (Nat.le_trans w.2.2.2.2.1.1 h)
/-- x.y(..) -/
theorem lc_callC {post : Int32 → CS → Prop} (C : CallFix p m c cc nL s args lw_all own) (hA : ∀ q : Nat, s.heap.size ≤ q → A q) (w : lwW D dA dM o oM A s S T H locs) (hM : oI y cy ny rety rm (fun o => .ref (o 0) :: As) S post) (k : CallW R s args own RX0 idx y cy ny rety (ws_ y cy ny rety) rm rm.cells rm.slots n) (hlen : As.length = n) (hl : ls.size = nL) (hst : st0 = As.reverse ++ .ref (o 0) :: rest) (hcat : (rest.map fun v => v.category).sum ≤ 8) (hf : cells + rm.cells ≤ R.cells ∧ slots + rm.slots ≤ R.slots) (hdg : decode cc pc = .ok (.invokevirtual idx, 3))
    (kk : ∀ (r : Int32) (S' : CS) (H : Heap) (locs : List Loc), post r S' → lwW D dA dM o oM A s S' T H locs → W p l e R s m args below meth c H locs (cells + rm.cells) (slots + rm.slots) Q (F0 m (pc + 3) ls (.int r :: rest))) : W p l e R s m args below meth c H locs cells slots Q (F0 m pc ls st0) := by
  have hPc := (wj_P w.2.2.1).1
  have hDc := (wj_D w.2.2.2.1).1
  have hF := lc_freeC w hA
  have pv : PreV s H RX0 (o 0) (cPc D dA o H.size S (.ref (o 0) :: As)) As := ⟨cr_blind, va_recv w.1 hPc (ci := 1) (q0 := 0) rfl rfl, fun U hU hW => ⟨rfl, by rw [hU], by rw [hU]; exact hPc, va_K.moved hW.alike w.1, hDc.weaken (fun _ _ _ _ => trivial), cN_warm hW w.2.2.2.2.2.1, by rw [hU]; exact cSt_moved hW.alike (cSt_narrow (cSt_kept w.2.2.2.2.2.2 (fun a h1 h2 => w.2.2.2.2.1.2.1 a h1 h2)) hF)⟩⟩
  refine va_calli (va_runV (As := As) (rest := rest) C (hM l D dA o H.size) k pv rfl hlen hl hst (lv_room hcat) hdg hf) w.2.2.2.2.1 (fun q _ h => hF q h) hF (fun r u t H1 locs1 ht hvm hp hB hz hk hS => ?_)
  obtain ⟨b1, b2, b3⟩ := hB
  rw [ht] at b1
  obtain ⟨j1, j2⟩ := wj_left w.2.2.1 w.2.2.2.1 hk hF b1 b3
  exact kk r u H1 locs1 hp ⟨w.1, w.2.1, j1, j2, hS, w.2.2.2.2.2⟩
/-- m.y(..) -/
theorem lc_callM {post : Int32 → MS → Prop} (C : CallFix p m c cc nL s args lw_all own) (hA : ∀ q : Nat, s.heap.size ≤ q → A q) (w : lwW D dA dM o oM A s S T H locs) (hM : okI y cy ny rety rm (fun o => .ref (o 0) :: As) T post) (k : CallW R s args own RX5 idx y cy ny rety (ws_ y cy ny rety) rm 0 0 n) (hlen : As.length = n) (hl : ls.size = nL) (hst : st0 = As.reverse ++ .ref (oM 0) :: rest) (hcat : (rest.map fun v => v.category).sum ≤ 8) (hf : cells ≤ R.cells ∧ slots ≤ R.slots) (hdg : decode cc pc = .ok (.invokevirtual idx, 3))
    (kk : ∀ (r : Int32) (T' : MS) (H : Heap) (locs : List Loc), post r T' → lwW D dA dM o oM A s S T' H locs → W p l e R s m args below meth c H locs cells slots Q (F0 m (pc + 3) ls (.int r :: rest))) : W p l e R s m args below meth c H locs cells slots Q (F0 m pc ls st0) := by
  have hPc := (wj_P w.2.2.1).2
  have hDc := (wj_D w.2.2.2.1).2.1
  have hF := lc_freeM w hA
  have pv : PreV s H RX5 (oM 0) (mPc D dM oM H.size T (.ref (oM 0) :: As)) As := ⟨fun a U g mk q => by obtain ⟨q0, q1, qP, qK, qD⟩ := q; exact ⟨q0, q1, qP, va_K.moved (u := U) (U := U.calling g mk a) (Vm.Alike.refl U.vm) qK, qD⟩, va_recv w.2.1 hPc (ci := 0) (q0 := 0) rfl rfl, fun U hU hW => ⟨rfl, by rw [hU], by rw [hU]; exact hPc, va_K.moved hW.alike w.2.1, hDc.weaken (fun _ _ _ _ => trivial)⟩⟩
  refine va_calli (va_runV (As := As) (rest := rest) C (hM l D dM oM H.size) k pv rfl hlen hl hst (lv_room hcat) hdg hf) w.2.2.2.2.1 (fun q _ h => hF q h) hF (fun r u t H1 locs1 ht hvm hp hB hz hk hS => ?_)
  obtain ⟨b1, b2, b3⟩ := hB
  rw [ht] at b1
  obtain ⟨j1, j2⟩ := wj_right w.2.2.1 w.2.2.2.1 hk hF b1 b3
  exact kk r u H1 locs1 hp ⟨w.1, w.2.1, j1, j2, hS, w.2.2.2.2.2⟩
end LC
