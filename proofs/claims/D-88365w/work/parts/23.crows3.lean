/-! rows of the component's world: cells made, statics, calls -/
section CRN
variable {p : Program} {l : Launch} {e : Env} {R : Room} {s : State} {m : MethodId} {args : Array Value} {below : List Frame} {meth : Method} {c : Code} {H : Heap} {locs : List Loc} {cells slots : Nat} {Q : State → Prop}
variable {own : String} {cc : ByteArray} {pc nL : Nat} {ls : Array Slot} {rest : List Value} {D : va_G} {dA : Nat → ClassId} {o : Nat → Nat} {A : Nat → Prop} {S : CS} {ret : Option FieldType}
theorem cr_fresh (w : cw D dA o A s S H locs) {q : Nat} {e0 : va_E} {H1 : Heap} (hD : va_D A (CW dA o S ++ [(q, e0)])) : q ∉ kLP S := by
  intro hq
  obtain ⟨k, hk⟩ := cw_at (dA := dA) (o := o) hq
  have hl := (List.getElem?_eq_some_iff.mp hk).1
  have h1 : (CW dA o S ++ [(q, e0)])[k]? = some (q, pcl dA S q) := by rw [List.getElem?_append_left hl]; exact hk
  have h2 : (CW dA o S ++ [(q, e0)])[(CW dA o S).length]? = some (q, e0) := by rw [List.getElem?_append_right (Nat.le_refl _)]; simp
  have := hD.1 _ _ _ _ h1 h2 rfl
  omega
theorem cr_newT (C : cC own p m c cc nL s args meth ret A) (w : cw D dA o A s S H locs) {n : Int32} (hn : ¬ n < 0) (hby : n.toNatClampNeg ≤ 8000000) (hc : cells + 1 ≤ R.cells) (hs : slots + n.toNatClampNeg ≤ R.slots) (hdg : decode cc pc = .ok (.newarray .int, 2))
    (kk : ∀ (q : Nat) (H : Heap), q ∉ kLP S → cw D dA o A s (nT S q n.toNatClampNeg) H locs → W p l e R s m args below meth c H locs (cells + 1) (slots + n.toNatClampNeg) Q (F0 m (pc + 2) ls (.ref q :: rest))) : W p l e R s m args below meth c H locs cells slots Q (F0 m pc ls (.int n :: rest)) := by
  refine va_newa (atype := .int) (a0 := (n.toNatClampNeg, .inl (fun _ => 0))) C.1.1 C.1.2.1 (C.1.2.2.2.2 _ q130) rfl w.1 w.2.1 w.2.2.1 w.2.2.2.1 C.2.2.2 (fun cA => rfl) hn rfl (by show _ * 4 ≤ _; omega) hc hs hdg (fun q cA H1 hK hP hD hS => ?_)
  have e1 : cA = dA 0 := Option.some.inj (((hK.2 6 _ rfl).2).symm.trans (w.1.2 0 _ rfl).2)
  subst e1
  have hq := cr_fresh (H1 := H1) w hD
  rw [cw_nT hq] at hP hD
  exact kk q H1 hq ⟨w.1, hP, hD, hS, w.2.2.2.2⟩
theorem cr_newR (C : cC own p m c cc nL s args meth ret A) (w : cw D dA o A s S H locs) {n : Int32} (hn : ¬ n < 0) (hby : n.toNatClampNeg ≤ 8000000) (hc : cells + 1 ≤ R.cells) (hs : slots + n.toNatClampNeg ≤ R.slots) (hdg : decode cc pc = .ok (.newarray .long, 2))
    (kk : ∀ (q : Nat) (H : Heap), q ∉ kLP S → cw D dA o A s (nR S q n.toNatClampNeg) H locs → W p l e R s m args below meth c H locs (cells + 1) (slots + n.toNatClampNeg) Q (F0 m (pc + 2) ls (.ref q :: rest))) : W p l e R s m args below meth c H locs cells slots Q (F0 m pc ls (.int n :: rest)) := by
  refine va_newa (atype := .long) (a0 := (n.toNatClampNeg, .inr (.inl (fun _ => 0)))) C.1.1 C.1.2.1 (C.1.2.2.2.2 _ q222) rfl w.1 w.2.1 w.2.2.1 w.2.2.2.1 C.2.2.2 (fun cA => rfl) hn rfl (by show _ * 8 ≤ _; omega) hc hs hdg (fun q cA H1 hK hP hD hS => ?_)
  have e1 : cA = dA 2 := Option.some.inj (((hK.2 6 _ rfl).2).symm.trans (w.1.2 2 _ rfl).2)
  subst e1
  have hq := cr_fresh (H1 := H1) w hD
  rw [cw_nR hq] at hP hD
  exact kk q H1 hq ⟨w.1, hP, hD, hS, w.2.2.2.2⟩
theorem cr_newO (C : cC RX0 p m c cc nL s args meth ret A) (w : cw D dA o A s S H locs) {index : Nat} (q9 : Cond.classLink RX0 index "[J" ∈ lw_all) {n : Int32} (hn : ¬ n < 0) (hby : n.toNatClampNeg ≤ 8000000) (hc : cells + 1 ≤ R.cells) (hs : slots + n.toNatClampNeg ≤ R.slots) (hdg : decode cc pc = .ok (.anewarray index, 3))
    (kk : ∀ (q : Nat) (H : Heap), q ∉ kLP S → cw D dA o A s (nO S q n.toNatClampNeg) H locs → W p l e R s m args below meth c H locs (cells + 1) (slots + n.toNatClampNeg) Q (F0 m (pc + 3) ls (.ref q :: rest))) : W p l e R s m args below meth c H locs cells slots Q (F0 m pc ls (.int n :: rest)) := by
  refine W.anewA (t := .long) C.1.1 C.1.2.1 C.1.2.2.2.1 (C.1.2.2.2.2 _ q9) w.2.2.2.2.1.2.1 rfl hdg rfl hn (by omega) hc hs fun cA kA comp f1 f2 f3 f4 => ?_
  have e1 : cA = dA 3 := Option.some.inj (f1.symm.trans (w.1.2 3 _ rfl).2)
  subst e1
  generalize hH1 : H.push ({ cls := dA 3, slots := Array.replicate n.toNatClampNeg .null, vm := .none } : Cell) = H1
  have z1 : H1.size = H.size + 1 := by rw [← hH1, Array.size_push]
  have e1 : H1[H.size]? = some (arrV (dA 3) n.toNatClampNeg (fun _ => .null)) := by rw [← hH1, Array.getElem?_push_size, ← arrV_new]
  have o1 : ∀ q : Nat, q < H.size → H1[q]? = H[q]? := fun q hq => by rw [← hH1, Array.getElem?_push, if_neg (Nat.ne_of_lt hq)]
  have hk : ∀ (k : Nat) (x : Nat × va_E), (CW dA o S)[k]? = some x → H1[x.1]? = H[x.1]? := fun k x hx => o1 x.1 ((w.2.1 k x hx).lt)
  have hP : va_P D vwCl (CW dA o S ++ [(H.size, .inl (dA 3, n.toNatClampNeg, .inr (.inr (.inr (.inr (fun _ => none))))))]) H1 := by
    refine (w.2.1.kept hk).app (fun k x hx => ?_)
    have hz : k < 1 := (List.getElem?_eq_some_iff.mp hx).1
    rw [show k = 0 by omega] at hx
    cases hx
    show H1[H.size]? = some (vp_cell _ _)
    rw [vp_cell_q]
    exact e1
  have hD : va_D A (CW dA o S ++ [(H.size, .inl (dA 3, n.toNatClampNeg, .inr (.inr (.inr (.inr (fun _ => none))))))]) := w.2.2.1.push w.2.1 rfl (C.2.2.2 _ w.2.2.2.1.1)
  have hq := cr_fresh (H1 := H1) w hD
  rw [cw_nO hq] at hP hD
  exact kk H.size H1 hq ⟨w.1, hP, hD, ⟨Nat.le_trans w.2.2.2.1.1 (by omega), fun x h1 h2 => (o1 x (Nat.lt_of_lt_of_le h1 w.2.2.2.1.1)).trans (w.2.2.2.1.2.1 x h1 h2), w.2.2.2.1.2.2⟩, w.2.2.2.2⟩
theorem cr_newG (C : cC RX0 p m c cc nL s args meth ret A) (w : cw D dA o A s S H locs) {index : Nat} (q9 : Cond.classLink RX0 index RX6 ∈ lw_all) (q8 : Cond.instantiable RX6 3 ∈ lw_all) (q7 : Cond.initialized RX6 ∈ lw_all) (hc : cells + 1 ≤ R.cells) (hs : slots + 3 ≤ R.slots) (hdg : decode cc pc = .ok (.new index, 3))
    (kk : ∀ (q : Nat) (H : Heap), q ∉ kLP S → cw D dA o A s (nG4 S q) H locs → W p l e R s m args below meth c H locs (cells + 1) (slots + 3) Q (F0 m (pc + 3) ls (.ref q :: rest))) : W p l e R s m args below meth c H locs cells slots Q (F0 m pc ls rest) := by
  refine va_new (ci := 5) (fs := [.int 0, .int 0, .null]) (C := RX6) (T := TX6) (N := 3) C.1.1 C.1.2.1 C.1.2.2.2.2 in_X6 tyX6 tyX6_ok C.1.2.2.2.1 (C.1.2.2.2.2 _ q9) (C.1.2.2.2.2 _ q8) (C.1.2.2.2.2 _ q7) w.1 w.2.1 w.2.2.1 w.2.2.2.1 C.2.2.2 rfl (fun j hj => by rcases (show j = 0 ∨ j = 1 ∨ j = 2 by omega) with rfl | rfl | rfl <;> rfl) hc hs hdg (fun q H1 hP hD hS => ?_)
  have hq := cr_fresh (H1 := H1) w hD
  rw [cw_nG4 hq] at hP hD
  exact kk q H1 hq ⟨w.1, hP, hD, hS, w.2.2.2.2⟩
/-- Glue's own constructor writes its final fields -/
theorem cr_putGp (C : cC RX6 p m c cc nL s args meth ret A) (hin2 : meth.name = "<init>") (w : cw D dA o A s S H locs) {a index : Nat} {x : Int32} (h : pk S a 4) (q : Cond.fieldLink RX6 index RX6 "piece" "I" ∈ lw_all) (hdg : decode cc pc = .ok (.putfield index, 3))
    (kk : ∀ (H : Heap) (locs : List Loc), cw D dA o A s (tG S a 4 (x, (kG S a).2)) H locs → W p l e R s m args below meth c H locs cells slots Q (F0 m (pc + 3) ls rest)) : W p l e R s m args below meth c H locs cells slots Q (F0 m pc ls (.int x :: .ref a :: rest)) := by
  obtain ⟨k, hk⟩ := cw_at4 (dA := dA) (o := o) h
  have hs := cw_setGp (x := x) w.2.2.1 h hk
  exact va_putF (D := D) (ci := 5) (C := RX6) (T := TX6) (N := 3) (ty := .int) C.1.1 C.1.2.1 C.1.2.2.2.2 in_X6 tyX6 tyX6_ok nmX6 C.1.2.2.2.1 w.1 w.2.1 w.2.2.1 w.2.2.2.1 k hk rfl 0 (by decide) (C.1.2.2.2.2 _ q) (fun _ h9 => h9) rfl hin2 rfl (by decide +kernel) rfl rfl (Nat.le_of_ble_eq_true rfl) hdg (fun H1 locs1 h1 h2 h3 => kk H1 locs1 ⟨w.1, hs ▸ h1, hs ▸ h2, h3, w.2.2.2.2⟩)
theorem cr_putGs (C : cC RX6 p m c cc nL s args meth ret A) (hin2 : meth.name = "<init>") (w : cw D dA o A s S H locs) {a index : Nat} {x : Int32} (h : pk S a 4) (q : Cond.fieldLink RX6 index RX6 "side" "I" ∈ lw_all) (hdg : decode cc pc = .ok (.putfield index, 3))
    (kk : ∀ (H : Heap) (locs : List Loc), cw D dA o A s (tG S a 4 ((kG S a).1, x, (kG S a).2.2)) H locs → W p l e R s m args below meth c H locs cells slots Q (F0 m (pc + 3) ls rest)) : W p l e R s m args below meth c H locs cells slots Q (F0 m pc ls (.int x :: .ref a :: rest)) := by
  obtain ⟨k, hk⟩ := cw_at4 (dA := dA) (o := o) h
  have hs := cw_setGs (x := x) w.2.2.1 h hk
  exact va_putF (D := D) (ci := 5) (C := RX6) (T := TX6) (N := 3) (ty := .int) C.1.1 C.1.2.1 C.1.2.2.2.2 in_X6 tyX6 tyX6_ok nmX6 C.1.2.2.2.1 w.1 w.2.1 w.2.2.1 w.2.2.2.1 k hk rfl 1 (by decide) (C.1.2.2.2.2 _ q) (fun _ h9 => h9) rfl hin2 rfl (by decide +kernel) rfl rfl (Nat.le_of_ble_eq_true rfl) hdg (fun H1 locs1 h1 h2 h3 => kk H1 locs1 ⟨w.1, hs ▸ h1, hs ▸ h2, h3, w.2.2.2.2⟩)
theorem cr_putGt (C : cC RX6 p m c cc nL s args meth ret A) (hin2 : meth.name = "<init>") (w : cw D dA o A s S H locs) {a index : Nat} {x : Nat} (h : pk S a 4) (q : Cond.fieldLink RX6 index RX6 "to" "[I" ∈ lw_all) (hdg : decode cc pc = .ok (.putfield index, 3))
    (kk : ∀ (H : Heap) (locs : List Loc), cw D dA o A s (tG S a 0 ((kG S a).1, (kG S a).2.1, x)) H locs → W p l e R s m args below meth c H locs cells slots Q (F0 m (pc + 3) ls rest)) : W p l e R s m args below meth c H locs cells slots Q (F0 m pc ls (.ref x :: .ref a :: rest)) := by
  obtain ⟨k, hk⟩ := cw_at4 (dA := dA) (o := o) h
  have hs := cw_setGt (x := x) w.2.2.1 h hk
  exact va_putF (D := D) (ci := 5) (C := RX6) (T := TX6) (N := 3) (ty := .array .int) C.1.1 C.1.2.1 C.1.2.2.2.2 in_X6 tyX6 tyX6_ok nmX6 C.1.2.2.2.1 w.1 w.2.1 w.2.2.1 w.2.2.2.1 k hk rfl 2 (by decide) (C.1.2.2.2.2 _ q) (fun _ h9 => h9) rfl hin2 rfl (by decide +kernel) rfl rfl (Nat.le_of_ble_eq_true rfl) hdg (fun H1 locs1 h1 h2 h3 => kk H1 locs1 ⟨w.1, hs ▸ h1, hs ▸ h2, h3, w.2.2.2.2⟩)
theorem cr_aret {post : Nat → CS → Prop} {a : Nat} {ty : FieldType} (C : cC own p m c cc nL s args meth (some ty) A) (w : cw D dA o A s S H locs) (hw : ∀ (cells slots : Nat) (Qc : Array Value → State → Outcome → State → Prop), (∀ t : State, t.heap = H → s.WarmedH t.vm → Qc args s (.returned (some (.ref a))) t) → W p l e R s m args below meth c H locs cells slots (MQ below Qc args s cells slots A) (F0 m pc ls [.ref a])) (h : post a S) (h1 : cells ≤ R.cells) (h2 : slots ≤ R.slots) : W p l e R s m args below meth c H locs cells slots (cQr below args s D dA o A R post) (F0 m pc ls [.ref a]) :=
  W.widen h1 h2 (hw _ _ _ (fun t ht hW => ⟨⟨S, a, rfl, trivial, h, by rw [ht]; exact w.2.1, va_K.moved hW.alike w.1, w.2.2.1⟩, w.2.2.2.1.F ht⟩))
/-- getstatic LOW, HIGH -/
theorem cr_gets {tt : Nat} {f : Nat → Value} {nm : String} (C : cC RX0 p m c cc nL s args meth ret A) (w : cw D dA o A s S H locs) (hZ : va_Z RX0 nm "[I" (.ref tt) A s s.heap) {index : Nat} (q : Cond.fieldLink RX0 index RX0 nm "[I" ∈ lw_all) (hdg : decode cc pc = .ok (.getstatic index, 3))
    (kk : W p l e R s m args below meth c H locs cells slots Q (F0 m (pc + 3) ls (.ref tt :: rest))) : W p l e R s m args below meth c H locs cells slots Q (F0 m pc ls rest) :=
  va_gets C.1.1 C.1.2.1 hZ w.2.2.2.1 C.1.2.2.2.1 (C.1.2.2.2.2 _ q) (fun _ h => h) hdg kk
theorem cr_getsN {tt : Nat} {nm : String} (C : cC own p m c cc nL s args meth ret A) (w : cw D dA o A s S H locs) (hZ : va_Z RX0 nm "[I" (.ref tt) A s s.heap) {index : Nat} (q : Cond.fieldLinkNest own index RX0 nm "[I" RX0 ∈ nestW) (hdg : decode cc pc = .ok (.getstatic index, 3))
    (kk : W p l e R s m args below meth c H locs cells slots Q (F0 m (pc + 3) ls (.ref tt :: rest))) : W p l e R s m args below meth c H locs cells slots Q (F0 m pc ls rest) :=
  va_getsN C.1.1 C.1.2.1 hZ w.2.2.2.1 C.1.2.2.2.1 (va_Nw.use rfl (w.2.2.2.2.1.1 _ q)) (fun _ h => h) hdg kk
theorem cr_sald {tt : Nat} {f : Nat → Int32} (C : cC own p m c cc nL s args meth ret A) (w : cw D dA o A s S H locs) (hT : va_T .int tt 6 (fun j => .int (f j)) A s s.heap) {i : Int32} (hin : vp_in i 6) (hdg : decode cc pc = .ok (.iaload, 1))
    (kk : W p l e R s m args below meth c H locs cells slots Q (F0 m (pc + 1) ls (.int (f i.toNatClampNeg) :: rest))) : W p l e R s m args below meth c H locs cells slots Q (F0 m pc ls (.int i :: .ref tt :: rest)) :=
  va_ti C.1.1 C.1.2.1 hT w.2.2.2.1 hin rfl hdg kk
/-- a run of a callee that has the whole world: what goes on -/
theorem cr_goI {post : Int32 → CS → Prop} {as : Array Value} {rmc rms : Nat} {st0 : List Value} (w : cw D dA o A s S H locs) (hA : ∀ q : Nat, s.heap.size ≤ q → A q) (hr : va_Run p l e R s m args below meth c H locs cells slots rmc rms (F0 m pc ls st0) rest (va_Qi post (cB D dA o (va_A (CW dA o S) H.size)) (va_A (CW dA o S) H.size) as) (va_A (CW dA o S) H.size))
    (kk : ∀ (r : Int32) (S' : CS) (H : Heap) (locs : List Loc), post r S' → cw D dA o A s S' H locs → W p l e R s m args below meth c H locs (cells + rmc) (slots + rms) Q (F0 m (pc + 3) ls (.int r :: rest))) : W p l e R s m args below meth c H locs cells slots Q (F0 m pc ls st0) :=
  va_calli hr w.2.2.2.1 (fun q _ h => cr_free w hA q h) (cr_free w hA) (fun r u t H1 locs1 ht hvm hp hB _ _ hS => kk r u H1 locs1 hp (cr_back w hA ht hB hS))
theorem cr_goL {post : Int64 → CS → Prop} {as : Array Value} {rmc rms : Nat} {st0 : List Value} (w : cw D dA o A s S H locs) (hA : ∀ q : Nat, s.heap.size ≤ q → A q) (hr : va_Run p l e R s m args below meth c H locs cells slots rmc rms (F0 m pc ls st0) rest (va_Ql post (cB D dA o (va_A (CW dA o S) H.size)) (va_A (CW dA o S) H.size) as) (va_A (CW dA o S) H.size))
    (kk : ∀ (r : Int64) (S' : CS) (H : Heap) (locs : List Loc), post r S' → cw D dA o A s S' H locs → W p l e R s m args below meth c H locs (cells + rmc) (slots + rms) Q (F0 m (pc + 3) ls (.long r :: rest))) : W p l e R s m args below meth c H locs cells slots Q (F0 m pc ls st0) :=
  va_calll hr w.2.2.2.1 (fun q _ h => cr_free w hA q h) (cr_free w hA) (fun r u t H1 locs1 ht hvm hp hB _ _ hS => kk r u H1 locs1 hp (cr_back w hA ht hB hS))
theorem cr_goV {post : CS → Prop} {as : Array Value} {rmc rms : Nat} {st0 : List Value} (w : cw D dA o A s S H locs) (hA : ∀ q : Nat, s.heap.size ≤ q → A q) (hr : va_Run p l e R s m args below meth c H locs cells slots rmc rms (F0 m pc ls st0) rest (va_Qv post (cB D dA o (va_A (CW dA o S) H.size)) (va_A (CW dA o S) H.size) as) (va_A (CW dA o S) H.size))
    (kk : ∀ (S' : CS) (H : Heap) (locs : List Loc), post S' → cw D dA o A s S' H locs → W p l e R s m args below meth c H locs (cells + rmc) (slots + rms) Q (F0 m (pc + 3) ls rest)) : W p l e R s m args below meth c H locs cells slots Q (F0 m pc ls st0) :=
  va_callv hr w.2.2.2.1 (fun q _ h => cr_free w hA q h) (cr_free w hA) (fun u t H1 locs1 ht hvm hp hB _ _ hS => kk u H1 locs1 hp (cr_back w hA ht hB hS))
theorem cr_goR {post : Nat → CS → Prop} {as : Array Value} {rmc rms : Nat} {st0 : List Value} (w : cw D dA o A s S H locs) (hA : ∀ q : Nat, s.heap.size ≤ q → A q) (hr : va_Run p l e R s m args below meth c H locs cells slots rmc rms (F0 m pc ls st0) rest (va_Qr (S := CS) (fun _ => True) (fun S' a t => post a S' ∧ cB D dA o (va_A (CW dA o S) H.size) S' t) (va_A (CW dA o S) H.size) as) (va_A (CW dA o S) H.size))
    (kk : ∀ (r : Nat) (S' : CS) (H : Heap) (locs : List Loc), post r S' → cw D dA o A s S' H locs → W p l e R s m args below meth c H locs (cells + rmc) (slots + rms) Q (F0 m (pc + 3) ls (.ref r :: rest))) : W p l e R s m args below meth c H locs cells slots Q (F0 m pc ls st0) :=
  va_callr hr w.2.2.2.1 (fun q _ h => cr_free w hA q h) (cr_free w hA) (fun u a t H1 locs1 ht hvm hp hB _ _ hS => kk a u H1 locs1 hB.1 (cr_back w hA ht hB.2 hS))
end CRN
