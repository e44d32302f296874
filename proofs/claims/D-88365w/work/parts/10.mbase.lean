/-! THE MODEL's WORLD: one state S (ints of fields, int arrays, the long table) over nineteen cells at addresses o -/
abbrev vwCl : List vw_C := [(RX5, TX5, 26), (RX0, TX0, 19), (RX2, TX2, 4), (RX3, TX3, 4), (RX4, TX4, 4), (RX6, TX6, 3), (RX2, TX2, 5), (RX3, TX3, 5), (RX4, TX4, 5)]
abbrev MS : Type := (Nat → Int32) × (Nat → Nat → Int32) × (Nat → Int64)
/-- an int field by its number in TX5 -/
abbrev gF (S : MS) (k : Nat) : Int32 := S.1 k
/-- an int array's place: the array by its field's number -/
abbrev gI (S : MS) (a j : Nat) : Int32 := S.2.1 a j
/-- the table's place -/
abbrev gL (S : MS) (j : Nat) : Int64 := S.2.2 j
def sF (S : MS) (k : Nat) (v : Int32) : MS := (upd S.1 k v, S.2.1, S.2.2)
def sI (S : MS) (a j : Nat) (v : Int32) : MS := (S.1, (fun b => if b = a then upd (S.2.1 a) j v else S.2.1 b), S.2.2)
def sL (S : MS) (j : Nat) (v : Int64) : MS := (S.1, S.2.1, vp_updL S.2.2 j v)
theorem gF_sF (S : MS) (k k' : Nat) (v : Int32) : gF (sF S k v) k' = if k' = k then v else gF S k' := rfl
theorem gI_sF (S : MS) (k : Nat) (v : Int32) (a j : Nat) : gI (sF S k v) a j = gI S a j := rfl
theorem gL_sF (S : MS) (k : Nat) (v : Int32) (j : Nat) : gL (sF S k v) j = gL S j := rfl
theorem gF_sI (S : MS) (a j : Nat) (v : Int32) (k : Nat) : gF (sI S a j v) k = gF S k := rfl
theorem gI_sI (S : MS) (a j : Nat) (v : Int32) (b i : Nat) : gI (sI S a j v) b i = if b = a ∧ i = j then v else gI S b i := by
  show (if b = a then upd (S.2.1 a) j v else S.2.1 b) i = _
  by_cases h : b = a
  · subst h
    by_cases h2 : i = j <;> simp [upd, h2]
  · simp [h]
theorem gL_sI (S : MS) (a j : Nat) (v : Int32) (i : Nat) : gL (sI S a j v) i = gL S i := rfl
theorem gF_sL (S : MS) (j : Nat) (v : Int64) (k : Nat) : gF (sL S j v) k = gF S k := rfl
theorem gI_sL (S : MS) (j : Nat) (v : Int64) (a i : Nat) : gI (sL S j v) a i = gI S a i := rfl
theorem gL_sL (S : MS) (j : Nat) (v : Int64) (i : Nat) : gL (sL S j v) i = if i = j then v else gL S i := rfl
/-- the object's fields -/
abbrev mFs (o : Nat → Nat) (S : MS) : List Value := [.int (S.1 0), .ref (o 1), .ref (o 2), .ref (o 3), .ref (o 4), .ref (o 5), .ref (o 6), .ref (o 7), .ref (o 8), .int (S.1 9), .ref (o 10), .int (S.1 11), .int (S.1 12), .ref (o 13), .int (S.1 14), .ref (o 15), .ref (o 16), .ref (o 17), .int (S.1 18), .int (S.1 19), .ref (o 20), .ref (o 21), .ref (o 22), .ref (o 23), .int (S.1 24), .ref (o 25)]
def MW (dA : Nat → ClassId) (o : Nat → Nat) (S : MS) : va_W := [(o 0, .inr (0, mFs o S)), (o 1, .inl (dA 1, 12, .inl (S.2.1 1))), (o 2, .inl (dA 2, 48, .inl (S.2.1 2))), (o 3, .inl (dA 3, 21, .inl (S.2.1 3))), (o 4, .inl (dA 4, 6, .inl (S.2.1 4))), (o 5, .inl (dA 5, 6, .inl (S.2.1 5))), (o 6, .inl (dA 6, 36, .inl (S.2.1 6))), (o 7, .inl (dA 7, 12, .inl (S.2.1 7))), (o 8, .inl (dA 8, 3, .inl (S.2.1 8))), (o 10, .inl (dA 10, 108, .inr (.inl S.2.2))), (o 13, .inl (dA 13, 12, .inl (S.2.1 13))), (o 15, .inl (dA 15, 42000, .inl (S.2.1 15))), (o 16, .inl (dA 16, 42000, .inl (S.2.1 16))), (o 17, .inl (dA 17, 21, .inl (S.2.1 17))), (o 20, .inl (dA 20, 22, .inl (S.2.1 20))), (o 21, .inl (dA 21, 400, .inl (S.2.1 21))), (o 22, .inl (dA 22, 400, .inl (S.2.1 22))), (o 23, .inl (dA 23, 400, .inl (S.2.1 23))), (o 25, .inl (dA 25, 400, .inl (S.2.1 25)))]
def mT (dA : Nat → ClassId) : List (ClassId × FieldType) := [(dA 1, .int), (dA 2, .int), (dA 3, .int), (dA 4, .int), (dA 5, .int), (dA 6, .int), (dA 7, .int), (dA 8, .int), (dA 10, .long), (dA 13, .int), (dA 15, .int), (dA 16, .int), (dA 17, .int), (dA 20, .int), (dA 21, .int), (dA 22, .int), (dA 23, .int), (dA 25, .boolean)]
def mw (D : va_G) (dA : Nat → ClassId) (o : Nat → Nat) (A : Nat → Prop) (s : State) (S : MS) (H : Heap) (locs : List Loc) : Prop := va_K D vwCl (mT dA) s ∧ va_P D vwCl (MW dA o S) H ∧ va_D A (MW dA o S) ∧ va_S A s.heap H locs
/-- what holds at a method's end -/
def mB (D : va_G) (dA : Nat → ClassId) (o : Nat → Nat) (A : Nat → Prop) (S : MS) (t : State) : Prop := va_P D vwCl (MW dA o S) t.heap ∧ va_K D vwCl (mT dA) t ∧ va_D A (MW dA o S)
def mPc (D : va_G) (dA : Nat → ClassId) (o : Nat → Nat) (sz : Nat) (S : MS) (as : List Value) : Array Value → State → Prop := va_Pc as (fun U => U.heap.size = sz ∧ va_P D vwCl (MW dA o S) U.heap ∧ va_K D vwCl (mT dA) U ∧ va_D (fun _ => True) (MW dA o S))
/-- the method y, called in S with as, returns an int with post -/
def okI (y : MethodName) (cc : ByteArray) (nL : Nat) (ret : Option FieldType) (rm : Room) (as : (Nat → Nat) → List Value) (S : MS) (post : Int32 → MS → Prop) : Prop := ∀ (l : Launch) (D : va_G) (dA : Nat → ClassId) (o : Nat → Nat) (sz : Nat), Met l y (ws_ y cc nL ret) rm (mPc D dA o sz S (as o)) (va_Qi post (mB D dA o (va_A (MW dA o S) sz)) (va_A (MW dA o S) sz)) 0 0 (va_A (MW dA o S) sz)
def okL (y : MethodName) (cc : ByteArray) (nL : Nat) (ret : Option FieldType) (rm : Room) (as : (Nat → Nat) → List Value) (S : MS) (post : Int64 → MS → Prop) : Prop := ∀ (l : Launch) (D : va_G) (dA : Nat → ClassId) (o : Nat → Nat) (sz : Nat), Met l y (ws_ y cc nL ret) rm (mPc D dA o sz S (as o)) (va_Ql post (mB D dA o (va_A (MW dA o S) sz)) (va_A (MW dA o S) sz)) 0 0 (va_A (MW dA o S) sz)
def okV (y : MethodName) (cc : ByteArray) (nL : Nat) (ret : Option FieldType) (rm : Room) (as : (Nat → Nat) → List Value) (S : MS) (post : MS → Prop) : Prop := ∀ (l : Launch) (D : va_G) (dA : Nat → ClassId) (o : Nat → Nat) (sz : Nat), Met l y (ws_ y cc nL ret) rm (mPc D dA o sz S (as o)) (va_Qv post (mB D dA o (va_A (MW dA o S) sz)) (va_A (MW dA o S) sz)) 0 0 (va_A (MW dA o S) sz)
def mQi (below : List Frame) (args : Array Value) (s : State) (D : va_G) (dA : Nat → ClassId) (o : Nat → Nat) (A : Nat → Prop) (post : Int32 → MS → Prop) : State → Prop := MQ below (va_Qi post (mB D dA o A) A) args s 0 0 A
def mQl (below : List Frame) (args : Array Value) (s : State) (D : va_G) (dA : Nat → ClassId) (o : Nat → Nat) (A : Nat → Prop) (post : Int64 → MS → Prop) : State → Prop := MQ below (va_Ql post (mB D dA o A) A) args s 0 0 A
def mQv (below : List Frame) (args : Array Value) (s : State) (D : va_G) (dA : Nat → ClassId) (o : Nat → Nat) (A : Nat → Prop) (post : MS → Prop) : State → Prop := MQ below (va_Qv post (mB D dA o A) A) args s 0 0 A
/-- what a body has -/
def mC (p : Program) (m : MethodId) (c : Code) (cc : ByteArray) (nL : Nat) (s : State) (args : Array Value) (meth : Method) (ret : Option FieldType) (A : Nat → Prop) : Prop := CallFix p m c cc nL s args lw_all RX5 ∧ meth.sig.returnType = ret ∧ meth.locks = false ∧ ∀ q : Nat, s.heap.size ≤ q → A q
section MB
variable {p : Program} {l : Launch} {e : Env} {R : Room} {s : State} {m : MethodId} {args : Array Value} {below : List Frame} {meth : Method} {c : Code} {H : Heap} {locs : List Loc} {cells slots : Nat} {Q : State → Prop}
variable {cc : ByteArray} {pc nL : Nat} {ls : Array Slot} {rest : List Value} {D : va_G} {dA : Nat → ClassId} {o : Nat → Nat} {A : Nat → Prop} {S : MS} {ret : Option FieldType}
theorem mr_start {y : MethodName} {rm : Room} (Qg : (Nat → Prop) → Array Value → State → Outcome → State → Prop) {sz : Nat} {as : List Value} (hy : y.cls = RX5) (hn : (lg_sl as).length ≤ nL) (hp : plainName y.cls = true)
    (body : ∀ (p : Program) (e : Env) (s : State) (m : MethodId) (args : Array Value) (below : List Frame) (meth : Method) (c : Code) (ls : Array Slot) (A : Nat → Prop), mC p m c cc nL s args meth ret A → mw D dA o A s S s.heap [] → lv_has ls nL (lv_args 0 as) → W p l e rm s m args below meth c s.heap [] 0 0 (MQ below (Qg A) args s 0 0 A) (F0 m 0 ls [])) :
    Met l y (ws_ y cc nL ret) rm (mPc D dA o sz S as) (Qg (va_A (MW dA o S) sz)) 0 0 (va_A (MW dA o S) sz) := by
  refine Met.ofW (cc := cc) (maxL := nL) (ret := ret) hp rfl ?_
  intro p e s m args below meth c s₁ B hml hv
  obtain ⟨rfl, hsz, hP, hK, hD0⟩ := hv
  have hts := atoms_spec (ws := ws_ y cc nL ret) B.pre
  have hts : ∀ w ∈ lw_all, w.before _ s = true := fun w h => hts w (List.mem_cons_of_mem _ h)
  have hown : s.vm.findClass RX5 = some m.cls := by rw [← hy]; exact findClass_of_methodNamed B.named
  rw [lg_entry_eq]
  refine body p e s m _ below meth c _ _ ⟨⟨B.exec, B.bytes, hml, hown, hts⟩, B.returns, B.notSynchronized, fun q h => Or.inr (by rw [← hsz]; exact h)⟩ ⟨hK, hP, hD0.self, va_S.rf⟩ (lv_entry as hn)
theorem mr_get (C : mC p m c cc nL s args meth ret A) (w : mw D dA o A s S H locs) {index : Nat} (k : Nat) (hk : k < 26) (q : Cond.fieldLink RX5 index RX5 (TX5 k).2.1 (TX5 k).2.2.1 ∈ lw_all) {v : Value} (hT : (TX5 k).1 = RX5) (hv : (mFs o S)[k]? = some v) (hdg : decode cc pc = .ok (.getfield index, 3))
    (kk : W p l e R s m args below meth c H locs cells slots Q (F0 m (pc + 3) ls (v :: rest))) : W p l e R s m args below meth c H locs cells slots Q (F0 m pc ls (.ref (o 0) :: rest)) :=
  va_get (D := D) (ci := 0) (C := RX5) (T := TX5) (N := 26) C.1.1 C.1.2.1 C.1.2.2.2.2 in_X5 C.1.2.2.2.1 w.1 w.2.1 0 rfl rfl k hk (C.1.2.2.2.2 _ q) (fun _ h => by rw [hT] at h; exact h) hv hdg kk
theorem mr_put (C : mC p m c cc nL s args meth ret A) (w : mw D dA o A s S H locs) {index : Nat} (k : Nat) (hk : k < 26) (q : Cond.fieldLink RX5 index RX5 (TX5 k).2.1 (TX5 k).2.2.1 ∈ lw_all) {x : Int32} {ty : FieldType} (hT : (TX5 k).1 = RX5) (hfin : (TX5 k).2.2.2 = false) (hd : parseFieldDescriptor (TX5 k).2.2.1 = some ty) (hn : narrow ty (.int x) = .int x) (hfit : fits ty (.int x) = true) (hs : (MW dA o S).set 0 (o 0, .inr (0, (mFs o S).set k (.int x))) = MW dA o (sF S k x)) (hdg : decode cc pc = .ok (.putfield index, 3))
    (kk : ∀ (H : Heap) (locs : List Loc), mw D dA o A s (sF S k x) H locs → W p l e R s m args below meth c H locs cells slots Q (F0 m (pc + 3) ls rest)) : W p l e R s m args below meth c H locs cells slots Q (F0 m pc ls (.int x :: .ref (o 0) :: rest)) :=
  va_put (D := D) (ci := 0) (C := RX5) (T := TX5) (N := 26) C.1.1 C.1.2.1 C.1.2.2.2.2 in_X5 tyX5 tyX5_ok nmX5 C.1.2.2.2.1 w.1 w.2.1 w.2.2.1 w.2.2.2 0 rfl rfl k hk (C.1.2.2.2.2 _ q) (fun _ h => by rw [hT] at h; exact h) hfin hd hn hfit hk hdg (fun H1 locs1 h1 h2 h3 => kk H1 locs1 ⟨w.1, hs ▸ h1, hs ▸ h2, h3⟩)
theorem mr_iald (C : mC p m c cc nL s args meth ret A) (w : mw D dA o A s S H locs) (q0 t0 : Nat) {a n : Nat} {cA : ClassId} {f : Nat → Int32} (ha : (MW dA o S)[q0]? = some (a, .inl (cA, n, .inl f))) (ht : (mT dA)[t0]? = some (cA, .int)) {i : Int32} (hin : vp_in i n) (hdg : decode cc pc = .ok (.iaload, 1))
    (kk : W p l e R s m args below meth c H locs cells slots Q (F0 m (pc + 1) ls (.int (f i.toNatClampNeg) :: rest))) : W p l e R s m args below meth c H locs cells slots Q (F0 m pc ls (.int i :: .ref a :: rest)) :=
  va_iald C.1.1 C.1.2.1 w.1 w.2.1 q0 t0 ha ht hin hdg kk
theorem mr_zald (C : mC p m c cc nL s args meth ret A) (w : mw D dA o A s S H locs) (q0 t0 : Nat) {a n : Nat} {cA : ClassId} {f : Nat → Int32} (ha : (MW dA o S)[q0]? = some (a, .inl (cA, n, .inl f))) (ht : (mT dA)[t0]? = some (cA, .boolean)) {i : Int32} (hin : vp_in i n) (hdg : decode cc pc = .ok (.baload, 1))
    (kk : W p l e R s m args below meth c H locs cells slots Q (F0 m (pc + 1) ls (.int (f i.toNatClampNeg) :: rest))) : W p l e R s m args below meth c H locs cells slots Q (F0 m pc ls (.int i :: .ref a :: rest)) :=
  va_zald C.1.1 C.1.2.1 w.1 w.2.1 q0 t0 ha ht hin hdg kk
theorem mr_lald (C : mC p m c cc nL s args meth ret A) (w : mw D dA o A s S H locs) {i : Int32} (hin : vp_in i 108) (hdg : decode cc pc = .ok (.laload, 1))
    (kk : W p l e R s m args below meth c H locs cells slots Q (F0 m (pc + 1) ls (.long (gL S i.toNatClampNeg) :: rest))) : W p l e R s m args below meth c H locs cells slots Q (F0 m pc ls (.int i :: .ref (o 10) :: rest)) :=
  va_lald C.1.1 C.1.2.1 w.1 w.2.1 9 8 rfl rfl hin hdg kk
theorem mr_iast (C : mC p m c cc nL s args meth ret A) (w : mw D dA o A s S H locs) (q0 t0 : Nat) {a n : Nat} {cA : ClassId} {f : Nat → Int32} (ha : (MW dA o S)[q0]? = some (a, .inl (cA, n, .inl f))) (ht : (mT dA)[t0]? = some (cA, .int)) {i x : Int32} (hin : vp_in i n) {S' : MS} (hs : (MW dA o S).set q0 (a, .inl (cA, n, .inl (upd f i.toNatClampNeg x))) = MW dA o S') (hdg : decode cc pc = .ok (.iastore, 1))
    (kk : ∀ (H : Heap) (locs : List Loc), mw D dA o A s S' H locs → W p l e R s m args below meth c H locs cells slots Q (F0 m (pc + 1) ls rest)) : W p l e R s m args below meth c H locs cells slots Q (F0 m pc ls (.int x :: .int i :: .ref a :: rest)) :=
  va_iast C.1.1 C.1.2.1 w.1 w.2.1 w.2.2.1 w.2.2.2 q0 t0 ha ht hin hdg (fun H1 locs1 h1 h2 h3 => kk H1 locs1 ⟨w.1, hs ▸ h1, hs ▸ h2, h3⟩)
theorem mr_zast (C : mC p m c cc nL s args meth ret A) (w : mw D dA o A s S H locs) {i x : Int32} (hin : vp_in i 400) (hx : vp_nar .boolean x = x) (hdg : decode cc pc = .ok (.bastore, 1))
    (kk : ∀ (H : Heap) (locs : List Loc), mw D dA o A s (sI S 25 i.toNatClampNeg x) H locs → W p l e R s m args below meth c H locs cells slots Q (F0 m (pc + 1) ls rest)) : W p l e R s m args below meth c H locs cells slots Q (F0 m pc ls (.int x :: .int i :: .ref (o 25) :: rest)) :=
  va_zast C.1.1 C.1.2.1 w.1 w.2.1 w.2.2.1 w.2.2.2 18 17 rfl rfl hin hdg (fun H1 locs1 h1 h2 h3 => kk H1 locs1 ⟨w.1, by rw [hx] at h1; exact h1, by rw [hx] at h2; exact h2, h3⟩)
theorem mr_last (C : mC p m c cc nL s args meth ret A) (w : mw D dA o A s S H locs) {i : Int32} {x : Int64} (hin : vp_in i 108) (hdg : decode cc pc = .ok (.lastore, 1))
    (kk : ∀ (H : Heap) (locs : List Loc), mw D dA o A s (sL S i.toNatClampNeg x) H locs → W p l e R s m args below meth c H locs cells slots Q (F0 m (pc + 1) ls rest)) : W p l e R s m args below meth c H locs cells slots Q (F0 m pc ls (.long x :: .int i :: .ref (o 10) :: rest)) :=
  va_last C.1.1 C.1.2.1 w.1 w.2.1 w.2.2.1 w.2.2.2 9 8 rfl rfl hin hdg (fun H1 locs1 h1 h2 h3 => kk H1 locs1 ⟨w.1, h1, h2, h3⟩)
theorem mr_iret {post : Int32 → MS → Prop} {v : Int32} (C : mC p m c cc nL s args meth (some .int) A) (w : mw D dA o A s S H locs) (h : post v S) (hdg : decode cc pc = .ok (.ireturn, 1)) : W p l e R s m args below meth c H locs 0 0 (mQi below args s D dA o A post) (F0 m pc ls [.int v]) :=
  W.iret (hlocks := C.2.2.1) C.1.1 C.1.2.1 C.2.1 (fun t ht hW => ⟨⟨v, S, rfl, h, by rw [ht]; exact w.2.1, va_K.moved hW.alike w.1, w.2.2.1⟩, w.2.2.2.F ht⟩) w.2.2.2.2.2 hdg
theorem mr_zret {post : Int32 → MS → Prop} {v : Int32} (C : mC p m c cc nL s args meth (some .boolean) A) (w : mw D dA o A s S H locs) (hn : narrow .boolean (.int v) = .int v) (h : post v S) (hdg : decode cc pc = .ok (.ireturn, 1)) : W p l e R s m args below meth c H locs 0 0 (mQi below args s D dA o A post) (F0 m pc ls [.int v]) :=
  W.zret (hlocks := C.2.2.1) C.1.1 C.1.2.1 C.2.1 hn (fun t ht hW => ⟨⟨v, S, rfl, h, by rw [ht]; exact w.2.1, va_K.moved hW.alike w.1, w.2.2.1⟩, w.2.2.2.F ht⟩) w.2.2.2.2.2 hdg
theorem mr_lret {post : Int64 → MS → Prop} {v : Int64} (C : mC p m c cc nL s args meth (some .long) A) (w : mw D dA o A s S H locs) (h : post v S) (hdg : decode cc pc = .ok (.lreturn, 1)) : W p l e R s m args below meth c H locs 0 0 (mQl below args s D dA o A post) (F0 m pc ls [.long v]) :=
  W.lret (hlocks := C.2.2.1) C.1.1 C.1.2.1 C.2.1 (fun t ht hW => ⟨⟨v, S, rfl, h, by rw [ht]; exact w.2.1, va_K.moved hW.alike w.1, w.2.2.1⟩, w.2.2.2.F ht⟩) w.2.2.2.2.2 hdg
theorem mr_vret {post : MS → Prop} (C : mC p m c cc nL s args meth none A) (w : mw D dA o A s S H locs) (h : post S) (hdg : decode cc pc = .ok (.return_, 1)) : W p l e R s m args below meth c H locs 0 0 (mQv below args s D dA o A post) (F0 m pc ls []) :=
  W.vret (hlocks := C.2.2.1) C.1.1 C.1.2.1 C.2.1 (fun t ht hW => ⟨⟨S, rfl, h, by rw [ht]; exact w.2.1, va_K.moved hW.alike w.1, w.2.2.1⟩, w.2.2.2.F ht⟩) w.2.2.2.2.2 hdg
theorem mr_free (w : mw D dA o A s S H locs) (hA : ∀ q : Nat, s.heap.size ≤ q → A q) : ∀ q : Nat, va_A (MW dA o S) H.size q → A q := by
  intro q h
  rcases h with ⟨k, e, h⟩ | h
  · exact w.2.2.1.2 k _ h
  · exact hA q (Nat.le_trans w.2.2.2.1 h)
theorem mr_back (w : mw D dA o A s S H locs) (hA : ∀ q : Nat, s.heap.size ≤ q → A q) {S' : MS} {t : State} {H1 : Heap} {locs1 : List Loc} (ht : t.heap = H1) (hvm : s.vm.Alike t.vm) (hB : mB D dA o (va_A (MW dA o S) H.size) S' t) (hS : va_S A s.heap H1 locs1) : mw D dA o A s S' H1 locs1 :=
  ⟨w.1, by rw [← ht]; exact hB.1, hB.2.2.weaken (fun _ _ _ h => mr_free w hA _ h), hS⟩
theorem mr_preV {as : List Value} (w : mw D dA o A s S H locs) : PreV s H RX5 (o 0) (mPc D dA o H.size S (.ref (o 0) :: as)) as :=
  ⟨fun a U g mk q => by obtain ⟨q0, q1, qP, qK, qD⟩ := q; exact ⟨q0, q1, qP, va_K.moved (u := U) (U := U.calling g mk a) (Vm.Alike.refl U.vm) qK, qD⟩, va_recv w.1 w.2.1 (ci := 0) (q0 := 0) rfl rfl, fun U hU hW => ⟨rfl, by rw [hU], by rw [hU]; exact w.2.1, va_K.moved hW.alike w.1, w.2.2.1.weaken (fun _ _ _ _ => trivial)⟩⟩
theorem mr_preS {as : List Value} (w : mw D dA o A s S H locs) : PreS s H (mPc D dA o H.size S as) as :=
  ⟨fun a U g mk q => by obtain ⟨q0, q1, qP, qK, qD⟩ := q; exact ⟨q0, q1, qP, va_K.moved (u := U) (U := U.calling g mk a) (Vm.Alike.refl U.vm) qK, qD⟩, fun U hU hW => ⟨rfl, by rw [hU], by rw [hU]; exact w.2.1, va_K.moved hW.alike w.1, w.2.2.1.weaken (fun _ _ _ _ => trivial)⟩⟩
/-- a call through the model's object: int answer -/
theorem mr_callVI {y : MethodName} {cy : ByteArray} {ny idx n : Nat} {rety : Option FieldType} {rm : Room} {As : (Nat → Nat) → List Value} {post : Int32 → MS → Prop} (C : mC p m c cc nL s args meth ret A) (w : mw D dA o A s S H locs) (hM : okI y cy ny rety rm (fun o => .ref (o 0) :: As o) S post) (g : GoodIn lw_all (wsV RX5 idx RX5 y (ws_ y cy ny rety))) (hd : (y.cls = RX5 ∧ y.cls ≠ "java/lang/invoke/MethodHandle" ∧ y.cls ≠ "java/lang/invoke/VarHandle" ∧ (parseMethodDescriptor y.desc).map (fun d => d.parameters.length) = some n)) (hc0 : rm.cells = 0) (hs0 : rm.slots = 0) (hR : rm.frames + 1 ≤ R.frames ∧ 8 + (ny + 11) + rm.locals ≤ R.locals) (hlen : (As o).length = n) (hl : ls.size = nL) {st0 : List Value} (hst : st0 = (As o).reverse ++ .ref (o 0) :: rest) (hcat : (rest.map fun v => v.category).sum ≤ 8) (hf : cells ≤ R.cells ∧ slots ≤ R.slots) (hdg : decode cc pc = .ok (.invokevirtual idx, 3))
    (kk : ∀ (r : Int32) (S' : MS) (H : Heap) (locs : List Loc), post r S' → mw D dA o A s S' H locs → W p l e R s m args below meth c H locs cells slots Q (F0 m (pc + 3) ls (.int r :: rest))) : W p l e R s m args below meth c H locs cells slots Q (F0 m pc ls st0) :=
  va_calli (va_runV (As := As o) (rest := rest) C.1 (hM l D dA o H.size) (cwV n C.1.2.2.2.2 g rfl hc0 hs0 hd hR) (mr_preV w) rfl hlen hl hst (lv_room hcat) hdg hf) w.2.2.2 (fun q _ h => mr_free w C.2.2.2 q h) (mr_free w C.2.2.2) (fun r u t H1 locs1 ht hvm hp hB _ _ hS => kk r u H1 locs1 hp (mr_back w C.2.2.2 ht hvm hB hS))
theorem mr_callVL {y : MethodName} {cy : ByteArray} {ny idx n : Nat} {rety : Option FieldType} {rm : Room} {As : (Nat → Nat) → List Value} {post : Int64 → MS → Prop} (C : mC p m c cc nL s args meth ret A) (w : mw D dA o A s S H locs) (hM : okL y cy ny rety rm (fun o => .ref (o 0) :: As o) S post) (g : GoodIn lw_all (wsV RX5 idx RX5 y (ws_ y cy ny rety))) (hd : (y.cls = RX5 ∧ y.cls ≠ "java/lang/invoke/MethodHandle" ∧ y.cls ≠ "java/lang/invoke/VarHandle" ∧ (parseMethodDescriptor y.desc).map (fun d => d.parameters.length) = some n)) (hc0 : rm.cells = 0) (hs0 : rm.slots = 0) (hR : rm.frames + 1 ≤ R.frames ∧ 8 + (ny + 11) + rm.locals ≤ R.locals) (hlen : (As o).length = n) (hl : ls.size = nL) {st0 : List Value} (hst : st0 = (As o).reverse ++ .ref (o 0) :: rest) (hcat : (rest.map fun v => v.category).sum ≤ 8) (hf : cells ≤ R.cells ∧ slots ≤ R.slots) (hdg : decode cc pc = .ok (.invokevirtual idx, 3))
    (kk : ∀ (r : Int64) (S' : MS) (H : Heap) (locs : List Loc), post r S' → mw D dA o A s S' H locs → W p l e R s m args below meth c H locs cells slots Q (F0 m (pc + 3) ls (.long r :: rest))) : W p l e R s m args below meth c H locs cells slots Q (F0 m pc ls st0) :=
  va_calll (va_runV (As := As o) (rest := rest) C.1 (hM l D dA o H.size) (cwV n C.1.2.2.2.2 g rfl hc0 hs0 hd hR) (mr_preV w) rfl hlen hl hst (lv_room hcat) hdg hf) w.2.2.2 (fun q _ h => mr_free w C.2.2.2 q h) (mr_free w C.2.2.2) (fun r u t H1 locs1 ht hvm hp hB _ _ hS => kk r u H1 locs1 hp (mr_back w C.2.2.2 ht hvm hB hS))
theorem mr_callVV {y : MethodName} {cy : ByteArray} {ny idx n : Nat} {rety : Option FieldType} {rm : Room} {As : (Nat → Nat) → List Value} {post : MS → Prop} (C : mC p m c cc nL s args meth ret A) (w : mw D dA o A s S H locs) (hM : okV y cy ny rety rm (fun o => .ref (o 0) :: As o) S post) (g : GoodIn lw_all (wsV RX5 idx RX5 y (ws_ y cy ny rety))) (hd : (y.cls = RX5 ∧ y.cls ≠ "java/lang/invoke/MethodHandle" ∧ y.cls ≠ "java/lang/invoke/VarHandle" ∧ (parseMethodDescriptor y.desc).map (fun d => d.parameters.length) = some n)) (hc0 : rm.cells = 0) (hs0 : rm.slots = 0) (hR : rm.frames + 1 ≤ R.frames ∧ 8 + (ny + 11) + rm.locals ≤ R.locals) (hlen : (As o).length = n) (hl : ls.size = nL) {st0 : List Value} (hst : st0 = (As o).reverse ++ .ref (o 0) :: rest) (hcat : (rest.map fun v => v.category).sum ≤ 8) (hf : cells ≤ R.cells ∧ slots ≤ R.slots) (hdg : decode cc pc = .ok (.invokevirtual idx, 3))
    (kk : ∀ (S' : MS) (H : Heap) (locs : List Loc), post S' → mw D dA o A s S' H locs → W p l e R s m args below meth c H locs cells slots Q (F0 m (pc + 3) ls rest)) : W p l e R s m args below meth c H locs cells slots Q (F0 m pc ls st0) :=
  va_callv (va_runV (As := As o) (rest := rest) C.1 (hM l D dA o H.size) (cwV n C.1.2.2.2.2 g rfl hc0 hs0 hd hR) (mr_preV w) rfl hlen hl hst (lv_room hcat) hdg hf) w.2.2.2 (fun q _ h => mr_free w C.2.2.2 q h) (mr_free w C.2.2.2) (fun u t H1 locs1 ht hvm hp hB _ _ hS => kk u H1 locs1 hp (mr_back w C.2.2.2 ht hvm hB hS))
/-- a static call of the model's class: int answer -/
theorem mr_callSI {y : MethodName} {cy : ByteArray} {ny idx n : Nat} {rety : Option FieldType} {rm : Room} {As : (Nat → Nat) → List Value} {post : Int32 → MS → Prop} (C : mC p m c cc nL s args meth ret A) (w : mw D dA o A s S H locs) (hM : okI y cy ny rety rm As S post) (g : GoodIn lw_all (va_wsS RX5 idx y (ws_ y cy ny rety))) (hd : (y.cls ≠ "java/lang/invoke/MethodHandle" ∧ y.cls ≠ "java/lang/invoke/VarHandle" ∧ (parseMethodDescriptor y.desc).map (fun d => d.parameters.length) = some n)) (hc0 : rm.cells = 0) (hs0 : rm.slots = 0) (hR : rm.frames + 1 ≤ R.frames ∧ 8 + (ny + 11) + rm.locals ≤ R.locals) (hlen : (As o).length = n) (hl : ls.size = nL) {st0 : List Value} (hst : st0 = (As o).reverse ++ rest) (hcat : (rest.map fun v => v.category).sum ≤ 8) (hf : cells ≤ R.cells ∧ slots ≤ R.slots) (hdg : decode cc pc = .ok (.invokestatic idx, 3))
    (kk : ∀ (r : Int32) (S' : MS) (H : Heap) (locs : List Loc), post r S' → mw D dA o A s S' H locs → W p l e R s m args below meth c H locs cells slots Q (F0 m (pc + 3) ls (.int r :: rest))) : W p l e R s m args below meth c H locs cells slots Q (F0 m pc ls st0) :=
  va_calli (va_runS (As := As o) (rest := rest) C.1 (hM l D dA o H.size) (va_cwS n C.1.2.2.2.2 g rfl hc0 hs0 hd hR) (mr_preS w) rfl hlen hl hst (lv_room hcat) hdg hf) w.2.2.2 (fun q _ h => mr_free w C.2.2.2 q h) (mr_free w C.2.2.2) (fun r u t H1 locs1 ht hvm hp hB _ _ hS => kk r u H1 locs1 hp (mr_back w C.2.2.2 ht hvm hB hS))
end MB
