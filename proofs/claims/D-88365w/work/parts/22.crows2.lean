/-! rows of the component's world: instructions -/
section CR
variable {p : Program} {l : Launch} {e : Env} {R : Room} {s : State} {m : MethodId} {args : Array Value} {below : List Frame} {meth : Method} {c : Code} {H : Heap} {locs : List Loc} {cells slots : Nat} {Q : State → Prop}
variable {own : String} {cc : ByteArray} {pc nL : Nat} {ls : Array Slot} {rest : List Value} {D : va_G} {dA : Nat → ClassId} {o : Nat → Nat} {A : Nat → Prop} {S : CS} {ret : Option FieldType}
/-- any value out of a local -/
theorem lv_aload_nQ (hexec : p.tables.exec = Jvm.exec) (hb : c.code = cc) {k : Fin 4} {i : Nat} {x : Option Nat} (hdg : decode cc pc = .ok (.aload_n k, 1)) (hi : (k : Nat) = i) (hl : ls[i]? = some (.val (va_rf x)))
    (kk : W p l e R s m args below meth c H locs cells slots Q (F0 m (pc + 1) ls (va_rf x :: rest))) : W p l e R s m args below meth c H locs cells slots Q (F0 m pc ls (rest)) := by
  cases x
  · exact lv_aload_nN hexec hb hdg hi hl kk
  · exact lv_aload_n hexec hb hdg hi hl kk
theorem lv_aloadQ (hexec : p.tables.exec = Jvm.exec) (hb : c.code = cc) {i : Nat} {x : Option Nat} (hdg : decode cc pc = .ok (.aload i, 2)) (hl : ls[i]? = some (.val (va_rf x)))
    (kk : W p l e R s m args below meth c H locs cells slots Q (F0 m (pc + 2) ls (va_rf x :: rest))) : W p l e R s m args below meth c H locs cells slots Q (F0 m pc ls (rest)) := by
  cases x
  · exact lv_aloadN hexec hb hdg hl kk
  · exact lv_aload hexec hb hdg hl kk
theorem lv_astore_nQ (hexec : p.tables.exec = Jvm.exec) (hb : c.code = cc) {k : Fin 4} {i nL : Nat} {x : Option Nat} {lv lv' : List (Nat × Value)} (hdg : decode cc pc = .ok (.astore_n k, 1)) (hi : (k : Nat) = i) (h : lv_has ls nL lv) (hn : i < nL) (hl : (i, va_rf x) :: lv.filter (fun q => !(q.1 == i) && !(q.1 + 1 == i && q.2.category == 2)) = lv')
    (kk : ∀ ls' : Array Slot, lv_has ls' nL lv' → W p l e R s m args below meth c H locs cells slots Q (F0 m (pc + 1) ls' rest)) : W p l e R s m args below meth c H locs cells slots Q (F0 m pc ls (va_rf x :: rest)) := by
  cases x
  · exact lv_astore_nN hexec hb hdg hi h hn hl kk
  · exact lv_astore_n hexec hb hdg hi h hn hl kk
theorem lv_astoreQ (hexec : p.tables.exec = Jvm.exec) (hb : c.code = cc) {i nL : Nat} {x : Option Nat} {lv lv' : List (Nat × Value)} (hdg : decode cc pc = .ok (.astore i, 2)) (h : lv_has ls nL lv) (hn : i < nL) (hl : (i, va_rf x) :: lv.filter (fun q => !(q.1 == i) && !(q.1 + 1 == i && q.2.category == 2)) = lv')
    (kk : ∀ ls' : Array Slot, lv_has ls' nL lv' → W p l e R s m args below meth c H locs cells slots Q (F0 m (pc + 2) ls' rest)) : W p l e R s m args below meth c H locs cells slots Q (F0 m pc ls (va_rf x :: rest)) := by
  cases x
  · exact lv_astoreN hexec hb hdg h hn hl kk
  · exact lv_astore hexec hb hdg h hn hl kk
theorem lv_ifnullQ (hexec : p.tables.exec = Jvm.exec) (hb : c.code = cc) {x : Option Nat} {off : Int} {tgt : Nat} (hdg : decode cc pc = .ok (.ifnull off, 3)) (ht : (pc : Int) + off = (tgt : Int)) (kt : x = none → W p l e R s m args below meth c H locs cells slots Q (F0 m tgt ls rest)) (kf : ∀ g : Nat, x = some g → W p l e R s m args below meth c H locs cells slots Q (F0 m (pc + 3) ls rest)) : W p l e R s m args below meth c H locs cells slots Q (F0 m pc ls (va_rf x :: rest)) := by
  cases x with
  | none => exact lv_ifnullN hexec hb hdg ht (kt rfl)
  | some g => exact lv_ifnull hexec hb hdg (kf g rfl)
theorem lv_ifnonnullQ (hexec : p.tables.exec = Jvm.exec) (hb : c.code = cc) {x : Option Nat} {off : Int} {tgt : Nat} (hdg : decode cc pc = .ok (.ifnonnull off, 3)) (ht : (pc : Int) + off = (tgt : Int)) (kt : ∀ g : Nat, x = some g → W p l e R s m args below meth c H locs cells slots Q (F0 m tgt ls rest)) (kf : x = none → W p l e R s m args below meth c H locs cells slots Q (F0 m (pc + 3) ls rest)) : W p l e R s m args below meth c H locs cells slots Q (F0 m pc ls (va_rf x :: rest)) := by
  cases x with
  | none => exact lv_ifnonnullN hexec hb hdg (kf rfl)
  | some g => exact lv_ifnonnull hexec hb hdg ht (kt g rfl)
theorem cr_get (C : cC own p m c cc nL s args meth ret A) (w : cw D dA o A s S H locs) (q0 : Nat) {ci N index a : Nat} {Cl ref : String} {T : u_T} {fs : List Value} (he : (CW dA o S)[q0]? = some (a, .inr (ci, fs))) (hc : vwCl[ci]? = some (Cl, T, N)) (hin : ∀ w ∈ u_ws Cl T N, w ∈ lw_all) (k : Nat) (hk : k < N) (q : Cond.fieldLink own index ref (T k).2.1 (T k).2.2.1 ∈ lw_all) (hsame : (T k).1 = ref) {v : Value} (hv : fs[k]? = some v) (hdg : decode cc pc = .ok (.getfield index, 3))
    (kk : W p l e R s m args below meth c H locs cells slots Q (F0 m (pc + 3) ls (v :: rest))) : W p l e R s m args below meth c H locs cells slots Q (F0 m pc ls (.ref a :: rest)) :=
  va_get (D := D) C.1.1 C.1.2.1 C.1.2.2.2.2 hin C.1.2.2.2.1 w.1 w.2.1 q0 he hc k hk (C.1.2.2.2.2 _ q) (fun _ h => by rw [hsame] at h; exact h) hv hdg kk
/-- the field of a class above, named through the class -/
theorem cr_getM (C : cC RX0 p m c cc nL s args meth ret A) (w : cw D dA o A s S H locs) {index : Nat} (q : Cond.fieldLink RX0 index RX4 "many" "I" ∈ lw_all) (q2 : Cond.sameField RX4 RX1 "many" "I" ∈ lw_all) (hdg : decode cc pc = .ok (.getfield index, 3))
    (kk : W p l e R s m args below meth c H locs cells slots Q (F0 m (pc + 3) ls (.int (kF S 44) :: rest))) : W p l e R s m args below meth c H locs cells slots Q (F0 m pc ls (.ref (o 4) :: rest)) :=
  va_get (D := D) (C := RX4) (T := TX4) (N := 4) (ci := 4) C.1.1 C.1.2.1 C.1.2.2.2.2 in_X4' C.1.2.2.2.1 w.1 w.2.1 3 rfl rfl 2 (by decide) (C.1.2.2.2.2 _ q) (fun x h => u_same (C.1.2.2.2.2 _ q2) x h) rfl hdg kk
theorem cr_getN (C : cC own p m c cc nL s args meth ret A) (w : cw D dA o A s S H locs) (q0 : Nat) {ci N index a : Nat} {Cl ref host : String} {T : u_T} {fs : List Value} (he : (CW dA o S)[q0]? = some (a, .inr (ci, fs))) (hc : vwCl[ci]? = some (Cl, T, N)) (hin : ∀ w ∈ u_ws Cl T N, w ∈ lw_all) (k : Nat) (hk : k < N) (q : Cond.fieldLinkNest own index ref (T k).2.1 (T k).2.2.1 host ∈ nestW) (hsame : (T k).1 = ref) {v : Value} (hv : fs[k]? = some v) (hdg : decode cc pc = .ok (.getfield index, 3))
    (kk : W p l e R s m args below meth c H locs cells slots Q (F0 m (pc + 3) ls (v :: rest))) : W p l e R s m args below meth c H locs cells slots Q (F0 m pc ls (.ref a :: rest)) :=
  va_getN (D := D) C.1.1 C.1.2.1 C.1.2.2.2.2 hin C.1.2.2.2.1 w.1 w.2.1 q0 he hc k hk (va_Nw.use rfl (w.2.2.2.2.1.1 _ q)) (fun _ h => by rw [hsame] at h; exact h) hv hdg kk
/-- a field of a made Glue, by a nest mate -/
theorem cr_getGp (C : cC own p m c cc nL s args meth ret A) (w : cw D dA o A s S H locs) {a index : Nat} (h : pk S a 0) (q : Cond.fieldLinkNest own index RX6 "piece" "I" RX0 ∈ nestW) (hdg : decode cc pc = .ok (.getfield index, 3))
    (kk : W p l e R s m args below meth c H locs cells slots Q (F0 m (pc + 3) ls (.int (kG S a).1 :: rest))) : W p l e R s m args below meth c H locs cells slots Q (F0 m pc ls (.ref a :: rest)) := by
  obtain ⟨k, hk⟩ := cw_at0 (dA := dA) (o := o) h
  exact cr_getN C w k hk (ci := 5) rfl in_X6 0 (by decide) q rfl rfl hdg kk
theorem cr_getGs (C : cC own p m c cc nL s args meth ret A) (w : cw D dA o A s S H locs) {a index : Nat} (h : pk S a 0) (q : Cond.fieldLinkNest own index RX6 "side" "I" RX0 ∈ nestW) (hdg : decode cc pc = .ok (.getfield index, 3))
    (kk : W p l e R s m args below meth c H locs cells slots Q (F0 m (pc + 3) ls (.int (kG S a).2.1 :: rest))) : W p l e R s m args below meth c H locs cells slots Q (F0 m pc ls (.ref a :: rest)) := by
  obtain ⟨k, hk⟩ := cw_at0 (dA := dA) (o := o) h
  exact cr_getN C w k hk (ci := 5) rfl in_X6 1 (by decide) q rfl rfl hdg kk
theorem cr_getGt (C : cC own p m c cc nL s args meth ret A) (w : cw D dA o A s S H locs) {a index : Nat} (h : pk S a 0) (q : Cond.fieldLinkNest own index RX6 "to" "[I" RX0 ∈ nestW) (hdg : decode cc pc = .ok (.getfield index, 3))
    (kk : W p l e R s m args below meth c H locs cells slots Q (F0 m (pc + 3) ls (.ref (kG S a).2.2 :: rest))) : W p l e R s m args below meth c H locs cells slots Q (F0 m pc ls (.ref a :: rest)) := by
  obtain ⟨k, hk⟩ := cw_at0 (dA := dA) (o := o) h
  exact cr_getN C w k hk (ci := 5) rfl in_X6 2 (by decide) q rfl rfl hdg kk
/-- 'to' of a Glue, by its own class -/
theorem cr_getGo (C : cC RX6 p m c cc nL s args meth ret A) (w : cw D dA o A s S H locs) {a index : Nat} (h : pk S a 0) (q : Cond.fieldLink RX6 index RX6 "to" "[I" ∈ lw_all) (hdg : decode cc pc = .ok (.getfield index, 3))
    (kk : W p l e R s m args below meth c H locs cells slots Q (F0 m (pc + 3) ls (.ref (kG S a).2.2 :: rest))) : W p l e R s m args below meth c H locs cells slots Q (F0 m pc ls (.ref a :: rest)) := by
  obtain ⟨k, hk⟩ := cw_at0 (dA := dA) (o := o) h
  exact cr_get C w k hk (ci := 5) rfl in_X6 2 (by decide) q rfl rfl hdg kk
/-- a field of 'this' is written -/
theorem cr_put (C : cC RX0 p m c cc nL s args meth ret A) (w : cw D dA o A s S H locs) {index : Nat} (k : Nat) (hk : k < 19) (q : Cond.fieldLink RX0 index RX0 (TX0 k).2.1 (TX0 k).2.2.1 ∈ lw_all) {v : Value} {ty : FieldType} {S' : CS} (hT : (TX0 k).1 = RX0) (hfin : (TX0 k).2.2.2 = false) (hd : parseFieldDescriptor (TX0 k).2.2.1 = some ty) (hn : narrow ty v = v) (hfit : fits ty v = true) (hs : (CW dA o S).set 0 (o 0, .inr (1, (cFs o S).set k v)) = CW dA o S') (hdg : decode cc pc = .ok (.putfield index, 3))
    (kk : ∀ (H : Heap) (locs : List Loc), cw D dA o A s S' H locs → W p l e R s m args below meth c H locs cells slots Q (F0 m (pc + 3) ls rest)) : W p l e R s m args below meth c H locs cells slots Q (F0 m pc ls (v :: .ref (o 0) :: rest)) :=
  va_put (D := D) (ci := 1) (C := RX0) (T := TX0) (N := 19) C.1.1 C.1.2.1 C.1.2.2.2.2 in_X0 tyX0 tyX0_ok nmX0 C.1.2.2.2.1 w.1 w.2.1 w.2.2.1 w.2.2.2.1 0 rfl rfl k hk (C.1.2.2.2.2 _ q) (fun _ h => by rw [hT] at h; exact h) hfin hd hn hfit hk hdg (fun H1 locs1 h1 h2 h3 => kk H1 locs1 ⟨w.1, hs ▸ h1, hs ▸ h2, h3, w.2.2.2.2⟩)
/-- 'many' of a sort -/
theorem cr_putM (C : cC RX1 p m c cc nL s args meth ret A) (w : cw D dA o A s S H locs) (q0 ci : Nat) {index a : Nat} {Cl : String} {T : u_T} {fs : List Value} (he : (CW dA o S)[q0]? = some (a, .inr (ci, fs))) (hc : vwCl[ci]? = some (Cl, T, 4)) (hin : ∀ w ∈ u_ws Cl T 4, w ∈ lw_all) (ty0 : Nat → FieldType) (hty : ∀ k, k < 4 → parseFieldDescriptor (T k).2.2.1 = some (ty0 k)) (hnm : ∀ a, a < 4 → ∀ b, b < 4 → a ≠ b → (T a).2.1 ≠ (T b).2.1) (hT : T 2 = (RX1, "many", "I", false)) (hl : fs.length = 4) (q : Cond.fieldLink RX1 index RX1 "many" "I" ∈ lw_all) {x : Int32} {S' : CS} (hs : (CW dA o S).set q0 (a, .inr (ci, fs.set 2 (.int x))) = CW dA o S') (hdg : decode cc pc = .ok (.putfield index, 3))
    (kk : ∀ (H : Heap) (locs : List Loc), cw D dA o A s S' H locs → W p l e R s m args below meth c H locs cells slots Q (F0 m (pc + 3) ls rest)) : W p l e R s m args below meth c H locs cells slots Q (F0 m pc ls (.int x :: .ref a :: rest)) :=
  va_put (D := D) (ci := ci) (C := Cl) (T := T) (N := 4) (ty := .int) (ref := RX1) (index := index) C.1.1 C.1.2.1 C.1.2.2.2.2 hin ty0 hty hnm C.1.2.2.2.1 w.1 w.2.1 w.2.2.1 w.2.2.2.1 q0 he hc 2 (by decide) (by rw [hT]; exact C.1.2.2.2.2 _ q) (fun _ h => by rw [hT] at h ⊢; exact h) (by rw [hT]) (by rw [hT]; decide +kernel) rfl rfl (by rw [hl]; decide) hdg (fun H1 locs1 h1 h2 h3 => kk H1 locs1 ⟨w.1, hs ▸ h1, hs ▸ h2, h3, w.2.2.2.2⟩)
/-- glues[i] -/
theorem cr_gout (C : cC own p m c cc nL s args meth ret A) (w : cw D dA o A s S H locs) {i : Int32} (hin : vp_in i 3) (hdg : decode cc pc = .ok (.aaload, 1))
    (kk : W p l e R s m args below meth c H locs cells slots Q (F0 m (pc + 1) ls (.ref (o (20 + i.toNatClampNeg)) :: rest))) : W p l e R s m args below meth c H locs cells slots Q (F0 m pc ls (.int i :: .ref (o 1) :: rest)) := by
  have hlt : i.toNatClampNeg < 3 := Nat.not_le.mp fun q => hin (Or.inr q)
  exact W.aald (v := va_rf (gOut o i.toNatClampNeg)) (ty := .array (.object RX6)) C.1.1 C.1.2.1 (w.2.1 4 _ rfl) ((w.1.2 5 _ rfl).1 3 (fun j => va_rf (gOut o j))) rfl (fun q => by cases q) (by show ¬ (i < 0 ∨ (arrV _ _ _).slots.size ≤ _); rw [arrV_size]; exact hin) (by show (arrV _ _ _).slots[_]? = _; rw [arrV_read _ _ hlt]) rfl rfl hdg kk
/-- glues[j][i] -/
theorem cr_gin (C : cC own p m c cc nL s args meth ret A) (w : cw D dA o A s S H locs) {j : Nat} (hj : j < 3) {i : Int32} (hin : vp_in i 4) (hdg : decode cc pc = .ok (.aaload, 1))
    (kk : W p l e R s m args below meth c H locs cells slots Q (F0 m (pc + 1) ls (va_rf (kGl S j i.toNatClampNeg) :: rest))) : W p l e R s m args below meth c H locs cells slots Q (F0 m pc ls (.int i :: .ref (o (20 + j)) :: rest)) := by
  match j, hj, kk with
  | 0, _, kk => exact va_aldq C.1.1 C.1.2.1 w.1 w.2.1 5 4 rfl rfl hin hdg kk
  | 1, _, kk => exact va_aldq C.1.1 C.1.2.1 w.1 w.2.1 6 4 rfl rfl hin hdg kk
  | 2, _, kk => exact va_aldq C.1.1 C.1.2.1 w.1 w.2.1 7 4 rfl rfl hin hdg kk
theorem cr_gstN (C : cC own p m c cc nL s args meth ret A) (w : cw D dA o A s S H locs) {j : Nat} (hj : j < 3) {i : Int32} (hin : vp_in i 4) (hdg : decode cc pc = .ok (.aastore, 1))
    (kk : ∀ (H : Heap) (locs : List Loc), cw D dA o A s (tGl S j i.toNatClampNeg none) H locs → W p l e R s m args below meth c H locs cells slots Q (F0 m (pc + 1) ls rest)) : W p l e R s m args below meth c H locs cells slots Q (F0 m pc ls (.null :: .int i :: .ref (o (20 + j)) :: rest)) := by
  match j, hj, kk with
  | 0, _, kk => exact va_astqN C.1.1 C.1.2.1 w.1 w.2.1 w.2.2.1 w.2.2.2.1 5 4 rfl rfl hin hdg (fun H1 locs1 h1 h2 h3 => kk H1 locs1 ⟨w.1, h1, h2, h3, w.2.2.2.2⟩)
  | 1, _, kk => exact va_astqN C.1.1 C.1.2.1 w.1 w.2.1 w.2.2.1 w.2.2.2.1 6 4 rfl rfl hin hdg (fun H1 locs1 h1 h2 h3 => kk H1 locs1 ⟨w.1, h1, h2, h3, w.2.2.2.2⟩)
  | 2, _, kk => exact va_astqN C.1.1 C.1.2.1 w.1 w.2.1 w.2.2.1 w.2.2.2.1 7 4 rfl rfl hin hdg (fun H1 locs1 h1 h2 h3 => kk H1 locs1 ⟨w.1, h1, h2, h3, w.2.2.2.2⟩)
theorem cr_gst (C : cC own p m c cc nL s args meth ret A) (w : cw D dA o A s S H locs) {j g : Nat} (hj : j < 3) (hg : pk S g 0) {i : Int32} (hin : vp_in i 4) (hdg : decode cc pc = .ok (.aastore, 1))
    (kk : ∀ (H : Heap) (locs : List Loc), cw D dA o A s (tGl S j i.toNatClampNeg (some g)) H locs → W p l e R s m args below meth c H locs cells slots Q (F0 m (pc + 1) ls rest)) : W p l e R s m args below meth c H locs cells slots Q (F0 m pc ls (.ref g :: .int i :: .ref (o (20 + j)) :: rest)) := by
  obtain ⟨k, hk⟩ := cw_at0 (dA := dA) (o := o) hg
  match j, hj, kk with
  | 0, _, kk => exact va_astq C.1.1 C.1.2.1 w.1 w.2.1 w.2.2.1 w.2.2.2.1 5 4 k 5 rfl rfl hk rfl hin hdg (fun H1 locs1 h1 h2 h3 => kk H1 locs1 ⟨w.1, h1, h2, h3, w.2.2.2.2⟩)
  | 1, _, kk => exact va_astq C.1.1 C.1.2.1 w.1 w.2.1 w.2.2.1 w.2.2.2.1 6 4 k 5 rfl rfl hk rfl hin hdg (fun H1 locs1 h1 h2 h3 => kk H1 locs1 ⟨w.1, h1, h2, h3, w.2.2.2.2⟩)
  | 2, _, kk => exact va_astq C.1.1 C.1.2.1 w.1 w.2.1 w.2.2.1 w.2.2.2.1 7 4 k 5 rfl rfl hk rfl hin hdg (fun H1 locs1 h1 h2 h3 => kk H1 locs1 ⟨w.1, h1, h2, h3, w.2.2.2.2⟩)
theorem cr_iald (C : cC own p m c cc nL s args meth ret A) (w : cw D dA o A s S H locs) (q0 : Nat) {a n : Nat} {f : Nat → Int32} (ha : (CW dA o S)[q0]? = some (a, .inl (dA 0, n, .inl f))) {i : Int32} (hin : vp_in i n) (hdg : decode cc pc = .ok (.iaload, 1))
    (kk : W p l e R s m args below meth c H locs cells slots Q (F0 m (pc + 1) ls (.int (f i.toNatClampNeg) :: rest))) : W p l e R s m args below meth c H locs cells slots Q (F0 m pc ls (.int i :: .ref a :: rest)) :=
  va_iald C.1.1 C.1.2.1 w.1 w.2.1 q0 0 ha rfl hin hdg kk
theorem cr_zald (C : cC own p m c cc nL s args meth ret A) (w : cw D dA o A s S H locs) {i : Int32} (hin : vp_in i 400) (hdg : decode cc pc = .ok (.baload, 1))
    (kk : W p l e R s m args below meth c H locs cells slots Q (F0 m (pc + 1) ls (.int (kI S 18 i.toNatClampNeg) :: rest))) : W p l e R s m args below meth c H locs cells slots Q (F0 m pc ls (.int i :: .ref (o 18) :: rest)) :=
  va_zald C.1.1 C.1.2.1 w.1 w.2.1 13 1 rfl rfl hin hdg kk
theorem cr_iast (C : cC own p m c cc nL s args meth ret A) (w : cw D dA o A s S H locs) (q0 : Nat) {a n : Nat} {f : Nat → Int32} (ha : (CW dA o S)[q0]? = some (a, .inl (dA 0, n, .inl f))) {i x : Int32} (hin : vp_in i n) {S' : CS} (hs : (CW dA o S).set q0 (a, .inl (dA 0, n, .inl (upd f i.toNatClampNeg x))) = CW dA o S') (hdg : decode cc pc = .ok (.iastore, 1))
    (kk : ∀ (H : Heap) (locs : List Loc), cw D dA o A s S' H locs → W p l e R s m args below meth c H locs cells slots Q (F0 m (pc + 1) ls rest)) : W p l e R s m args below meth c H locs cells slots Q (F0 m pc ls (.int x :: .int i :: .ref a :: rest)) :=
  va_iast C.1.1 C.1.2.1 w.1 w.2.1 w.2.2.1 w.2.2.2.1 q0 0 ha rfl hin hdg (fun H1 locs1 h1 h2 h3 => kk H1 locs1 ⟨w.1, hs ▸ h1, hs ▸ h2, h3, w.2.2.2.2⟩)
theorem cr_zast (C : cC own p m c cc nL s args meth ret A) (w : cw D dA o A s S H locs) {i x : Int32} (hin : vp_in i 400) (hx : vp_nar .boolean x = x) (hdg : decode cc pc = .ok (.bastore, 1))
    (kk : ∀ (H : Heap) (locs : List Loc), cw D dA o A s (tI S 18 i.toNatClampNeg x) H locs → W p l e R s m args below meth c H locs cells slots Q (F0 m (pc + 1) ls rest)) : W p l e R s m args below meth c H locs cells slots Q (F0 m pc ls (.int x :: .int i :: .ref (o 18) :: rest)) :=
  va_zast C.1.1 C.1.2.1 w.1 w.2.1 w.2.2.1 w.2.2.2.1 13 1 rfl rfl hin hdg (fun H1 locs1 h1 h2 h3 => kk H1 locs1 ⟨w.1, by rw [hx] at h1; exact h1, by rw [hx] at h2; exact h2, h3, w.2.2.2.2⟩)
theorem cr_alen (C : cC own p m c cc nL s args meth ret A) (w : cw D dA o A s S H locs) (q0 : Nat) {a n : Nat} {f : Nat → Int32} (ha : (CW dA o S)[q0]? = some (a, .inl (dA 0, n, .inl f))) {v : Int32} (hv : Int32.ofNat n = v) (hdg : decode cc pc = .ok (.arraylength, 1))
    (kk : W p l e R s m args below meth c H locs cells slots Q (F0 m (pc + 1) ls (.int v :: rest))) : W p l e R s m args below meth c H locs cells slots Q (F0 m pc ls (.ref a :: rest)) :=
  va_alen C.1.1 C.1.2.1 w.1 w.2.1 q0 0 ha (ty := .int) rfl hv hdg kk
theorem cr_tald (C : cC own p m c cc nL s args meth ret A) (w : cw D dA o A s S H locs) {a : Nat} (h : pk S a 1) {i : Int32} (hin : vp_in i (kN S a)) (hdg : decode cc pc = .ok (.iaload, 1))
    (kk : W p l e R s m args below meth c H locs cells slots Q (F0 m (pc + 1) ls (.int (kT S a i.toNatClampNeg) :: rest))) : W p l e R s m args below meth c H locs cells slots Q (F0 m pc ls (.int i :: .ref a :: rest)) := by
  obtain ⟨k, hk⟩ := cw_at1 (dA := dA) (o := o) h
  exact va_iald C.1.1 C.1.2.1 w.1 w.2.1 k 0 hk rfl hin hdg kk
theorem cr_tast (C : cC own p m c cc nL s args meth ret A) (w : cw D dA o A s S H locs) {a : Nat} (h : pk S a 1) {i x : Int32} (hin : vp_in i (kN S a)) (hdg : decode cc pc = .ok (.iastore, 1))
    (kk : ∀ (H : Heap) (locs : List Loc), cw D dA o A s (tT S a i.toNatClampNeg x) H locs → W p l e R s m args below meth c H locs cells slots Q (F0 m (pc + 1) ls rest)) : W p l e R s m args below meth c H locs cells slots Q (F0 m pc ls (.int x :: .int i :: .ref a :: rest)) := by
  obtain ⟨k, hk⟩ := cw_at1 (dA := dA) (o := o) h
  have hs := cw_setT (j := i.toNatClampNeg) (x := x) w.2.2.1 h hk
  exact va_iast C.1.1 C.1.2.1 w.1 w.2.1 w.2.2.1 w.2.2.2.1 k 0 hk rfl hin hdg (fun H1 locs1 h1 h2 h3 => kk H1 locs1 ⟨w.1, hs ▸ h1, hs ▸ h2, h3, w.2.2.2.2⟩)
theorem cr_rald (C : cC own p m c cc nL s args meth ret A) (w : cw D dA o A s S H locs) {a : Nat} (h : pk S a 3) {i : Int32} (hin : vp_in i (kN S a)) (hdg : decode cc pc = .ok (.laload, 1))
    (kk : W p l e R s m args below meth c H locs cells slots Q (F0 m (pc + 1) ls (.long (kR S a i.toNatClampNeg) :: rest))) : W p l e R s m args below meth c H locs cells slots Q (F0 m pc ls (.int i :: .ref a :: rest)) := by
  obtain ⟨k, hk⟩ := cw_at3 (dA := dA) (o := o) h
  exact va_lald C.1.1 C.1.2.1 w.1 w.2.1 k 2 hk rfl hin hdg kk
theorem cr_rast (C : cC own p m c cc nL s args meth ret A) (w : cw D dA o A s S H locs) {a : Nat} (h : pk S a 3) {i : Int32} {x : Int64} (hin : vp_in i (kN S a)) (hdg : decode cc pc = .ok (.lastore, 1))
    (kk : ∀ (H : Heap) (locs : List Loc), cw D dA o A s (tR S a i.toNatClampNeg x) H locs → W p l e R s m args below meth c H locs cells slots Q (F0 m (pc + 1) ls rest)) : W p l e R s m args below meth c H locs cells slots Q (F0 m pc ls (.long x :: .int i :: .ref a :: rest)) := by
  obtain ⟨k, hk⟩ := cw_at3 (dA := dA) (o := o) h
  have hs := cw_setR (j := i.toNatClampNeg) (x := x) w.2.2.1 h hk
  exact va_last C.1.1 C.1.2.1 w.1 w.2.1 w.2.2.1 w.2.2.2.1 k 2 hk rfl hin hdg (fun H1 locs1 h1 h2 h3 => kk H1 locs1 ⟨w.1, hs ▸ h1, hs ▸ h2, h3, w.2.2.2.2⟩)
theorem cr_rlen (C : cC own p m c cc nL s args meth ret A) (w : cw D dA o A s S H locs) {a : Nat} (h : pk S a 3) (hdg : decode cc pc = .ok (.arraylength, 1))
    (kk : W p l e R s m args below meth c H locs cells slots Q (F0 m (pc + 1) ls (.int (nI (kN S a)) :: rest))) : W p l e R s m args below meth c H locs cells slots Q (F0 m pc ls (.ref a :: rest)) := by
  obtain ⟨k, hk⟩ := cw_at3 (dA := dA) (o := o) h
  exact va_alen C.1.1 C.1.2.1 w.1 w.2.1 k 2 hk (ty := .long) rfl rfl hdg kk
theorem cr_olen (C : cC own p m c cc nL s args meth ret A) (w : cw D dA o A s S H locs) {a : Nat} (h : pk S a 2) (hdg : decode cc pc = .ok (.arraylength, 1))
    (kk : W p l e R s m args below meth c H locs cells slots Q (F0 m (pc + 1) ls (.int (nI (kN S a)) :: rest))) : W p l e R s m args below meth c H locs cells slots Q (F0 m pc ls (.ref a :: rest)) := by
  obtain ⟨k, hk⟩ := cw_at2 (dA := dA) (o := o) h
  exact va_alen C.1.1 C.1.2.1 w.1 w.2.1 k 3 hk (ty := .array .long) rfl rfl hdg kk
theorem cr_oald (C : cC own p m c cc nL s args meth ret A) (w : cw D dA o A s S H locs) {a : Nat} (h : pk S a 2) {i : Int32} (hin : vp_in i (kN S a)) (hdg : decode cc pc = .ok (.aaload, 1))
    (kk : W p l e R s m args below meth c H locs cells slots Q (F0 m (pc + 1) ls (va_rf (kO S a i.toNatClampNeg) :: rest))) : W p l e R s m args below meth c H locs cells slots Q (F0 m pc ls (.int i :: .ref a :: rest)) := by
  have hlt : i.toNatClampNeg < kN S a := Nat.not_le.mp fun q => hin (Or.inr q)
  obtain ⟨k, hk⟩ := cw_at2 (dA := dA) (o := o) h
  exact W.aald (v := va_rf (kO S a i.toNatClampNeg)) (ty := .array .long) C.1.1 C.1.2.1 (w.2.1 k _ hk) ((w.1.2 3 _ rfl).1 (kN S a) (fun j => va_rf (kO S a j))) rfl (fun q => by cases q) (by show ¬ (i < 0 ∨ (arrV _ _ _).slots.size ≤ _); rw [arrV_size]; exact hin) (by show (arrV _ _ _).slots[_]? = _; rw [arrV_read _ _ hlt]) rfl rfl hdg kk
/-- an array of arrays of longs: its class, and that of its elements -/
theorem cr_jj (w : cw D dA o A s S H locs) : ∃ (kA kJ : Class), s.vm.classes[dA 3]? = some kA ∧ kA.kind = .array (dA 2) (.array .long) ∧ s.vm.classes[dA 2]? = some kJ ∧ s.vm.assignable (dA 2) (dA 2) = true := by
  obtain ⟨comp, cA, kA, h1, h2, h3, h4, h5⟩ := arrayOverA_spec w.2.2.2.2.1.2.1
  have hJ : s.vm.findClass ("[" ++ FieldType.long.toString) = some (dA 2) := (w.1.2 2 _ rfl).2
  have hJJ : s.vm.findClass ("[" ++ (FieldType.array .long).toString) = some (dA 3) := (w.1.2 3 _ rfl).2
  have e1 : comp = dA 2 := Option.some.inj (h1.symm.trans hJ)
  have e2 : cA = dA 3 := Option.some.inj (h5.symm.trans hJJ)
  subst e1 e2
  obtain ⟨-, kJ, hk, compJ, hkind⟩ := (w.1.2 2 _ rfl).1 0 (fun _ => .long 0)
  exact ⟨kA, kJ, h3, h4, hk, by show s.vm.assignableAux _ (dA 2) (dA 2) = true; unfold Vm.assignableAux; simp⟩
theorem cr_oast (C : cC own p m c cc nL s args meth ret A) (w : cw D dA o A s S H locs) {a g : Nat} (h : pk S a 2) (hg : pk S g 3) {i : Int32} (hin : vp_in i (kN S a)) (hdg : decode cc pc = .ok (.aastore, 1))
    (kk : ∀ (H : Heap) (locs : List Loc), cw D dA o A s (tO S a i.toNatClampNeg (some g)) H locs → W p l e R s m args below meth c H locs cells slots Q (F0 m (pc + 1) ls rest)) : W p l e R s m args below meth c H locs cells slots Q (F0 m pc ls (.ref g :: .int i :: .ref a :: rest)) := by
  have hlt : i.toNatClampNeg < kN S a := Nat.not_le.mp fun q => hin (Or.inr q)
  have h0 : ¬ i < 0 := fun q => hin (Or.inl q)
  obtain ⟨k, hk⟩ := cw_at2 (dA := dA) (o := o) h
  obtain ⟨k2, hk2⟩ := cw_at3 (dA := dA) (o := o) hg
  obtain ⟨kA, kJ, j1, j2, j3, j4⟩ := cr_jj w
  have hs := cw_setO (j := i.toNatClampNeg) (x := some g) w.2.2.1 h hk
  refine W.aast C.1.1 C.1.2.1 (w.2.1 k _ hk) (fun q h => by cases h) (fun h => by cases h) j1 j2 rfl j3 ⟨h0, by show _ < (arrV _ _ _).slots.size; rw [arrV_size]; exact hlt⟩ (w.2.1 k2 _ hk2) (fun q h => by cases h) j3 j4 rfl rfl hdg fun H1 e z oq => ?_
  refine kk H1 _ ⟨w.1, hs ▸ (w.2.1.set w.2.2.1 hk ?_ oq), hs ▸ (w.2.2.1.set hk), w.2.2.2.1.put z oq (w.2.2.1.2 k _ hk), w.2.2.2.2⟩
  show H1[a]? = some (vp_cell _ _)
  rw [e]
  rw [vp_cell_q, vp_cell_q, arrV_store]
  congr 2
  funext q
  by_cases hq : q = i.toNatClampNeg
  · subst hq
    simp [updV, va_up, va_rf]
  · simp [updV, va_up, hq]
theorem cr_iret {post : Int32 → CS → Prop} {v : Int32} (C : cC own p m c cc nL s args meth (some .int) A) (w : cw D dA o A s S H locs) (h : post v S) (h1 : cells ≤ R.cells) (h2 : slots ≤ R.slots) (hdg : decode cc pc = .ok (.ireturn, 1)) : W p l e R s m args below meth c H locs cells slots (cQi below args s D dA o A R post) (F0 m pc ls [.int v]) :=
  W.widen h1 h2 (W.iret (hlocks := C.2.2.1) C.1.1 C.1.2.1 C.2.1 (fun t ht hW => ⟨⟨v, S, rfl, h, by rw [ht]; exact w.2.1, va_K.moved hW.alike w.1, w.2.2.1⟩, w.2.2.2.1.F ht⟩) w.2.2.2.1.2.2 hdg)
theorem cr_zret {post : Int32 → CS → Prop} {v : Int32} (C : cC own p m c cc nL s args meth (some .boolean) A) (w : cw D dA o A s S H locs) (hn : narrow .boolean (.int v) = .int v) (h : post v S) (h1 : cells ≤ R.cells) (h2 : slots ≤ R.slots) (hdg : decode cc pc = .ok (.ireturn, 1)) : W p l e R s m args below meth c H locs cells slots (cQi below args s D dA o A R post) (F0 m pc ls [.int v]) :=
  W.widen h1 h2 (W.zret (hlocks := C.2.2.1) C.1.1 C.1.2.1 C.2.1 hn (fun t ht hW => ⟨⟨v, S, rfl, h, by rw [ht]; exact w.2.1, va_K.moved hW.alike w.1, w.2.2.1⟩, w.2.2.2.1.F ht⟩) w.2.2.2.1.2.2 hdg)
theorem cr_lret {post : Int64 → CS → Prop} {v : Int64} (C : cC own p m c cc nL s args meth (some .long) A) (w : cw D dA o A s S H locs) (h : post v S) (h1 : cells ≤ R.cells) (h2 : slots ≤ R.slots) (hdg : decode cc pc = .ok (.lreturn, 1)) : W p l e R s m args below meth c H locs cells slots (cQl below args s D dA o A R post) (F0 m pc ls [.long v]) :=
  W.widen h1 h2 (W.lret (hlocks := C.2.2.1) C.1.1 C.1.2.1 C.2.1 (fun t ht hW => ⟨⟨v, S, rfl, h, by rw [ht]; exact w.2.1, va_K.moved hW.alike w.1, w.2.2.1⟩, w.2.2.2.1.F ht⟩) w.2.2.2.1.2.2 hdg)
theorem cr_vret {post : CS → Prop} (C : cC own p m c cc nL s args meth none A) (w : cw D dA o A s S H locs) (h : post S) (h1 : cells ≤ R.cells) (h2 : slots ≤ R.slots) (hdg : decode cc pc = .ok (.return_, 1)) : W p l e R s m args below meth c H locs cells slots (cQv below args s D dA o A R post) (F0 m pc ls []) :=
  W.widen h1 h2 (W.vret (hlocks := C.2.2.1) C.1.1 C.1.2.1 C.2.1 (fun t ht hW => ⟨⟨S, rfl, h, by rw [ht]; exact w.2.1, va_K.moved hW.alike w.1, w.2.2.1⟩, w.2.2.2.1.F ht⟩) w.2.2.2.1.2.2 hdg)
end CR
