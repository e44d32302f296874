/-! ThirdSheets.least()I -/
def C_least_w0 (mc ms : Nat) (post : Int32 → CS → Prop) (uc : Nat) (us : Nat) (S : CS) : Prop :=
  (∃ kc1 ks1 : Nat, uc + kc1 ≤ mc ∧ us + ks1 ≤ ms ∧ C_findSheets kc1 ks1 S (fun (S1 : CS) => post (kF S1 9) S1))
set_option maxHeartbeats 4000000 in
set_option maxRecDepth 100000 in
theorem C_least_a0 {p : Program} {l : Launch} {e : Env} {s : State} {m : MethodId} {args : Array Value} {below : List Frame} {meth : Method} {c : Code} {D : va_G} {dA : Nat → ClassId} {o : Nat → Nat} {A : Nat → Prop} {mc ms : Nat} {post : Int32 → CS → Prop} (C : cC RX0 p m c cX0_least 1 s args meth (Option.some Jvm.ClassFile.FieldType.int) A) {uc : Nat} {us : Nat} {S : CS} (h : C_least_w0 mc ms post uc us S) (hu : uc ≤ mc ∧ us ≤ ms) {H : Heap} {locs : List Loc} {ls : Array Slot} (hl : lv_has ls 1 [(0, .ref (o 0))]) (w : cw D dA o A s S H locs) : W p l e (rC_least mc ms) s m args below meth c H locs uc us (cQi below args s D dA o A (rC_least mc ms) post) (F0 m 0 ls []) := by
  unfold C_least_w0 at h
  obtain ⟨⟨hx, hb, hml, hown, hts⟩, hr, hlk, hA⟩ := id C
  refine lv_aload_n hx hb dX0_least_0 rfl (lv_at hl 0 rfl) ?_
  obtain ⟨kc1, ks1, hc1, hs1, h⟩ := h
  refine cr_callVV (rest := []) (b := (fun o => o 0)) C w h (recv0 w) (cwV 0 hts (lw_V q434 q436 qs15 q82 q437) rfl rfl rfl C_findSheets_d ⟨Nat.le_of_ble_eq_true rfl, Nat.le_of_ble_eq_true rfl⟩) rfl hl.1 rfl (Nat.le_of_ble_eq_true rfl) ⟨hc1, hs1⟩ dX0_least_1 (fun S1 H locs h w => ?_)
  have hu : (uc + kc1) ≤ mc ∧ (us + ks1) ≤ ms := ⟨hc1, hs1⟩
  refine lv_aload_n hx hb dX0_least_4 rfl (lv_at hl 0 rfl) ?_
  refine cr_get C w 0 rfl rfl in_X0 9 (by decide) q173 rfl rfl dX0_least_5 ?_
  exact cr_iret C w h hu.1 hu.2 dX0_least_8
def C_least_VC (mc ms : Nat) (S : CS) (post : Int32 → CS → Prop) : Prop := C_least_w0 mc ms post 0 0 S
theorem C_least_ok {mc ms : Nat} {S : CS} {post : Int32 → CS → Prop} (h : C_least_VC mc ms S post) : C_least mc ms S post := by
  intro l D dA o sz
  refine cr_start (fun A => va_Qi post (cB D dA o A) A) rfl (Nat.le_of_ble_eq_true rfl) (by decide) ?_
  intro p e s m args below meth c ls A C w hl
  have hl : lv_has ls 1 [(0, .ref (o 0))] := hl
  exact C_least_a0 C h ⟨Nat.zero_le _, Nat.zero_le _⟩ (lv_sub hl [0] rfl) w

/-! ThirdSheets.isNumber(I)Z -/
def C_isNumber_w0 (post : Int32 → CS → Prop) (x1 : Int32) (S : CS) : Prop :=
  C_isIn x1 (0 : Int32) (((7 : Int32) * (kF S 1)) - (1 : Int32)) S (fun (r1 : Int32) (S1 : CS) => (zok r1 ∧ post r1 S1))
set_option maxHeartbeats 4000000 in
set_option maxRecDepth 100000 in
theorem C_isNumber_a0 {p : Program} {l : Launch} {e : Env} {s : State} {m : MethodId} {args : Array Value} {below : List Frame} {meth : Method} {c : Code} {D : va_G} {dA : Nat → ClassId} {o : Nat → Nat} {A : Nat → Prop} {post : Int32 → CS → Prop} (C : cC RX0 p m c cX0_isNumber 2 s args meth (Option.some Jvm.ClassFile.FieldType.boolean) A) {x1 : Int32} {S : CS} (h : C_isNumber_w0 post x1 S) {H : Heap} {locs : List Loc} {ls : Array Slot} (hl : lv_has ls 2 [(0, .ref (o 0)), (1, .int x1)]) (w : cw D dA o A s S H locs) : W p l e (rC_isNumber) s m args below meth c H locs 0 0 (cQi below args s D dA o A (rC_isNumber) post) (F0 m 0 ls []) := by
  unfold C_isNumber_w0 at h
  obtain ⟨⟨hx, hb, hml, hown, hts⟩, hr, hlk, hA⟩ := id C
  refine lv_iload_n hx hb dX0_isNumber_0 rfl (lv_at hl 1 rfl) ?_
  refine lv_iconst (v := 0) hx hb dX0_isNumber_1 (by decide) ?_
  refine lv_bipush (v := 7) hx hb dX0_isNumber_2 (by decide) ?_
  refine lv_aload_n hx hb dX0_isNumber_4 rfl (lv_at hl 0 rfl) ?_
  refine cr_get C w 0 rfl rfl in_X0 1 (by decide) q164 rfl rfl dX0_isNumber_5 ?_
  refine lv_imul hx hb dX0_isNumber_8 ?_
  refine lv_iconst (v := 1) hx hb dX0_isNumber_9 (by decide) ?_
  refine lv_isub hx hb dX0_isNumber_10 ?_
  refine cr_callSI (rest := []) C w h (va_cwS 3 hts (lw_S q244 q245 q82 q246) rfl rfl rfl C_isIn_d ⟨Nat.le_of_ble_eq_true rfl, Nat.le_of_ble_eq_true rfl⟩) rfl hl.1 rfl (Nat.le_of_ble_eq_true rfl) ⟨Nat.le_of_ble_eq_true rfl, Nat.le_of_ble_eq_true rfl⟩ dX0_isNumber_11 (fun r1 S1 H locs h w => ?_)
  exact cr_zret C w (zok_n h.1) h.2 (Nat.le_of_ble_eq_true rfl) (Nat.le_of_ble_eq_true rfl) dX0_isNumber_14
def C_isNumber_VC (x1 : Int32) (S : CS) (post : Int32 → CS → Prop) : Prop := C_isNumber_w0 post x1 S
theorem C_isNumber_ok {x1 : Int32} {S : CS} {post : Int32 → CS → Prop} (h : C_isNumber_VC x1 S post) : C_isNumber x1 S post := by
  intro l D dA o sz
  refine cr_start (fun A => va_Qi post (cB D dA o A) A) rfl (Nat.le_of_ble_eq_true rfl) (by decide) ?_
  intro p e s m args below meth c ls A C w hl
  have hl : lv_has ls 2 [(0, .ref (o 0)), (1, .int x1)] := hl
  exact C_isNumber_a0 C h (lv_sub hl [0, 1] rfl) w

/-! ThirdSheets.number(II)I -/
def C_number_w36 (mc ms : Nat) (post : Int32 → CS → Prop) (v0 : Int32) (uc : Nat) (us : Nat) (S : CS) : Prop :=
  post v0 S
set_option maxHeartbeats 4000000 in
set_option maxRecDepth 100000 in
theorem C_number_a36 {p : Program} {l : Launch} {e : Env} {s : State} {m : MethodId} {args : Array Value} {below : List Frame} {meth : Method} {c : Code} {D : va_G} {dA : Nat → ClassId} {o : Nat → Nat} {A : Nat → Prop} {mc ms : Nat} {post : Int32 → CS → Prop} (C : cC RX0 p m c cX0_number 3 s args meth (Option.some Jvm.ClassFile.FieldType.int) A) {v0 : Int32} {uc : Nat} {us : Nat} {S : CS} (h : C_number_w36 mc ms post v0 uc us S) (hu : uc ≤ mc ∧ us ≤ ms) {H : Heap} {locs : List Loc} {ls : Array Slot} (hl : lv_has ls 3 [(0, .ref (o 0))]) (w : cw D dA o A s S H locs) : W p l e (rC_number mc ms) s m args below meth c H locs uc us (cQi below args s D dA o A (rC_number mc ms) post) (F0 m 36 ls [.int v0]) := by
  unfold C_number_w36 at h
  obtain ⟨⟨hx, hb, hml, hown, hts⟩, hr, hlk, hA⟩ := id C
  exact cr_iret C w h hu.1 hu.2 dX0_number_36
def C_number_w34 (mc ms : Nat) (post : Int32 → CS → Prop) (uc : Nat) (us : Nat) (S : CS) : Prop :=
  C_number_w36 mc ms post (-2 : Int32) uc us S
set_option maxHeartbeats 4000000 in
set_option maxRecDepth 100000 in
theorem C_number_a34 {p : Program} {l : Launch} {e : Env} {s : State} {m : MethodId} {args : Array Value} {below : List Frame} {meth : Method} {c : Code} {D : va_G} {dA : Nat → ClassId} {o : Nat → Nat} {A : Nat → Prop} {mc ms : Nat} {post : Int32 → CS → Prop} (C : cC RX0 p m c cX0_number 3 s args meth (Option.some Jvm.ClassFile.FieldType.int) A) {uc : Nat} {us : Nat} {S : CS} (h : C_number_w34 mc ms post uc us S) (hu : uc ≤ mc ∧ us ≤ ms) {H : Heap} {locs : List Loc} {ls : Array Slot} (hl : lv_has ls 3 [(0, .ref (o 0))]) (w : cw D dA o A s S H locs) : W p l e (rC_number mc ms) s m args below meth c H locs uc us (cQi below args s D dA o A (rC_number mc ms) post) (F0 m 34 ls []) := by
  unfold C_number_w34 at h
  obtain ⟨⟨hx, hb, hml, hown, hts⟩, hr, hlk, hA⟩ := id C
  refine lv_bipush (v := -2) hx hb dX0_number_34 (by decide) ?_
  exact C_number_a36 C h hu (lv_sub hl [0] rfl) w
def C_number_w0 (mc ms : Nat) (post : Int32 → CS → Prop) (x1 : Int32) (x2 : Int32) (uc : Nat) (us : Nat) (S : CS) : Prop :=
  (∃ kc1 ks1 : Nat, uc + kc1 ≤ mc ∧ us + ks1 ≤ ms ∧ C_least kc1 ks1 S (fun (r1 : Int32) (S1 : CS) => C_isIn x1 (0 : Int32) (r1 - (1 : Int32)) S1 (fun (r2 : Int32) (S2 : CS) => ((r2 = 0 → C_number_w34 mc ms post (uc + kc1) (us + ks1) S2) ∧ (¬ r2 = 0 → C_isNumber x2 S2 (fun (r3 : Int32) (S3 : CS) => ((r3 = 0 → C_number_w34 mc ms post (uc + kc1) (us + ks1) S3) ∧ (¬ r3 = 0 → (pk S3 (kA S3 8) 2 ∧ vp_in x1 (kN S3 (kA S3 8)) ∧ ∃ r4 : Nat, kO S3 (kA S3 8) (x1).toNatClampNeg = some r4 ∧ (pk S3 r4 3 ∧ vp_in x2 (kN S3 r4) ∧ C_number_w36 mc ms post ((kR S3 r4 (x2).toNatClampNeg)).toInt32 (uc + kc1) (us + ks1) S3))))))))))
set_option maxHeartbeats 4000000 in
set_option maxRecDepth 100000 in
theorem C_number_a0 {p : Program} {l : Launch} {e : Env} {s : State} {m : MethodId} {args : Array Value} {below : List Frame} {meth : Method} {c : Code} {D : va_G} {dA : Nat → ClassId} {o : Nat → Nat} {A : Nat → Prop} {mc ms : Nat} {post : Int32 → CS → Prop} (C : cC RX0 p m c cX0_number 3 s args meth (Option.some Jvm.ClassFile.FieldType.int) A) {x1 : Int32} {x2 : Int32} {uc : Nat} {us : Nat} {S : CS} (h : C_number_w0 mc ms post x1 x2 uc us S) (hu : uc ≤ mc ∧ us ≤ ms) {H : Heap} {locs : List Loc} {ls : Array Slot} (hl : lv_has ls 3 [(0, .ref (o 0)), (1, .int x1), (2, .int x2)]) (w : cw D dA o A s S H locs) : W p l e (rC_number mc ms) s m args below meth c H locs uc us (cQi below args s D dA o A (rC_number mc ms) post) (F0 m 0 ls []) := by
  unfold C_number_w0 at h
  obtain ⟨⟨hx, hb, hml, hown, hts⟩, hr, hlk, hA⟩ := id C
  refine lv_iload_n hx hb dX0_number_0 rfl (lv_at hl 1 rfl) ?_
  refine lv_iconst (v := 0) hx hb dX0_number_1 (by decide) ?_
  refine lv_aload_n hx hb dX0_number_2 rfl (lv_at hl 0 rfl) ?_
  obtain ⟨kc1, ks1, hc1, hs1, h⟩ := h
  refine cr_callVI (rest := [.int _, .int _]) (b := (fun o => o 0)) C w h (recv0 w) (cwV 0 hts (lw_V q483 q431 q432 q82 q433) rfl rfl rfl C_least_d ⟨Nat.le_of_ble_eq_true rfl, Nat.le_of_ble_eq_true rfl⟩) rfl hl.1 rfl (Nat.le_of_ble_eq_true rfl) ⟨hc1, hs1⟩ dX0_number_3 (fun r1 S1 H locs h w => ?_)
  have hu : (uc + kc1) ≤ mc ∧ (us + ks1) ≤ ms := ⟨hc1, hs1⟩
  refine lv_iconst (v := 1) hx hb dX0_number_6 (by decide) ?_
  refine lv_isub hx hb dX0_number_7 ?_
  refine cr_callSI (rest := []) C w h (va_cwS 3 hts (lw_S q244 q245 q82 q246) rfl rfl rfl C_isIn_d ⟨Nat.le_of_ble_eq_true rfl, Nat.le_of_ble_eq_true rfl⟩) rfl hl.1 rfl (Nat.le_of_ble_eq_true rfl) hu dX0_number_8 (fun r2 S2 H locs h w => ?_)
  obtain ⟨h1, h2⟩ := h
  refine lv_if_eq (tgt := 34) hx hb dX0_number_11 (by decide) (fun c1 => ?_) (fun c1 => ?_)
  · have h := h1 c1
    exact C_number_a34 C h hu (lv_sub hl [0] rfl) w
  · have h := h2 c1
    refine lv_aload_n hx hb dX0_number_14 rfl (lv_at hl 0 rfl) ?_
    refine lv_iload_n hx hb dX0_number_15 rfl (lv_at hl 2 rfl) ?_
    refine cr_callVI (rest := []) (b := (fun o => o 0)) C w h (recv0 w) (cwV 1 hts (lw_V q484 q486 qs21 q82 q487) rfl rfl rfl C_isNumber_d ⟨Nat.le_of_ble_eq_true rfl, Nat.le_of_ble_eq_true rfl⟩) rfl hl.1 rfl (Nat.le_of_ble_eq_true rfl) hu dX0_number_16 (fun r3 S3 H locs h w => ?_)
    obtain ⟨h1, h2⟩ := h
    refine lv_if_eq (tgt := 34) hx hb dX0_number_19 (by decide) (fun c1 => ?_) (fun c1 => ?_)
    · have h := h1 c1
      exact C_number_a34 C h hu (lv_sub hl [0] rfl) w
    · have h := h2 c1
      refine lv_aload_n hx hb dX0_number_22 rfl (lv_at hl 0 rfl) ?_
      refine cr_get C w 0 rfl rfl in_X0 8 (by decide) q172 rfl rfl dX0_number_23 ?_
      refine lv_iload_n hx hb dX0_number_26 rfl (lv_at hl 1 rfl) ?_
      obtain ⟨hpk, hi, r4, hr4, h⟩ := h
      refine cr_oald C w hpk hi dX0_number_27 ?_
      refine cr_opt hr4 ?_
      refine lv_iload_n hx hb dX0_number_28 rfl (lv_at hl 2 rfl) ?_
      obtain ⟨hpk, hi, h⟩ := h
      refine cr_rald C w hpk hi dX0_number_29 ?_
      refine lv_l2i hx hb dX0_number_30 rfl ?_
      refine lv_goto (tgt := 36) hx hb dX0_number_31 (by decide) ?_
      exact C_number_a36 C h hu (lv_sub hl [0] rfl) w
def C_number_VC (mc ms : Nat) (x1 : Int32) (x2 : Int32) (S : CS) (post : Int32 → CS → Prop) : Prop := C_number_w0 mc ms post x1 x2 0 0 S
theorem C_number_ok {mc ms : Nat} {x1 : Int32} {x2 : Int32} {S : CS} {post : Int32 → CS → Prop} (h : C_number_VC mc ms x1 x2 S post) : C_number mc ms x1 x2 S post := by
  intro l D dA o sz
  refine cr_start (fun A => va_Qi post (cB D dA o A) A) rfl (Nat.le_of_ble_eq_true rfl) (by decide) ?_
  intro p e s m args below meth c ls A C w hl
  have hl : lv_has ls 3 [(0, .ref (o 0)), (1, .int x1), (2, .int x2)] := hl
  exact C_number_a0 C h ⟨Nat.zero_le _, Nat.zero_le _⟩ (lv_sub hl [0, 1, 2] rfl) w

/-! ThirdSheets.put(II)I -/
def C_put_w19 (post : Int32 → CS → Prop) (S : CS) : Prop :=
  post (-2 : Int32) S
set_option maxHeartbeats 4000000 in
set_option maxRecDepth 100000 in
theorem C_put_a19 {p : Program} {l : Launch} {e : Env} {s : State} {m : MethodId} {args : Array Value} {below : List Frame} {meth : Method} {c : Code} {D : va_G} {dA : Nat → ClassId} {o : Nat → Nat} {A : Nat → Prop} {post : Int32 → CS → Prop} (C : cC RX0 p m c cX0_put 4 s args meth (Option.some Jvm.ClassFile.FieldType.int) A) {S : CS} (h : C_put_w19 post S) {H : Heap} {locs : List Loc} {ls : Array Slot} (hl : lv_has ls 4 [(0, .ref (o 0))]) (w : cw D dA o A s S H locs) : W p l e (rC_put) s m args below meth c H locs 0 0 (cQi below args s D dA o A (rC_put) post) (F0 m 19 ls []) := by
  unfold C_put_w19 at h
  obtain ⟨⟨hx, hb, hml, hown, hts⟩, hr, hlk, hA⟩ := id C
  refine lv_bipush (v := -2) hx hb dX0_put_19 (by decide) ?_
  exact cr_iret C w h (Nat.le_of_ble_eq_true rfl) (Nat.le_of_ble_eq_true rfl) dX0_put_21
def C_put_w0 (post : Int32 → CS → Prop) (x1 : Int32) (x2 : Int32) (S : CS) : Prop :=
  C_isNumber x1 S (fun (r1 : Int32) (S1 : CS) => ((r1 = 0 → C_put_w19 post S1) ∧ (¬ r1 = 0 → C_isIn x2 (0 : Int32) (1000 : Int32) S1 (fun (r2 : Int32) (S2 : CS) => ((¬ r2 = 0 → (vp_in x1 21 ∧ (vp_in x1 21 ∧ (fun (S3 : CS) => post (kI S2 13 (x1).toNatClampNeg) S3) (tI S2 13 (x1).toNatClampNeg x2)))) ∧ (r2 = 0 → C_put_w19 post S2))))))
set_option maxHeartbeats 4000000 in
set_option maxRecDepth 100000 in
theorem C_put_a0 {p : Program} {l : Launch} {e : Env} {s : State} {m : MethodId} {args : Array Value} {below : List Frame} {meth : Method} {c : Code} {D : va_G} {dA : Nat → ClassId} {o : Nat → Nat} {A : Nat → Prop} {post : Int32 → CS → Prop} (C : cC RX0 p m c cX0_put 4 s args meth (Option.some Jvm.ClassFile.FieldType.int) A) {x1 : Int32} {x2 : Int32} {S : CS} (h : C_put_w0 post x1 x2 S) {H : Heap} {locs : List Loc} {ls : Array Slot} (hl : lv_has ls 4 [(0, .ref (o 0)), (1, .int x1), (2, .int x2)]) (w : cw D dA o A s S H locs) : W p l e (rC_put) s m args below meth c H locs 0 0 (cQi below args s D dA o A (rC_put) post) (F0 m 0 ls []) := by
  unfold C_put_w0 at h
  obtain ⟨⟨hx, hb, hml, hown, hts⟩, hr, hlk, hA⟩ := id C
  refine lv_aload_n hx hb dX0_put_0 rfl (lv_at hl 0 rfl) ?_
  refine lv_iload_n hx hb dX0_put_1 rfl (lv_at hl 1 rfl) ?_
  refine cr_callVI (rest := []) (b := (fun o => o 0)) C w h (recv0 w) (cwV 1 hts (lw_V q484 q486 qs21 q82 q487) rfl rfl rfl C_isNumber_d ⟨Nat.le_of_ble_eq_true rfl, Nat.le_of_ble_eq_true rfl⟩) rfl hl.1 rfl (Nat.le_of_ble_eq_true rfl) ⟨Nat.le_of_ble_eq_true rfl, Nat.le_of_ble_eq_true rfl⟩ dX0_put_2 (fun r1 S1 H locs h w => ?_)
  obtain ⟨h1, h2⟩ := h
  refine lv_if_eq (tgt := 19) hx hb dX0_put_5 (by decide) (fun c1 => ?_) (fun c1 => ?_)
  · have h := h1 c1
    exact C_put_a19 C h (lv_sub hl [0] rfl) w
  · have h := h2 c1
    refine lv_iload_n hx hb dX0_put_8 rfl (lv_at hl 2 rfl) ?_
    refine lv_iconst (v := 0) hx hb dX0_put_9 (by decide) ?_
    refine lv_sipush (v := 1000) hx hb dX0_put_10 (by decide) ?_
    refine cr_callSI (rest := []) C w h (va_cwS 3 hts (lw_S q244 q245 q82 q246) rfl rfl rfl C_isIn_d ⟨Nat.le_of_ble_eq_true rfl, Nat.le_of_ble_eq_true rfl⟩) rfl hl.1 rfl (Nat.le_of_ble_eq_true rfl) ⟨Nat.le_of_ble_eq_true rfl, Nat.le_of_ble_eq_true rfl⟩ dX0_put_13 (fun r2 S2 H locs h w => ?_)
    obtain ⟨h1, h2⟩ := h
    refine lv_if_ne (tgt := 22) hx hb dX0_put_16 (by decide) (fun c1 => ?_) (fun c1 => ?_)
    · have h := h1 c1
      refine lv_aload_n hx hb dX0_put_22 rfl (lv_at hl 0 rfl) ?_
      refine cr_get C w 0 rfl rfl in_X0 13 (by decide) q177 rfl rfl dX0_put_23 ?_
      refine lv_iload_n hx hb dX0_put_26 rfl (lv_at hl 1 rfl) ?_
      obtain ⟨hi, h⟩ := h
      refine cr_iald C w 8 rfl hi dX0_put_27 ?_
      refine lv_istore_n (lv' := [(3, .int _), (0, .ref _), (1, .int _), (2, .int _)]) hx hb dX0_put_28 rfl hl (by decide) rfl (fun ls hl => ?_)
      refine lv_aload_n hx hb dX0_put_29 rfl (lv_at hl 1 rfl) ?_
      refine cr_get C w 0 rfl rfl in_X0 13 (by decide) q177 rfl rfl dX0_put_30 ?_
      refine lv_iload_n hx hb dX0_put_33 rfl (lv_at hl 2 rfl) ?_
      refine lv_iload_n hx hb dX0_put_34 rfl (lv_at hl 3 rfl) ?_
      obtain ⟨hi, h⟩ := h
      refine cr_iast C w 8 rfl hi CWs_13 dX0_put_35 (fun H locs w => ?_)
      refine lv_iload_n hx hb dX0_put_36 rfl (lv_at hl 0 rfl) ?_
      exact cr_iret C w h (Nat.le_of_ble_eq_true rfl) (Nat.le_of_ble_eq_true rfl) dX0_put_37
    · have h := h2 c1
      exact C_put_a19 C h (lv_sub hl [0] rfl) w
def C_put_VC (x1 : Int32) (x2 : Int32) (S : CS) (post : Int32 → CS → Prop) : Prop := C_put_w0 post x1 x2 S
theorem C_put_ok {x1 : Int32} {x2 : Int32} {S : CS} {post : Int32 → CS → Prop} (h : C_put_VC x1 x2 S post) : C_put x1 x2 S post := by
  intro l D dA o sz
  refine cr_start (fun A => va_Qi post (cB D dA o A) A) rfl (Nat.le_of_ble_eq_true rfl) (by decide) ?_
  intro p e s m args below meth c ls A C w hl
  have hl : lv_has ls 4 [(0, .ref (o 0)), (1, .int x1), (2, .int x2)] := hl
  exact C_put_a0 C h (lv_sub hl [0, 1, 2] rfl) w

/-! ThirdSheets.add(II)I -/
def C_add_w77 (mc ms : Nat) (post : Int32 → CS → Prop) (T29 : Int32 → Int32 → Int32 → Nat → Nat → CS → Prop) (T77 : Int32 → Int32 → Int32 → Nat → Nat → CS → Prop) (x1 : Int32) (x2 : Int32) (x3 : Int32) (uc : Nat) (us : Nat) (S : CS) : Prop :=
  ((((7 : Int32) * (kF S 1)) ≤ x3 → post (1 : Int32) S) ∧ (¬ ((7 : Int32) * (kF S 1)) ≤ x3 → (vp_in x3 21 ∧ (pk S (kA S 8) 2 ∧ vp_in x1 (kN S (kA S 8)) ∧ ∃ r1 : Nat, kO S (kA S 8) (x1).toNatClampNeg = some r1 ∧ (pk S r1 3 ∧ vp_in x3 (kN S r1) ∧ (vp_in x3 21 ∧ (fun (S2 : CS) => T77 x1 x2 (x3 + (1 : Int32)) uc us S2) (tI S 13 (x3).toNatClampNeg ((kI S 13 (x3).toNatClampNeg) + (x2 * ((kR S r1 (x3).toNatClampNeg)).toInt32)))))))))
set_option maxHeartbeats 4000000 in
set_option maxRecDepth 100000 in
theorem C_add_a77 {p : Program} {l : Launch} {e : Env} {s : State} {m : MethodId} {args : Array Value} {below : List Frame} {meth : Method} {c : Code} {D : va_G} {dA : Nat → ClassId} {o : Nat → Nat} {A : Nat → Prop} {mc ms : Nat} {post : Int32 → CS → Prop} {T29 : Int32 → Int32 → Int32 → Nat → Nat → CS → Prop} {T77 : Int32 → Int32 → Int32 → Nat → Nat → CS → Prop} (C : cC RX0 p m c cX0_add 4 s args meth (Option.some Jvm.ClassFile.FieldType.int) A) (hT29 : ∀ (x1 : Int32) (x2 : Int32) (x3 : Int32) (uc : Nat) (us : Nat) (S : CS), T29 x1 x2 x3 uc us S → uc ≤ mc ∧ us ≤ ms → ∀ (H : Heap) (locs : List Loc) (ls : Array Slot), lv_has ls 4 [(0, .ref (o 0)), (1, .int x1), (2, .int x2), (3, .int x3)] → cw D dA o A s S H locs → W p l e (rC_add mc ms) s m args below meth c H locs uc us (cQi below args s D dA o A (rC_add mc ms) post) (F0 m 29 ls [])) (hT77 : ∀ (x1 : Int32) (x2 : Int32) (x3 : Int32) (uc : Nat) (us : Nat) (S : CS), T77 x1 x2 x3 uc us S → uc ≤ mc ∧ us ≤ ms → ∀ (H : Heap) (locs : List Loc) (ls : Array Slot), lv_has ls 4 [(0, .ref (o 0)), (1, .int x1), (2, .int x2), (3, .int x3)] → cw D dA o A s S H locs → W p l e (rC_add mc ms) s m args below meth c H locs uc us (cQi below args s D dA o A (rC_add mc ms) post) (F0 m 77 ls [])) {x1 : Int32} {x2 : Int32} {x3 : Int32} {uc : Nat} {us : Nat} {S : CS} (h : C_add_w77 mc ms post T29 T77 x1 x2 x3 uc us S) (hu : uc ≤ mc ∧ us ≤ ms) {H : Heap} {locs : List Loc} {ls : Array Slot} (hl : lv_has ls 4 [(0, .ref (o 0)), (1, .int x1), (2, .int x2), (3, .int x3)]) (w : cw D dA o A s S H locs) : W p l e (rC_add mc ms) s m args below meth c H locs uc us (cQi below args s D dA o A (rC_add mc ms) post) (F0 m 77 ls []) := by
  unfold C_add_w77 at h
  obtain ⟨⟨hx, hb, hml, hown, hts⟩, hr, hlk, hA⟩ := id C
  refine lv_iload_n hx hb dX0_add_77 rfl (lv_at hl 3 rfl) ?_
  refine lv_bipush (v := 7) hx hb dX0_add_78 (by decide) ?_
  refine lv_aload_n hx hb dX0_add_80 rfl (lv_at hl 0 rfl) ?_
  refine cr_get C w 0 rfl rfl in_X0 1 (by decide) q164 rfl rfl dX0_add_81 ?_
  refine lv_imul hx hb dX0_add_84 ?_
  obtain ⟨h1, h2⟩ := h
  refine lv_icmp_ge (tgt := 114) hx hb dX0_add_85 (by decide) (fun c1 => ?_) (fun c1 => ?_)
  · have h := h1 c1
    refine lv_iconst (v := 1) hx hb dX0_add_114 (by decide) ?_
    exact cr_iret C w h hu.1 hu.2 dX0_add_115
  · have h := h2 c1
    refine lv_aload_n hx hb dX0_add_88 rfl (lv_at hl 0 rfl) ?_
    refine cr_get C w 0 rfl rfl in_X0 13 (by decide) q177 rfl rfl dX0_add_89 ?_
    refine lv_iload_n hx hb dX0_add_92 rfl (lv_at hl 3 rfl) ?_
    refine lv_dup2_11 hx hb dX0_add_93 rfl rfl ?_
    obtain ⟨hi, h⟩ := h
    refine cr_iald C w 8 rfl hi dX0_add_94 ?_
    refine lv_iload_n hx hb dX0_add_95 rfl (lv_at hl 2 rfl) ?_
    refine lv_aload_n hx hb dX0_add_96 rfl (lv_at hl 0 rfl) ?_
    refine cr_get C w 0 rfl rfl in_X0 8 (by decide) q172 rfl rfl dX0_add_97 ?_
    refine lv_iload_n hx hb dX0_add_100 rfl (lv_at hl 1 rfl) ?_
    obtain ⟨hpk, hi, r1, hr1, h⟩ := h
    refine cr_oald C w hpk hi dX0_add_101 ?_
    refine cr_opt hr1 ?_
    refine lv_iload_n hx hb dX0_add_102 rfl (lv_at hl 3 rfl) ?_
    obtain ⟨hpk, hi, h⟩ := h
    refine cr_rald C w hpk hi dX0_add_103 ?_
    refine lv_l2i hx hb dX0_add_104 rfl ?_
    refine lv_imul hx hb dX0_add_105 ?_
    refine lv_iadd hx hb dX0_add_106 ?_
    obtain ⟨hi, h⟩ := h
    refine cr_iast C w 8 rfl hi CWs_13 dX0_add_107 (fun H locs w => ?_)
    refine lv_iinc (v := _ + (1 : Int32)) (lv' := [(3, .int _), (0, .ref _), (1, .int _), (2, .int _)]) hx hb dX0_add_108 hl (k := 3) rfl rfl (by decide) rfl (fun ls hl => ?_)
    refine lv_goto (tgt := 77) hx hb dX0_add_111 (by decide) ?_
    exact hT77 _ _ _ _ _ _ h hu _ _ _ (lv_sub hl [1, 2, 3, 0] rfl) w
def C_add_w29 (mc ms : Nat) (post : Int32 → CS → Prop) (T29 : Int32 → Int32 → Int32 → Nat → Nat → CS → Prop) (T77 : Int32 → Int32 → Int32 → Nat → Nat → CS → Prop) (x1 : Int32) (x2 : Int32) (x3 : Int32) (uc : Nat) (us : Nat) (S : CS) : Prop :=
  ((((7 : Int32) * (kF S 1)) ≤ x3 → T77 x1 x2 (0 : Int32) uc us S) ∧ (¬ ((7 : Int32) * (kF S 1)) ≤ x3 → (vp_in x3 21 ∧ (pk S (kA S 8) 2 ∧ vp_in x1 (kN S (kA S 8)) ∧ ∃ r1 : Nat, kO S (kA S 8) (x1).toNatClampNeg = some r1 ∧ (pk S r1 3 ∧ vp_in x3 (kN S r1) ∧ (((((kI S 13 (x3).toNatClampNeg)).toInt64 + ((x2).toInt64 * (kR S r1 (x3).toNatClampNeg))) ≤ (1000 : Int64) → T29 x1 x2 (x3 + (1 : Int32)) uc us S) ∧ (¬ (((kI S 13 (x3).toNatClampNeg)).toInt64 + ((x2).toInt64 * (kR S r1 (x3).toNatClampNeg))) ≤ (1000 : Int64) → post (-4 : Int32) S)))))))
set_option maxHeartbeats 4000000 in
set_option maxRecDepth 100000 in
theorem C_add_a29 {p : Program} {l : Launch} {e : Env} {s : State} {m : MethodId} {args : Array Value} {below : List Frame} {meth : Method} {c : Code} {D : va_G} {dA : Nat → ClassId} {o : Nat → Nat} {A : Nat → Prop} {mc ms : Nat} {post : Int32 → CS → Prop} {T29 : Int32 → Int32 → Int32 → Nat → Nat → CS → Prop} {T77 : Int32 → Int32 → Int32 → Nat → Nat → CS → Prop} (C : cC RX0 p m c cX0_add 4 s args meth (Option.some Jvm.ClassFile.FieldType.int) A) (hT29 : ∀ (x1 : Int32) (x2 : Int32) (x3 : Int32) (uc : Nat) (us : Nat) (S : CS), T29 x1 x2 x3 uc us S → uc ≤ mc ∧ us ≤ ms → ∀ (H : Heap) (locs : List Loc) (ls : Array Slot), lv_has ls 4 [(0, .ref (o 0)), (1, .int x1), (2, .int x2), (3, .int x3)] → cw D dA o A s S H locs → W p l e (rC_add mc ms) s m args below meth c H locs uc us (cQi below args s D dA o A (rC_add mc ms) post) (F0 m 29 ls [])) (hT77 : ∀ (x1 : Int32) (x2 : Int32) (x3 : Int32) (uc : Nat) (us : Nat) (S : CS), T77 x1 x2 x3 uc us S → uc ≤ mc ∧ us ≤ ms → ∀ (H : Heap) (locs : List Loc) (ls : Array Slot), lv_has ls 4 [(0, .ref (o 0)), (1, .int x1), (2, .int x2), (3, .int x3)] → cw D dA o A s S H locs → W p l e (rC_add mc ms) s m args below meth c H locs uc us (cQi below args s D dA o A (rC_add mc ms) post) (F0 m 77 ls [])) {x1 : Int32} {x2 : Int32} {x3 : Int32} {uc : Nat} {us : Nat} {S : CS} (h : C_add_w29 mc ms post T29 T77 x1 x2 x3 uc us S) (hu : uc ≤ mc ∧ us ≤ ms) {H : Heap} {locs : List Loc} {ls : Array Slot} (hl : lv_has ls 4 [(0, .ref (o 0)), (1, .int x1), (2, .int x2), (3, .int x3)]) (w : cw D dA o A s S H locs) : W p l e (rC_add mc ms) s m args below meth c H locs uc us (cQi below args s D dA o A (rC_add mc ms) post) (F0 m 29 ls []) := by
  unfold C_add_w29 at h
  obtain ⟨⟨hx, hb, hml, hown, hts⟩, hr, hlk, hA⟩ := id C
  refine lv_iload_n hx hb dX0_add_29 rfl (lv_at hl 3 rfl) ?_
  refine lv_bipush (v := 7) hx hb dX0_add_30 (by decide) ?_
  refine lv_aload_n hx hb dX0_add_32 rfl (lv_at hl 0 rfl) ?_
  refine cr_get C w 0 rfl rfl in_X0 1 (by decide) q164 rfl rfl dX0_add_33 ?_
  refine lv_imul hx hb dX0_add_36 ?_
  obtain ⟨h1, h2⟩ := h
  refine lv_icmp_ge (tgt := 75) hx hb dX0_add_37 (by decide) (fun c1 => ?_) (fun c1 => ?_)
  · have h := h1 c1
    refine lv_iconst (v := 0) hx hb dX0_add_75 (by decide) ?_
    refine lv_istore_n (lv' := [(3, .int _), (0, .ref _), (1, .int _), (2, .int _)]) hx hb dX0_add_76 rfl hl (by decide) rfl (fun ls hl => ?_)
    exact hT77 _ _ _ _ _ _ h hu _ _ _ (lv_sub hl [1, 2, 3, 0] rfl) w
  · have h := h2 c1
    refine lv_aload_n hx hb dX0_add_40 rfl (lv_at hl 0 rfl) ?_
    refine cr_get C w 0 rfl rfl in_X0 13 (by decide) q177 rfl rfl dX0_add_41 ?_
    refine lv_iload_n hx hb dX0_add_44 rfl (lv_at hl 3 rfl) ?_
    obtain ⟨hi, h⟩ := h
    refine cr_iald C w 8 rfl hi dX0_add_45 ?_
    refine lv_i2l hx hb dX0_add_46 rfl ?_
    refine lv_iload_n hx hb dX0_add_47 rfl (lv_at hl 2 rfl) ?_
    refine lv_i2l hx hb dX0_add_48 rfl ?_
    refine lv_aload_n hx hb dX0_add_49 rfl (lv_at hl 0 rfl) ?_
    refine cr_get C w 0 rfl rfl in_X0 8 (by decide) q172 rfl rfl dX0_add_50 ?_
    refine lv_iload_n hx hb dX0_add_53 rfl (lv_at hl 1 rfl) ?_
    obtain ⟨hpk, hi, r1, hr1, h⟩ := h
    refine cr_oald C w hpk hi dX0_add_54 ?_
    refine cr_opt hr1 ?_
    refine lv_iload_n hx hb dX0_add_55 rfl (lv_at hl 3 rfl) ?_
    obtain ⟨hpk, hi, h⟩ := h
    refine cr_rald C w hpk hi dX0_add_56 ?_
    refine lv_lmul hx hb dX0_add_57 ?_
    refine lv_ladd hx hb dX0_add_58 ?_
    refine lv_ldc2 hx hb hown (hts _ q496) dX0_add_59 ?_
    refine W.lcmp hx hb dX0_add_62 ?_
    obtain ⟨h1, h2⟩ := h
    refine lv_if_le (tgt := 69) hx hb dX0_add_63 (by decide) (fun c1 => ?_) (fun c1 => ?_)
    · have h := h1 ((lg_cmp_le _ _).mp c1)
      refine lv_iinc (v := _ + (1 : Int32)) (lv' := [(3, .int _), (0, .ref _), (1, .int _), (2, .int _)]) hx hb dX0_add_69 hl (k := 3) rfl rfl (by decide) rfl (fun ls hl => ?_)
      refine lv_goto (tgt := 29) hx hb dX0_add_72 (by decide) ?_
      exact hT29 _ _ _ _ _ _ h hu _ _ _ (lv_sub hl [1, 2, 3, 0] rfl) w
    · have h := h2 (mt (lg_cmp_le _ _).mpr c1)
      refine lv_bipush (v := -4) hx hb dX0_add_66 (by decide) ?_
      exact cr_iret C w h hu.1 hu.2 dX0_add_68
def C_add_w24 (mc ms : Nat) (post : Int32 → CS → Prop) (T29 : Int32 → Int32 → Int32 → Nat → Nat → CS → Prop) (T77 : Int32 → Int32 → Int32 → Nat → Nat → CS → Prop) (uc : Nat) (us : Nat) (S : CS) : Prop :=
  post (-2 : Int32) S
set_option maxHeartbeats 4000000 in
set_option maxRecDepth 100000 in
theorem C_add_a24 {p : Program} {l : Launch} {e : Env} {s : State} {m : MethodId} {args : Array Value} {below : List Frame} {meth : Method} {c : Code} {D : va_G} {dA : Nat → ClassId} {o : Nat → Nat} {A : Nat → Prop} {mc ms : Nat} {post : Int32 → CS → Prop} {T29 : Int32 → Int32 → Int32 → Nat → Nat → CS → Prop} {T77 : Int32 → Int32 → Int32 → Nat → Nat → CS → Prop} (C : cC RX0 p m c cX0_add 4 s args meth (Option.some Jvm.ClassFile.FieldType.int) A) (hT29 : ∀ (x1 : Int32) (x2 : Int32) (x3 : Int32) (uc : Nat) (us : Nat) (S : CS), T29 x1 x2 x3 uc us S → uc ≤ mc ∧ us ≤ ms → ∀ (H : Heap) (locs : List Loc) (ls : Array Slot), lv_has ls 4 [(0, .ref (o 0)), (1, .int x1), (2, .int x2), (3, .int x3)] → cw D dA o A s S H locs → W p l e (rC_add mc ms) s m args below meth c H locs uc us (cQi below args s D dA o A (rC_add mc ms) post) (F0 m 29 ls [])) (hT77 : ∀ (x1 : Int32) (x2 : Int32) (x3 : Int32) (uc : Nat) (us : Nat) (S : CS), T77 x1 x2 x3 uc us S → uc ≤ mc ∧ us ≤ ms → ∀ (H : Heap) (locs : List Loc) (ls : Array Slot), lv_has ls 4 [(0, .ref (o 0)), (1, .int x1), (2, .int x2), (3, .int x3)] → cw D dA o A s S H locs → W p l e (rC_add mc ms) s m args below meth c H locs uc us (cQi below args s D dA o A (rC_add mc ms) post) (F0 m 77 ls [])) {uc : Nat} {us : Nat} {S : CS} (h : C_add_w24 mc ms post T29 T77 uc us S) (hu : uc ≤ mc ∧ us ≤ ms) {H : Heap} {locs : List Loc} {ls : Array Slot} (hl : lv_has ls 4 [(0, .ref (o 0))]) (w : cw D dA o A s S H locs) : W p l e (rC_add mc ms) s m args below meth c H locs uc us (cQi below args s D dA o A (rC_add mc ms) post) (F0 m 24 ls []) := by
  unfold C_add_w24 at h
  obtain ⟨⟨hx, hb, hml, hown, hts⟩, hr, hlk, hA⟩ := id C
  refine lv_bipush (v := -2) hx hb dX0_add_24 (by decide) ?_
  exact cr_iret C w h hu.1 hu.2 dX0_add_26
def C_add_w0 (mc ms : Nat) (post : Int32 → CS → Prop) (T29 : Int32 → Int32 → Int32 → Nat → Nat → CS → Prop) (T77 : Int32 → Int32 → Int32 → Nat → Nat → CS → Prop) (x1 : Int32) (x2 : Int32) (uc : Nat) (us : Nat) (S : CS) : Prop :=
  (∃ kc1 ks1 : Nat, uc + kc1 ≤ mc ∧ us + ks1 ≤ ms ∧ C_least kc1 ks1 S (fun (r1 : Int32) (S1 : CS) => C_isIn x1 (0 : Int32) (r1 - (1 : Int32)) S1 (fun (r2 : Int32) (S2 : CS) => ((r2 = 0 → C_add_w24 mc ms post T29 T77 (uc + kc1) (us + ks1) S2) ∧ (¬ r2 = 0 → C_isIn x2 (0 : Int32) (100 : Int32) S2 (fun (r3 : Int32) (S3 : CS) => ((¬ r3 = 0 → T29 x1 x2 (0 : Int32) (uc + kc1) (us + ks1) S3) ∧ (r3 = 0 → C_add_w24 mc ms post T29 T77 (uc + kc1) (us + ks1) S3))))))))
set_option maxHeartbeats 4000000 in
set_option maxRecDepth 100000 in
theorem C_add_a0 {p : Program} {l : Launch} {e : Env} {s : State} {m : MethodId} {args : Array Value} {below : List Frame} {meth : Method} {c : Code} {D : va_G} {dA : Nat → ClassId} {o : Nat → Nat} {A : Nat → Prop} {mc ms : Nat} {post : Int32 → CS → Prop} {T29 : Int32 → Int32 → Int32 → Nat → Nat → CS → Prop} {T77 : Int32 → Int32 → Int32 → Nat → Nat → CS → Prop} (C : cC RX0 p m c cX0_add 4 s args meth (Option.some Jvm.ClassFile.FieldType.int) A) (hT29 : ∀ (x1 : Int32) (x2 : Int32) (x3 : Int32) (uc : Nat) (us : Nat) (S : CS), T29 x1 x2 x3 uc us S → uc ≤ mc ∧ us ≤ ms → ∀ (H : Heap) (locs : List Loc) (ls : Array Slot), lv_has ls 4 [(0, .ref (o 0)), (1, .int x1), (2, .int x2), (3, .int x3)] → cw D dA o A s S H locs → W p l e (rC_add mc ms) s m args below meth c H locs uc us (cQi below args s D dA o A (rC_add mc ms) post) (F0 m 29 ls [])) (hT77 : ∀ (x1 : Int32) (x2 : Int32) (x3 : Int32) (uc : Nat) (us : Nat) (S : CS), T77 x1 x2 x3 uc us S → uc ≤ mc ∧ us ≤ ms → ∀ (H : Heap) (locs : List Loc) (ls : Array Slot), lv_has ls 4 [(0, .ref (o 0)), (1, .int x1), (2, .int x2), (3, .int x3)] → cw D dA o A s S H locs → W p l e (rC_add mc ms) s m args below meth c H locs uc us (cQi below args s D dA o A (rC_add mc ms) post) (F0 m 77 ls [])) {x1 : Int32} {x2 : Int32} {uc : Nat} {us : Nat} {S : CS} (h : C_add_w0 mc ms post T29 T77 x1 x2 uc us S) (hu : uc ≤ mc ∧ us ≤ ms) {H : Heap} {locs : List Loc} {ls : Array Slot} (hl : lv_has ls 4 [(0, .ref (o 0)), (1, .int x1), (2, .int x2)]) (w : cw D dA o A s S H locs) : W p l e (rC_add mc ms) s m args below meth c H locs uc us (cQi below args s D dA o A (rC_add mc ms) post) (F0 m 0 ls []) := by
  unfold C_add_w0 at h
  obtain ⟨⟨hx, hb, hml, hown, hts⟩, hr, hlk, hA⟩ := id C
  refine lv_iload_n hx hb dX0_add_0 rfl (lv_at hl 1 rfl) ?_
  refine lv_iconst (v := 0) hx hb dX0_add_1 (by decide) ?_
  refine lv_aload_n hx hb dX0_add_2 rfl (lv_at hl 0 rfl) ?_
  obtain ⟨kc1, ks1, hc1, hs1, h⟩ := h
  refine cr_callVI (rest := [.int _, .int _]) (b := (fun o => o 0)) C w h (recv0 w) (cwV 0 hts (lw_V q483 q431 q432 q82 q433) rfl rfl rfl C_least_d ⟨Nat.le_of_ble_eq_true rfl, Nat.le_of_ble_eq_true rfl⟩) rfl hl.1 rfl (Nat.le_of_ble_eq_true rfl) ⟨hc1, hs1⟩ dX0_add_3 (fun r1 S1 H locs h w => ?_)
  have hu : (uc + kc1) ≤ mc ∧ (us + ks1) ≤ ms := ⟨hc1, hs1⟩
  refine lv_iconst (v := 1) hx hb dX0_add_6 (by decide) ?_
  refine lv_isub hx hb dX0_add_7 ?_
  refine cr_callSI (rest := []) C w h (va_cwS 3 hts (lw_S q244 q245 q82 q246) rfl rfl rfl C_isIn_d ⟨Nat.le_of_ble_eq_true rfl, Nat.le_of_ble_eq_true rfl⟩) rfl hl.1 rfl (Nat.le_of_ble_eq_true rfl) hu dX0_add_8 (fun r2 S2 H locs h w => ?_)
  obtain ⟨h1, h2⟩ := h
  refine lv_if_eq (tgt := 24) hx hb dX0_add_11 (by decide) (fun c1 => ?_) (fun c1 => ?_)
  · have h := h1 c1
    exact C_add_a24 C hT29 hT77 h hu (lv_sub hl [0] rfl) w
  · have h := h2 c1
    refine lv_iload_n hx hb dX0_add_14 rfl (lv_at hl 2 rfl) ?_
    refine lv_iconst (v := 0) hx hb dX0_add_15 (by decide) ?_
    refine lv_bipush (v := 100) hx hb dX0_add_16 (by decide) ?_
    refine cr_callSI (rest := []) C w h (va_cwS 3 hts (lw_S q244 q245 q82 q246) rfl rfl rfl C_isIn_d ⟨Nat.le_of_ble_eq_true rfl, Nat.le_of_ble_eq_true rfl⟩) rfl hl.1 rfl (Nat.le_of_ble_eq_true rfl) hu dX0_add_18 (fun r3 S3 H locs h w => ?_)
    obtain ⟨h1, h2⟩ := h
    refine lv_if_ne (tgt := 27) hx hb dX0_add_21 (by decide) (fun c1 => ?_) (fun c1 => ?_)
    · have h := h1 c1
      refine lv_iconst (v := 0) hx hb dX0_add_27 (by decide) ?_
      refine lv_istore_n (lv' := [(3, .int _), (0, .ref _), (1, .int _), (2, .int _)]) hx hb dX0_add_28 rfl hl (by decide) rfl (fun ls hl => ?_)
      exact hT29 _ _ _ _ _ _ h hu _ _ _ (lv_sub hl [1, 2, 3, 0] rfl) w
    · have h := h2 c1
      exact C_add_a24 C hT29 hT77 h hu (lv_sub hl [0] rfl) w
def C_add_VC (mc ms : Nat) (x1 : Int32) (x2 : Int32) (S : CS) (post : Int32 → CS → Prop) : Prop := ∀ (T29 : Int32 → Int32 → Int32 → Nat → Nat → CS → Prop) (T77 : Int32 → Int32 → Int32 → Nat → Nat → CS → Prop), (∀ (x1 : Int32) (x2 : Int32) (x3 : Int32) (uc : Nat) (us : Nat) (S : CS), C_add_w29 mc ms post T29 T77 x1 x2 x3 uc us S → T29 x1 x2 x3 uc us S) → (∀ (x1 : Int32) (x2 : Int32) (x3 : Int32) (uc : Nat) (us : Nat) (S : CS), C_add_w77 mc ms post T29 T77 x1 x2 x3 uc us S → T77 x1 x2 x3 uc us S) → C_add_w0 mc ms post T29 T77 x1 x2 0 0 S
theorem C_add_ok {mc ms : Nat} {x1 : Int32} {x2 : Int32} {S : CS} {post : Int32 → CS → Prop} (h : C_add_VC mc ms x1 x2 S post) : C_add mc ms x1 x2 S post := by
  intro l D dA o sz
  refine cr_start (fun A => va_Qi post (cB D dA o A) A) rfl (Nat.le_of_ble_eq_true rfl) (by decide) ?_
  intro p e s m args below meth c ls A C w hl
  have hl : lv_has ls 4 [(0, .ref (o 0)), (1, .int x1), (2, .int x2)] := hl
  have h := h (fun (x1 : Int32) (x2 : Int32) (x3 : Int32) (uc : Nat) (us : Nat) S => uc ≤ mc ∧ us ≤ ms → ∀ (H : Heap) (locs : List Loc) (ls : Array Slot), lv_has ls 4 [(0, .ref (o 0)), (1, .int x1), (2, .int x2), (3, .int x3)] → cw D dA o A s S H locs → W p l e (rC_add mc ms) s m args below meth c H locs uc us (cQi below args s D dA o A (rC_add mc ms) post) (F0 m 29 ls [])) (fun (x1 : Int32) (x2 : Int32) (x3 : Int32) (uc : Nat) (us : Nat) S => uc ≤ mc ∧ us ≤ ms → ∀ (H : Heap) (locs : List Loc) (ls : Array Slot), lv_has ls 4 [(0, .ref (o 0)), (1, .int x1), (2, .int x2), (3, .int x3)] → cw D dA o A s S H locs → W p l e (rC_add mc ms) s m args below meth c H locs uc us (cQi below args s D dA o A (rC_add mc ms) post) (F0 m 77 ls [])) (fun _ _ _ _ _ S h hu H locs ls hl w => C_add_a29 C (fun _ _ _ _ _ _ h => h) (fun _ _ _ _ _ _ h => h) h hu hl w) (fun _ _ _ _ _ S h hu H locs ls hl w => C_add_a77 C (fun _ _ _ _ _ _ h => h) (fun _ _ _ _ _ _ h => h) h hu hl w)
  exact C_add_a0 C (fun _ _ _ _ _ _ h => h) (fun _ _ _ _ _ _ h => h) h ⟨Nat.zero_le _, Nat.zero_le _⟩ (lv_sub hl [0, 1, 2] rfl) w

/-! ThirdSheets.threes(II)I -/
def C_threes_w0 (post : Int32 → CS → Prop) (x1 : Int32) (x2 : Int32) (S : CS) : Prop :=
  (vp_in (((7 : Int32) * x1) + x2) 21 ∧ post (kI S 13 ((((7 : Int32) * x1) + x2)).toNatClampNeg) S)
set_option maxHeartbeats 4000000 in
set_option maxRecDepth 100000 in
theorem C_threes_a0 {p : Program} {l : Launch} {e : Env} {s : State} {m : MethodId} {args : Array Value} {below : List Frame} {meth : Method} {c : Code} {D : va_G} {dA : Nat → ClassId} {o : Nat → Nat} {A : Nat → Prop} {post : Int32 → CS → Prop} (C : cC RX0 p m c cX0_threes 3 s args meth (Option.some Jvm.ClassFile.FieldType.int) A) {x1 : Int32} {x2 : Int32} {S : CS} (h : C_threes_w0 post x1 x2 S) {H : Heap} {locs : List Loc} {ls : Array Slot} (hl : lv_has ls 3 [(0, .ref (o 0)), (1, .int x1), (2, .int x2)]) (w : cw D dA o A s S H locs) : W p l e (rC_threes) s m args below meth c H locs 0 0 (cQi below args s D dA o A (rC_threes) post) (F0 m 0 ls []) := by
  unfold C_threes_w0 at h
  obtain ⟨⟨hx, hb, hml, hown, hts⟩, hr, hlk, hA⟩ := id C
  refine lv_aload_n hx hb dX0_threes_0 rfl (lv_at hl 0 rfl) ?_
  refine cr_get C w 0 rfl rfl in_X0 13 (by decide) q177 rfl rfl dX0_threes_1 ?_
  refine lv_bipush (v := 7) hx hb dX0_threes_4 (by decide) ?_
  refine lv_iload_n hx hb dX0_threes_6 rfl (lv_at hl 1 rfl) ?_
  refine lv_imul hx hb dX0_threes_7 ?_
  refine lv_iload_n hx hb dX0_threes_8 rfl (lv_at hl 2 rfl) ?_
  refine lv_iadd hx hb dX0_threes_9 ?_
  obtain ⟨hi, h⟩ := h
  refine cr_iald C w 8 rfl hi dX0_threes_10 ?_
  exact cr_iret C w h (Nat.le_of_ble_eq_true rfl) (Nat.le_of_ble_eq_true rfl) dX0_threes_11
def C_threes_VC (x1 : Int32) (x2 : Int32) (S : CS) (post : Int32 → CS → Prop) : Prop := C_threes_w0 post x1 x2 S
theorem C_threes_ok {x1 : Int32} {x2 : Int32} {S : CS} {post : Int32 → CS → Prop} (h : C_threes_VC x1 x2 S post) : C_threes x1 x2 S post := by
  intro l D dA o sz
  refine cr_start (fun A => va_Qi post (cB D dA o A) A) rfl (Nat.le_of_ble_eq_true rfl) (by decide) ?_
  intro p e s m args below meth c ls A C w hl
  have hl : lv_has ls 3 [(0, .ref (o 0)), (1, .int x1), (2, .int x2)] := hl
  exact C_threes_a0 C h (lv_sub hl [0, 1, 2] rfl) w

/-! ThirdSheets.fours(II)I -/
def C_fours_w0 (post : Int32 → CS → Prop) (x1 : Int32) (x2 : Int32) (S : CS) : Prop :=
  (vp_in ((((7 : Int32) * x1) + (4 : Int32)) + x2) 21 ∧ post (kI S 13 (((((7 : Int32) * x1) + (4 : Int32)) + x2)).toNatClampNeg) S)
set_option maxHeartbeats 4000000 in
set_option maxRecDepth 100000 in
theorem C_fours_a0 {p : Program} {l : Launch} {e : Env} {s : State} {m : MethodId} {args : Array Value} {below : List Frame} {meth : Method} {c : Code} {D : va_G} {dA : Nat → ClassId} {o : Nat → Nat} {A : Nat → Prop} {post : Int32 → CS → Prop} (C : cC RX0 p m c cX0_fours 3 s args meth (Option.some Jvm.ClassFile.FieldType.int) A) {x1 : Int32} {x2 : Int32} {S : CS} (h : C_fours_w0 post x1 x2 S) {H : Heap} {locs : List Loc} {ls : Array Slot} (hl : lv_has ls 3 [(0, .ref (o 0)), (1, .int x1), (2, .int x2)]) (w : cw D dA o A s S H locs) : W p l e (rC_fours) s m args below meth c H locs 0 0 (cQi below args s D dA o A (rC_fours) post) (F0 m 0 ls []) := by
  unfold C_fours_w0 at h
  obtain ⟨⟨hx, hb, hml, hown, hts⟩, hr, hlk, hA⟩ := id C
  refine lv_aload_n hx hb dX0_fours_0 rfl (lv_at hl 0 rfl) ?_
  refine cr_get C w 0 rfl rfl in_X0 13 (by decide) q177 rfl rfl dX0_fours_1 ?_
  refine lv_bipush (v := 7) hx hb dX0_fours_4 (by decide) ?_
  refine lv_iload_n hx hb dX0_fours_6 rfl (lv_at hl 1 rfl) ?_
  refine lv_imul hx hb dX0_fours_7 ?_
  refine lv_iconst (v := 4) hx hb dX0_fours_8 (by decide) ?_
  refine lv_iadd hx hb dX0_fours_9 ?_
  refine lv_iload_n hx hb dX0_fours_10 rfl (lv_at hl 2 rfl) ?_
  refine lv_iadd hx hb dX0_fours_11 ?_
  obtain ⟨hi, h⟩ := h
  refine cr_iald C w 8 rfl hi dX0_fours_12 ?_
  exact cr_iret C w h (Nat.le_of_ble_eq_true rfl) (Nat.le_of_ble_eq_true rfl) dX0_fours_13
def C_fours_VC (x1 : Int32) (x2 : Int32) (S : CS) (post : Int32 → CS → Prop) : Prop := C_fours_w0 post x1 x2 S
theorem C_fours_ok {x1 : Int32} {x2 : Int32} {S : CS} {post : Int32 → CS → Prop} (h : C_fours_VC x1 x2 S post) : C_fours x1 x2 S post := by
  intro l D dA o sz
  refine cr_start (fun A => va_Qi post (cB D dA o A) A) rfl (Nat.le_of_ble_eq_true rfl) (by decide) ?_
  intro p e s m args below meth c ls A C w hl
  have hl : lv_has ls 3 [(0, .ref (o 0)), (1, .int x1), (2, .int x2)] := hl
  exact C_fours_a0 C h (lv_sub hl [0, 1, 2] rfl) w

/-! ThirdSheets.arcs(III)I -/
def C_arcs_w0 (post : Int32 → CS → Prop) (x1 : Int32) (x2 : Int32) (x3 : Int32) (S : CS) : Prop :=
  C_threes x1 x3 S (fun (r1 : Int32) (S1 : CS) => C_kindOf x3 x2 S1 (fun (r2 : Int32) (S2 : CS) => C_fours x1 r2 S2 (fun (r3 : Int32) (S3 : CS) => post (r1 + r3) S3)))
set_option maxHeartbeats 4000000 in
set_option maxRecDepth 100000 in
theorem C_arcs_a0 {p : Program} {l : Launch} {e : Env} {s : State} {m : MethodId} {args : Array Value} {below : List Frame} {meth : Method} {c : Code} {D : va_G} {dA : Nat → ClassId} {o : Nat → Nat} {A : Nat → Prop} {post : Int32 → CS → Prop} (C : cC RX0 p m c cX0_arcs 4 s args meth (Option.some Jvm.ClassFile.FieldType.int) A) {x1 : Int32} {x2 : Int32} {x3 : Int32} {S : CS} (h : C_arcs_w0 post x1 x2 x3 S) {H : Heap} {locs : List Loc} {ls : Array Slot} (hl : lv_has ls 4 [(0, .ref (o 0)), (1, .int x1), (2, .int x2), (3, .int x3)]) (w : cw D dA o A s S H locs) : W p l e (rC_arcs) s m args below meth c H locs 0 0 (cQi below args s D dA o A (rC_arcs) post) (F0 m 0 ls []) := by
  unfold C_arcs_w0 at h
  obtain ⟨⟨hx, hb, hml, hown, hts⟩, hr, hlk, hA⟩ := id C
  refine lv_aload_n hx hb dX0_arcs_0 rfl (lv_at hl 0 rfl) ?_
  refine lv_iload_n hx hb dX0_arcs_1 rfl (lv_at hl 1 rfl) ?_
  refine lv_iload_n hx hb dX0_arcs_2 rfl (lv_at hl 3 rfl) ?_
  refine cr_callVI (rest := []) (b := (fun o => o 0)) C w h (recv0 w) (cwV 2 hts (lw_V q506 q508 qs23 q82 q509) rfl rfl rfl C_threes_d ⟨Nat.le_of_ble_eq_true rfl, Nat.le_of_ble_eq_true rfl⟩) rfl hl.1 rfl (Nat.le_of_ble_eq_true rfl) ⟨Nat.le_of_ble_eq_true rfl, Nat.le_of_ble_eq_true rfl⟩ dX0_arcs_3 (fun r1 S1 H locs h w => ?_)
  refine lv_aload_n hx hb dX0_arcs_6 rfl (lv_at hl 0 rfl) ?_
  refine lv_iload_n hx hb dX0_arcs_7 rfl (lv_at hl 1 rfl) ?_
  refine lv_iload_n hx hb dX0_arcs_8 rfl (lv_at hl 3 rfl) ?_
  refine lv_iload_n hx hb dX0_arcs_9 rfl (lv_at hl 2 rfl) ?_
  refine cr_callSI (rest := [.int _, .ref _, .int _]) C w h (va_cwS 2 hts (lw_S q453 q454 q82 q455) rfl rfl rfl C_kindOf_d ⟨Nat.le_of_ble_eq_true rfl, Nat.le_of_ble_eq_true rfl⟩) rfl hl.1 rfl (Nat.le_of_ble_eq_true rfl) ⟨Nat.le_of_ble_eq_true rfl, Nat.le_of_ble_eq_true rfl⟩ dX0_arcs_10 (fun r2 S2 H locs h w => ?_)
  refine cr_callVI (rest := [.int _]) (b := (fun o => o 0)) C w h (recv0 w) (cwV 2 hts (lw_V q510 q512 qs24 q82 q513) rfl rfl rfl C_fours_d ⟨Nat.le_of_ble_eq_true rfl, Nat.le_of_ble_eq_true rfl⟩) rfl hl.1 rfl (Nat.le_of_ble_eq_true rfl) ⟨Nat.le_of_ble_eq_true rfl, Nat.le_of_ble_eq_true rfl⟩ dX0_arcs_13 (fun r3 S3 H locs h w => ?_)
  refine lv_iadd hx hb dX0_arcs_16 ?_
  exact cr_iret C w h (Nat.le_of_ble_eq_true rfl) (Nat.le_of_ble_eq_true rfl) dX0_arcs_17
def C_arcs_VC (x1 : Int32) (x2 : Int32) (x3 : Int32) (S : CS) (post : Int32 → CS → Prop) : Prop := C_arcs_w0 post x1 x2 x3 S
theorem C_arcs_ok {x1 : Int32} {x2 : Int32} {x3 : Int32} {S : CS} {post : Int32 → CS → Prop} (h : C_arcs_VC x1 x2 x3 S post) : C_arcs x1 x2 x3 S post := by
  intro l D dA o sz
  refine cr_start (fun A => va_Qi post (cB D dA o A) A) rfl (Nat.le_of_ble_eq_true rfl) (by decide) ?_
  intro p e s m args below meth c ls A C w hl
  have hl : lv_has ls 4 [(0, .ref (o 0)), (1, .int x1), (2, .int x2), (3, .int x3)] := hl
  exact C_arcs_a0 C h (lv_sub hl [0, 1, 2, 3] rfl) w

/-! ThirdSheets.legal()I -/
def C_legal_w183 (post : Int32 → CS → Prop) (T6 : Int32 → Int32 → Int32 → CS → Prop) (T17 : Int32 → Int32 → Int32 → Int32 → CS → Prop) (T64 : Int32 → Int32 → Int32 → Int32 → CS → Prop) (T84 : Int32 → Int32 → Int32 → Int32 → Option Nat → Int32 → CS → Prop) (v0 : Int32) (S : CS) : Prop :=
  post v0 S
set_option maxHeartbeats 4000000 in
set_option maxRecDepth 100000 in
theorem C_legal_a183 {p : Program} {l : Launch} {e : Env} {s : State} {m : MethodId} {args : Array Value} {below : List Frame} {meth : Method} {c : Code} {D : va_G} {dA : Nat → ClassId} {o : Nat → Nat} {A : Nat → Prop} {post : Int32 → CS → Prop} {T6 : Int32 → Int32 → Int32 → CS → Prop} {T17 : Int32 → Int32 → Int32 → Int32 → CS → Prop} {T64 : Int32 → Int32 → Int32 → Int32 → CS → Prop} {T84 : Int32 → Int32 → Int32 → Int32 → Option Nat → Int32 → CS → Prop} (C : cC RX0 p m c cX0_legal 7 s args meth (Option.some Jvm.ClassFile.FieldType.int) A) (hT6 : ∀ (x1 : Int32) (x2 : Int32) (x3 : Int32) (S : CS), T6 x1 x2 x3 S → ∀ (H : Heap) (locs : List Loc) (ls : Array Slot), lv_has ls 7 [(0, .ref (o 0)), (1, .int x1), (2, .int x2), (3, .int x3)] → cw D dA o A s S H locs → W p l e (rC_legal) s m args below meth c H locs 0 0 (cQi below args s D dA o A (rC_legal) post) (F0 m 6 ls [])) (hT17 : ∀ (x1 : Int32) (x2 : Int32) (x3 : Int32) (x4 : Int32) (S : CS), T17 x1 x2 x3 x4 S → ∀ (H : Heap) (locs : List Loc) (ls : Array Slot), lv_has ls 7 [(0, .ref (o 0)), (1, .int x1), (2, .int x2), (3, .int x3), (4, .int x4)] → cw D dA o A s S H locs → W p l e (rC_legal) s m args below meth c H locs 0 0 (cQi below args s D dA o A (rC_legal) post) (F0 m 17 ls [])) (hT64 : ∀ (x1 : Int32) (x2 : Int32) (x3 : Int32) (x4 : Int32) (S : CS), T64 x1 x2 x3 x4 S → ∀ (H : Heap) (locs : List Loc) (ls : Array Slot), lv_has ls 7 [(0, .ref (o 0)), (1, .int x1), (2, .int x2), (3, .int x3), (4, .int x4)] → cw D dA o A s S H locs → W p l e (rC_legal) s m args below meth c H locs 0 0 (cQi below args s D dA o A (rC_legal) post) (F0 m 64 ls [])) (hT84 : ∀ (x1 : Int32) (x2 : Int32) (x3 : Int32) (x4 : Int32) (y5 : Option Nat) (x6 : Int32) (S : CS), T84 x1 x2 x3 x4 y5 x6 S → ∀ (H : Heap) (locs : List Loc) (ls : Array Slot), lv_has ls 7 [(0, .ref (o 0)), (1, .int x1), (2, .int x2), (3, .int x3), (4, .int x4), (5, va_rf y5), (6, .int x6)] → cw D dA o A s S H locs → W p l e (rC_legal) s m args below meth c H locs 0 0 (cQi below args s D dA o A (rC_legal) post) (F0 m 84 ls [])) {v0 : Int32} {S : CS} (h : C_legal_w183 post T6 T17 T64 T84 v0 S) {H : Heap} {locs : List Loc} {ls : Array Slot} (hl : lv_has ls 7 [(0, .ref (o 0))]) (w : cw D dA o A s S H locs) : W p l e (rC_legal) s m args below meth c H locs 0 0 (cQi below args s D dA o A (rC_legal) post) (F0 m 183 ls [.int v0]) := by
  unfold C_legal_w183 at h
  obtain ⟨⟨hx, hb, hml, hown, hts⟩, hr, hlk, hA⟩ := id C
  exact cr_iret C w h (Nat.le_of_ble_eq_true rfl) (Nat.le_of_ble_eq_true rfl) dX0_legal_183
def C_legal_w150 (post : Int32 → CS → Prop) (T6 : Int32 → Int32 → Int32 → CS → Prop) (T17 : Int32 → Int32 → Int32 → Int32 → CS → Prop) (T64 : Int32 → Int32 → Int32 → Int32 → CS → Prop) (T84 : Int32 → Int32 → Int32 → Int32 → Option Nat → Int32 → CS → Prop) (x1 : Int32) (x2 : Int32) (x3 : Int32) (x4 : Int32) (S : CS) : Prop :=
  T64 x1 x2 x3 (x4 + (1 : Int32)) S
set_option maxHeartbeats 4000000 in
set_option maxRecDepth 100000 in
theorem C_legal_a150 {p : Program} {l : Launch} {e : Env} {s : State} {m : MethodId} {args : Array Value} {below : List Frame} {meth : Method} {c : Code} {D : va_G} {dA : Nat → ClassId} {o : Nat → Nat} {A : Nat → Prop} {post : Int32 → CS → Prop} {T6 : Int32 → Int32 → Int32 → CS → Prop} {T17 : Int32 → Int32 → Int32 → Int32 → CS → Prop} {T64 : Int32 → Int32 → Int32 → Int32 → CS → Prop} {T84 : Int32 → Int32 → Int32 → Int32 → Option Nat → Int32 → CS → Prop} (C : cC RX0 p m c cX0_legal 7 s args meth (Option.some Jvm.ClassFile.FieldType.int) A) (hT6 : ∀ (x1 : Int32) (x2 : Int32) (x3 : Int32) (S : CS), T6 x1 x2 x3 S → ∀ (H : Heap) (locs : List Loc) (ls : Array Slot), lv_has ls 7 [(0, .ref (o 0)), (1, .int x1), (2, .int x2), (3, .int x3)] → cw D dA o A s S H locs → W p l e (rC_legal) s m args below meth c H locs 0 0 (cQi below args s D dA o A (rC_legal) post) (F0 m 6 ls [])) (hT17 : ∀ (x1 : Int32) (x2 : Int32) (x3 : Int32) (x4 : Int32) (S : CS), T17 x1 x2 x3 x4 S → ∀ (H : Heap) (locs : List Loc) (ls : Array Slot), lv_has ls 7 [(0, .ref (o 0)), (1, .int x1), (2, .int x2), (3, .int x3), (4, .int x4)] → cw D dA o A s S H locs → W p l e (rC_legal) s m args below meth c H locs 0 0 (cQi below args s D dA o A (rC_legal) post) (F0 m 17 ls [])) (hT64 : ∀ (x1 : Int32) (x2 : Int32) (x3 : Int32) (x4 : Int32) (S : CS), T64 x1 x2 x3 x4 S → ∀ (H : Heap) (locs : List Loc) (ls : Array Slot), lv_has ls 7 [(0, .ref (o 0)), (1, .int x1), (2, .int x2), (3, .int x3), (4, .int x4)] → cw D dA o A s S H locs → W p l e (rC_legal) s m args below meth c H locs 0 0 (cQi below args s D dA o A (rC_legal) post) (F0 m 64 ls [])) (hT84 : ∀ (x1 : Int32) (x2 : Int32) (x3 : Int32) (x4 : Int32) (y5 : Option Nat) (x6 : Int32) (S : CS), T84 x1 x2 x3 x4 y5 x6 S → ∀ (H : Heap) (locs : List Loc) (ls : Array Slot), lv_has ls 7 [(0, .ref (o 0)), (1, .int x1), (2, .int x2), (3, .int x3), (4, .int x4), (5, va_rf y5), (6, .int x6)] → cw D dA o A s S H locs → W p l e (rC_legal) s m args below meth c H locs 0 0 (cQi below args s D dA o A (rC_legal) post) (F0 m 84 ls [])) {x1 : Int32} {x2 : Int32} {x3 : Int32} {x4 : Int32} {S : CS} (h : C_legal_w150 post T6 T17 T64 T84 x1 x2 x3 x4 S) {H : Heap} {locs : List Loc} {ls : Array Slot} (hl : lv_has ls 7 [(0, .ref (o 0)), (1, .int x1), (2, .int x2), (3, .int x3), (4, .int x4)]) (w : cw D dA o A s S H locs) : W p l e (rC_legal) s m args below meth c H locs 0 0 (cQi below args s D dA o A (rC_legal) post) (F0 m 150 ls []) := by
  unfold C_legal_w150 at h
  obtain ⟨⟨hx, hb, hml, hown, hts⟩, hr, hlk, hA⟩ := id C
  refine lv_iinc (v := _ + (1 : Int32)) (lv' := [(4, .int _), (0, .ref _), (1, .int _), (2, .int _), (3, .int _)]) hx hb dX0_legal_150 hl (k := 4) rfl rfl (by decide) rfl (fun ls hl => ?_)
  refine lv_goto (tgt := 64) hx hb dX0_legal_153 (by decide) ?_
  exact hT64 _ _ _ _ _ h _ _ _ (lv_sub hl [1, 2, 3, 4, 0] rfl) w
def C_legal_w142 (post : Int32 → CS → Prop) (T6 : Int32 → Int32 → Int32 → CS → Prop) (T17 : Int32 → Int32 → Int32 → Int32 → CS → Prop) (T64 : Int32 → Int32 → Int32 → Int32 → CS → Prop) (T84 : Int32 → Int32 → Int32 → Int32 → Option Nat → Int32 → CS → Prop) (v0 : Int32) (v1 : Int32) (x1 : Int32) (x3 : Int32) (x4 : Int32) (y5 : Option Nat) (x6 : Int32) (S : CS) : Prop :=
  T84 x1 (v1 &&& v0) x3 x4 y5 (x6 + (1 : Int32)) S
set_option maxHeartbeats 4000000 in
set_option maxRecDepth 100000 in
theorem C_legal_a142 {p : Program} {l : Launch} {e : Env} {s : State} {m : MethodId} {args : Array Value} {below : List Frame} {meth : Method} {c : Code} {D : va_G} {dA : Nat → ClassId} {o : Nat → Nat} {A : Nat → Prop} {post : Int32 → CS → Prop} {T6 : Int32 → Int32 → Int32 → CS → Prop} {T17 : Int32 → Int32 → Int32 → Int32 → CS → Prop} {T64 : Int32 → Int32 → Int32 → Int32 → CS → Prop} {T84 : Int32 → Int32 → Int32 → Int32 → Option Nat → Int32 → CS → Prop} (C : cC RX0 p m c cX0_legal 7 s args meth (Option.some Jvm.ClassFile.FieldType.int) A) (hT6 : ∀ (x1 : Int32) (x2 : Int32) (x3 : Int32) (S : CS), T6 x1 x2 x3 S → ∀ (H : Heap) (locs : List Loc) (ls : Array Slot), lv_has ls 7 [(0, .ref (o 0)), (1, .int x1), (2, .int x2), (3, .int x3)] → cw D dA o A s S H locs → W p l e (rC_legal) s m args below meth c H locs 0 0 (cQi below args s D dA o A (rC_legal) post) (F0 m 6 ls [])) (hT17 : ∀ (x1 : Int32) (x2 : Int32) (x3 : Int32) (x4 : Int32) (S : CS), T17 x1 x2 x3 x4 S → ∀ (H : Heap) (locs : List Loc) (ls : Array Slot), lv_has ls 7 [(0, .ref (o 0)), (1, .int x1), (2, .int x2), (3, .int x3), (4, .int x4)] → cw D dA o A s S H locs → W p l e (rC_legal) s m args below meth c H locs 0 0 (cQi below args s D dA o A (rC_legal) post) (F0 m 17 ls [])) (hT64 : ∀ (x1 : Int32) (x2 : Int32) (x3 : Int32) (x4 : Int32) (S : CS), T64 x1 x2 x3 x4 S → ∀ (H : Heap) (locs : List Loc) (ls : Array Slot), lv_has ls 7 [(0, .ref (o 0)), (1, .int x1), (2, .int x2), (3, .int x3), (4, .int x4)] → cw D dA o A s S H locs → W p l e (rC_legal) s m args below meth c H locs 0 0 (cQi below args s D dA o A (rC_legal) post) (F0 m 64 ls [])) (hT84 : ∀ (x1 : Int32) (x2 : Int32) (x3 : Int32) (x4 : Int32) (y5 : Option Nat) (x6 : Int32) (S : CS), T84 x1 x2 x3 x4 y5 x6 S → ∀ (H : Heap) (locs : List Loc) (ls : Array Slot), lv_has ls 7 [(0, .ref (o 0)), (1, .int x1), (2, .int x2), (3, .int x3), (4, .int x4), (5, va_rf y5), (6, .int x6)] → cw D dA o A s S H locs → W p l e (rC_legal) s m args below meth c H locs 0 0 (cQi below args s D dA o A (rC_legal) post) (F0 m 84 ls [])) {v0 : Int32} {v1 : Int32} {x1 : Int32} {x3 : Int32} {x4 : Int32} {y5 : Option Nat} {x6 : Int32} {S : CS} (h : C_legal_w142 post T6 T17 T64 T84 v0 v1 x1 x3 x4 y5 x6 S) {H : Heap} {locs : List Loc} {ls : Array Slot} (hl : lv_has ls 7 [(0, .ref (o 0)), (1, .int x1), (3, .int x3), (4, .int x4), (5, va_rf y5), (6, .int x6)]) (w : cw D dA o A s S H locs) : W p l e (rC_legal) s m args below meth c H locs 0 0 (cQi below args s D dA o A (rC_legal) post) (F0 m 142 ls [.int v0, .int v1]) := by
  unfold C_legal_w142 at h
  obtain ⟨⟨hx, hb, hml, hown, hts⟩, hr, hlk, hA⟩ := id C
  refine lv_iand hx hb dX0_legal_142 ?_
  refine lv_istore_n (lv' := [(2, .int _), (0, .ref _), (1, .int _), (3, .int _), (4, .int _), (5, va_rf _), (6, .int _)]) hx hb dX0_legal_143 rfl hl (by decide) rfl (fun ls hl => ?_)
  refine lv_iinc (v := _ + (1 : Int32)) (lv' := [(6, .int _), (2, .int _), (0, .ref _), (1, .int _), (3, .int _), (4, .int _), (5, va_rf _)]) hx hb dX0_legal_144 hl (k := 6) rfl rfl (by decide) ((congrArg (List.cons _) (lv_filtC (by intro q hq hq1; simp only [List.mem_cons, List.not_mem_nil, or_false] at hq; rcases hq with rfl | rfl | rfl | rfl | rfl | rfl | rfl <;> first | exact va_rf_cat _ | (exfalso; simp at hq1)))).trans rfl) (fun ls hl => ?_)
  refine lv_goto (tgt := 84) hx hb dX0_legal_147 (by decide) ?_
  exact hT84 _ _ _ _ _ _ _ h _ _ _ (lv_sub hl [2, 3, 1, 4, 5, 6, 0] rfl) w
def C_legal_w137 (post : Int32 → CS → Prop) (T6 : Int32 → Int32 → Int32 → CS → Prop) (T17 : Int32 → Int32 → Int32 → Int32 → CS → Prop) (T64 : Int32 → Int32 → Int32 → Int32 → CS → Prop) (T84 : Int32 → Int32 → Int32 → Int32 → Option Nat → Int32 → CS → Prop) (v0 : Int32) (x1 : Int32) (x3 : Int32) (x4 : Int32) (y5 : Option Nat) (x6 : Int32) (S : CS) : Prop :=
  C_legal_w142 post T6 T17 T64 T84 (1 : Int32) v0 x1 x3 x4 y5 x6 S
set_option maxHeartbeats 4000000 in
set_option maxRecDepth 100000 in
theorem C_legal_a137 {p : Program} {l : Launch} {e : Env} {s : State} {m : MethodId} {args : Array Value} {below : List Frame} {meth : Method} {c : Code} {D : va_G} {dA : Nat → ClassId} {o : Nat → Nat} {A : Nat → Prop} {post : Int32 → CS → Prop} {T6 : Int32 → Int32 → Int32 → CS → Prop} {T17 : Int32 → Int32 → Int32 → Int32 → CS → Prop} {T64 : Int32 → Int32 → Int32 → Int32 → CS → Prop} {T84 : Int32 → Int32 → Int32 → Int32 → Option Nat → Int32 → CS → Prop} (C : cC RX0 p m c cX0_legal 7 s args meth (Option.some Jvm.ClassFile.FieldType.int) A) (hT6 : ∀ (x1 : Int32) (x2 : Int32) (x3 : Int32) (S : CS), T6 x1 x2 x3 S → ∀ (H : Heap) (locs : List Loc) (ls : Array Slot), lv_has ls 7 [(0, .ref (o 0)), (1, .int x1), (2, .int x2), (3, .int x3)] → cw D dA o A s S H locs → W p l e (rC_legal) s m args below meth c H locs 0 0 (cQi below args s D dA o A (rC_legal) post) (F0 m 6 ls [])) (hT17 : ∀ (x1 : Int32) (x2 : Int32) (x3 : Int32) (x4 : Int32) (S : CS), T17 x1 x2 x3 x4 S → ∀ (H : Heap) (locs : List Loc) (ls : Array Slot), lv_has ls 7 [(0, .ref (o 0)), (1, .int x1), (2, .int x2), (3, .int x3), (4, .int x4)] → cw D dA o A s S H locs → W p l e (rC_legal) s m args below meth c H locs 0 0 (cQi below args s D dA o A (rC_legal) post) (F0 m 17 ls [])) (hT64 : ∀ (x1 : Int32) (x2 : Int32) (x3 : Int32) (x4 : Int32) (S : CS), T64 x1 x2 x3 x4 S → ∀ (H : Heap) (locs : List Loc) (ls : Array Slot), lv_has ls 7 [(0, .ref (o 0)), (1, .int x1), (2, .int x2), (3, .int x3), (4, .int x4)] → cw D dA o A s S H locs → W p l e (rC_legal) s m args below meth c H locs 0 0 (cQi below args s D dA o A (rC_legal) post) (F0 m 64 ls [])) (hT84 : ∀ (x1 : Int32) (x2 : Int32) (x3 : Int32) (x4 : Int32) (y5 : Option Nat) (x6 : Int32) (S : CS), T84 x1 x2 x3 x4 y5 x6 S → ∀ (H : Heap) (locs : List Loc) (ls : Array Slot), lv_has ls 7 [(0, .ref (o 0)), (1, .int x1), (2, .int x2), (3, .int x3), (4, .int x4), (5, va_rf y5), (6, .int x6)] → cw D dA o A s S H locs → W p l e (rC_legal) s m args below meth c H locs 0 0 (cQi below args s D dA o A (rC_legal) post) (F0 m 84 ls [])) {v0 : Int32} {x1 : Int32} {x3 : Int32} {x4 : Int32} {y5 : Option Nat} {x6 : Int32} {S : CS} (h : C_legal_w137 post T6 T17 T64 T84 v0 x1 x3 x4 y5 x6 S) {H : Heap} {locs : List Loc} {ls : Array Slot} (hl : lv_has ls 7 [(0, .ref (o 0)), (1, .int x1), (3, .int x3), (4, .int x4), (5, va_rf y5), (6, .int x6)]) (w : cw D dA o A s S H locs) : W p l e (rC_legal) s m args below meth c H locs 0 0 (cQi below args s D dA o A (rC_legal) post) (F0 m 137 ls [.int v0]) := by
  unfold C_legal_w137 at h
  obtain ⟨⟨hx, hb, hml, hown, hts⟩, hr, hlk, hA⟩ := id C
  refine lv_iconst (v := 1) hx hb dX0_legal_137 (by decide) ?_
  refine lv_goto (tgt := 142) hx hb dX0_legal_138 (by decide) ?_
  exact C_legal_a142 C hT6 hT17 hT64 hT84 h (lv_sub hl [0, 1, 2, 3, 4, 5] rfl) w
def C_legal_w84 (post : Int32 → CS → Prop) (T6 : Int32 → Int32 → Int32 → CS → Prop) (T17 : Int32 → Int32 → Int32 → Int32 → CS → Prop) (T64 : Int32 → Int32 → Int32 → Int32 → CS → Prop) (T84 : Int32 → Int32 → Int32 → Int32 → Option Nat → Int32 → CS → Prop) (x1 : Int32) (x2 : Int32) (x3 : Int32) (x4 : Int32) (y5 : Option Nat) (x6 : Int32) (S : CS) : Prop :=
  (((4 : Int32) ≤ x6 → C_legal_w150 post T6 T17 T64 T84 x1 x2 x3 x4 S) ∧ (¬ (4 : Int32) ≤ x6 → ((y5 = none → C_legal_w150 post T6 T17 T64 T84 x1 x2 x3 x4 S) ∧ (∀ g1 : Nat, y5 = some g1 → ((x6 = x4 → C_legal_w137 post T6 T17 T64 T84 x2 x1 x3 x4 (some g1) x6 S) ∧ (¬ x6 = x4 → C_arcs x3 x4 x6 S (fun (r2 : Int32) (S2 : CS) => (pk S2 g1 0 ∧ (pk S2 g1 0 ∧ (pk S2 g1 0 ∧ (pk S2 (kG S2 g1).2.2 1 ∧ vp_in x6 (kN S2 (kG S2 g1).2.2) ∧ C_arcs (kG S2 g1).1 (kG S2 g1).2.1 (kT S2 (kG S2 g1).2.2 (x6).toNatClampNeg) S2 (fun (r3 : Int32) (S3 : CS) => ((¬ r2 = r3 → C_legal_w142 post T6 T17 T64 T84 (0 : Int32) x2 x1 x3 x4 (some g1) x6 S3) ∧ (r2 = r3 → C_legal_w137 post T6 T17 T64 T84 x2 x1 x3 x4 (some g1) x6 S3))))))))))))))
set_option maxHeartbeats 4000000 in
set_option maxRecDepth 100000 in
theorem C_legal_a84 {p : Program} {l : Launch} {e : Env} {s : State} {m : MethodId} {args : Array Value} {below : List Frame} {meth : Method} {c : Code} {D : va_G} {dA : Nat → ClassId} {o : Nat → Nat} {A : Nat → Prop} {post : Int32 → CS → Prop} {T6 : Int32 → Int32 → Int32 → CS → Prop} {T17 : Int32 → Int32 → Int32 → Int32 → CS → Prop} {T64 : Int32 → Int32 → Int32 → Int32 → CS → Prop} {T84 : Int32 → Int32 → Int32 → Int32 → Option Nat → Int32 → CS → Prop} (C : cC RX0 p m c cX0_legal 7 s args meth (Option.some Jvm.ClassFile.FieldType.int) A) (hT6 : ∀ (x1 : Int32) (x2 : Int32) (x3 : Int32) (S : CS), T6 x1 x2 x3 S → ∀ (H : Heap) (locs : List Loc) (ls : Array Slot), lv_has ls 7 [(0, .ref (o 0)), (1, .int x1), (2, .int x2), (3, .int x3)] → cw D dA o A s S H locs → W p l e (rC_legal) s m args below meth c H locs 0 0 (cQi below args s D dA o A (rC_legal) post) (F0 m 6 ls [])) (hT17 : ∀ (x1 : Int32) (x2 : Int32) (x3 : Int32) (x4 : Int32) (S : CS), T17 x1 x2 x3 x4 S → ∀ (H : Heap) (locs : List Loc) (ls : Array Slot), lv_has ls 7 [(0, .ref (o 0)), (1, .int x1), (2, .int x2), (3, .int x3), (4, .int x4)] → cw D dA o A s S H locs → W p l e (rC_legal) s m args below meth c H locs 0 0 (cQi below args s D dA o A (rC_legal) post) (F0 m 17 ls [])) (hT64 : ∀ (x1 : Int32) (x2 : Int32) (x3 : Int32) (x4 : Int32) (S : CS), T64 x1 x2 x3 x4 S → ∀ (H : Heap) (locs : List Loc) (ls : Array Slot), lv_has ls 7 [(0, .ref (o 0)), (1, .int x1), (2, .int x2), (3, .int x3), (4, .int x4)] → cw D dA o A s S H locs → W p l e (rC_legal) s m args below meth c H locs 0 0 (cQi below args s D dA o A (rC_legal) post) (F0 m 64 ls [])) (hT84 : ∀ (x1 : Int32) (x2 : Int32) (x3 : Int32) (x4 : Int32) (y5 : Option Nat) (x6 : Int32) (S : CS), T84 x1 x2 x3 x4 y5 x6 S → ∀ (H : Heap) (locs : List Loc) (ls : Array Slot), lv_has ls 7 [(0, .ref (o 0)), (1, .int x1), (2, .int x2), (3, .int x3), (4, .int x4), (5, va_rf y5), (6, .int x6)] → cw D dA o A s S H locs → W p l e (rC_legal) s m args below meth c H locs 0 0 (cQi below args s D dA o A (rC_legal) post) (F0 m 84 ls [])) {x1 : Int32} {x2 : Int32} {x3 : Int32} {x4 : Int32} {y5 : Option Nat} {x6 : Int32} {S : CS} (h : C_legal_w84 post T6 T17 T64 T84 x1 x2 x3 x4 y5 x6 S) {H : Heap} {locs : List Loc} {ls : Array Slot} (hl : lv_has ls 7 [(0, .ref (o 0)), (1, .int x1), (2, .int x2), (3, .int x3), (4, .int x4), (5, va_rf y5), (6, .int x6)]) (w : cw D dA o A s S H locs) : W p l e (rC_legal) s m args below meth c H locs 0 0 (cQi below args s D dA o A (rC_legal) post) (F0 m 84 ls []) := by
  unfold C_legal_w84 at h
  obtain ⟨⟨hx, hb, hml, hown, hts⟩, hr, hlk, hA⟩ := id C
  refine lv_iload hx hb dX0_legal_84 (lv_at hl 6 rfl) ?_
  refine lv_iconst (v := 4) hx hb dX0_legal_86 (by decide) ?_
  obtain ⟨h1, h2⟩ := h
  refine lv_icmp_ge (tgt := 150) hx hb dX0_legal_87 (by decide) (fun c1 => ?_) (fun c1 => ?_)
  · have h := h1 c1
    exact C_legal_a150 C hT6 hT17 hT64 hT84 h (lv_sub hl [0, 1, 2, 3, 4] rfl) w
  · have h := h2 c1
    refine lv_aloadQ hx hb dX0_legal_90 (lv_at hl 5 rfl) ?_
    obtain ⟨h1, h2⟩ := h
    refine lv_ifnullQ (tgt := 150) hx hb dX0_legal_92 (by decide) (fun c1 => ?_) (fun g1 c1 => ?_)
    · have h := h1 c1
      exact C_legal_a150 C hT6 hT17 hT64 hT84 h (lv_sub hl [0, 1, 2, 3, 4] rfl) w
    · have h := h2 g1 c1
      rw [c1] at hl
      refine lv_iload_n hx hb dX0_legal_95 rfl (lv_at hl 2 rfl) ?_
      refine lv_iload hx hb dX0_legal_96 (lv_at hl 6 rfl) ?_
      refine lv_iload hx hb dX0_legal_98 (lv_at hl 4 rfl) ?_
      obtain ⟨h1, h2⟩ := h
      refine lv_icmp_eq (tgt := 137) hx hb dX0_legal_100 (by decide) (fun c1 => ?_) (fun c1 => ?_)
      · have h := h1 c1
        exact C_legal_a137 C hT6 hT17 hT64 hT84 h (lv_sub hl [0, 1, 3, 4, 5, 6] rfl) w
      · have h := h2 c1
        refine lv_aload_n hx hb dX0_legal_103 rfl (lv_at hl 0 rfl) ?_
        refine lv_iload_n hx hb dX0_legal_104 rfl (lv_at hl 3 rfl) ?_
        refine lv_iload hx hb dX0_legal_105 (lv_at hl 4 rfl) ?_
        refine lv_iload hx hb dX0_legal_107 (lv_at hl 6 rfl) ?_
        refine cr_callVI (rest := [.int _]) (b := (fun o => o 0)) C w h (recv0 w) (cwV 3 hts (lw_V q502 q504 qs22 q82 q505) rfl rfl rfl C_arcs_d ⟨Nat.le_of_ble_eq_true rfl, Nat.le_of_ble_eq_true rfl⟩) rfl hl.1 rfl (Nat.le_of_ble_eq_true rfl) ⟨Nat.le_of_ble_eq_true rfl, Nat.le_of_ble_eq_true rfl⟩ dX0_legal_109 (fun r2 S2 H locs h w => ?_)
        refine lv_aload_n hx hb dX0_legal_112 rfl (lv_at hl 0 rfl) ?_
        refine lv_aload hx hb dX0_legal_113 (lv_at hl 5 rfl) ?_
        obtain ⟨hpk, h⟩ := h
        refine cr_getGp C w hpk nwF_RX0_116 dX0_legal_115 ?_
        refine lv_aload hx hb dX0_legal_118 (lv_at hl 5 rfl) ?_
        obtain ⟨hpk, h⟩ := h
        refine cr_getGs C w hpk nwF_RX0_119 dX0_legal_120 ?_
        refine lv_aload hx hb dX0_legal_123 (lv_at hl 5 rfl) ?_
        obtain ⟨hpk, h⟩ := h
        refine cr_getGt C w hpk nwF_RX0_175 dX0_legal_125 ?_
        refine lv_iload hx hb dX0_legal_128 (lv_at hl 6 rfl) ?_
        obtain ⟨hpk, hi, h⟩ := h
        refine cr_tald C w hpk hi dX0_legal_130 ?_
        refine cr_callVI (rest := [.int _, .int _]) (b := (fun o => o 0)) C w h (recv0 w) (cwV 3 hts (lw_V q502 q504 qs22 q82 q505) rfl rfl rfl C_arcs_d ⟨Nat.le_of_ble_eq_true rfl, Nat.le_of_ble_eq_true rfl⟩) rfl hl.1 rfl (Nat.le_of_ble_eq_true rfl) ⟨Nat.le_of_ble_eq_true rfl, Nat.le_of_ble_eq_true rfl⟩ dX0_legal_131 (fun r3 S3 H locs h w => ?_)
        obtain ⟨h1, h2⟩ := h
        refine lv_icmp_ne (tgt := 141) hx hb dX0_legal_134 (by decide) (fun c1 => ?_) (fun c1 => ?_)
        · have h := h1 c1
          refine lv_iconst (v := 0) hx hb dX0_legal_141 (by decide) ?_
          exact C_legal_a142 C hT6 hT17 hT64 hT84 h (lv_sub hl [0, 1, 3, 4, 5, 6] rfl) w
        · have h := h2 c1
          exact C_legal_a137 C hT6 hT17 hT64 hT84 h (lv_sub hl [0, 1, 3, 4, 5, 6] rfl) w
def C_legal_w64 (post : Int32 → CS → Prop) (T6 : Int32 → Int32 → Int32 → CS → Prop) (T17 : Int32 → Int32 → Int32 → Int32 → CS → Prop) (T64 : Int32 → Int32 → Int32 → Int32 → CS → Prop) (T84 : Int32 → Int32 → Int32 → Int32 → Option Nat → Int32 → CS → Prop) (x1 : Int32) (x2 : Int32) (x3 : Int32) (x4 : Int32) (S : CS) : Prop :=
  (((4 : Int32) ≤ x4 → T6 x1 x2 (x3 + (1 : Int32)) S) ∧ (¬ (4 : Int32) ≤ x4 → (vp_in x3 3 ∧ (vp_in x4 4 ∧ T84 x1 x2 x3 x4 (kGl S ((x3).toNatClampNeg) (x4).toNatClampNeg) (0 : Int32) S))))
set_option maxHeartbeats 4000000 in
set_option maxRecDepth 100000 in
theorem C_legal_a64 {p : Program} {l : Launch} {e : Env} {s : State} {m : MethodId} {args : Array Value} {below : List Frame} {meth : Method} {c : Code} {D : va_G} {dA : Nat → ClassId} {o : Nat → Nat} {A : Nat → Prop} {post : Int32 → CS → Prop} {T6 : Int32 → Int32 → Int32 → CS → Prop} {T17 : Int32 → Int32 → Int32 → Int32 → CS → Prop} {T64 : Int32 → Int32 → Int32 → Int32 → CS → Prop} {T84 : Int32 → Int32 → Int32 → Int32 → Option Nat → Int32 → CS → Prop} (C : cC RX0 p m c cX0_legal 7 s args meth (Option.some Jvm.ClassFile.FieldType.int) A) (hT6 : ∀ (x1 : Int32) (x2 : Int32) (x3 : Int32) (S : CS), T6 x1 x2 x3 S → ∀ (H : Heap) (locs : List Loc) (ls : Array Slot), lv_has ls 7 [(0, .ref (o 0)), (1, .int x1), (2, .int x2), (3, .int x3)] → cw D dA o A s S H locs → W p l e (rC_legal) s m args below meth c H locs 0 0 (cQi below args s D dA o A (rC_legal) post) (F0 m 6 ls [])) (hT17 : ∀ (x1 : Int32) (x2 : Int32) (x3 : Int32) (x4 : Int32) (S : CS), T17 x1 x2 x3 x4 S → ∀ (H : Heap) (locs : List Loc) (ls : Array Slot), lv_has ls 7 [(0, .ref (o 0)), (1, .int x1), (2, .int x2), (3, .int x3), (4, .int x4)] → cw D dA o A s S H locs → W p l e (rC_legal) s m args below meth c H locs 0 0 (cQi below args s D dA o A (rC_legal) post) (F0 m 17 ls [])) (hT64 : ∀ (x1 : Int32) (x2 : Int32) (x3 : Int32) (x4 : Int32) (S : CS), T64 x1 x2 x3 x4 S → ∀ (H : Heap) (locs : List Loc) (ls : Array Slot), lv_has ls 7 [(0, .ref (o 0)), (1, .int x1), (2, .int x2), (3, .int x3), (4, .int x4)] → cw D dA o A s S H locs → W p l e (rC_legal) s m args below meth c H locs 0 0 (cQi below args s D dA o A (rC_legal) post) (F0 m 64 ls [])) (hT84 : ∀ (x1 : Int32) (x2 : Int32) (x3 : Int32) (x4 : Int32) (y5 : Option Nat) (x6 : Int32) (S : CS), T84 x1 x2 x3 x4 y5 x6 S → ∀ (H : Heap) (locs : List Loc) (ls : Array Slot), lv_has ls 7 [(0, .ref (o 0)), (1, .int x1), (2, .int x2), (3, .int x3), (4, .int x4), (5, va_rf y5), (6, .int x6)] → cw D dA o A s S H locs → W p l e (rC_legal) s m args below meth c H locs 0 0 (cQi below args s D dA o A (rC_legal) post) (F0 m 84 ls [])) {x1 : Int32} {x2 : Int32} {x3 : Int32} {x4 : Int32} {S : CS} (h : C_legal_w64 post T6 T17 T64 T84 x1 x2 x3 x4 S) {H : Heap} {locs : List Loc} {ls : Array Slot} (hl : lv_has ls 7 [(0, .ref (o 0)), (1, .int x1), (2, .int x2), (3, .int x3), (4, .int x4)]) (w : cw D dA o A s S H locs) : W p l e (rC_legal) s m args below meth c H locs 0 0 (cQi below args s D dA o A (rC_legal) post) (F0 m 64 ls []) := by
  unfold C_legal_w64 at h
  obtain ⟨⟨hx, hb, hml, hown, hts⟩, hr, hlk, hA⟩ := id C
  refine lv_iload hx hb dX0_legal_64 (lv_at hl 4 rfl) ?_
  refine lv_iconst (v := 4) hx hb dX0_legal_66 (by decide) ?_
  obtain ⟨h1, h2⟩ := h
  refine lv_icmp_ge (tgt := 156) hx hb dX0_legal_67 (by decide) (fun c1 => ?_) (fun c1 => ?_)
  · have h := h1 c1
    refine lv_iinc (v := _ + (1 : Int32)) (lv' := [(3, .int _), (0, .ref _), (1, .int _), (2, .int _), (4, .int _)]) hx hb dX0_legal_156 hl (k := 3) rfl rfl (by decide) rfl (fun ls hl => ?_)
    refine lv_goto (tgt := 6) hx hb dX0_legal_159 (by decide) ?_
    exact hT6 _ _ _ _ h _ _ _ (lv_sub hl [1, 2, 3, 0] rfl) w
  · have h := h2 c1
    refine lv_aload_n hx hb dX0_legal_70 rfl (lv_at hl 0 rfl) ?_
    refine cr_get C w 0 rfl rfl in_X0 0 (by decide) q162 rfl rfl dX0_legal_71 ?_
    refine lv_iload_n hx hb dX0_legal_74 rfl (lv_at hl 3 rfl) ?_
    obtain ⟨hi, h⟩ := h
    have hj1 := vp_lt hi
    refine cr_gout C w hi dX0_legal_75 ?_
    refine lv_iload hx hb dX0_legal_76 (lv_at hl 4 rfl) ?_
    obtain ⟨hi, h⟩ := h
    refine cr_gin C w hj1 hi dX0_legal_78 ?_
    refine lv_astoreQ (lv' := [(5, va_rf _), (0, .ref _), (1, .int _), (2, .int _), (3, .int _), (4, .int _)]) hx hb dX0_legal_79 hl (by decide) rfl (fun ls hl => ?_)
    refine lv_iconst (v := 0) hx hb dX0_legal_81 (by decide) ?_
    refine lv_istore (lv' := [(6, .int _), (5, va_rf _), (0, .ref _), (1, .int _), (2, .int _), (3, .int _), (4, .int _)]) hx hb dX0_legal_82 hl (by decide) ((congrArg (List.cons _) (lv_filtC (by intro q hq hq1; simp only [List.mem_cons, List.not_mem_nil, or_false] at hq; rcases hq with rfl | rfl | rfl | rfl | rfl | rfl <;> first | exact va_rf_cat _ | (exfalso; simp at hq1)))).trans rfl) (fun ls hl => ?_)
    exact hT84 _ _ _ _ _ _ _ h _ _ _ (lv_sub hl [2, 3, 4, 5, 6, 1, 0] rfl) w
def C_legal_w53 (post : Int32 → CS → Prop) (T6 : Int32 → Int32 → Int32 → CS → Prop) (T17 : Int32 → Int32 → Int32 → Int32 → CS → Prop) (T64 : Int32 → Int32 → Int32 → Int32 → CS → Prop) (T84 : Int32 → Int32 → Int32 → Int32 → Option Nat → Int32 → CS → Prop) (v0 : Int32) (v1 : Int32) (x2 : Int32) (x3 : Int32) (x4 : Int32) (S : CS) : Prop :=
  T17 (v1 ||| v0) x2 x3 (x4 + (1 : Int32)) S
set_option maxHeartbeats 4000000 in
set_option maxRecDepth 100000 in
theorem C_legal_a53 {p : Program} {l : Launch} {e : Env} {s : State} {m : MethodId} {args : Array Value} {below : List Frame} {meth : Method} {c : Code} {D : va_G} {dA : Nat → ClassId} {o : Nat → Nat} {A : Nat → Prop} {post : Int32 → CS → Prop} {T6 : Int32 → Int32 → Int32 → CS → Prop} {T17 : Int32 → Int32 → Int32 → Int32 → CS → Prop} {T64 : Int32 → Int32 → Int32 → Int32 → CS → Prop} {T84 : Int32 → Int32 → Int32 → Int32 → Option Nat → Int32 → CS → Prop} (C : cC RX0 p m c cX0_legal 7 s args meth (Option.some Jvm.ClassFile.FieldType.int) A) (hT6 : ∀ (x1 : Int32) (x2 : Int32) (x3 : Int32) (S : CS), T6 x1 x2 x3 S → ∀ (H : Heap) (locs : List Loc) (ls : Array Slot), lv_has ls 7 [(0, .ref (o 0)), (1, .int x1), (2, .int x2), (3, .int x3)] → cw D dA o A s S H locs → W p l e (rC_legal) s m args below meth c H locs 0 0 (cQi below args s D dA o A (rC_legal) post) (F0 m 6 ls [])) (hT17 : ∀ (x1 : Int32) (x2 : Int32) (x3 : Int32) (x4 : Int32) (S : CS), T17 x1 x2 x3 x4 S → ∀ (H : Heap) (locs : List Loc) (ls : Array Slot), lv_has ls 7 [(0, .ref (o 0)), (1, .int x1), (2, .int x2), (3, .int x3), (4, .int x4)] → cw D dA o A s S H locs → W p l e (rC_legal) s m args below meth c H locs 0 0 (cQi below args s D dA o A (rC_legal) post) (F0 m 17 ls [])) (hT64 : ∀ (x1 : Int32) (x2 : Int32) (x3 : Int32) (x4 : Int32) (S : CS), T64 x1 x2 x3 x4 S → ∀ (H : Heap) (locs : List Loc) (ls : Array Slot), lv_has ls 7 [(0, .ref (o 0)), (1, .int x1), (2, .int x2), (3, .int x3), (4, .int x4)] → cw D dA o A s S H locs → W p l e (rC_legal) s m args below meth c H locs 0 0 (cQi below args s D dA o A (rC_legal) post) (F0 m 64 ls [])) (hT84 : ∀ (x1 : Int32) (x2 : Int32) (x3 : Int32) (x4 : Int32) (y5 : Option Nat) (x6 : Int32) (S : CS), T84 x1 x2 x3 x4 y5 x6 S → ∀ (H : Heap) (locs : List Loc) (ls : Array Slot), lv_has ls 7 [(0, .ref (o 0)), (1, .int x1), (2, .int x2), (3, .int x3), (4, .int x4), (5, va_rf y5), (6, .int x6)] → cw D dA o A s S H locs → W p l e (rC_legal) s m args below meth c H locs 0 0 (cQi below args s D dA o A (rC_legal) post) (F0 m 84 ls [])) {v0 : Int32} {v1 : Int32} {x2 : Int32} {x3 : Int32} {x4 : Int32} {S : CS} (h : C_legal_w53 post T6 T17 T64 T84 v0 v1 x2 x3 x4 S) {H : Heap} {locs : List Loc} {ls : Array Slot} (hl : lv_has ls 7 [(0, .ref (o 0)), (2, .int x2), (3, .int x3), (4, .int x4)]) (w : cw D dA o A s S H locs) : W p l e (rC_legal) s m args below meth c H locs 0 0 (cQi below args s D dA o A (rC_legal) post) (F0 m 53 ls [.int v0, .int v1]) := by
  unfold C_legal_w53 at h
  obtain ⟨⟨hx, hb, hml, hown, hts⟩, hr, hlk, hA⟩ := id C
  refine lv_ior hx hb dX0_legal_53 ?_
  refine lv_istore_n (lv' := [(1, .int _), (0, .ref _), (2, .int _), (3, .int _), (4, .int _)]) hx hb dX0_legal_54 rfl hl (by decide) rfl (fun ls hl => ?_)
  refine lv_iinc (v := _ + (1 : Int32)) (lv' := [(4, .int _), (1, .int _), (0, .ref _), (2, .int _), (3, .int _)]) hx hb dX0_legal_55 hl (k := 4) rfl rfl (by decide) rfl (fun ls hl => ?_)
  refine lv_goto (tgt := 17) hx hb dX0_legal_58 (by decide) ?_
  exact hT17 _ _ _ _ _ h _ _ _ (lv_sub hl [2, 1, 3, 4, 0] rfl) w
def C_legal_w17 (post : Int32 → CS → Prop) (T6 : Int32 → Int32 → Int32 → CS → Prop) (T17 : Int32 → Int32 → Int32 → Int32 → CS → Prop) (T64 : Int32 → Int32 → Int32 → Int32 → CS → Prop) (T84 : Int32 → Int32 → Int32 → Int32 → Option Nat → Int32 → CS → Prop) (x1 : Int32) (x2 : Int32) (x3 : Int32) (x4 : Int32) (S : CS) : Prop :=
  (((7 : Int32) ≤ x4 → T64 x1 x2 x3 (0 : Int32) S) ∧ (¬ (7 : Int32) ≤ x4 → (vp_in (((7 : Int32) * x3) + x4) 21 ∧ (((kI S 13 ((((7 : Int32) * x3) + x4)).toNatClampNeg) = 0 → C_legal_w53 post T6 T17 T64 T84 (0 : Int32) x1 x2 x3 x4 S) ∧ (¬ (kI S 13 ((((7 : Int32) * x3) + x4)).toNatClampNeg) = 0 → C_legal_w53 post T6 T17 T64 T84 ((1 : Int32) <<< ((((7 : Int32) * x3) + x4) &&& 31)) x1 x2 x3 x4 S)))))
set_option maxHeartbeats 4000000 in
set_option maxRecDepth 100000 in
theorem C_legal_a17 {p : Program} {l : Launch} {e : Env} {s : State} {m : MethodId} {args : Array Value} {below : List Frame} {meth : Method} {c : Code} {D : va_G} {dA : Nat → ClassId} {o : Nat → Nat} {A : Nat → Prop} {post : Int32 → CS → Prop} {T6 : Int32 → Int32 → Int32 → CS → Prop} {T17 : Int32 → Int32 → Int32 → Int32 → CS → Prop} {T64 : Int32 → Int32 → Int32 → Int32 → CS → Prop} {T84 : Int32 → Int32 → Int32 → Int32 → Option Nat → Int32 → CS → Prop} (C : cC RX0 p m c cX0_legal 7 s args meth (Option.some Jvm.ClassFile.FieldType.int) A) (hT6 : ∀ (x1 : Int32) (x2 : Int32) (x3 : Int32) (S : CS), T6 x1 x2 x3 S → ∀ (H : Heap) (locs : List Loc) (ls : Array Slot), lv_has ls 7 [(0, .ref (o 0)), (1, .int x1), (2, .int x2), (3, .int x3)] → cw D dA o A s S H locs → W p l e (rC_legal) s m args below meth c H locs 0 0 (cQi below args s D dA o A (rC_legal) post) (F0 m 6 ls [])) (hT17 : ∀ (x1 : Int32) (x2 : Int32) (x3 : Int32) (x4 : Int32) (S : CS), T17 x1 x2 x3 x4 S → ∀ (H : Heap) (locs : List Loc) (ls : Array Slot), lv_has ls 7 [(0, .ref (o 0)), (1, .int x1), (2, .int x2), (3, .int x3), (4, .int x4)] → cw D dA o A s S H locs → W p l e (rC_legal) s m args below meth c H locs 0 0 (cQi below args s D dA o A (rC_legal) post) (F0 m 17 ls [])) (hT64 : ∀ (x1 : Int32) (x2 : Int32) (x3 : Int32) (x4 : Int32) (S : CS), T64 x1 x2 x3 x4 S → ∀ (H : Heap) (locs : List Loc) (ls : Array Slot), lv_has ls 7 [(0, .ref (o 0)), (1, .int x1), (2, .int x2), (3, .int x3), (4, .int x4)] → cw D dA o A s S H locs → W p l e (rC_legal) s m args below meth c H locs 0 0 (cQi below args s D dA o A (rC_legal) post) (F0 m 64 ls [])) (hT84 : ∀ (x1 : Int32) (x2 : Int32) (x3 : Int32) (x4 : Int32) (y5 : Option Nat) (x6 : Int32) (S : CS), T84 x1 x2 x3 x4 y5 x6 S → ∀ (H : Heap) (locs : List Loc) (ls : Array Slot), lv_has ls 7 [(0, .ref (o 0)), (1, .int x1), (2, .int x2), (3, .int x3), (4, .int x4), (5, va_rf y5), (6, .int x6)] → cw D dA o A s S H locs → W p l e (rC_legal) s m args below meth c H locs 0 0 (cQi below args s D dA o A (rC_legal) post) (F0 m 84 ls [])) {x1 : Int32} {x2 : Int32} {x3 : Int32} {x4 : Int32} {S : CS} (h : C_legal_w17 post T6 T17 T64 T84 x1 x2 x3 x4 S) {H : Heap} {locs : List Loc} {ls : Array Slot} (hl : lv_has ls 7 [(0, .ref (o 0)), (1, .int x1), (2, .int x2), (3, .int x3), (4, .int x4)]) (w : cw D dA o A s S H locs) : W p l e (rC_legal) s m args below meth c H locs 0 0 (cQi below args s D dA o A (rC_legal) post) (F0 m 17 ls []) := by
  unfold C_legal_w17 at h
  obtain ⟨⟨hx, hb, hml, hown, hts⟩, hr, hlk, hA⟩ := id C
  refine lv_iload hx hb dX0_legal_17 (lv_at hl 4 rfl) ?_
  refine lv_bipush (v := 7) hx hb dX0_legal_19 (by decide) ?_
  obtain ⟨h1, h2⟩ := h
  refine lv_icmp_ge (tgt := 61) hx hb dX0_legal_21 (by decide) (fun c1 => ?_) (fun c1 => ?_)
  · have h := h1 c1
    refine lv_iconst (v := 0) hx hb dX0_legal_61 (by decide) ?_
    refine lv_istore (lv' := [(4, .int _), (0, .ref _), (1, .int _), (2, .int _), (3, .int _)]) hx hb dX0_legal_62 hl (by decide) rfl (fun ls hl => ?_)
    exact hT64 _ _ _ _ _ h _ _ _ (lv_sub hl [1, 2, 3, 4, 0] rfl) w
  · have h := h2 c1
    refine lv_iload_n hx hb dX0_legal_24 rfl (lv_at hl 1 rfl) ?_
    refine lv_aload_n hx hb dX0_legal_25 rfl (lv_at hl 0 rfl) ?_
    refine cr_get C w 0 rfl rfl in_X0 13 (by decide) q177 rfl rfl dX0_legal_26 ?_
    refine lv_bipush (v := 7) hx hb dX0_legal_29 (by decide) ?_
    refine lv_iload_n hx hb dX0_legal_31 rfl (lv_at hl 3 rfl) ?_
    refine lv_imul hx hb dX0_legal_32 ?_
    refine lv_iload hx hb dX0_legal_33 (lv_at hl 4 rfl) ?_
    refine lv_iadd hx hb dX0_legal_35 ?_
    obtain ⟨hi, h⟩ := h
    refine cr_iald C w 8 rfl hi dX0_legal_36 ?_
    obtain ⟨h1, h2⟩ := h
    refine lv_if_eq (tgt := 52) hx hb dX0_legal_37 (by decide) (fun c1 => ?_) (fun c1 => ?_)
    · have h := h1 c1
      refine lv_iconst (v := 0) hx hb dX0_legal_52 (by decide) ?_
      exact C_legal_a53 C hT6 hT17 hT64 hT84 h (lv_sub hl [0, 2, 3, 4] rfl) w
    · have h := h2 c1
      refine lv_iconst (v := 1) hx hb dX0_legal_40 (by decide) ?_
      refine lv_bipush (v := 7) hx hb dX0_legal_41 (by decide) ?_
      refine lv_iload_n hx hb dX0_legal_43 rfl (lv_at hl 3 rfl) ?_
      refine lv_imul hx hb dX0_legal_44 ?_
      refine lv_iload hx hb dX0_legal_45 (lv_at hl 4 rfl) ?_
      refine lv_iadd hx hb dX0_legal_47 ?_
      refine lv_ishl hx hb dX0_legal_48 ?_
      refine lv_goto (tgt := 53) hx hb dX0_legal_49 (by decide) ?_
      exact C_legal_a53 C hT6 hT17 hT64 hT84 h (lv_sub hl [0, 2, 3, 4] rfl) w
def C_legal_w6 (post : Int32 → CS → Prop) (T6 : Int32 → Int32 → Int32 → CS → Prop) (T17 : Int32 → Int32 → Int32 → Int32 → CS → Prop) (T64 : Int32 → Int32 → Int32 → Int32 → CS → Prop) (T84 : Int32 → Int32 → Int32 → Int32 → Option Nat → Int32 → CS → Prop) (x1 : Int32) (x2 : Int32) (x3 : Int32) (S : CS) : Prop :=
  (((kF S 1) ≤ x3 → ((¬ x2 = 0 → C_isAlone x1 S (fun (r1 : Int32) (S1 : CS) => ((r1 = 0 → C_legal_w183 post T6 T17 T64 T84 (2 : Int32) S1) ∧ (¬ r1 = 0 → C_legal_w183 post T6 T17 T64 T84 (0 : Int32) S1)))) ∧ (x2 = 0 → C_legal_w183 post T6 T17 T64 T84 (1 : Int32) S))) ∧ (¬ (kF S 1) ≤ x3 → T17 x1 x2 x3 (0 : Int32) S))
set_option maxHeartbeats 4000000 in
set_option maxRecDepth 100000 in
theorem C_legal_a6 {p : Program} {l : Launch} {e : Env} {s : State} {m : MethodId} {args : Array Value} {below : List Frame} {meth : Method} {c : Code} {D : va_G} {dA : Nat → ClassId} {o : Nat → Nat} {A : Nat → Prop} {post : Int32 → CS → Prop} {T6 : Int32 → Int32 → Int32 → CS → Prop} {T17 : Int32 → Int32 → Int32 → Int32 → CS → Prop} {T64 : Int32 → Int32 → Int32 → Int32 → CS → Prop} {T84 : Int32 → Int32 → Int32 → Int32 → Option Nat → Int32 → CS → Prop} (C : cC RX0 p m c cX0_legal 7 s args meth (Option.some Jvm.ClassFile.FieldType.int) A) (hT6 : ∀ (x1 : Int32) (x2 : Int32) (x3 : Int32) (S : CS), T6 x1 x2 x3 S → ∀ (H : Heap) (locs : List Loc) (ls : Array Slot), lv_has ls 7 [(0, .ref (o 0)), (1, .int x1), (2, .int x2), (3, .int x3)] → cw D dA o A s S H locs → W p l e (rC_legal) s m args below meth c H locs 0 0 (cQi below args s D dA o A (rC_legal) post) (F0 m 6 ls [])) (hT17 : ∀ (x1 : Int32) (x2 : Int32) (x3 : Int32) (x4 : Int32) (S : CS), T17 x1 x2 x3 x4 S → ∀ (H : Heap) (locs : List Loc) (ls : Array Slot), lv_has ls 7 [(0, .ref (o 0)), (1, .int x1), (2, .int x2), (3, .int x3), (4, .int x4)] → cw D dA o A s S H locs → W p l e (rC_legal) s m args below meth c H locs 0 0 (cQi below args s D dA o A (rC_legal) post) (F0 m 17 ls [])) (hT64 : ∀ (x1 : Int32) (x2 : Int32) (x3 : Int32) (x4 : Int32) (S : CS), T64 x1 x2 x3 x4 S → ∀ (H : Heap) (locs : List Loc) (ls : Array Slot), lv_has ls 7 [(0, .ref (o 0)), (1, .int x1), (2, .int x2), (3, .int x3), (4, .int x4)] → cw D dA o A s S H locs → W p l e (rC_legal) s m args below meth c H locs 0 0 (cQi below args s D dA o A (rC_legal) post) (F0 m 64 ls [])) (hT84 : ∀ (x1 : Int32) (x2 : Int32) (x3 : Int32) (x4 : Int32) (y5 : Option Nat) (x6 : Int32) (S : CS), T84 x1 x2 x3 x4 y5 x6 S → ∀ (H : Heap) (locs : List Loc) (ls : Array Slot), lv_has ls 7 [(0, .ref (o 0)), (1, .int x1), (2, .int x2), (3, .int x3), (4, .int x4), (5, va_rf y5), (6, .int x6)] → cw D dA o A s S H locs → W p l e (rC_legal) s m args below meth c H locs 0 0 (cQi below args s D dA o A (rC_legal) post) (F0 m 84 ls [])) {x1 : Int32} {x2 : Int32} {x3 : Int32} {S : CS} (h : C_legal_w6 post T6 T17 T64 T84 x1 x2 x3 S) {H : Heap} {locs : List Loc} {ls : Array Slot} (hl : lv_has ls 7 [(0, .ref (o 0)), (1, .int x1), (2, .int x2), (3, .int x3)]) (w : cw D dA o A s S H locs) : W p l e (rC_legal) s m args below meth c H locs 0 0 (cQi below args s D dA o A (rC_legal) post) (F0 m 6 ls []) := by
  unfold C_legal_w6 at h
  obtain ⟨⟨hx, hb, hml, hown, hts⟩, hr, hlk, hA⟩ := id C
  refine lv_iload_n hx hb dX0_legal_6 rfl (lv_at hl 3 rfl) ?_
  refine lv_aload_n hx hb dX0_legal_7 rfl (lv_at hl 0 rfl) ?_
  refine cr_get C w 0 rfl rfl in_X0 1 (by decide) q164 rfl rfl dX0_legal_8 ?_
  obtain ⟨h1, h2⟩ := h
  refine lv_icmp_ge (tgt := 162) hx hb dX0_legal_11 (by decide) (fun c1 => ?_) (fun c1 => ?_)
  · have h := h1 c1
    refine lv_iload_n hx hb dX0_legal_162 rfl (lv_at hl 2 rfl) ?_
    obtain ⟨h1, h2⟩ := h
    refine lv_if_ne (tgt := 170) hx hb dX0_legal_163 (by decide) (fun c1 => ?_) (fun c1 => ?_)
    · have h := h1 c1
      refine lv_aload_n hx hb dX0_legal_170 rfl (lv_at hl 0 rfl) ?_
      refine lv_iload_n hx hb dX0_legal_171 rfl (lv_at hl 1 rfl) ?_
      refine cr_callVI (rest := []) (b := (fun o => o 0)) C w h (recv0 w) (cwV 1 hts (lw_V q463 q465 qs20 q82 q466) rfl rfl rfl C_isAlone_d ⟨Nat.le_of_ble_eq_true rfl, Nat.le_of_ble_eq_true rfl⟩) rfl hl.1 rfl (Nat.le_of_ble_eq_true rfl) ⟨Nat.le_of_ble_eq_true rfl, Nat.le_of_ble_eq_true rfl⟩ dX0_legal_172 (fun r1 S1 H locs h w => ?_)
      obtain ⟨h1, h2⟩ := h
      refine lv_if_eq (tgt := 182) hx hb dX0_legal_175 (by decide) (fun c1 => ?_) (fun c1 => ?_)
      · have h := h1 c1
        refine lv_iconst (v := 2) hx hb dX0_legal_182 (by decide) ?_
        exact C_legal_a183 C hT6 hT17 hT64 hT84 h (lv_sub hl [0] rfl) w
      · have h := h2 c1
        refine lv_iconst (v := 0) hx hb dX0_legal_178 (by decide) ?_
        refine lv_goto (tgt := 183) hx hb dX0_legal_179 (by decide) ?_
        exact C_legal_a183 C hT6 hT17 hT64 hT84 h (lv_sub hl [0] rfl) w
    · have h := h2 c1
      refine lv_iconst (v := 1) hx hb dX0_legal_166 (by decide) ?_
      refine lv_goto (tgt := 183) hx hb dX0_legal_167 (by decide) ?_
      exact C_legal_a183 C hT6 hT17 hT64 hT84 h (lv_sub hl [0] rfl) w
  · have h := h2 c1
    refine lv_iconst (v := 0) hx hb dX0_legal_14 (by decide) ?_
    refine lv_istore (lv' := [(4, .int _), (0, .ref _), (1, .int _), (2, .int _), (3, .int _)]) hx hb dX0_legal_15 hl (by decide) rfl (fun ls hl => ?_)
    exact hT17 _ _ _ _ _ h _ _ _ (lv_sub hl [1, 2, 3, 4, 0] rfl) w
def C_legal_w0 (post : Int32 → CS → Prop) (T6 : Int32 → Int32 → Int32 → CS → Prop) (T17 : Int32 → Int32 → Int32 → Int32 → CS → Prop) (T64 : Int32 → Int32 → Int32 → Int32 → CS → Prop) (T84 : Int32 → Int32 → Int32 → Int32 → Option Nat → Int32 → CS → Prop) (S : CS) : Prop :=
  T6 (0 : Int32) (1 : Int32) (0 : Int32) S
set_option maxHeartbeats 4000000 in
set_option maxRecDepth 100000 in
theorem C_legal_a0 {p : Program} {l : Launch} {e : Env} {s : State} {m : MethodId} {args : Array Value} {below : List Frame} {meth : Method} {c : Code} {D : va_G} {dA : Nat → ClassId} {o : Nat → Nat} {A : Nat → Prop} {post : Int32 → CS → Prop} {T6 : Int32 → Int32 → Int32 → CS → Prop} {T17 : Int32 → Int32 → Int32 → Int32 → CS → Prop} {T64 : Int32 → Int32 → Int32 → Int32 → CS → Prop} {T84 : Int32 → Int32 → Int32 → Int32 → Option Nat → Int32 → CS → Prop} (C : cC RX0 p m c cX0_legal 7 s args meth (Option.some Jvm.ClassFile.FieldType.int) A) (hT6 : ∀ (x1 : Int32) (x2 : Int32) (x3 : Int32) (S : CS), T6 x1 x2 x3 S → ∀ (H : Heap) (locs : List Loc) (ls : Array Slot), lv_has ls 7 [(0, .ref (o 0)), (1, .int x1), (2, .int x2), (3, .int x3)] → cw D dA o A s S H locs → W p l e (rC_legal) s m args below meth c H locs 0 0 (cQi below args s D dA o A (rC_legal) post) (F0 m 6 ls [])) (hT17 : ∀ (x1 : Int32) (x2 : Int32) (x3 : Int32) (x4 : Int32) (S : CS), T17 x1 x2 x3 x4 S → ∀ (H : Heap) (locs : List Loc) (ls : Array Slot), lv_has ls 7 [(0, .ref (o 0)), (1, .int x1), (2, .int x2), (3, .int x3), (4, .int x4)] → cw D dA o A s S H locs → W p l e (rC_legal) s m args below meth c H locs 0 0 (cQi below args s D dA o A (rC_legal) post) (F0 m 17 ls [])) (hT64 : ∀ (x1 : Int32) (x2 : Int32) (x3 : Int32) (x4 : Int32) (S : CS), T64 x1 x2 x3 x4 S → ∀ (H : Heap) (locs : List Loc) (ls : Array Slot), lv_has ls 7 [(0, .ref (o 0)), (1, .int x1), (2, .int x2), (3, .int x3), (4, .int x4)] → cw D dA o A s S H locs → W p l e (rC_legal) s m args below meth c H locs 0 0 (cQi below args s D dA o A (rC_legal) post) (F0 m 64 ls [])) (hT84 : ∀ (x1 : Int32) (x2 : Int32) (x3 : Int32) (x4 : Int32) (y5 : Option Nat) (x6 : Int32) (S : CS), T84 x1 x2 x3 x4 y5 x6 S → ∀ (H : Heap) (locs : List Loc) (ls : Array Slot), lv_has ls 7 [(0, .ref (o 0)), (1, .int x1), (2, .int x2), (3, .int x3), (4, .int x4), (5, va_rf y5), (6, .int x6)] → cw D dA o A s S H locs → W p l e (rC_legal) s m args below meth c H locs 0 0 (cQi below args s D dA o A (rC_legal) post) (F0 m 84 ls [])) {S : CS} (h : C_legal_w0 post T6 T17 T64 T84 S) {H : Heap} {locs : List Loc} {ls : Array Slot} (hl : lv_has ls 7 [(0, .ref (o 0))]) (w : cw D dA o A s S H locs) : W p l e (rC_legal) s m args below meth c H locs 0 0 (cQi below args s D dA o A (rC_legal) post) (F0 m 0 ls []) := by
  unfold C_legal_w0 at h
  obtain ⟨⟨hx, hb, hml, hown, hts⟩, hr, hlk, hA⟩ := id C
  refine lv_iconst (v := 0) hx hb dX0_legal_0 (by decide) ?_
  refine lv_istore_n (lv' := [(1, .int _), (0, .ref _)]) hx hb dX0_legal_1 rfl hl (by decide) rfl (fun ls hl => ?_)
  refine lv_iconst (v := 1) hx hb dX0_legal_2 (by decide) ?_
  refine lv_istore_n (lv' := [(2, .int _), (1, .int _), (0, .ref _)]) hx hb dX0_legal_3 rfl hl (by decide) rfl (fun ls hl => ?_)
  refine lv_iconst (v := 0) hx hb dX0_legal_4 (by decide) ?_
  refine lv_istore_n (lv' := [(3, .int _), (2, .int _), (1, .int _), (0, .ref _)]) hx hb dX0_legal_5 rfl hl (by decide) rfl (fun ls hl => ?_)
  exact hT6 _ _ _ _ h _ _ _ (lv_sub hl [3, 2, 1, 0] rfl) w
def C_legal_VC (S : CS) (post : Int32 → CS → Prop) : Prop := ∀ (T6 : Int32 → Int32 → Int32 → CS → Prop) (T17 : Int32 → Int32 → Int32 → Int32 → CS → Prop) (T64 : Int32 → Int32 → Int32 → Int32 → CS → Prop) (T84 : Int32 → Int32 → Int32 → Int32 → Option Nat → Int32 → CS → Prop), (∀ (x1 : Int32) (x2 : Int32) (x3 : Int32) (S : CS), C_legal_w6 post T6 T17 T64 T84 x1 x2 x3 S → T6 x1 x2 x3 S) → (∀ (x1 : Int32) (x2 : Int32) (x3 : Int32) (x4 : Int32) (S : CS), C_legal_w17 post T6 T17 T64 T84 x1 x2 x3 x4 S → T17 x1 x2 x3 x4 S) → (∀ (x1 : Int32) (x2 : Int32) (x3 : Int32) (x4 : Int32) (S : CS), C_legal_w64 post T6 T17 T64 T84 x1 x2 x3 x4 S → T64 x1 x2 x3 x4 S) → (∀ (x1 : Int32) (x2 : Int32) (x3 : Int32) (x4 : Int32) (y5 : Option Nat) (x6 : Int32) (S : CS), C_legal_w84 post T6 T17 T64 T84 x1 x2 x3 x4 y5 x6 S → T84 x1 x2 x3 x4 y5 x6 S) → C_legal_w0 post T6 T17 T64 T84 S
theorem C_legal_ok {S : CS} {post : Int32 → CS → Prop} (h : C_legal_VC S post) : C_legal S post := by
  intro l D dA o sz
  refine cr_start (fun A => va_Qi post (cB D dA o A) A) rfl (Nat.le_of_ble_eq_true rfl) (by decide) ?_
  intro p e s m args below meth c ls A C w hl
  have hl : lv_has ls 7 [(0, .ref (o 0))] := hl
  have h := h (fun (x1 : Int32) (x2 : Int32) (x3 : Int32) S => ∀ (H : Heap) (locs : List Loc) (ls : Array Slot), lv_has ls 7 [(0, .ref (o 0)), (1, .int x1), (2, .int x2), (3, .int x3)] → cw D dA o A s S H locs → W p l e (rC_legal) s m args below meth c H locs 0 0 (cQi below args s D dA o A (rC_legal) post) (F0 m 6 ls [])) (fun (x1 : Int32) (x2 : Int32) (x3 : Int32) (x4 : Int32) S => ∀ (H : Heap) (locs : List Loc) (ls : Array Slot), lv_has ls 7 [(0, .ref (o 0)), (1, .int x1), (2, .int x2), (3, .int x3), (4, .int x4)] → cw D dA o A s S H locs → W p l e (rC_legal) s m args below meth c H locs 0 0 (cQi below args s D dA o A (rC_legal) post) (F0 m 17 ls [])) (fun (x1 : Int32) (x2 : Int32) (x3 : Int32) (x4 : Int32) S => ∀ (H : Heap) (locs : List Loc) (ls : Array Slot), lv_has ls 7 [(0, .ref (o 0)), (1, .int x1), (2, .int x2), (3, .int x3), (4, .int x4)] → cw D dA o A s S H locs → W p l e (rC_legal) s m args below meth c H locs 0 0 (cQi below args s D dA o A (rC_legal) post) (F0 m 64 ls [])) (fun (x1 : Int32) (x2 : Int32) (x3 : Int32) (x4 : Int32) (y5 : Option Nat) (x6 : Int32) S => ∀ (H : Heap) (locs : List Loc) (ls : Array Slot), lv_has ls 7 [(0, .ref (o 0)), (1, .int x1), (2, .int x2), (3, .int x3), (4, .int x4), (5, va_rf y5), (6, .int x6)] → cw D dA o A s S H locs → W p l e (rC_legal) s m args below meth c H locs 0 0 (cQi below args s D dA o A (rC_legal) post) (F0 m 84 ls [])) (fun _ _ _ S h H locs ls hl w => C_legal_a6 C (fun _ _ _ _ h => h) (fun _ _ _ _ _ h => h) (fun _ _ _ _ _ h => h) (fun _ _ _ _ _ _ _ h => h) h hl w) (fun _ _ _ _ S h H locs ls hl w => C_legal_a17 C (fun _ _ _ _ h => h) (fun _ _ _ _ _ h => h) (fun _ _ _ _ _ h => h) (fun _ _ _ _ _ _ _ h => h) h hl w) (fun _ _ _ _ S h H locs ls hl w => C_legal_a64 C (fun _ _ _ _ h => h) (fun _ _ _ _ _ h => h) (fun _ _ _ _ _ h => h) (fun _ _ _ _ _ _ _ h => h) h hl w) (fun _ _ _ _ _ _ S h H locs ls hl w => C_legal_a84 C (fun _ _ _ _ h => h) (fun _ _ _ _ _ h => h) (fun _ _ _ _ _ h => h) (fun _ _ _ _ _ _ _ h => h) h hl w)
  exact C_legal_a0 C (fun _ _ _ _ h => h) (fun _ _ _ _ _ h => h) (fun _ _ _ _ _ h => h) (fun _ _ _ _ _ _ _ h => h) h (lv_sub hl [0] rfl) w
