/-! least()I -/
def M_least_w0 (post : Int32 → MS → Prop) (S : MS) : Prop :=
  M_findLeast S (fun (S1 : MS) => post (gF S1 14) S1)
set_option maxHeartbeats 4000000 in
set_option maxRecDepth 100000 in
theorem M_least_a0 {p : Program} {l : Launch} {e : Env} {s : State} {m : MethodId} {args : Array Value} {below : List Frame} {meth : Method} {c : Code} {D : va_G} {dA : Nat → ClassId} {o : Nat → Nat} {A : Nat → Prop} {post : Int32 → MS → Prop} (C : mC p m c cX5_least 1 s args meth (Option.some Jvm.ClassFile.FieldType.int) A) {S : MS} (h : M_least_w0 post S) {H : Heap} {locs : List Loc} {ls : Array Slot} (hl : lv_has ls 1 [(0, .ref (o 0))]) (w : mw D dA o A s S H locs) : W p l e rM_least s m args below meth c H locs 0 0 (mQi below args s D dA o A post) (F0 m 0 ls []) := by
  unfold M_least_w0 at h
  obtain ⟨⟨hx, hb, hml, hown, hts⟩, hr, hlk, hA⟩ := id C
  refine lv_aload_n hx hb dX5_least_0 rfl (lv_at hl 0 rfl) ?_
  refine mr_callVV (rest := []) C w h (lw_V q820 q822 qs62 q87 q823) M_findLeast_d rfl rfl ⟨Nat.le_of_ble_eq_true rfl, Nat.le_of_ble_eq_true rfl⟩ rfl hl.1 rfl (Nat.le_of_ble_eq_true rfl) ⟨Nat.zero_le _, Nat.zero_le _⟩ dX5_least_1 (fun S1 H locs h w => ?_)
  refine lv_aload_n hx hb dX5_least_4 rfl (lv_at hl 0 rfl) ?_
  refine mr_get C w 14 (by decide) q591 rfl rfl dX5_least_5 ?_
  exact mr_iret C w h dX5_least_8
def M_least_VC (S : MS) (post : Int32 → MS → Prop) : Prop := M_least_w0 post S
theorem M_least_ok {S : MS} {post : Int32 → MS → Prop} (h : M_least_VC S post) : M_least S post := by
  intro l D dA o sz
  refine mr_start (fun A => va_Qi post (mB D dA o A) A) rfl (Nat.le_of_ble_eq_true rfl) (by decide) ?_
  intro p e s m args below meth c ls A C w hl
  have hl : lv_has ls 1 [(0, .ref (o 0))] := hl
  exact M_least_a0 C h (lv_sub hl [0] rfl) w

/-! number(II)I -/
def M_number_w51 (post : Int32 → MS → Prop) (v0 : Int32) (S : MS) : Prop :=
  post v0 S
set_option maxHeartbeats 4000000 in
set_option maxRecDepth 100000 in
theorem M_number_a51 {p : Program} {l : Launch} {e : Env} {s : State} {m : MethodId} {args : Array Value} {below : List Frame} {meth : Method} {c : Code} {D : va_G} {dA : Nat → ClassId} {o : Nat → Nat} {A : Nat → Prop} {post : Int32 → MS → Prop} (C : mC p m c cX5_number 3 s args meth (Option.some Jvm.ClassFile.FieldType.int) A) {v0 : Int32} {S : MS} (h : M_number_w51 post v0 S) {H : Heap} {locs : List Loc} {ls : Array Slot} (hl : lv_has ls 3 [(0, .ref (o 0))]) (w : mw D dA o A s S H locs) : W p l e rM_number s m args below meth c H locs 0 0 (mQi below args s D dA o A post) (F0 m 51 ls [.int v0]) := by
  unfold M_number_w51 at h
  obtain ⟨⟨hx, hb, hml, hown, hts⟩, hr, hlk, hA⟩ := id C
  exact mr_iret C w h dX5_number_51
def M_number_w49 (post : Int32 → MS → Prop) (S : MS) : Prop :=
  M_number_w51 post (-2 : Int32) S
set_option maxHeartbeats 4000000 in
set_option maxRecDepth 100000 in
theorem M_number_a49 {p : Program} {l : Launch} {e : Env} {s : State} {m : MethodId} {args : Array Value} {below : List Frame} {meth : Method} {c : Code} {D : va_G} {dA : Nat → ClassId} {o : Nat → Nat} {A : Nat → Prop} {post : Int32 → MS → Prop} (C : mC p m c cX5_number 3 s args meth (Option.some Jvm.ClassFile.FieldType.int) A) {S : MS} (h : M_number_w49 post S) {H : Heap} {locs : List Loc} {ls : Array Slot} (hl : lv_has ls 3 [(0, .ref (o 0))]) (w : mw D dA o A s S H locs) : W p l e rM_number s m args below meth c H locs 0 0 (mQi below args s D dA o A post) (F0 m 49 ls []) := by
  unfold M_number_w49 at h
  obtain ⟨⟨hx, hb, hml, hown, hts⟩, hr, hlk, hA⟩ := id C
  refine lv_bipush (v := -2) hx hb dX5_number_49 (by decide) ?_
  exact M_number_a51 C h (lv_sub hl [0] rfl) w
def M_number_w0 (post : Int32 → MS → Prop) (x1 : Int32) (x2 : Int32) (S : MS) : Prop :=
  M_findLeast S (fun (S1 : MS) => M_in x1 (0 : Int32) ((gF S1 14) - (1 : Int32)) S1 (fun (r2 : Int32) (S2 : MS) => ((r2 = 0 → M_number_w49 post S2) ∧ (¬ r2 = 0 → M_in x2 (0 : Int32) (((7 : Int32) * (gF S2 0)) - (1 : Int32)) S2 (fun (r3 : Int32) (S3 : MS) => ((r3 = 0 → M_number_w49 post S3) ∧ (¬ r3 = 0 → (vp_in (((21 : Int32) * x1) + x2) 42000 ∧ M_number_w51 post (gI S3 15 ((((21 : Int32) * x1) + x2)).toNatClampNeg) S3))))))))
set_option maxHeartbeats 4000000 in
set_option maxRecDepth 100000 in
theorem M_number_a0 {p : Program} {l : Launch} {e : Env} {s : State} {m : MethodId} {args : Array Value} {below : List Frame} {meth : Method} {c : Code} {D : va_G} {dA : Nat → ClassId} {o : Nat → Nat} {A : Nat → Prop} {post : Int32 → MS → Prop} (C : mC p m c cX5_number 3 s args meth (Option.some Jvm.ClassFile.FieldType.int) A) {x1 : Int32} {x2 : Int32} {S : MS} (h : M_number_w0 post x1 x2 S) {H : Heap} {locs : List Loc} {ls : Array Slot} (hl : lv_has ls 3 [(0, .ref (o 0)), (1, .int x1), (2, .int x2)]) (w : mw D dA o A s S H locs) : W p l e rM_number s m args below meth c H locs 0 0 (mQi below args s D dA o A post) (F0 m 0 ls []) := by
  unfold M_number_w0 at h
  obtain ⟨⟨hx, hb, hml, hown, hts⟩, hr, hlk, hA⟩ := id C
  refine lv_aload_n hx hb dX5_number_0 rfl (lv_at hl 0 rfl) ?_
  refine mr_callVV (rest := []) C w h (lw_V q820 q822 qs62 q87 q823) M_findLeast_d rfl rfl ⟨Nat.le_of_ble_eq_true rfl, Nat.le_of_ble_eq_true rfl⟩ rfl hl.1 rfl (Nat.le_of_ble_eq_true rfl) ⟨Nat.zero_le _, Nat.zero_le _⟩ dX5_number_1 (fun S1 H locs h w => ?_)
  refine lv_iload_n hx hb dX5_number_4 rfl (lv_at hl 1 rfl) ?_
  refine lv_iconst (v := 0) hx hb dX5_number_5 (by decide) ?_
  refine lv_aload_n hx hb dX5_number_6 rfl (lv_at hl 0 rfl) ?_
  refine mr_get C w 14 (by decide) q591 rfl rfl dX5_number_7 ?_
  refine lv_iconst (v := 1) hx hb dX5_number_10 (by decide) ?_
  refine lv_isub hx hb dX5_number_11 ?_
  refine mr_callSI (rest := []) C w h (lw_S q676 q677 q87 q678) M_in_d rfl rfl ⟨Nat.le_of_ble_eq_true rfl, Nat.le_of_ble_eq_true rfl⟩ rfl hl.1 rfl (Nat.le_of_ble_eq_true rfl) ⟨Nat.zero_le _, Nat.zero_le _⟩ dX5_number_12 (fun r2 S2 H locs h w => ?_)
  obtain ⟨h1, h2⟩ := h
  refine lv_if_eq (tgt := 49) hx hb dX5_number_15 (by decide) (fun c1 => ?_) (fun c1 => ?_)
  · have h := h1 c1
    exact M_number_a49 C h (lv_sub hl [0] rfl) w
  · have h := h2 c1
    refine lv_iload_n hx hb dX5_number_18 rfl (lv_at hl 2 rfl) ?_
    refine lv_iconst (v := 0) hx hb dX5_number_19 (by decide) ?_
    refine lv_bipush (v := 7) hx hb dX5_number_20 (by decide) ?_
    refine lv_aload_n hx hb dX5_number_22 rfl (lv_at hl 0 rfl) ?_
    refine mr_get C w 0 (by decide) q577 rfl rfl dX5_number_23 ?_
    refine lv_imul hx hb dX5_number_26 ?_
    refine lv_iconst (v := 1) hx hb dX5_number_27 (by decide) ?_
    refine lv_isub hx hb dX5_number_28 ?_
    refine mr_callSI (rest := []) C w h (lw_S q676 q677 q87 q678) M_in_d rfl rfl ⟨Nat.le_of_ble_eq_true rfl, Nat.le_of_ble_eq_true rfl⟩ rfl hl.1 rfl (Nat.le_of_ble_eq_true rfl) ⟨Nat.zero_le _, Nat.zero_le _⟩ dX5_number_29 (fun r3 S3 H locs h w => ?_)
    obtain ⟨h1, h2⟩ := h
    refine lv_if_eq (tgt := 49) hx hb dX5_number_32 (by decide) (fun c1 => ?_) (fun c1 => ?_)
    · have h := h1 c1
      exact M_number_a49 C h (lv_sub hl [0] rfl) w
    · have h := h2 c1
      refine lv_aload_n hx hb dX5_number_35 rfl (lv_at hl 0 rfl) ?_
      refine mr_get C w 15 (by decide) q592 rfl rfl dX5_number_36 ?_
      refine lv_bipush (v := 21) hx hb dX5_number_39 (by decide) ?_
      refine lv_iload_n hx hb dX5_number_41 rfl (lv_at hl 1 rfl) ?_
      refine lv_imul hx hb dX5_number_42 ?_
      refine lv_iload_n hx hb dX5_number_43 rfl (lv_at hl 2 rfl) ?_
      refine lv_iadd hx hb dX5_number_44 ?_
      obtain ⟨hi, h⟩ := h
      refine mr_iald C w 11 10 rfl rfl hi dX5_number_45 ?_
      refine lv_goto (tgt := 51) hx hb dX5_number_46 (by decide) ?_
      exact M_number_a51 C h (lv_sub hl [0] rfl) w
def M_number_VC (x1 : Int32) (x2 : Int32) (S : MS) (post : Int32 → MS → Prop) : Prop := M_number_w0 post x1 x2 S
theorem M_number_ok {x1 : Int32} {x2 : Int32} {S : MS} {post : Int32 → MS → Prop} (h : M_number_VC x1 x2 S post) : M_number x1 x2 S post := by
  intro l D dA o sz
  refine mr_start (fun A => va_Qi post (mB D dA o A) A) rfl (Nat.le_of_ble_eq_true rfl) (by decide) ?_
  intro p e s m args below meth c ls A C w hl
  have hl : lv_has ls 3 [(0, .ref (o 0)), (1, .int x1), (2, .int x2)] := hl
  exact M_number_a0 C h (lv_sub hl [0, 1, 2] rfl) w

/-! put(II)I -/
def M_put_w28 (post : Int32 → MS → Prop) (S : MS) : Prop :=
  post (-2 : Int32) S
set_option maxHeartbeats 4000000 in
set_option maxRecDepth 100000 in
theorem M_put_a28 {p : Program} {l : Launch} {e : Env} {s : State} {m : MethodId} {args : Array Value} {below : List Frame} {meth : Method} {c : Code} {D : va_G} {dA : Nat → ClassId} {o : Nat → Nat} {A : Nat → Prop} {post : Int32 → MS → Prop} (C : mC p m c cX5_put 4 s args meth (Option.some Jvm.ClassFile.FieldType.int) A) {S : MS} (h : M_put_w28 post S) {H : Heap} {locs : List Loc} {ls : Array Slot} (hl : lv_has ls 4 [(0, .ref (o 0))]) (w : mw D dA o A s S H locs) : W p l e rM_put s m args below meth c H locs 0 0 (mQi below args s D dA o A post) (F0 m 28 ls []) := by
  unfold M_put_w28 at h
  obtain ⟨⟨hx, hb, hml, hown, hts⟩, hr, hlk, hA⟩ := id C
  refine lv_bipush (v := -2) hx hb dX5_put_28 (by decide) ?_
  exact mr_iret C w h dX5_put_30
def M_put_w0 (post : Int32 → MS → Prop) (x1 : Int32) (x2 : Int32) (S : MS) : Prop :=
  M_in x1 (0 : Int32) (((7 : Int32) * (gF S 0)) - (1 : Int32)) S (fun (r1 : Int32) (S1 : MS) => ((r1 = 0 → M_put_w28 post S1) ∧ (¬ r1 = 0 → M_in x2 (0 : Int32) (1000 : Int32) S1 (fun (r2 : Int32) (S2 : MS) => ((¬ r2 = 0 → (vp_in x1 21 ∧ (vp_in x1 21 ∧ (fun (S3 : MS) => post (gI S2 3 (x1).toNatClampNeg) S3) (sI S2 3 (x1).toNatClampNeg x2)))) ∧ (r2 = 0 → M_put_w28 post S2))))))
set_option maxHeartbeats 4000000 in
set_option maxRecDepth 100000 in
theorem M_put_a0 {p : Program} {l : Launch} {e : Env} {s : State} {m : MethodId} {args : Array Value} {below : List Frame} {meth : Method} {c : Code} {D : va_G} {dA : Nat → ClassId} {o : Nat → Nat} {A : Nat → Prop} {post : Int32 → MS → Prop} (C : mC p m c cX5_put 4 s args meth (Option.some Jvm.ClassFile.FieldType.int) A) {x1 : Int32} {x2 : Int32} {S : MS} (h : M_put_w0 post x1 x2 S) {H : Heap} {locs : List Loc} {ls : Array Slot} (hl : lv_has ls 4 [(0, .ref (o 0)), (1, .int x1), (2, .int x2)]) (w : mw D dA o A s S H locs) : W p l e rM_put s m args below meth c H locs 0 0 (mQi below args s D dA o A post) (F0 m 0 ls []) := by
  unfold M_put_w0 at h
  obtain ⟨⟨hx, hb, hml, hown, hts⟩, hr, hlk, hA⟩ := id C
  refine lv_iload_n hx hb dX5_put_0 rfl (lv_at hl 1 rfl) ?_
  refine lv_iconst (v := 0) hx hb dX5_put_1 (by decide) ?_
  refine lv_bipush (v := 7) hx hb dX5_put_2 (by decide) ?_
  refine lv_aload_n hx hb dX5_put_4 rfl (lv_at hl 0 rfl) ?_
  refine mr_get C w 0 (by decide) q577 rfl rfl dX5_put_5 ?_
  refine lv_imul hx hb dX5_put_8 ?_
  refine lv_iconst (v := 1) hx hb dX5_put_9 (by decide) ?_
  refine lv_isub hx hb dX5_put_10 ?_
  refine mr_callSI (rest := []) C w h (lw_S q676 q677 q87 q678) M_in_d rfl rfl ⟨Nat.le_of_ble_eq_true rfl, Nat.le_of_ble_eq_true rfl⟩ rfl hl.1 rfl (Nat.le_of_ble_eq_true rfl) ⟨Nat.zero_le _, Nat.zero_le _⟩ dX5_put_11 (fun r1 S1 H locs h w => ?_)
  obtain ⟨h1, h2⟩ := h
  refine lv_if_eq (tgt := 28) hx hb dX5_put_14 (by decide) (fun c1 => ?_) (fun c1 => ?_)
  · have h := h1 c1
    exact M_put_a28 C h (lv_sub hl [0] rfl) w
  · have h := h2 c1
    refine lv_iload_n hx hb dX5_put_17 rfl (lv_at hl 2 rfl) ?_
    refine lv_iconst (v := 0) hx hb dX5_put_18 (by decide) ?_
    refine lv_sipush (v := 1000) hx hb dX5_put_19 (by decide) ?_
    refine mr_callSI (rest := []) C w h (lw_S q676 q677 q87 q678) M_in_d rfl rfl ⟨Nat.le_of_ble_eq_true rfl, Nat.le_of_ble_eq_true rfl⟩ rfl hl.1 rfl (Nat.le_of_ble_eq_true rfl) ⟨Nat.zero_le _, Nat.zero_le _⟩ dX5_put_22 (fun r2 S2 H locs h w => ?_)
    obtain ⟨h1, h2⟩ := h
    refine lv_if_ne (tgt := 31) hx hb dX5_put_25 (by decide) (fun c1 => ?_) (fun c1 => ?_)
    · have h := h1 c1
      refine lv_aload_n hx hb dX5_put_31 rfl (lv_at hl 0 rfl) ?_
      refine mr_get C w 3 (by decide) q580 rfl rfl dX5_put_32 ?_
      refine lv_iload_n hx hb dX5_put_35 rfl (lv_at hl 1 rfl) ?_
      obtain ⟨hi, h⟩ := h
      refine mr_iald C w 3 2 rfl rfl hi dX5_put_36 ?_
      refine lv_istore_n (lv' := [(3, .int _), (0, .ref _), (1, .int _), (2, .int _)]) hx hb dX5_put_37 rfl hl (by decide) rfl (fun ls hl => ?_)
      refine lv_aload_n hx hb dX5_put_38 rfl (lv_at hl 1 rfl) ?_
      refine mr_get C w 3 (by decide) q580 rfl rfl dX5_put_39 ?_
      refine lv_iload_n hx hb dX5_put_42 rfl (lv_at hl 2 rfl) ?_
      refine lv_iload_n hx hb dX5_put_43 rfl (lv_at hl 3 rfl) ?_
      obtain ⟨hi, h⟩ := h
      refine mr_iast C w 3 2 rfl rfl hi MWs_3 dX5_put_44 (fun H locs w => ?_)
      refine lv_iload_n hx hb dX5_put_45 rfl (lv_at hl 0 rfl) ?_
      exact mr_iret C w h dX5_put_46
    · have h := h2 c1
      exact M_put_a28 C h (lv_sub hl [0] rfl) w
def M_put_VC (x1 : Int32) (x2 : Int32) (S : MS) (post : Int32 → MS → Prop) : Prop := M_put_w0 post x1 x2 S
theorem M_put_ok {x1 : Int32} {x2 : Int32} {S : MS} {post : Int32 → MS → Prop} (h : M_put_VC x1 x2 S post) : M_put x1 x2 S post := by
  intro l D dA o sz
  refine mr_start (fun A => va_Qi post (mB D dA o A) A) rfl (Nat.le_of_ble_eq_true rfl) (by decide) ?_
  intro p e s m args below meth c ls A C w hl
  have hl : lv_has ls 4 [(0, .ref (o 0)), (1, .int x1), (2, .int x2)] := hl
  exact M_put_a0 C h (lv_sub hl [0, 1, 2] rfl) w

/-! add(II)I -/
def M_add_w81 (post : Int32 → MS → Prop) (T33 : Int32 → Int32 → Int32 → MS → Prop) (T81 : Int32 → Int32 → Int32 → MS → Prop) (x1 : Int32) (x2 : Int32) (x3 : Int32) (S : MS) : Prop :=
  ((((7 : Int32) * (gF S 0)) ≤ x3 → post (1 : Int32) S) ∧ (¬ ((7 : Int32) * (gF S 0)) ≤ x3 → (vp_in x3 21 ∧ (vp_in (((21 : Int32) * x1) + x3) 42000 ∧ (vp_in x3 21 ∧ (fun (S1 : MS) => T81 x1 x2 (x3 + (1 : Int32)) S1) (sI S 3 (x3).toNatClampNeg ((gI S 3 (x3).toNatClampNeg) + (x2 * (gI S 15 ((((21 : Int32) * x1) + x3)).toNatClampNeg)))))))))
set_option maxHeartbeats 4000000 in
set_option maxRecDepth 100000 in
theorem M_add_a81 {p : Program} {l : Launch} {e : Env} {s : State} {m : MethodId} {args : Array Value} {below : List Frame} {meth : Method} {c : Code} {D : va_G} {dA : Nat → ClassId} {o : Nat → Nat} {A : Nat → Prop} {post : Int32 → MS → Prop} {T33 : Int32 → Int32 → Int32 → MS → Prop} {T81 : Int32 → Int32 → Int32 → MS → Prop} (C : mC p m c cX5_add 4 s args meth (Option.some Jvm.ClassFile.FieldType.int) A) (hT33 : ∀ (x1 : Int32) (x2 : Int32) (x3 : Int32) (S : MS), T33 x1 x2 x3 S → ∀ (H : Heap) (locs : List Loc) (ls : Array Slot), lv_has ls 4 [(0, .ref (o 0)), (1, .int x1), (2, .int x2), (3, .int x3)] → mw D dA o A s S H locs → W p l e rM_add s m args below meth c H locs 0 0 (mQi below args s D dA o A post) (F0 m 33 ls [])) (hT81 : ∀ (x1 : Int32) (x2 : Int32) (x3 : Int32) (S : MS), T81 x1 x2 x3 S → ∀ (H : Heap) (locs : List Loc) (ls : Array Slot), lv_has ls 4 [(0, .ref (o 0)), (1, .int x1), (2, .int x2), (3, .int x3)] → mw D dA o A s S H locs → W p l e rM_add s m args below meth c H locs 0 0 (mQi below args s D dA o A post) (F0 m 81 ls [])) {x1 : Int32} {x2 : Int32} {x3 : Int32} {S : MS} (h : M_add_w81 post T33 T81 x1 x2 x3 S) {H : Heap} {locs : List Loc} {ls : Array Slot} (hl : lv_has ls 4 [(0, .ref (o 0)), (1, .int x1), (2, .int x2), (3, .int x3)]) (w : mw D dA o A s S H locs) : W p l e rM_add s m args below meth c H locs 0 0 (mQi below args s D dA o A post) (F0 m 81 ls []) := by
  unfold M_add_w81 at h
  obtain ⟨⟨hx, hb, hml, hown, hts⟩, hr, hlk, hA⟩ := id C
  refine lv_iload_n hx hb dX5_add_81 rfl (lv_at hl 3 rfl) ?_
  refine lv_bipush (v := 7) hx hb dX5_add_82 (by decide) ?_
  refine lv_aload_n hx hb dX5_add_84 rfl (lv_at hl 0 rfl) ?_
  refine mr_get C w 0 (by decide) q577 rfl rfl dX5_add_85 ?_
  refine lv_imul hx hb dX5_add_88 ?_
  obtain ⟨h1, h2⟩ := h
  refine lv_icmp_ge (tgt := 120) hx hb dX5_add_89 (by decide) (fun c1 => ?_) (fun c1 => ?_)
  · have h := h1 c1
    refine lv_iconst (v := 1) hx hb dX5_add_120 (by decide) ?_
    exact mr_iret C w h dX5_add_121
  · have h := h2 c1
    refine lv_aload_n hx hb dX5_add_92 rfl (lv_at hl 0 rfl) ?_
    refine mr_get C w 3 (by decide) q580 rfl rfl dX5_add_93 ?_
    refine lv_iload_n hx hb dX5_add_96 rfl (lv_at hl 3 rfl) ?_
    refine lv_dup2_11 hx hb dX5_add_97 rfl rfl ?_
    obtain ⟨hi, h⟩ := h
    refine mr_iald C w 3 2 rfl rfl hi dX5_add_98 ?_
    refine lv_iload_n hx hb dX5_add_99 rfl (lv_at hl 2 rfl) ?_
    refine lv_aload_n hx hb dX5_add_100 rfl (lv_at hl 0 rfl) ?_
    refine mr_get C w 15 (by decide) q592 rfl rfl dX5_add_101 ?_
    refine lv_bipush (v := 21) hx hb dX5_add_104 (by decide) ?_
    refine lv_iload_n hx hb dX5_add_106 rfl (lv_at hl 1 rfl) ?_
    refine lv_imul hx hb dX5_add_107 ?_
    refine lv_iload_n hx hb dX5_add_108 rfl (lv_at hl 3 rfl) ?_
    refine lv_iadd hx hb dX5_add_109 ?_
    obtain ⟨hi, h⟩ := h
    refine mr_iald C w 11 10 rfl rfl hi dX5_add_110 ?_
    refine lv_imul hx hb dX5_add_111 ?_
    refine lv_iadd hx hb dX5_add_112 ?_
    obtain ⟨hi, h⟩ := h
    refine mr_iast C w 3 2 rfl rfl hi MWs_3 dX5_add_113 (fun H locs w => ?_)
    refine lv_iinc (v := _ + (1 : Int32)) (lv' := [(3, .int _), (0, .ref _), (1, .int _), (2, .int _)]) hx hb dX5_add_114 hl (k := 3) rfl rfl (by decide) rfl (fun ls hl => ?_)
    refine lv_goto (tgt := 81) hx hb dX5_add_117 (by decide) ?_
    exact hT81 _ _ _ _ h _ _ _ (lv_sub hl [1, 2, 3, 0] rfl) w
def M_add_w33 (post : Int32 → MS → Prop) (T33 : Int32 → Int32 → Int32 → MS → Prop) (T81 : Int32 → Int32 → Int32 → MS → Prop) (x1 : Int32) (x2 : Int32) (x3 : Int32) (S : MS) : Prop :=
  ((((7 : Int32) * (gF S 0)) ≤ x3 → T81 x1 x2 (0 : Int32) S) ∧ (¬ ((7 : Int32) * (gF S 0)) ≤ x3 → (vp_in x3 21 ∧ (vp_in (((21 : Int32) * x1) + x3) 42000 ∧ ((((gI S 3 (x3).toNatClampNeg) + (x2 * (gI S 15 ((((21 : Int32) * x1) + x3)).toNatClampNeg))) ≤ (1000 : Int32) → T33 x1 x2 (x3 + (1 : Int32)) S) ∧ (¬ ((gI S 3 (x3).toNatClampNeg) + (x2 * (gI S 15 ((((21 : Int32) * x1) + x3)).toNatClampNeg))) ≤ (1000 : Int32) → post (-4 : Int32) S))))))
set_option maxHeartbeats 4000000 in
set_option maxRecDepth 100000 in
theorem M_add_a33 {p : Program} {l : Launch} {e : Env} {s : State} {m : MethodId} {args : Array Value} {below : List Frame} {meth : Method} {c : Code} {D : va_G} {dA : Nat → ClassId} {o : Nat → Nat} {A : Nat → Prop} {post : Int32 → MS → Prop} {T33 : Int32 → Int32 → Int32 → MS → Prop} {T81 : Int32 → Int32 → Int32 → MS → Prop} (C : mC p m c cX5_add 4 s args meth (Option.some Jvm.ClassFile.FieldType.int) A) (hT33 : ∀ (x1 : Int32) (x2 : Int32) (x3 : Int32) (S : MS), T33 x1 x2 x3 S → ∀ (H : Heap) (locs : List Loc) (ls : Array Slot), lv_has ls 4 [(0, .ref (o 0)), (1, .int x1), (2, .int x2), (3, .int x3)] → mw D dA o A s S H locs → W p l e rM_add s m args below meth c H locs 0 0 (mQi below args s D dA o A post) (F0 m 33 ls [])) (hT81 : ∀ (x1 : Int32) (x2 : Int32) (x3 : Int32) (S : MS), T81 x1 x2 x3 S → ∀ (H : Heap) (locs : List Loc) (ls : Array Slot), lv_has ls 4 [(0, .ref (o 0)), (1, .int x1), (2, .int x2), (3, .int x3)] → mw D dA o A s S H locs → W p l e rM_add s m args below meth c H locs 0 0 (mQi below args s D dA o A post) (F0 m 81 ls [])) {x1 : Int32} {x2 : Int32} {x3 : Int32} {S : MS} (h : M_add_w33 post T33 T81 x1 x2 x3 S) {H : Heap} {locs : List Loc} {ls : Array Slot} (hl : lv_has ls 4 [(0, .ref (o 0)), (1, .int x1), (2, .int x2), (3, .int x3)]) (w : mw D dA o A s S H locs) : W p l e rM_add s m args below meth c H locs 0 0 (mQi below args s D dA o A post) (F0 m 33 ls []) := by
  unfold M_add_w33 at h
  obtain ⟨⟨hx, hb, hml, hown, hts⟩, hr, hlk, hA⟩ := id C
  refine lv_iload_n hx hb dX5_add_33 rfl (lv_at hl 3 rfl) ?_
  refine lv_bipush (v := 7) hx hb dX5_add_34 (by decide) ?_
  refine lv_aload_n hx hb dX5_add_36 rfl (lv_at hl 0 rfl) ?_
  refine mr_get C w 0 (by decide) q577 rfl rfl dX5_add_37 ?_
  refine lv_imul hx hb dX5_add_40 ?_
  obtain ⟨h1, h2⟩ := h
  refine lv_icmp_ge (tgt := 79) hx hb dX5_add_41 (by decide) (fun c1 => ?_) (fun c1 => ?_)
  · have h := h1 c1
    refine lv_iconst (v := 0) hx hb dX5_add_79 (by decide) ?_
    refine lv_istore_n (lv' := [(3, .int _), (0, .ref _), (1, .int _), (2, .int _)]) hx hb dX5_add_80 rfl hl (by decide) rfl (fun ls hl => ?_)
    exact hT81 _ _ _ _ h _ _ _ (lv_sub hl [1, 2, 3, 0] rfl) w
  · have h := h2 c1
    refine lv_aload_n hx hb dX5_add_44 rfl (lv_at hl 0 rfl) ?_
    refine mr_get C w 3 (by decide) q580 rfl rfl dX5_add_45 ?_
    refine lv_iload_n hx hb dX5_add_48 rfl (lv_at hl 3 rfl) ?_
    obtain ⟨hi, h⟩ := h
    refine mr_iald C w 3 2 rfl rfl hi dX5_add_49 ?_
    refine lv_iload_n hx hb dX5_add_50 rfl (lv_at hl 2 rfl) ?_
    refine lv_aload_n hx hb dX5_add_51 rfl (lv_at hl 0 rfl) ?_
    refine mr_get C w 15 (by decide) q592 rfl rfl dX5_add_52 ?_
    refine lv_bipush (v := 21) hx hb dX5_add_55 (by decide) ?_
    refine lv_iload_n hx hb dX5_add_57 rfl (lv_at hl 1 rfl) ?_
    refine lv_imul hx hb dX5_add_58 ?_
    refine lv_iload_n hx hb dX5_add_59 rfl (lv_at hl 3 rfl) ?_
    refine lv_iadd hx hb dX5_add_60 ?_
    obtain ⟨hi, h⟩ := h
    refine mr_iald C w 11 10 rfl rfl hi dX5_add_61 ?_
    refine lv_imul hx hb dX5_add_62 ?_
    refine lv_iadd hx hb dX5_add_63 ?_
    refine lv_sipush (v := 1000) hx hb dX5_add_64 (by decide) ?_
    obtain ⟨h1, h2⟩ := h
    refine lv_icmp_le (tgt := 73) hx hb dX5_add_67 (by decide) (fun c1 => ?_) (fun c1 => ?_)
    · have h := h1 c1
      refine lv_iinc (v := _ + (1 : Int32)) (lv' := [(3, .int _), (0, .ref _), (1, .int _), (2, .int _)]) hx hb dX5_add_73 hl (k := 3) rfl rfl (by decide) rfl (fun ls hl => ?_)
      refine lv_goto (tgt := 33) hx hb dX5_add_76 (by decide) ?_
      exact hT33 _ _ _ _ h _ _ _ (lv_sub hl [1, 2, 3, 0] rfl) w
    · have h := h2 c1
      refine lv_bipush (v := -4) hx hb dX5_add_70 (by decide) ?_
      exact mr_iret C w h dX5_add_72
def M_add_w28 (post : Int32 → MS → Prop) (T33 : Int32 → Int32 → Int32 → MS → Prop) (T81 : Int32 → Int32 → Int32 → MS → Prop) (S : MS) : Prop :=
  post (-2 : Int32) S
set_option maxHeartbeats 4000000 in
set_option maxRecDepth 100000 in
theorem M_add_a28 {p : Program} {l : Launch} {e : Env} {s : State} {m : MethodId} {args : Array Value} {below : List Frame} {meth : Method} {c : Code} {D : va_G} {dA : Nat → ClassId} {o : Nat → Nat} {A : Nat → Prop} {post : Int32 → MS → Prop} {T33 : Int32 → Int32 → Int32 → MS → Prop} {T81 : Int32 → Int32 → Int32 → MS → Prop} (C : mC p m c cX5_add 4 s args meth (Option.some Jvm.ClassFile.FieldType.int) A) (hT33 : ∀ (x1 : Int32) (x2 : Int32) (x3 : Int32) (S : MS), T33 x1 x2 x3 S → ∀ (H : Heap) (locs : List Loc) (ls : Array Slot), lv_has ls 4 [(0, .ref (o 0)), (1, .int x1), (2, .int x2), (3, .int x3)] → mw D dA o A s S H locs → W p l e rM_add s m args below meth c H locs 0 0 (mQi below args s D dA o A post) (F0 m 33 ls [])) (hT81 : ∀ (x1 : Int32) (x2 : Int32) (x3 : Int32) (S : MS), T81 x1 x2 x3 S → ∀ (H : Heap) (locs : List Loc) (ls : Array Slot), lv_has ls 4 [(0, .ref (o 0)), (1, .int x1), (2, .int x2), (3, .int x3)] → mw D dA o A s S H locs → W p l e rM_add s m args below meth c H locs 0 0 (mQi below args s D dA o A post) (F0 m 81 ls [])) {S : MS} (h : M_add_w28 post T33 T81 S) {H : Heap} {locs : List Loc} {ls : Array Slot} (hl : lv_has ls 4 [(0, .ref (o 0))]) (w : mw D dA o A s S H locs) : W p l e rM_add s m args below meth c H locs 0 0 (mQi below args s D dA o A post) (F0 m 28 ls []) := by
  unfold M_add_w28 at h
  obtain ⟨⟨hx, hb, hml, hown, hts⟩, hr, hlk, hA⟩ := id C
  refine lv_bipush (v := -2) hx hb dX5_add_28 (by decide) ?_
  exact mr_iret C w h dX5_add_30
def M_add_w0 (post : Int32 → MS → Prop) (T33 : Int32 → Int32 → Int32 → MS → Prop) (T81 : Int32 → Int32 → Int32 → MS → Prop) (x1 : Int32) (x2 : Int32) (S : MS) : Prop :=
  M_findLeast S (fun (S1 : MS) => M_in x1 (0 : Int32) ((gF S1 14) - (1 : Int32)) S1 (fun (r2 : Int32) (S2 : MS) => ((r2 = 0 → M_add_w28 post T33 T81 S2) ∧ (¬ r2 = 0 → M_in x2 (0 : Int32) (100 : Int32) S2 (fun (r3 : Int32) (S3 : MS) => ((¬ r3 = 0 → T33 x1 x2 (0 : Int32) S3) ∧ (r3 = 0 → M_add_w28 post T33 T81 S3)))))))
set_option maxHeartbeats 4000000 in
set_option maxRecDepth 100000 in
theorem M_add_a0 {p : Program} {l : Launch} {e : Env} {s : State} {m : MethodId} {args : Array Value} {below : List Frame} {meth : Method} {c : Code} {D : va_G} {dA : Nat → ClassId} {o : Nat → Nat} {A : Nat → Prop} {post : Int32 → MS → Prop} {T33 : Int32 → Int32 → Int32 → MS → Prop} {T81 : Int32 → Int32 → Int32 → MS → Prop} (C : mC p m c cX5_add 4 s args meth (Option.some Jvm.ClassFile.FieldType.int) A) (hT33 : ∀ (x1 : Int32) (x2 : Int32) (x3 : Int32) (S : MS), T33 x1 x2 x3 S → ∀ (H : Heap) (locs : List Loc) (ls : Array Slot), lv_has ls 4 [(0, .ref (o 0)), (1, .int x1), (2, .int x2), (3, .int x3)] → mw D dA o A s S H locs → W p l e rM_add s m args below meth c H locs 0 0 (mQi below args s D dA o A post) (F0 m 33 ls [])) (hT81 : ∀ (x1 : Int32) (x2 : Int32) (x3 : Int32) (S : MS), T81 x1 x2 x3 S → ∀ (H : Heap) (locs : List Loc) (ls : Array Slot), lv_has ls 4 [(0, .ref (o 0)), (1, .int x1), (2, .int x2), (3, .int x3)] → mw D dA o A s S H locs → W p l e rM_add s m args below meth c H locs 0 0 (mQi below args s D dA o A post) (F0 m 81 ls [])) {x1 : Int32} {x2 : Int32} {S : MS} (h : M_add_w0 post T33 T81 x1 x2 S) {H : Heap} {locs : List Loc} {ls : Array Slot} (hl : lv_has ls 4 [(0, .ref (o 0)), (1, .int x1), (2, .int x2)]) (w : mw D dA o A s S H locs) : W p l e rM_add s m args below meth c H locs 0 0 (mQi below args s D dA o A post) (F0 m 0 ls []) := by
  unfold M_add_w0 at h
  obtain ⟨⟨hx, hb, hml, hown, hts⟩, hr, hlk, hA⟩ := id C
  refine lv_aload_n hx hb dX5_add_0 rfl (lv_at hl 0 rfl) ?_
  refine mr_callVV (rest := []) C w h (lw_V q820 q822 qs62 q87 q823) M_findLeast_d rfl rfl ⟨Nat.le_of_ble_eq_true rfl, Nat.le_of_ble_eq_true rfl⟩ rfl hl.1 rfl (Nat.le_of_ble_eq_true rfl) ⟨Nat.zero_le _, Nat.zero_le _⟩ dX5_add_1 (fun S1 H locs h w => ?_)
  refine lv_iload_n hx hb dX5_add_4 rfl (lv_at hl 1 rfl) ?_
  refine lv_iconst (v := 0) hx hb dX5_add_5 (by decide) ?_
  refine lv_aload_n hx hb dX5_add_6 rfl (lv_at hl 0 rfl) ?_
  refine mr_get C w 14 (by decide) q591 rfl rfl dX5_add_7 ?_
  refine lv_iconst (v := 1) hx hb dX5_add_10 (by decide) ?_
  refine lv_isub hx hb dX5_add_11 ?_
  refine mr_callSI (rest := []) C w h (lw_S q676 q677 q87 q678) M_in_d rfl rfl ⟨Nat.le_of_ble_eq_true rfl, Nat.le_of_ble_eq_true rfl⟩ rfl hl.1 rfl (Nat.le_of_ble_eq_true rfl) ⟨Nat.zero_le _, Nat.zero_le _⟩ dX5_add_12 (fun r2 S2 H locs h w => ?_)
  obtain ⟨h1, h2⟩ := h
  refine lv_if_eq (tgt := 28) hx hb dX5_add_15 (by decide) (fun c1 => ?_) (fun c1 => ?_)
  · have h := h1 c1
    exact M_add_a28 C hT33 hT81 h (lv_sub hl [0] rfl) w
  · have h := h2 c1
    refine lv_iload_n hx hb dX5_add_18 rfl (lv_at hl 2 rfl) ?_
    refine lv_iconst (v := 0) hx hb dX5_add_19 (by decide) ?_
    refine lv_bipush (v := 100) hx hb dX5_add_20 (by decide) ?_
    refine mr_callSI (rest := []) C w h (lw_S q676 q677 q87 q678) M_in_d rfl rfl ⟨Nat.le_of_ble_eq_true rfl, Nat.le_of_ble_eq_true rfl⟩ rfl hl.1 rfl (Nat.le_of_ble_eq_true rfl) ⟨Nat.zero_le _, Nat.zero_le _⟩ dX5_add_22 (fun r3 S3 H locs h w => ?_)
    obtain ⟨h1, h2⟩ := h
    refine lv_if_ne (tgt := 31) hx hb dX5_add_25 (by decide) (fun c1 => ?_) (fun c1 => ?_)
    · have h := h1 c1
      refine lv_iconst (v := 0) hx hb dX5_add_31 (by decide) ?_
      refine lv_istore_n (lv' := [(3, .int _), (0, .ref _), (1, .int _), (2, .int _)]) hx hb dX5_add_32 rfl hl (by decide) rfl (fun ls hl => ?_)
      exact hT33 _ _ _ _ h _ _ _ (lv_sub hl [1, 2, 3, 0] rfl) w
    · have h := h2 c1
      exact M_add_a28 C hT33 hT81 h (lv_sub hl [0] rfl) w
def M_add_VC (x1 : Int32) (x2 : Int32) (S : MS) (post : Int32 → MS → Prop) : Prop := ∀ (T33 : Int32 → Int32 → Int32 → MS → Prop) (T81 : Int32 → Int32 → Int32 → MS → Prop), (∀ (x1 : Int32) (x2 : Int32) (x3 : Int32) (S : MS), M_add_w33 post T33 T81 x1 x2 x3 S → T33 x1 x2 x3 S) → (∀ (x1 : Int32) (x2 : Int32) (x3 : Int32) (S : MS), M_add_w81 post T33 T81 x1 x2 x3 S → T81 x1 x2 x3 S) → M_add_w0 post T33 T81 x1 x2 S
theorem M_add_ok {x1 : Int32} {x2 : Int32} {S : MS} {post : Int32 → MS → Prop} (h : M_add_VC x1 x2 S post) : M_add x1 x2 S post := by
  intro l D dA o sz
  refine mr_start (fun A => va_Qi post (mB D dA o A) A) rfl (Nat.le_of_ble_eq_true rfl) (by decide) ?_
  intro p e s m args below meth c ls A C w hl
  have hl : lv_has ls 4 [(0, .ref (o 0)), (1, .int x1), (2, .int x2)] := hl
  have h := h (fun (x1 : Int32) (x2 : Int32) (x3 : Int32) S => ∀ (H : Heap) (locs : List Loc) (ls : Array Slot), lv_has ls 4 [(0, .ref (o 0)), (1, .int x1), (2, .int x2), (3, .int x3)] → mw D dA o A s S H locs → W p l e rM_add s m args below meth c H locs 0 0 (mQi below args s D dA o A post) (F0 m 33 ls [])) (fun (x1 : Int32) (x2 : Int32) (x3 : Int32) S => ∀ (H : Heap) (locs : List Loc) (ls : Array Slot), lv_has ls 4 [(0, .ref (o 0)), (1, .int x1), (2, .int x2), (3, .int x3)] → mw D dA o A s S H locs → W p l e rM_add s m args below meth c H locs 0 0 (mQi below args s D dA o A post) (F0 m 81 ls [])) (fun _ _ _ S h H locs ls hl w => M_add_a33 C (fun _ _ _ _ h => h) (fun _ _ _ _ h => h) h hl w) (fun _ _ _ S h H locs ls hl w => M_add_a81 C (fun _ _ _ _ h => h) (fun _ _ _ _ h => h) h hl w)
  exact M_add_a0 C (fun _ _ _ _ h => h) (fun _ _ _ _ h => h) h (lv_sub hl [0, 1, 2] rfl) w

/-! drop()I -/
def M_drop_w25 (post : Int32 → MS → Prop) (T4 : Int32 → Int32 → MS → Prop) (v0 : Int32) (v1 : Int32) (x2 : Int32) (S : MS) : Prop :=
  T4 (v1 + v0) (x2 + (1 : Int32)) S
set_option maxHeartbeats 4000000 in
set_option maxRecDepth 100000 in
theorem M_drop_a25 {p : Program} {l : Launch} {e : Env} {s : State} {m : MethodId} {args : Array Value} {below : List Frame} {meth : Method} {c : Code} {D : va_G} {dA : Nat → ClassId} {o : Nat → Nat} {A : Nat → Prop} {post : Int32 → MS → Prop} {T4 : Int32 → Int32 → MS → Prop} (C : mC p m c cX5_drop 3 s args meth (Option.some Jvm.ClassFile.FieldType.int) A) (hT4 : ∀ (x1 : Int32) (x2 : Int32) (S : MS), T4 x1 x2 S → ∀ (H : Heap) (locs : List Loc) (ls : Array Slot), lv_has ls 3 [(0, .ref (o 0)), (1, .int x1), (2, .int x2)] → mw D dA o A s S H locs → W p l e rM_drop s m args below meth c H locs 0 0 (mQi below args s D dA o A post) (F0 m 4 ls [])) {v0 : Int32} {v1 : Int32} {x2 : Int32} {S : MS} (h : M_drop_w25 post T4 v0 v1 x2 S) {H : Heap} {locs : List Loc} {ls : Array Slot} (hl : lv_has ls 3 [(0, .ref (o 0)), (2, .int x2)]) (w : mw D dA o A s S H locs) : W p l e rM_drop s m args below meth c H locs 0 0 (mQi below args s D dA o A post) (F0 m 25 ls [.int v0, .int v1]) := by
  unfold M_drop_w25 at h
  obtain ⟨⟨hx, hb, hml, hown, hts⟩, hr, hlk, hA⟩ := id C
  refine lv_iadd hx hb dX5_drop_25 ?_
  refine lv_istore_n (lv' := [(1, .int _), (0, .ref _), (2, .int _)]) hx hb dX5_drop_26 rfl hl (by decide) rfl (fun ls hl => ?_)
  refine lv_iinc (v := _ + (1 : Int32)) (lv' := [(2, .int _), (1, .int _), (0, .ref _)]) hx hb dX5_drop_27 hl (k := 2) rfl rfl (by decide) rfl (fun ls hl => ?_)
  refine lv_goto (tgt := 4) hx hb dX5_drop_30 (by decide) ?_
  exact hT4 _ _ _ h _ _ _ (lv_sub hl [2, 1, 0] rfl) w
def M_drop_w4 (post : Int32 → MS → Prop) (T4 : Int32 → Int32 → MS → Prop) (x1 : Int32) (x2 : Int32) (S : MS) : Prop :=
  (((21 : Int32) ≤ x2 → M_empty S (fun (S1 : MS) => post x1 S1)) ∧ (¬ (21 : Int32) ≤ x2 → (vp_in x2 21 ∧ (((gI S 3 (x2).toNatClampNeg) = 0 → M_drop_w25 post T4 (0 : Int32) x1 x2 S) ∧ (¬ (gI S 3 (x2).toNatClampNeg) = 0 → M_drop_w25 post T4 (1 : Int32) x1 x2 S)))))
set_option maxHeartbeats 4000000 in
set_option maxRecDepth 100000 in
theorem M_drop_a4 {p : Program} {l : Launch} {e : Env} {s : State} {m : MethodId} {args : Array Value} {below : List Frame} {meth : Method} {c : Code} {D : va_G} {dA : Nat → ClassId} {o : Nat → Nat} {A : Nat → Prop} {post : Int32 → MS → Prop} {T4 : Int32 → Int32 → MS → Prop} (C : mC p m c cX5_drop 3 s args meth (Option.some Jvm.ClassFile.FieldType.int) A) (hT4 : ∀ (x1 : Int32) (x2 : Int32) (S : MS), T4 x1 x2 S → ∀ (H : Heap) (locs : List Loc) (ls : Array Slot), lv_has ls 3 [(0, .ref (o 0)), (1, .int x1), (2, .int x2)] → mw D dA o A s S H locs → W p l e rM_drop s m args below meth c H locs 0 0 (mQi below args s D dA o A post) (F0 m 4 ls [])) {x1 : Int32} {x2 : Int32} {S : MS} (h : M_drop_w4 post T4 x1 x2 S) {H : Heap} {locs : List Loc} {ls : Array Slot} (hl : lv_has ls 3 [(0, .ref (o 0)), (1, .int x1), (2, .int x2)]) (w : mw D dA o A s S H locs) : W p l e rM_drop s m args below meth c H locs 0 0 (mQi below args s D dA o A post) (F0 m 4 ls []) := by
  unfold M_drop_w4 at h
  obtain ⟨⟨hx, hb, hml, hown, hts⟩, hr, hlk, hA⟩ := id C
  refine lv_iload_n hx hb dX5_drop_4 rfl (lv_at hl 2 rfl) ?_
  refine lv_bipush (v := 21) hx hb dX5_drop_5 (by decide) ?_
  obtain ⟨h1, h2⟩ := h
  refine lv_icmp_ge (tgt := 33) hx hb dX5_drop_7 (by decide) (fun c1 => ?_) (fun c1 => ?_)
  · have h := h1 c1
    refine lv_aload_n hx hb dX5_drop_33 rfl (lv_at hl 0 rfl) ?_
    refine mr_callVV (rest := []) C w h (lw_V q660 q662 qs34 q87 q663) M_empty_d rfl rfl ⟨Nat.le_of_ble_eq_true rfl, Nat.le_of_ble_eq_true rfl⟩ rfl hl.1 rfl (Nat.le_of_ble_eq_true rfl) ⟨Nat.zero_le _, Nat.zero_le _⟩ dX5_drop_34 (fun S1 H locs h w => ?_)
    refine lv_iload_n hx hb dX5_drop_37 rfl (lv_at hl 1 rfl) ?_
    exact mr_iret C w h dX5_drop_38
  · have h := h2 c1
    refine lv_iload_n hx hb dX5_drop_10 rfl (lv_at hl 1 rfl) ?_
    refine lv_aload_n hx hb dX5_drop_11 rfl (lv_at hl 0 rfl) ?_
    refine mr_get C w 3 (by decide) q580 rfl rfl dX5_drop_12 ?_
    refine lv_iload_n hx hb dX5_drop_15 rfl (lv_at hl 2 rfl) ?_
    obtain ⟨hi, h⟩ := h
    refine mr_iald C w 3 2 rfl rfl hi dX5_drop_16 ?_
    obtain ⟨h1, h2⟩ := h
    refine lv_if_eq (tgt := 24) hx hb dX5_drop_17 (by decide) (fun c1 => ?_) (fun c1 => ?_)
    · have h := h1 c1
      refine lv_iconst (v := 0) hx hb dX5_drop_24 (by decide) ?_
      exact M_drop_a25 C hT4 h (lv_sub hl [0, 2] rfl) w
    · have h := h2 c1
      refine lv_iconst (v := 1) hx hb dX5_drop_20 (by decide) ?_
      refine lv_goto (tgt := 25) hx hb dX5_drop_21 (by decide) ?_
      exact M_drop_a25 C hT4 h (lv_sub hl [0, 2] rfl) w
def M_drop_w0 (post : Int32 → MS → Prop) (T4 : Int32 → Int32 → MS → Prop) (S : MS) : Prop :=
  T4 (0 : Int32) (0 : Int32) S
set_option maxHeartbeats 4000000 in
set_option maxRecDepth 100000 in
theorem M_drop_a0 {p : Program} {l : Launch} {e : Env} {s : State} {m : MethodId} {args : Array Value} {below : List Frame} {meth : Method} {c : Code} {D : va_G} {dA : Nat → ClassId} {o : Nat → Nat} {A : Nat → Prop} {post : Int32 → MS → Prop} {T4 : Int32 → Int32 → MS → Prop} (C : mC p m c cX5_drop 3 s args meth (Option.some Jvm.ClassFile.FieldType.int) A) (hT4 : ∀ (x1 : Int32) (x2 : Int32) (S : MS), T4 x1 x2 S → ∀ (H : Heap) (locs : List Loc) (ls : Array Slot), lv_has ls 3 [(0, .ref (o 0)), (1, .int x1), (2, .int x2)] → mw D dA o A s S H locs → W p l e rM_drop s m args below meth c H locs 0 0 (mQi below args s D dA o A post) (F0 m 4 ls [])) {S : MS} (h : M_drop_w0 post T4 S) {H : Heap} {locs : List Loc} {ls : Array Slot} (hl : lv_has ls 3 [(0, .ref (o 0))]) (w : mw D dA o A s S H locs) : W p l e rM_drop s m args below meth c H locs 0 0 (mQi below args s D dA o A post) (F0 m 0 ls []) := by
  unfold M_drop_w0 at h
  obtain ⟨⟨hx, hb, hml, hown, hts⟩, hr, hlk, hA⟩ := id C
  refine lv_iconst (v := 0) hx hb dX5_drop_0 (by decide) ?_
  refine lv_istore_n (lv' := [(1, .int _), (0, .ref _)]) hx hb dX5_drop_1 rfl hl (by decide) rfl (fun ls hl => ?_)
  refine lv_iconst (v := 0) hx hb dX5_drop_2 (by decide) ?_
  refine lv_istore_n (lv' := [(2, .int _), (1, .int _), (0, .ref _)]) hx hb dX5_drop_3 rfl hl (by decide) rfl (fun ls hl => ?_)
  exact hT4 _ _ _ h _ _ _ (lv_sub hl [2, 1, 0] rfl) w
def M_drop_VC (S : MS) (post : Int32 → MS → Prop) : Prop := ∀ (T4 : Int32 → Int32 → MS → Prop), (∀ (x1 : Int32) (x2 : Int32) (S : MS), M_drop_w4 post T4 x1 x2 S → T4 x1 x2 S) → M_drop_w0 post T4 S
theorem M_drop_ok {S : MS} {post : Int32 → MS → Prop} (h : M_drop_VC S post) : M_drop S post := by
  intro l D dA o sz
  refine mr_start (fun A => va_Qi post (mB D dA o A) A) rfl (Nat.le_of_ble_eq_true rfl) (by decide) ?_
  intro p e s m args below meth c ls A C w hl
  have hl : lv_has ls 3 [(0, .ref (o 0))] := hl
  have h := h (fun (x1 : Int32) (x2 : Int32) S => ∀ (H : Heap) (locs : List Loc) (ls : Array Slot), lv_has ls 3 [(0, .ref (o 0)), (1, .int x1), (2, .int x2)] → mw D dA o A s S H locs → W p l e rM_drop s m args below meth c H locs 0 0 (mQi below args s D dA o A post) (F0 m 4 ls [])) (fun _ _ S h H locs ls hl w => M_drop_a4 C (fun _ _ _ h => h) h hl w)
  exact M_drop_a0 C (fun _ _ _ h => h) h (lv_sub hl [0] rfl) w

/-! arcs(III)I -/
def M_arcs_w0 (post : Int32 → MS → Prop) (x1 : Int32) (x2 : Int32) (x3 : Int32) (S : MS) : Prop :=
  (vp_in (((7 : Int32) * x1) + x3) 21 ∧ M_kindOf x3 x2 S (fun (r1 : Int32) (S1 : MS) => (vp_in ((((7 : Int32) * x1) + (4 : Int32)) + r1) 21 ∧ post ((gI S 3 ((((7 : Int32) * x1) + x3)).toNatClampNeg) + (gI S1 3 (((((7 : Int32) * x1) + (4 : Int32)) + r1)).toNatClampNeg)) S1)))
set_option maxHeartbeats 4000000 in
set_option maxRecDepth 100000 in
theorem M_arcs_a0 {p : Program} {l : Launch} {e : Env} {s : State} {m : MethodId} {args : Array Value} {below : List Frame} {meth : Method} {c : Code} {D : va_G} {dA : Nat → ClassId} {o : Nat → Nat} {A : Nat → Prop} {post : Int32 → MS → Prop} (C : mC p m c cX5_arcs 4 s args meth (Option.some Jvm.ClassFile.FieldType.int) A) {x1 : Int32} {x2 : Int32} {x3 : Int32} {S : MS} (h : M_arcs_w0 post x1 x2 x3 S) {H : Heap} {locs : List Loc} {ls : Array Slot} (hl : lv_has ls 4 [(0, .ref (o 0)), (1, .int x1), (2, .int x2), (3, .int x3)]) (w : mw D dA o A s S H locs) : W p l e rM_arcs s m args below meth c H locs 0 0 (mQi below args s D dA o A post) (F0 m 0 ls []) := by
  unfold M_arcs_w0 at h
  obtain ⟨⟨hx, hb, hml, hown, hts⟩, hr, hlk, hA⟩ := id C
  refine lv_aload_n hx hb dX5_arcs_0 rfl (lv_at hl 0 rfl) ?_
  refine mr_get C w 3 (by decide) q580 rfl rfl dX5_arcs_1 ?_
  refine lv_bipush (v := 7) hx hb dX5_arcs_4 (by decide) ?_
  refine lv_iload_n hx hb dX5_arcs_6 rfl (lv_at hl 1 rfl) ?_
  refine lv_imul hx hb dX5_arcs_7 ?_
  refine lv_iload_n hx hb dX5_arcs_8 rfl (lv_at hl 3 rfl) ?_
  refine lv_iadd hx hb dX5_arcs_9 ?_
  obtain ⟨hi, h⟩ := h
  refine mr_iald C w 3 2 rfl rfl hi dX5_arcs_10 ?_
  refine lv_aload_n hx hb dX5_arcs_11 rfl (lv_at hl 0 rfl) ?_
  refine mr_get C w 3 (by decide) q580 rfl rfl dX5_arcs_12 ?_
  refine lv_bipush (v := 7) hx hb dX5_arcs_15 (by decide) ?_
  refine lv_iload_n hx hb dX5_arcs_17 rfl (lv_at hl 1 rfl) ?_
  refine lv_imul hx hb dX5_arcs_18 ?_
  refine lv_iconst (v := 4) hx hb dX5_arcs_19 (by decide) ?_
  refine lv_iadd hx hb dX5_arcs_20 ?_
  refine lv_iload_n hx hb dX5_arcs_21 rfl (lv_at hl 3 rfl) ?_
  refine lv_iload_n hx hb dX5_arcs_22 rfl (lv_at hl 2 rfl) ?_
  refine mr_callSI (rest := [.int _, .ref _, .int _]) C w h (lw_S q828 q829 q87 q830) M_kindOf_d rfl rfl ⟨Nat.le_of_ble_eq_true rfl, Nat.le_of_ble_eq_true rfl⟩ rfl hl.1 rfl (Nat.le_of_ble_eq_true rfl) ⟨Nat.zero_le _, Nat.zero_le _⟩ dX5_arcs_23 (fun r1 S1 H locs h w => ?_)
  refine lv_iadd hx hb dX5_arcs_26 ?_
  obtain ⟨hi, h⟩ := h
  refine mr_iald C w 3 2 rfl rfl hi dX5_arcs_27 ?_
  refine lv_iadd hx hb dX5_arcs_28 ?_
  exact mr_iret C w h dX5_arcs_29
def M_arcs_VC (x1 : Int32) (x2 : Int32) (x3 : Int32) (S : MS) (post : Int32 → MS → Prop) : Prop := M_arcs_w0 post x1 x2 x3 S
theorem M_arcs_ok {x1 : Int32} {x2 : Int32} {x3 : Int32} {S : MS} {post : Int32 → MS → Prop} (h : M_arcs_VC x1 x2 x3 S post) : M_arcs x1 x2 x3 S post := by
  intro l D dA o sz
  refine mr_start (fun A => va_Qi post (mB D dA o A) A) rfl (Nat.le_of_ble_eq_true rfl) (by decide) ?_
  intro p e s m args below meth c ls A C w hl
  have hl : lv_has ls 4 [(0, .ref (o 0)), (1, .int x1), (2, .int x2), (3, .int x3)] := hl
  exact M_arcs_a0 C h (lv_sub hl [0, 1, 2, 3] rfl) w

/-! legal()I -/
def M_legal_w147 (post : Int32 → MS → Prop) (T2 : Int32 → MS → Prop) (T14 : Int32 → Int32 → MS → Prop) (T98 : Int32 → Int32 → MS → Prop) (v0 : Int32) (S : MS) : Prop :=
  post v0 S
set_option maxHeartbeats 4000000 in
set_option maxRecDepth 100000 in
theorem M_legal_a147 {p : Program} {l : Launch} {e : Env} {s : State} {m : MethodId} {args : Array Value} {below : List Frame} {meth : Method} {c : Code} {D : va_G} {dA : Nat → ClassId} {o : Nat → Nat} {A : Nat → Prop} {post : Int32 → MS → Prop} {T2 : Int32 → MS → Prop} {T14 : Int32 → Int32 → MS → Prop} {T98 : Int32 → Int32 → MS → Prop} (C : mC p m c cX5_legal 3 s args meth (Option.some Jvm.ClassFile.FieldType.int) A) (hT2 : ∀ (x1 : Int32) (S : MS), T2 x1 S → ∀ (H : Heap) (locs : List Loc) (ls : Array Slot), lv_has ls 3 [(0, .ref (o 0)), (1, .int x1)] → mw D dA o A s S H locs → W p l e rM_legal s m args below meth c H locs 0 0 (mQi below args s D dA o A post) (F0 m 2 ls [])) (hT14 : ∀ (x1 : Int32) (x2 : Int32) (S : MS), T14 x1 x2 S → ∀ (H : Heap) (locs : List Loc) (ls : Array Slot), lv_has ls 3 [(0, .ref (o 0)), (1, .int x1), (2, .int x2)] → mw D dA o A s S H locs → W p l e rM_legal s m args below meth c H locs 0 0 (mQi below args s D dA o A post) (F0 m 14 ls [])) (hT98 : ∀ (x1 : Int32) (x2 : Int32) (S : MS), T98 x1 x2 S → ∀ (H : Heap) (locs : List Loc) (ls : Array Slot), lv_has ls 3 [(0, .ref (o 0)), (1, .int x1), (2, .int x2)] → mw D dA o A s S H locs → W p l e rM_legal s m args below meth c H locs 0 0 (mQi below args s D dA o A post) (F0 m 98 ls [])) {v0 : Int32} {S : MS} (h : M_legal_w147 post T2 T14 T98 v0 S) {H : Heap} {locs : List Loc} {ls : Array Slot} (hl : lv_has ls 3 [(0, .ref (o 0))]) (w : mw D dA o A s S H locs) : W p l e rM_legal s m args below meth c H locs 0 0 (mQi below args s D dA o A post) (F0 m 147 ls [.int v0]) := by
  unfold M_legal_w147 at h
  obtain ⟨⟨hx, hb, hml, hown, hts⟩, hr, hlk, hA⟩ := id C
  exact mr_iret C w h dX5_legal_147
def M_legal_w126 (post : Int32 → MS → Prop) (T2 : Int32 → MS → Prop) (T14 : Int32 → Int32 → MS → Prop) (T98 : Int32 → Int32 → MS → Prop) (v0 : Int32) (v1 : Int32) (x2 : Int32) (S : MS) : Prop :=
  T98 (v1 ||| v0) (x2 + (1 : Int32)) S
set_option maxHeartbeats 4000000 in
set_option maxRecDepth 100000 in
theorem M_legal_a126 {p : Program} {l : Launch} {e : Env} {s : State} {m : MethodId} {args : Array Value} {below : List Frame} {meth : Method} {c : Code} {D : va_G} {dA : Nat → ClassId} {o : Nat → Nat} {A : Nat → Prop} {post : Int32 → MS → Prop} {T2 : Int32 → MS → Prop} {T14 : Int32 → Int32 → MS → Prop} {T98 : Int32 → Int32 → MS → Prop} (C : mC p m c cX5_legal 3 s args meth (Option.some Jvm.ClassFile.FieldType.int) A) (hT2 : ∀ (x1 : Int32) (S : MS), T2 x1 S → ∀ (H : Heap) (locs : List Loc) (ls : Array Slot), lv_has ls 3 [(0, .ref (o 0)), (1, .int x1)] → mw D dA o A s S H locs → W p l e rM_legal s m args below meth c H locs 0 0 (mQi below args s D dA o A post) (F0 m 2 ls [])) (hT14 : ∀ (x1 : Int32) (x2 : Int32) (S : MS), T14 x1 x2 S → ∀ (H : Heap) (locs : List Loc) (ls : Array Slot), lv_has ls 3 [(0, .ref (o 0)), (1, .int x1), (2, .int x2)] → mw D dA o A s S H locs → W p l e rM_legal s m args below meth c H locs 0 0 (mQi below args s D dA o A post) (F0 m 14 ls [])) (hT98 : ∀ (x1 : Int32) (x2 : Int32) (S : MS), T98 x1 x2 S → ∀ (H : Heap) (locs : List Loc) (ls : Array Slot), lv_has ls 3 [(0, .ref (o 0)), (1, .int x1), (2, .int x2)] → mw D dA o A s S H locs → W p l e rM_legal s m args below meth c H locs 0 0 (mQi below args s D dA o A post) (F0 m 98 ls [])) {v0 : Int32} {v1 : Int32} {x2 : Int32} {S : MS} (h : M_legal_w126 post T2 T14 T98 v0 v1 x2 S) {H : Heap} {locs : List Loc} {ls : Array Slot} (hl : lv_has ls 3 [(0, .ref (o 0)), (2, .int x2)]) (w : mw D dA o A s S H locs) : W p l e rM_legal s m args below meth c H locs 0 0 (mQi below args s D dA o A post) (F0 m 126 ls [.int v0, .int v1]) := by
  unfold M_legal_w126 at h
  obtain ⟨⟨hx, hb, hml, hown, hts⟩, hr, hlk, hA⟩ := id C
  refine lv_ior hx hb dX5_legal_126 ?_
  refine lv_istore_n (lv' := [(1, .int _), (0, .ref _), (2, .int _)]) hx hb dX5_legal_127 rfl hl (by decide) rfl (fun ls hl => ?_)
  refine lv_iinc (v := _ + (1 : Int32)) (lv' := [(2, .int _), (1, .int _), (0, .ref _)]) hx hb dX5_legal_128 hl (k := 2) rfl rfl (by decide) rfl (fun ls hl => ?_)
  refine lv_goto (tgt := 98) hx hb dX5_legal_131 (by decide) ?_
  exact hT98 _ _ _ h _ _ _ (lv_sub hl [2, 1, 0] rfl) w
def M_legal_w98 (post : Int32 → MS → Prop) (T2 : Int32 → MS → Prop) (T14 : Int32 → Int32 → MS → Prop) (T98 : Int32 → Int32 → MS → Prop) (x1 : Int32) (x2 : Int32) (S : MS) : Prop :=
  ((((7 : Int32) * (gF S 0)) ≤ x2 → M_hasOneKind x1 S (fun (r1 : Int32) (S1 : MS) => ((r1 = 0 → M_legal_w147 post T2 T14 T98 (2 : Int32) S1) ∧ (¬ r1 = 0 → M_legal_w147 post T2 T14 T98 (0 : Int32) S1)))) ∧ (¬ ((7 : Int32) * (gF S 0)) ≤ x2 → (vp_in x2 21 ∧ (((gI S 3 (x2).toNatClampNeg) = 0 → M_legal_w126 post T2 T14 T98 (0 : Int32) x1 x2 S) ∧ (¬ (gI S 3 (x2).toNatClampNeg) = 0 → M_legal_w126 post T2 T14 T98 ((1 : Int32) <<< (x2 &&& 31)) x1 x2 S)))))
set_option maxHeartbeats 4000000 in
set_option maxRecDepth 100000 in
theorem M_legal_a98 {p : Program} {l : Launch} {e : Env} {s : State} {m : MethodId} {args : Array Value} {below : List Frame} {meth : Method} {c : Code} {D : va_G} {dA : Nat → ClassId} {o : Nat → Nat} {A : Nat → Prop} {post : Int32 → MS → Prop} {T2 : Int32 → MS → Prop} {T14 : Int32 → Int32 → MS → Prop} {T98 : Int32 → Int32 → MS → Prop} (C : mC p m c cX5_legal 3 s args meth (Option.some Jvm.ClassFile.FieldType.int) A) (hT2 : ∀ (x1 : Int32) (S : MS), T2 x1 S → ∀ (H : Heap) (locs : List Loc) (ls : Array Slot), lv_has ls 3 [(0, .ref (o 0)), (1, .int x1)] → mw D dA o A s S H locs → W p l e rM_legal s m args below meth c H locs 0 0 (mQi below args s D dA o A post) (F0 m 2 ls [])) (hT14 : ∀ (x1 : Int32) (x2 : Int32) (S : MS), T14 x1 x2 S → ∀ (H : Heap) (locs : List Loc) (ls : Array Slot), lv_has ls 3 [(0, .ref (o 0)), (1, .int x1), (2, .int x2)] → mw D dA o A s S H locs → W p l e rM_legal s m args below meth c H locs 0 0 (mQi below args s D dA o A post) (F0 m 14 ls [])) (hT98 : ∀ (x1 : Int32) (x2 : Int32) (S : MS), T98 x1 x2 S → ∀ (H : Heap) (locs : List Loc) (ls : Array Slot), lv_has ls 3 [(0, .ref (o 0)), (1, .int x1), (2, .int x2)] → mw D dA o A s S H locs → W p l e rM_legal s m args below meth c H locs 0 0 (mQi below args s D dA o A post) (F0 m 98 ls [])) {x1 : Int32} {x2 : Int32} {S : MS} (h : M_legal_w98 post T2 T14 T98 x1 x2 S) {H : Heap} {locs : List Loc} {ls : Array Slot} (hl : lv_has ls 3 [(0, .ref (o 0)), (1, .int x1), (2, .int x2)]) (w : mw D dA o A s S H locs) : W p l e rM_legal s m args below meth c H locs 0 0 (mQi below args s D dA o A post) (F0 m 98 ls []) := by
  unfold M_legal_w98 at h
  obtain ⟨⟨hx, hb, hml, hown, hts⟩, hr, hlk, hA⟩ := id C
  refine lv_iload_n hx hb dX5_legal_98 rfl (lv_at hl 2 rfl) ?_
  refine lv_bipush (v := 7) hx hb dX5_legal_99 (by decide) ?_
  refine lv_aload_n hx hb dX5_legal_101 rfl (lv_at hl 0 rfl) ?_
  refine mr_get C w 0 (by decide) q577 rfl rfl dX5_legal_102 ?_
  refine lv_imul hx hb dX5_legal_105 ?_
  obtain ⟨h1, h2⟩ := h
  refine lv_icmp_ge (tgt := 134) hx hb dX5_legal_106 (by decide) (fun c1 => ?_) (fun c1 => ?_)
  · have h := h1 c1
    refine lv_aload_n hx hb dX5_legal_134 rfl (lv_at hl 0 rfl) ?_
    refine lv_iload_n hx hb dX5_legal_135 rfl (lv_at hl 1 rfl) ?_
    refine mr_callVI (rest := []) C w h (lw_V q850 q852 qs68 q87 q853) M_hasOneKind_d rfl rfl ⟨Nat.le_of_ble_eq_true rfl, Nat.le_of_ble_eq_true rfl⟩ rfl hl.1 rfl (Nat.le_of_ble_eq_true rfl) ⟨Nat.zero_le _, Nat.zero_le _⟩ dX5_legal_136 (fun r1 S1 H locs h w => ?_)
    obtain ⟨h1, h2⟩ := h
    refine lv_if_eq (tgt := 146) hx hb dX5_legal_139 (by decide) (fun c1 => ?_) (fun c1 => ?_)
    · have h := h1 c1
      refine lv_iconst (v := 2) hx hb dX5_legal_146 (by decide) ?_
      exact M_legal_a147 C hT2 hT14 hT98 h (lv_sub hl [0] rfl) w
    · have h := h2 c1
      refine lv_iconst (v := 0) hx hb dX5_legal_142 (by decide) ?_
      refine lv_goto (tgt := 147) hx hb dX5_legal_143 (by decide) ?_
      exact M_legal_a147 C hT2 hT14 hT98 h (lv_sub hl [0] rfl) w
  · have h := h2 c1
    refine lv_iload_n hx hb dX5_legal_109 rfl (lv_at hl 1 rfl) ?_
    refine lv_aload_n hx hb dX5_legal_110 rfl (lv_at hl 0 rfl) ?_
    refine mr_get C w 3 (by decide) q580 rfl rfl dX5_legal_111 ?_
    refine lv_iload_n hx hb dX5_legal_114 rfl (lv_at hl 2 rfl) ?_
    obtain ⟨hi, h⟩ := h
    refine mr_iald C w 3 2 rfl rfl hi dX5_legal_115 ?_
    obtain ⟨h1, h2⟩ := h
    refine lv_if_eq (tgt := 125) hx hb dX5_legal_116 (by decide) (fun c1 => ?_) (fun c1 => ?_)
    · have h := h1 c1
      refine lv_iconst (v := 0) hx hb dX5_legal_125 (by decide) ?_
      exact M_legal_a126 C hT2 hT14 hT98 h (lv_sub hl [0, 2] rfl) w
    · have h := h2 c1
      refine lv_iconst (v := 1) hx hb dX5_legal_119 (by decide) ?_
      refine lv_iload_n hx hb dX5_legal_120 rfl (lv_at hl 2 rfl) ?_
      refine lv_ishl hx hb dX5_legal_121 ?_
      refine lv_goto (tgt := 126) hx hb dX5_legal_122 (by decide) ?_
      exact M_legal_a126 C hT2 hT14 hT98 h (lv_sub hl [0, 2] rfl) w
def M_legal_w88 (post : Int32 → MS → Prop) (T2 : Int32 → MS → Prop) (T14 : Int32 → Int32 → MS → Prop) (T98 : Int32 → Int32 → MS → Prop) (x1 : Int32) (S : MS) : Prop :=
  T2 (x1 + (1 : Int32)) S
set_option maxHeartbeats 4000000 in
set_option maxRecDepth 100000 in
theorem M_legal_a88 {p : Program} {l : Launch} {e : Env} {s : State} {m : MethodId} {args : Array Value} {below : List Frame} {meth : Method} {c : Code} {D : va_G} {dA : Nat → ClassId} {o : Nat → Nat} {A : Nat → Prop} {post : Int32 → MS → Prop} {T2 : Int32 → MS → Prop} {T14 : Int32 → Int32 → MS → Prop} {T98 : Int32 → Int32 → MS → Prop} (C : mC p m c cX5_legal 3 s args meth (Option.some Jvm.ClassFile.FieldType.int) A) (hT2 : ∀ (x1 : Int32) (S : MS), T2 x1 S → ∀ (H : Heap) (locs : List Loc) (ls : Array Slot), lv_has ls 3 [(0, .ref (o 0)), (1, .int x1)] → mw D dA o A s S H locs → W p l e rM_legal s m args below meth c H locs 0 0 (mQi below args s D dA o A post) (F0 m 2 ls [])) (hT14 : ∀ (x1 : Int32) (x2 : Int32) (S : MS), T14 x1 x2 S → ∀ (H : Heap) (locs : List Loc) (ls : Array Slot), lv_has ls 3 [(0, .ref (o 0)), (1, .int x1), (2, .int x2)] → mw D dA o A s S H locs → W p l e rM_legal s m args below meth c H locs 0 0 (mQi below args s D dA o A post) (F0 m 14 ls [])) (hT98 : ∀ (x1 : Int32) (x2 : Int32) (S : MS), T98 x1 x2 S → ∀ (H : Heap) (locs : List Loc) (ls : Array Slot), lv_has ls 3 [(0, .ref (o 0)), (1, .int x1), (2, .int x2)] → mw D dA o A s S H locs → W p l e rM_legal s m args below meth c H locs 0 0 (mQi below args s D dA o A post) (F0 m 98 ls [])) {x1 : Int32} {S : MS} (h : M_legal_w88 post T2 T14 T98 x1 S) {H : Heap} {locs : List Loc} {ls : Array Slot} (hl : lv_has ls 3 [(0, .ref (o 0)), (1, .int x1)]) (w : mw D dA o A s S H locs) : W p l e rM_legal s m args below meth c H locs 0 0 (mQi below args s D dA o A post) (F0 m 88 ls []) := by
  unfold M_legal_w88 at h
  obtain ⟨⟨hx, hb, hml, hown, hts⟩, hr, hlk, hA⟩ := id C
  refine lv_iinc (v := _ + (1 : Int32)) (lv' := [(1, .int _), (0, .ref _)]) hx hb dX5_legal_88 hl (k := 1) rfl rfl (by decide) rfl (fun ls hl => ?_)
  refine lv_goto (tgt := 2) hx hb dX5_legal_91 (by decide) ?_
  exact hT2 _ _ h _ _ _ (lv_sub hl [1, 0] rfl) w
def M_legal_w82 (post : Int32 → MS → Prop) (T2 : Int32 → MS → Prop) (T14 : Int32 → Int32 → MS → Prop) (T98 : Int32 → Int32 → MS → Prop) (x1 : Int32) (x2 : Int32) (S : MS) : Prop :=
  T14 x1 (x2 + (1 : Int32)) S
set_option maxHeartbeats 4000000 in
set_option maxRecDepth 100000 in
theorem M_legal_a82 {p : Program} {l : Launch} {e : Env} {s : State} {m : MethodId} {args : Array Value} {below : List Frame} {meth : Method} {c : Code} {D : va_G} {dA : Nat → ClassId} {o : Nat → Nat} {A : Nat → Prop} {post : Int32 → MS → Prop} {T2 : Int32 → MS → Prop} {T14 : Int32 → Int32 → MS → Prop} {T98 : Int32 → Int32 → MS → Prop} (C : mC p m c cX5_legal 3 s args meth (Option.some Jvm.ClassFile.FieldType.int) A) (hT2 : ∀ (x1 : Int32) (S : MS), T2 x1 S → ∀ (H : Heap) (locs : List Loc) (ls : Array Slot), lv_has ls 3 [(0, .ref (o 0)), (1, .int x1)] → mw D dA o A s S H locs → W p l e rM_legal s m args below meth c H locs 0 0 (mQi below args s D dA o A post) (F0 m 2 ls [])) (hT14 : ∀ (x1 : Int32) (x2 : Int32) (S : MS), T14 x1 x2 S → ∀ (H : Heap) (locs : List Loc) (ls : Array Slot), lv_has ls 3 [(0, .ref (o 0)), (1, .int x1), (2, .int x2)] → mw D dA o A s S H locs → W p l e rM_legal s m args below meth c H locs 0 0 (mQi below args s D dA o A post) (F0 m 14 ls [])) (hT98 : ∀ (x1 : Int32) (x2 : Int32) (S : MS), T98 x1 x2 S → ∀ (H : Heap) (locs : List Loc) (ls : Array Slot), lv_has ls 3 [(0, .ref (o 0)), (1, .int x1), (2, .int x2)] → mw D dA o A s S H locs → W p l e rM_legal s m args below meth c H locs 0 0 (mQi below args s D dA o A post) (F0 m 98 ls [])) {x1 : Int32} {x2 : Int32} {S : MS} (h : M_legal_w82 post T2 T14 T98 x1 x2 S) {H : Heap} {locs : List Loc} {ls : Array Slot} (hl : lv_has ls 3 [(0, .ref (o 0)), (1, .int x1), (2, .int x2)]) (w : mw D dA o A s S H locs) : W p l e rM_legal s m args below meth c H locs 0 0 (mQi below args s D dA o A post) (F0 m 82 ls []) := by
  unfold M_legal_w82 at h
  obtain ⟨⟨hx, hb, hml, hown, hts⟩, hr, hlk, hA⟩ := id C
  refine lv_iinc (v := _ + (1 : Int32)) (lv' := [(2, .int _), (0, .ref _), (1, .int _)]) hx hb dX5_legal_82 hl (k := 2) rfl rfl (by decide) rfl (fun ls hl => ?_)
  refine lv_goto (tgt := 14) hx hb dX5_legal_85 (by decide) ?_
  exact hT14 _ _ _ h _ _ _ (lv_sub hl [1, 2, 0] rfl) w
def M_legal_w14 (post : Int32 → MS → Prop) (T2 : Int32 → MS → Prop) (T14 : Int32 → Int32 → MS → Prop) (T98 : Int32 → Int32 → MS → Prop) (x1 : Int32) (x2 : Int32) (S : MS) : Prop :=
  (((4 : Int32) ≤ x2 → M_legal_w88 post T2 T14 T98 x1 S) ∧ (¬ (4 : Int32) ≤ x2 → (vp_in x1 12 ∧ (((gI S 1 (x1).toNatClampNeg) = (-1 : Int32) → M_legal_w88 post T2 T14 T98 x1 S) ∧ (¬ (gI S 1 (x1).toNatClampNeg) = (-1 : Int32) → ((x2 = (x1 - x1 / (4 : Int32) * (4 : Int32)) → M_legal_w82 post T2 T14 T98 x1 x2 S) ∧ (¬ x2 = (x1 - x1 / (4 : Int32) * (4 : Int32)) → M_arcs (x1 / (4 : Int32)) (x1 - x1 / (4 : Int32) * (4 : Int32)) x2 S (fun (r1 : Int32) (S1 : MS) => (vp_in x1 12 ∧ (vp_in x1 12 ∧ (vp_in (((4 : Int32) * x1) + x2) 48 ∧ M_arcs ((gI S1 1 (x1).toNatClampNeg) / (4 : Int32)) ((gI S1 1 (x1).toNatClampNeg) - (gI S1 1 (x1).toNatClampNeg) / (4 : Int32) * (4 : Int32)) (gI S1 2 ((((4 : Int32) * x1) + x2)).toNatClampNeg) S1 (fun (r2 : Int32) (S2 : MS) => ((r1 = r2 → M_legal_w82 post T2 T14 T98 x1 x2 S2) ∧ (¬ r1 = r2 → post (1 : Int32) S2))))))))))))))
set_option maxHeartbeats 4000000 in
set_option maxRecDepth 100000 in
theorem M_legal_a14 {p : Program} {l : Launch} {e : Env} {s : State} {m : MethodId} {args : Array Value} {below : List Frame} {meth : Method} {c : Code} {D : va_G} {dA : Nat → ClassId} {o : Nat → Nat} {A : Nat → Prop} {post : Int32 → MS → Prop} {T2 : Int32 → MS → Prop} {T14 : Int32 → Int32 → MS → Prop} {T98 : Int32 → Int32 → MS → Prop} (C : mC p m c cX5_legal 3 s args meth (Option.some Jvm.ClassFile.FieldType.int) A) (hT2 : ∀ (x1 : Int32) (S : MS), T2 x1 S → ∀ (H : Heap) (locs : List Loc) (ls : Array Slot), lv_has ls 3 [(0, .ref (o 0)), (1, .int x1)] → mw D dA o A s S H locs → W p l e rM_legal s m args below meth c H locs 0 0 (mQi below args s D dA o A post) (F0 m 2 ls [])) (hT14 : ∀ (x1 : Int32) (x2 : Int32) (S : MS), T14 x1 x2 S → ∀ (H : Heap) (locs : List Loc) (ls : Array Slot), lv_has ls 3 [(0, .ref (o 0)), (1, .int x1), (2, .int x2)] → mw D dA o A s S H locs → W p l e rM_legal s m args below meth c H locs 0 0 (mQi below args s D dA o A post) (F0 m 14 ls [])) (hT98 : ∀ (x1 : Int32) (x2 : Int32) (S : MS), T98 x1 x2 S → ∀ (H : Heap) (locs : List Loc) (ls : Array Slot), lv_has ls 3 [(0, .ref (o 0)), (1, .int x1), (2, .int x2)] → mw D dA o A s S H locs → W p l e rM_legal s m args below meth c H locs 0 0 (mQi below args s D dA o A post) (F0 m 98 ls [])) {x1 : Int32} {x2 : Int32} {S : MS} (h : M_legal_w14 post T2 T14 T98 x1 x2 S) {H : Heap} {locs : List Loc} {ls : Array Slot} (hl : lv_has ls 3 [(0, .ref (o 0)), (1, .int x1), (2, .int x2)]) (w : mw D dA o A s S H locs) : W p l e rM_legal s m args below meth c H locs 0 0 (mQi below args s D dA o A post) (F0 m 14 ls []) := by
  unfold M_legal_w14 at h
  obtain ⟨⟨hx, hb, hml, hown, hts⟩, hr, hlk, hA⟩ := id C
  refine lv_iload_n hx hb dX5_legal_14 rfl (lv_at hl 2 rfl) ?_
  refine lv_iconst (v := 4) hx hb dX5_legal_15 (by decide) ?_
  obtain ⟨h1, h2⟩ := h
  refine lv_icmp_ge (tgt := 88) hx hb dX5_legal_16 (by decide) (fun c1 => ?_) (fun c1 => ?_)
  · have h := h1 c1
    exact M_legal_a88 C hT2 hT14 hT98 h (lv_sub hl [0, 1] rfl) w
  · have h := h2 c1
    refine lv_aload_n hx hb dX5_legal_19 rfl (lv_at hl 0 rfl) ?_
    refine mr_get C w 1 (by decide) q578 rfl rfl dX5_legal_20 ?_
    refine lv_iload_n hx hb dX5_legal_23 rfl (lv_at hl 1 rfl) ?_
    obtain ⟨hi, h⟩ := h
    refine mr_iald C w 1 0 rfl rfl hi dX5_legal_24 ?_
    refine lv_iconst (v := -1) hx hb dX5_legal_25 (by decide) ?_
    obtain ⟨h1, h2⟩ := h
    refine lv_icmp_eq (tgt := 88) hx hb dX5_legal_26 (by decide) (fun c1 => ?_) (fun c1 => ?_)
    · have h := h1 c1
      exact M_legal_a88 C hT2 hT14 hT98 h (lv_sub hl [0, 1] rfl) w
    · have h := h2 c1
      refine lv_iload_n hx hb dX5_legal_29 rfl (lv_at hl 2 rfl) ?_
      refine lv_iload_n hx hb dX5_legal_30 rfl (lv_at hl 1 rfl) ?_
      refine lv_iconst (v := 4) hx hb dX5_legal_31 (by decide) ?_
      refine lv_irem hx hb dX5_legal_32 (by decide) ?_
      obtain ⟨h1, h2⟩ := h
      refine lv_icmp_eq (tgt := 82) hx hb dX5_legal_33 (by decide) (fun c1 => ?_) (fun c1 => ?_)
      · have h := h1 c1
        exact M_legal_a82 C hT2 hT14 hT98 h (lv_sub hl [0, 1, 2] rfl) w
      · have h := h2 c1
        refine lv_aload_n hx hb dX5_legal_36 rfl (lv_at hl 0 rfl) ?_
        refine lv_iload_n hx hb dX5_legal_37 rfl (lv_at hl 1 rfl) ?_
        refine lv_iconst (v := 4) hx hb dX5_legal_38 (by decide) ?_
        refine lv_idiv hx hb dX5_legal_39 (by decide) ?_
        refine lv_iload_n hx hb dX5_legal_40 rfl (lv_at hl 1 rfl) ?_
        refine lv_iconst (v := 4) hx hb dX5_legal_41 (by decide) ?_
        refine lv_irem hx hb dX5_legal_42 (by decide) ?_
        refine lv_iload_n hx hb dX5_legal_43 rfl (lv_at hl 2 rfl) ?_
        refine mr_callVI (rest := []) C w h (lw_V q886 q888 qs72 q87 q889) M_arcs_d rfl rfl ⟨Nat.le_of_ble_eq_true rfl, Nat.le_of_ble_eq_true rfl⟩ rfl hl.1 rfl (Nat.le_of_ble_eq_true rfl) ⟨Nat.zero_le _, Nat.zero_le _⟩ dX5_legal_44 (fun r1 S1 H locs h w => ?_)
        refine lv_aload_n hx hb dX5_legal_47 rfl (lv_at hl 0 rfl) ?_
        refine lv_aload_n hx hb dX5_legal_48 rfl (lv_at hl 0 rfl) ?_
        refine mr_get C w 1 (by decide) q578 rfl rfl dX5_legal_49 ?_
        refine lv_iload_n hx hb dX5_legal_52 rfl (lv_at hl 1 rfl) ?_
        obtain ⟨hi, h⟩ := h
        refine mr_iald C w 1 0 rfl rfl hi dX5_legal_53 ?_
        refine lv_iconst (v := 4) hx hb dX5_legal_54 (by decide) ?_
        refine lv_idiv hx hb dX5_legal_55 (by decide) ?_
        refine lv_aload_n hx hb dX5_legal_56 rfl (lv_at hl 0 rfl) ?_
        refine mr_get C w 1 (by decide) q578 rfl rfl dX5_legal_57 ?_
        refine lv_iload_n hx hb dX5_legal_60 rfl (lv_at hl 1 rfl) ?_
        obtain ⟨hi, h⟩ := h
        refine mr_iald C w 1 0 rfl rfl hi dX5_legal_61 ?_
        refine lv_iconst (v := 4) hx hb dX5_legal_62 (by decide) ?_
        refine lv_irem hx hb dX5_legal_63 (by decide) ?_
        refine lv_aload_n hx hb dX5_legal_64 rfl (lv_at hl 0 rfl) ?_
        refine mr_get C w 2 (by decide) q579 rfl rfl dX5_legal_65 ?_
        refine lv_iconst (v := 4) hx hb dX5_legal_68 (by decide) ?_
        refine lv_iload_n hx hb dX5_legal_69 rfl (lv_at hl 1 rfl) ?_
        refine lv_imul hx hb dX5_legal_70 ?_
        refine lv_iload_n hx hb dX5_legal_71 rfl (lv_at hl 2 rfl) ?_
        refine lv_iadd hx hb dX5_legal_72 ?_
        obtain ⟨hi, h⟩ := h
        refine mr_iald C w 2 1 rfl rfl hi dX5_legal_73 ?_
        refine mr_callVI (rest := [.int _]) C w h (lw_V q886 q888 qs72 q87 q889) M_arcs_d rfl rfl ⟨Nat.le_of_ble_eq_true rfl, Nat.le_of_ble_eq_true rfl⟩ rfl hl.1 rfl (Nat.le_of_ble_eq_true rfl) ⟨Nat.zero_le _, Nat.zero_le _⟩ dX5_legal_74 (fun r2 S2 H locs h w => ?_)
        obtain ⟨h1, h2⟩ := h
        refine lv_icmp_eq (tgt := 82) hx hb dX5_legal_77 (by decide) (fun c1 => ?_) (fun c1 => ?_)
        · have h := h1 c1
          exact M_legal_a82 C hT2 hT14 hT98 h (lv_sub hl [0, 1, 2] rfl) w
        · have h := h2 c1
          refine lv_iconst (v := 1) hx hb dX5_legal_80 (by decide) ?_
          exact mr_iret C w h dX5_legal_81
def M_legal_w2 (post : Int32 → MS → Prop) (T2 : Int32 → MS → Prop) (T14 : Int32 → Int32 → MS → Prop) (T98 : Int32 → Int32 → MS → Prop) (x1 : Int32) (S : MS) : Prop :=
  ((((4 : Int32) * (gF S 0)) ≤ x1 → T98 (0 : Int32) (0 : Int32) S) ∧ (¬ ((4 : Int32) * (gF S 0)) ≤ x1 → T14 x1 (0 : Int32) S))
set_option maxHeartbeats 4000000 in
set_option maxRecDepth 100000 in
theorem M_legal_a2 {p : Program} {l : Launch} {e : Env} {s : State} {m : MethodId} {args : Array Value} {below : List Frame} {meth : Method} {c : Code} {D : va_G} {dA : Nat → ClassId} {o : Nat → Nat} {A : Nat → Prop} {post : Int32 → MS → Prop} {T2 : Int32 → MS → Prop} {T14 : Int32 → Int32 → MS → Prop} {T98 : Int32 → Int32 → MS → Prop} (C : mC p m c cX5_legal 3 s args meth (Option.some Jvm.ClassFile.FieldType.int) A) (hT2 : ∀ (x1 : Int32) (S : MS), T2 x1 S → ∀ (H : Heap) (locs : List Loc) (ls : Array Slot), lv_has ls 3 [(0, .ref (o 0)), (1, .int x1)] → mw D dA o A s S H locs → W p l e rM_legal s m args below meth c H locs 0 0 (mQi below args s D dA o A post) (F0 m 2 ls [])) (hT14 : ∀ (x1 : Int32) (x2 : Int32) (S : MS), T14 x1 x2 S → ∀ (H : Heap) (locs : List Loc) (ls : Array Slot), lv_has ls 3 [(0, .ref (o 0)), (1, .int x1), (2, .int x2)] → mw D dA o A s S H locs → W p l e rM_legal s m args below meth c H locs 0 0 (mQi below args s D dA o A post) (F0 m 14 ls [])) (hT98 : ∀ (x1 : Int32) (x2 : Int32) (S : MS), T98 x1 x2 S → ∀ (H : Heap) (locs : List Loc) (ls : Array Slot), lv_has ls 3 [(0, .ref (o 0)), (1, .int x1), (2, .int x2)] → mw D dA o A s S H locs → W p l e rM_legal s m args below meth c H locs 0 0 (mQi below args s D dA o A post) (F0 m 98 ls [])) {x1 : Int32} {S : MS} (h : M_legal_w2 post T2 T14 T98 x1 S) {H : Heap} {locs : List Loc} {ls : Array Slot} (hl : lv_has ls 3 [(0, .ref (o 0)), (1, .int x1)]) (w : mw D dA o A s S H locs) : W p l e rM_legal s m args below meth c H locs 0 0 (mQi below args s D dA o A post) (F0 m 2 ls []) := by
  unfold M_legal_w2 at h
  obtain ⟨⟨hx, hb, hml, hown, hts⟩, hr, hlk, hA⟩ := id C
  refine lv_iload_n hx hb dX5_legal_2 rfl (lv_at hl 1 rfl) ?_
  refine lv_iconst (v := 4) hx hb dX5_legal_3 (by decide) ?_
  refine lv_aload_n hx hb dX5_legal_4 rfl (lv_at hl 0 rfl) ?_
  refine mr_get C w 0 (by decide) q577 rfl rfl dX5_legal_5 ?_
  refine lv_imul hx hb dX5_legal_8 ?_
  obtain ⟨h1, h2⟩ := h
  refine lv_icmp_ge (tgt := 94) hx hb dX5_legal_9 (by decide) (fun c1 => ?_) (fun c1 => ?_)
  · have h := h1 c1
    refine lv_iconst (v := 0) hx hb dX5_legal_94 (by decide) ?_
    refine lv_istore_n (lv' := [(1, .int _), (0, .ref _)]) hx hb dX5_legal_95 rfl hl (by decide) rfl (fun ls hl => ?_)
    refine lv_iconst (v := 0) hx hb dX5_legal_96 (by decide) ?_
    refine lv_istore_n (lv' := [(2, .int _), (1, .int _), (0, .ref _)]) hx hb dX5_legal_97 rfl hl (by decide) rfl (fun ls hl => ?_)
    exact hT98 _ _ _ h _ _ _ (lv_sub hl [2, 1, 0] rfl) w
  · have h := h2 c1
    refine lv_iconst (v := 0) hx hb dX5_legal_12 (by decide) ?_
    refine lv_istore_n (lv' := [(2, .int _), (0, .ref _), (1, .int _)]) hx hb dX5_legal_13 rfl hl (by decide) rfl (fun ls hl => ?_)
    exact hT14 _ _ _ h _ _ _ (lv_sub hl [1, 2, 0] rfl) w
def M_legal_w0 (post : Int32 → MS → Prop) (T2 : Int32 → MS → Prop) (T14 : Int32 → Int32 → MS → Prop) (T98 : Int32 → Int32 → MS → Prop) (S : MS) : Prop :=
  T2 (0 : Int32) S
set_option maxHeartbeats 4000000 in
set_option maxRecDepth 100000 in
theorem M_legal_a0 {p : Program} {l : Launch} {e : Env} {s : State} {m : MethodId} {args : Array Value} {below : List Frame} {meth : Method} {c : Code} {D : va_G} {dA : Nat → ClassId} {o : Nat → Nat} {A : Nat → Prop} {post : Int32 → MS → Prop} {T2 : Int32 → MS → Prop} {T14 : Int32 → Int32 → MS → Prop} {T98 : Int32 → Int32 → MS → Prop} (C : mC p m c cX5_legal 3 s args meth (Option.some Jvm.ClassFile.FieldType.int) A) (hT2 : ∀ (x1 : Int32) (S : MS), T2 x1 S → ∀ (H : Heap) (locs : List Loc) (ls : Array Slot), lv_has ls 3 [(0, .ref (o 0)), (1, .int x1)] → mw D dA o A s S H locs → W p l e rM_legal s m args below meth c H locs 0 0 (mQi below args s D dA o A post) (F0 m 2 ls [])) (hT14 : ∀ (x1 : Int32) (x2 : Int32) (S : MS), T14 x1 x2 S → ∀ (H : Heap) (locs : List Loc) (ls : Array Slot), lv_has ls 3 [(0, .ref (o 0)), (1, .int x1), (2, .int x2)] → mw D dA o A s S H locs → W p l e rM_legal s m args below meth c H locs 0 0 (mQi below args s D dA o A post) (F0 m 14 ls [])) (hT98 : ∀ (x1 : Int32) (x2 : Int32) (S : MS), T98 x1 x2 S → ∀ (H : Heap) (locs : List Loc) (ls : Array Slot), lv_has ls 3 [(0, .ref (o 0)), (1, .int x1), (2, .int x2)] → mw D dA o A s S H locs → W p l e rM_legal s m args below meth c H locs 0 0 (mQi below args s D dA o A post) (F0 m 98 ls [])) {S : MS} (h : M_legal_w0 post T2 T14 T98 S) {H : Heap} {locs : List Loc} {ls : Array Slot} (hl : lv_has ls 3 [(0, .ref (o 0))]) (w : mw D dA o A s S H locs) : W p l e rM_legal s m args below meth c H locs 0 0 (mQi below args s D dA o A post) (F0 m 0 ls []) := by
  unfold M_legal_w0 at h
  obtain ⟨⟨hx, hb, hml, hown, hts⟩, hr, hlk, hA⟩ := id C
  refine lv_iconst (v := 0) hx hb dX5_legal_0 (by decide) ?_
  refine lv_istore_n (lv' := [(1, .int _), (0, .ref _)]) hx hb dX5_legal_1 rfl hl (by decide) rfl (fun ls hl => ?_)
  exact hT2 _ _ h _ _ _ (lv_sub hl [1, 0] rfl) w
def M_legal_VC (S : MS) (post : Int32 → MS → Prop) : Prop := ∀ (T2 : Int32 → MS → Prop) (T14 : Int32 → Int32 → MS → Prop) (T98 : Int32 → Int32 → MS → Prop), (∀ (x1 : Int32) (S : MS), M_legal_w2 post T2 T14 T98 x1 S → T2 x1 S) → (∀ (x1 : Int32) (x2 : Int32) (S : MS), M_legal_w14 post T2 T14 T98 x1 x2 S → T14 x1 x2 S) → (∀ (x1 : Int32) (x2 : Int32) (S : MS), M_legal_w98 post T2 T14 T98 x1 x2 S → T98 x1 x2 S) → M_legal_w0 post T2 T14 T98 S
theorem M_legal_ok {S : MS} {post : Int32 → MS → Prop} (h : M_legal_VC S post) : M_legal S post := by
  intro l D dA o sz
  refine mr_start (fun A => va_Qi post (mB D dA o A) A) rfl (Nat.le_of_ble_eq_true rfl) (by decide) ?_
  intro p e s m args below meth c ls A C w hl
  have hl : lv_has ls 3 [(0, .ref (o 0))] := hl
  have h := h (fun (x1 : Int32) S => ∀ (H : Heap) (locs : List Loc) (ls : Array Slot), lv_has ls 3 [(0, .ref (o 0)), (1, .int x1)] → mw D dA o A s S H locs → W p l e rM_legal s m args below meth c H locs 0 0 (mQi below args s D dA o A post) (F0 m 2 ls [])) (fun (x1 : Int32) (x2 : Int32) S => ∀ (H : Heap) (locs : List Loc) (ls : Array Slot), lv_has ls 3 [(0, .ref (o 0)), (1, .int x1), (2, .int x2)] → mw D dA o A s S H locs → W p l e rM_legal s m args below meth c H locs 0 0 (mQi below args s D dA o A post) (F0 m 14 ls [])) (fun (x1 : Int32) (x2 : Int32) S => ∀ (H : Heap) (locs : List Loc) (ls : Array Slot), lv_has ls 3 [(0, .ref (o 0)), (1, .int x1), (2, .int x2)] → mw D dA o A s S H locs → W p l e rM_legal s m args below meth c H locs 0 0 (mQi below args s D dA o A post) (F0 m 98 ls [])) (fun _ S h H locs ls hl w => M_legal_a2 C (fun _ _ h => h) (fun _ _ _ h => h) (fun _ _ _ h => h) h hl w) (fun _ _ S h H locs ls hl w => M_legal_a14 C (fun _ _ h => h) (fun _ _ _ h => h) (fun _ _ _ h => h) h hl w) (fun _ _ S h H locs ls hl w => M_legal_a98 C (fun _ _ h => h) (fun _ _ _ h => h) (fun _ _ _ h => h) h hl w)
  exact M_legal_a0 C (fun _ _ h => h) (fun _ _ _ h => h) (fun _ _ _ h => h) h (lv_sub hl [0] rfl) w
