/-! hasOneKind(I)Z -/
def M_hasOneKind_w44 (post : Int32 → MS → Prop) (T4 : Int32 → Int32 → Int32 → MS → Prop) (v0 : Int32) (x1 : Int32) (x3 : Int32) (S : MS) : Prop :=
  T4 x1 v0 (x3 + (1 : Int32)) S
set_option maxHeartbeats 4000000 in
set_option maxRecDepth 100000 in
theorem M_hasOneKind_a44 {p : Program} {l : Launch} {e : Env} {s : State} {m : MethodId} {args : Array Value} {below : List Frame} {meth : Method} {c : Code} {D : va_G} {dA : Nat → ClassId} {o : Nat → Nat} {A : Nat → Prop} {post : Int32 → MS → Prop} {T4 : Int32 → Int32 → Int32 → MS → Prop} (C : mC p m c cX5_hasOneKind 5 s args meth (Option.some Jvm.ClassFile.FieldType.boolean) A) (hT4 : ∀ (x1 : Int32) (x2 : Int32) (x3 : Int32) (S : MS), T4 x1 x2 x3 S → ∀ (H : Heap) (locs : List Loc) (ls : Array Slot), lv_has ls 5 [(0, .ref (o 0)), (1, .int x1), (2, .int x2), (3, .int x3)] → mw D dA o A s S H locs → W p l e rM_hasOneKind s m args below meth c H locs 0 0 (mQi below args s D dA o A post) (F0 m 4 ls [])) {v0 : Int32} {x1 : Int32} {x3 : Int32} {S : MS} (h : M_hasOneKind_w44 post T4 v0 x1 x3 S) {H : Heap} {locs : List Loc} {ls : Array Slot} (hl : lv_has ls 5 [(0, .ref (o 0)), (1, .int x1), (3, .int x3)]) (w : mw D dA o A s S H locs) : W p l e rM_hasOneKind s m args below meth c H locs 0 0 (mQi below args s D dA o A post) (F0 m 44 ls [.int v0]) := by
  unfold M_hasOneKind_w44 at h
  obtain ⟨⟨hx, hb, hml, hown, hts⟩, hr, hlk, hA⟩ := id C
  refine lv_istore_n (lv' := [(2, .int _), (0, .ref _), (1, .int _), (3, .int _)]) hx hb dX5_hasOneKind_44 rfl hl (by decide) rfl (fun ls hl => ?_)
  refine lv_iinc (v := _ + (1 : Int32)) (lv' := [(3, .int _), (2, .int _), (0, .ref _), (1, .int _)]) hx hb dX5_hasOneKind_45 hl (k := 3) rfl rfl (by decide) rfl (fun ls hl => ?_)
  refine lv_goto (tgt := 4) hx hb dX5_hasOneKind_48 (by decide) ?_
  exact hT4 _ _ _ _ h _ _ _ (lv_sub hl [2, 3, 1, 0] rfl) w
def M_hasOneKind_w43 (post : Int32 → MS → Prop) (T4 : Int32 → Int32 → Int32 → MS → Prop) (x1 : Int32) (x3 : Int32) (S : MS) : Prop :=
  M_hasOneKind_w44 post T4 (0 : Int32) x1 x3 S
set_option maxHeartbeats 4000000 in
set_option maxRecDepth 100000 in
theorem M_hasOneKind_a43 {p : Program} {l : Launch} {e : Env} {s : State} {m : MethodId} {args : Array Value} {below : List Frame} {meth : Method} {c : Code} {D : va_G} {dA : Nat → ClassId} {o : Nat → Nat} {A : Nat → Prop} {post : Int32 → MS → Prop} {T4 : Int32 → Int32 → Int32 → MS → Prop} (C : mC p m c cX5_hasOneKind 5 s args meth (Option.some Jvm.ClassFile.FieldType.boolean) A) (hT4 : ∀ (x1 : Int32) (x2 : Int32) (x3 : Int32) (S : MS), T4 x1 x2 x3 S → ∀ (H : Heap) (locs : List Loc) (ls : Array Slot), lv_has ls 5 [(0, .ref (o 0)), (1, .int x1), (2, .int x2), (3, .int x3)] → mw D dA o A s S H locs → W p l e rM_hasOneKind s m args below meth c H locs 0 0 (mQi below args s D dA o A post) (F0 m 4 ls [])) {x1 : Int32} {x3 : Int32} {S : MS} (h : M_hasOneKind_w43 post T4 x1 x3 S) {H : Heap} {locs : List Loc} {ls : Array Slot} (hl : lv_has ls 5 [(0, .ref (o 0)), (1, .int x1), (3, .int x3)]) (w : mw D dA o A s S H locs) : W p l e rM_hasOneKind s m args below meth c H locs 0 0 (mQi below args s D dA o A post) (F0 m 43 ls []) := by
  unfold M_hasOneKind_w43 at h
  obtain ⟨⟨hx, hb, hml, hown, hts⟩, hr, hlk, hA⟩ := id C
  refine lv_iconst (v := 0) hx hb dX5_hasOneKind_43 (by decide) ?_
  exact M_hasOneKind_a44 C hT4 h (lv_sub hl [0, 1, 2] rfl) w
def M_hasOneKind_w4 (post : Int32 → MS → Prop) (T4 : Int32 → Int32 → Int32 → MS → Prop) (x1 : Int32) (x2 : Int32) (x3 : Int32) (S : MS) : Prop :=
  (((gF S 0) ≤ x3 → (zok x2 ∧ post x2 S)) ∧ (¬ (gF S 0) ≤ x3 → ((x2 = 0 → M_hasOneKind_w43 post T4 x1 x3 S) ∧ (¬ x2 = 0 → ((¬ (((x1 >>> ((((7 : Int32) * x3) + (4 : Int32)) &&& 31)) &&& (7 : Int32)) &&& (((x1 >>> ((((7 : Int32) * x3) + (4 : Int32)) &&& 31)) &&& (7 : Int32)) - (1 : Int32))) = 0 → M_hasOneKind_w43 post T4 x1 x3 S) ∧ ((((x1 >>> ((((7 : Int32) * x3) + (4 : Int32)) &&& 31)) &&& (7 : Int32)) &&& (((x1 >>> ((((7 : Int32) * x3) + (4 : Int32)) &&& 31)) &&& (7 : Int32)) - (1 : Int32))) = 0 → M_hasOneKind_w44 post T4 (1 : Int32) x1 x3 S))))))
set_option maxHeartbeats 4000000 in
set_option maxRecDepth 100000 in
theorem M_hasOneKind_a4 {p : Program} {l : Launch} {e : Env} {s : State} {m : MethodId} {args : Array Value} {below : List Frame} {meth : Method} {c : Code} {D : va_G} {dA : Nat → ClassId} {o : Nat → Nat} {A : Nat → Prop} {post : Int32 → MS → Prop} {T4 : Int32 → Int32 → Int32 → MS → Prop} (C : mC p m c cX5_hasOneKind 5 s args meth (Option.some Jvm.ClassFile.FieldType.boolean) A) (hT4 : ∀ (x1 : Int32) (x2 : Int32) (x3 : Int32) (S : MS), T4 x1 x2 x3 S → ∀ (H : Heap) (locs : List Loc) (ls : Array Slot), lv_has ls 5 [(0, .ref (o 0)), (1, .int x1), (2, .int x2), (3, .int x3)] → mw D dA o A s S H locs → W p l e rM_hasOneKind s m args below meth c H locs 0 0 (mQi below args s D dA o A post) (F0 m 4 ls [])) {x1 : Int32} {x2 : Int32} {x3 : Int32} {S : MS} (h : M_hasOneKind_w4 post T4 x1 x2 x3 S) {H : Heap} {locs : List Loc} {ls : Array Slot} (hl : lv_has ls 5 [(0, .ref (o 0)), (1, .int x1), (2, .int x2), (3, .int x3)]) (w : mw D dA o A s S H locs) : W p l e rM_hasOneKind s m args below meth c H locs 0 0 (mQi below args s D dA o A post) (F0 m 4 ls []) := by
  unfold M_hasOneKind_w4 at h
  obtain ⟨⟨hx, hb, hml, hown, hts⟩, hr, hlk, hA⟩ := id C
  refine lv_iload_n hx hb dX5_hasOneKind_4 rfl (lv_at hl 3 rfl) ?_
  refine lv_aload_n hx hb dX5_hasOneKind_5 rfl (lv_at hl 0 rfl) ?_
  refine mr_get C w 0 (by decide) q577 rfl rfl dX5_hasOneKind_6 ?_
  obtain ⟨h1, h2⟩ := h
  refine lv_icmp_ge (tgt := 51) hx hb dX5_hasOneKind_9 (by decide) (fun c1 => ?_) (fun c1 => ?_)
  · have h := h1 c1
    refine lv_iload_n hx hb dX5_hasOneKind_51 rfl (lv_at hl 2 rfl) ?_
    exact mr_zret C w (zok_n h.1) h.2 dX5_hasOneKind_52
  · have h := h2 c1
    refine lv_iload_n hx hb dX5_hasOneKind_12 rfl (lv_at hl 1 rfl) ?_
    refine lv_bipush (v := 7) hx hb dX5_hasOneKind_13 (by decide) ?_
    refine lv_iload_n hx hb dX5_hasOneKind_15 rfl (lv_at hl 3 rfl) ?_
    refine lv_imul hx hb dX5_hasOneKind_16 ?_
    refine lv_iconst (v := 4) hx hb dX5_hasOneKind_17 (by decide) ?_
    refine lv_iadd hx hb dX5_hasOneKind_18 ?_
    refine lv_ishr hx hb dX5_hasOneKind_19 ?_
    refine lv_bipush (v := 7) hx hb dX5_hasOneKind_20 (by decide) ?_
    refine lv_iand hx hb dX5_hasOneKind_22 ?_
    refine lv_istore (lv' := [(4, .int _), (0, .ref _), (1, .int _), (2, .int _), (3, .int _)]) hx hb dX5_hasOneKind_23 hl (by decide) rfl (fun ls hl => ?_)
    refine lv_iload_n hx hb dX5_hasOneKind_25 rfl (lv_at hl 3 rfl) ?_
    obtain ⟨h1, h2⟩ := h
    refine lv_if_eq (tgt := 43) hx hb dX5_hasOneKind_26 (by decide) (fun c1 => ?_) (fun c1 => ?_)
    · have h := h1 c1
      exact M_hasOneKind_a43 C hT4 h (lv_sub hl [1, 2, 4] rfl) w
    · have h := h2 c1
      refine lv_iload hx hb dX5_hasOneKind_29 (lv_at hl 0 rfl) ?_
      refine lv_iload hx hb dX5_hasOneKind_31 (lv_at hl 0 rfl) ?_
      refine lv_iconst (v := 1) hx hb dX5_hasOneKind_33 (by decide) ?_
      refine lv_isub hx hb dX5_hasOneKind_34 ?_
      refine lv_iand hx hb dX5_hasOneKind_35 ?_
      obtain ⟨h1, h2⟩ := h
      refine lv_if_ne (tgt := 43) hx hb dX5_hasOneKind_36 (by decide) (fun c1 => ?_) (fun c1 => ?_)
      · have h := h1 c1
        exact M_hasOneKind_a43 C hT4 h (lv_sub hl [1, 2, 4] rfl) w
      · have h := h2 c1
        refine lv_iconst (v := 1) hx hb dX5_hasOneKind_39 (by decide) ?_
        refine lv_goto (tgt := 44) hx hb dX5_hasOneKind_40 (by decide) ?_
        exact M_hasOneKind_a44 C hT4 h (lv_sub hl [1, 2, 4] rfl) w
def M_hasOneKind_w0 (post : Int32 → MS → Prop) (T4 : Int32 → Int32 → Int32 → MS → Prop) (x1 : Int32) (S : MS) : Prop :=
  T4 x1 (1 : Int32) (0 : Int32) S
set_option maxHeartbeats 4000000 in
set_option maxRecDepth 100000 in
theorem M_hasOneKind_a0 {p : Program} {l : Launch} {e : Env} {s : State} {m : MethodId} {args : Array Value} {below : List Frame} {meth : Method} {c : Code} {D : va_G} {dA : Nat → ClassId} {o : Nat → Nat} {A : Nat → Prop} {post : Int32 → MS → Prop} {T4 : Int32 → Int32 → Int32 → MS → Prop} (C : mC p m c cX5_hasOneKind 5 s args meth (Option.some Jvm.ClassFile.FieldType.boolean) A) (hT4 : ∀ (x1 : Int32) (x2 : Int32) (x3 : Int32) (S : MS), T4 x1 x2 x3 S → ∀ (H : Heap) (locs : List Loc) (ls : Array Slot), lv_has ls 5 [(0, .ref (o 0)), (1, .int x1), (2, .int x2), (3, .int x3)] → mw D dA o A s S H locs → W p l e rM_hasOneKind s m args below meth c H locs 0 0 (mQi below args s D dA o A post) (F0 m 4 ls [])) {x1 : Int32} {S : MS} (h : M_hasOneKind_w0 post T4 x1 S) {H : Heap} {locs : List Loc} {ls : Array Slot} (hl : lv_has ls 5 [(0, .ref (o 0)), (1, .int x1)]) (w : mw D dA o A s S H locs) : W p l e rM_hasOneKind s m args below meth c H locs 0 0 (mQi below args s D dA o A post) (F0 m 0 ls []) := by
  unfold M_hasOneKind_w0 at h
  obtain ⟨⟨hx, hb, hml, hown, hts⟩, hr, hlk, hA⟩ := id C
  refine lv_iconst (v := 1) hx hb dX5_hasOneKind_0 (by decide) ?_
  refine lv_istore_n (lv' := [(2, .int _), (0, .ref _), (1, .int _)]) hx hb dX5_hasOneKind_1 rfl hl (by decide) rfl (fun ls hl => ?_)
  refine lv_iconst (v := 0) hx hb dX5_hasOneKind_2 (by decide) ?_
  refine lv_istore_n (lv' := [(3, .int _), (2, .int _), (0, .ref _), (1, .int _)]) hx hb dX5_hasOneKind_3 rfl hl (by decide) rfl (fun ls hl => ?_)
  exact hT4 _ _ _ _ h _ _ _ (lv_sub hl [2, 3, 1, 0] rfl) w
def M_hasOneKind_VC (x1 : Int32) (S : MS) (post : Int32 → MS → Prop) : Prop := ∀ (T4 : Int32 → Int32 → Int32 → MS → Prop), (∀ (x1 : Int32) (x2 : Int32) (x3 : Int32) (S : MS), M_hasOneKind_w4 post T4 x1 x2 x3 S → T4 x1 x2 x3 S) → M_hasOneKind_w0 post T4 x1 S
theorem M_hasOneKind_ok {x1 : Int32} {S : MS} {post : Int32 → MS → Prop} (h : M_hasOneKind_VC x1 S post) : M_hasOneKind x1 S post := by
  intro l D dA o sz
  refine mr_start (fun A => va_Qi post (mB D dA o A) A) rfl (Nat.le_of_ble_eq_true rfl) (by decide) ?_
  intro p e s m args below meth c ls A C w hl
  have hl : lv_has ls 5 [(0, .ref (o 0)), (1, .int x1)] := hl
  have h := h (fun (x1 : Int32) (x2 : Int32) (x3 : Int32) S => ∀ (H : Heap) (locs : List Loc) (ls : Array Slot), lv_has ls 5 [(0, .ref (o 0)), (1, .int x1), (2, .int x2), (3, .int x3)] → mw D dA o A s S H locs → W p l e rM_hasOneKind s m args below meth c H locs 0 0 (mQi below args s D dA o A post) (F0 m 4 ls [])) (fun _ _ _ S h H locs ls hl w => M_hasOneKind_a4 C (fun _ _ _ _ h => h) h hl w)
  exact M_hasOneKind_a0 C (fun _ _ _ _ h => h) h (lv_sub hl [0, 1] rfl) w

/-! areBeside(III)Z -/
def M_areBeside_w58 (post : Int32 → MS → Prop) (T6 : Int32 → Int32 → Int32 → Int32 → Int32 → MS → Prop) (x4 : Int32) (S : MS) : Prop :=
  (zok x4 ∧ post x4 S)
set_option maxHeartbeats 4000000 in
set_option maxRecDepth 100000 in
theorem M_areBeside_a58 {p : Program} {l : Launch} {e : Env} {s : State} {m : MethodId} {args : Array Value} {below : List Frame} {meth : Method} {c : Code} {D : va_G} {dA : Nat → ClassId} {o : Nat → Nat} {A : Nat → Prop} {post : Int32 → MS → Prop} {T6 : Int32 → Int32 → Int32 → Int32 → Int32 → MS → Prop} (C : mC p m c cX5_areBeside 6 s args meth (Option.some Jvm.ClassFile.FieldType.boolean) A) (hT6 : ∀ (x1 : Int32) (x2 : Int32) (x3 : Int32) (x4 : Int32) (x5 : Int32) (S : MS), T6 x1 x2 x3 x4 x5 S → ∀ (H : Heap) (locs : List Loc) (ls : Array Slot), lv_has ls 6 [(0, .ref (o 0)), (1, .int x1), (2, .int x2), (3, .int x3), (4, .int x4), (5, .int x5)] → mw D dA o A s S H locs → W p l e rM_areBeside s m args below meth c H locs 0 0 (mQi below args s D dA o A post) (F0 m 6 ls [])) {x4 : Int32} {S : MS} (h : M_areBeside_w58 post T6 x4 S) {H : Heap} {locs : List Loc} {ls : Array Slot} (hl : lv_has ls 6 [(0, .ref (o 0)), (4, .int x4)]) (w : mw D dA o A s S H locs) : W p l e rM_areBeside s m args below meth c H locs 0 0 (mQi below args s D dA o A post) (F0 m 58 ls []) := by
  unfold M_areBeside_w58 at h
  obtain ⟨⟨hx, hb, hml, hown, hts⟩, hr, hlk, hA⟩ := id C
  refine lv_iload hx hb dX5_areBeside_58 (lv_at hl 1 rfl) ?_
  exact mr_zret C w (zok_n h.1) h.2 dX5_areBeside_60
def M_areBeside_w50 (post : Int32 → MS → Prop) (T6 : Int32 → Int32 → Int32 → Int32 → Int32 → MS → Prop) (v0 : Int32) (x1 : Int32) (x2 : Int32) (x3 : Int32) (x5 : Int32) (S : MS) : Prop :=
  T6 x1 x2 x3 v0 (x5 + (1 : Int32)) S
set_option maxHeartbeats 4000000 in
set_option maxRecDepth 100000 in
theorem M_areBeside_a50 {p : Program} {l : Launch} {e : Env} {s : State} {m : MethodId} {args : Array Value} {below : List Frame} {meth : Method} {c : Code} {D : va_G} {dA : Nat → ClassId} {o : Nat → Nat} {A : Nat → Prop} {post : Int32 → MS → Prop} {T6 : Int32 → Int32 → Int32 → Int32 → Int32 → MS → Prop} (C : mC p m c cX5_areBeside 6 s args meth (Option.some Jvm.ClassFile.FieldType.boolean) A) (hT6 : ∀ (x1 : Int32) (x2 : Int32) (x3 : Int32) (x4 : Int32) (x5 : Int32) (S : MS), T6 x1 x2 x3 x4 x5 S → ∀ (H : Heap) (locs : List Loc) (ls : Array Slot), lv_has ls 6 [(0, .ref (o 0)), (1, .int x1), (2, .int x2), (3, .int x3), (4, .int x4), (5, .int x5)] → mw D dA o A s S H locs → W p l e rM_areBeside s m args below meth c H locs 0 0 (mQi below args s D dA o A post) (F0 m 6 ls [])) {v0 : Int32} {x1 : Int32} {x2 : Int32} {x3 : Int32} {x5 : Int32} {S : MS} (h : M_areBeside_w50 post T6 v0 x1 x2 x3 x5 S) {H : Heap} {locs : List Loc} {ls : Array Slot} (hl : lv_has ls 6 [(0, .ref (o 0)), (1, .int x1), (2, .int x2), (3, .int x3), (5, .int x5)]) (w : mw D dA o A s S H locs) : W p l e rM_areBeside s m args below meth c H locs 0 0 (mQi below args s D dA o A post) (F0 m 50 ls [.int v0]) := by
  unfold M_areBeside_w50 at h
  obtain ⟨⟨hx, hb, hml, hown, hts⟩, hr, hlk, hA⟩ := id C
  refine lv_istore (lv' := [(4, .int _), (0, .ref _), (1, .int _), (2, .int _), (3, .int _), (5, .int _)]) hx hb dX5_areBeside_50 hl (by decide) rfl (fun ls hl => ?_)
  refine lv_iinc (v := _ + (1 : Int32)) (lv' := [(5, .int _), (4, .int _), (0, .ref _), (1, .int _), (2, .int _), (3, .int _)]) hx hb dX5_areBeside_52 hl (k := 5) rfl rfl (by decide) rfl (fun ls hl => ?_)
  refine lv_goto (tgt := 6) hx hb dX5_areBeside_55 (by decide) ?_
  exact hT6 _ _ _ _ _ _ h _ _ _ (lv_sub hl [2, 3, 4, 5, 1, 0] rfl) w
def M_areBeside_w45 (post : Int32 → MS → Prop) (T6 : Int32 → Int32 → Int32 → Int32 → Int32 → MS → Prop) (x1 : Int32) (x2 : Int32) (x3 : Int32) (x5 : Int32) (S : MS) : Prop :=
  M_areBeside_w50 post T6 (1 : Int32) x1 x2 x3 x5 S
set_option maxHeartbeats 4000000 in
set_option maxRecDepth 100000 in
theorem M_areBeside_a45 {p : Program} {l : Launch} {e : Env} {s : State} {m : MethodId} {args : Array Value} {below : List Frame} {meth : Method} {c : Code} {D : va_G} {dA : Nat → ClassId} {o : Nat → Nat} {A : Nat → Prop} {post : Int32 → MS → Prop} {T6 : Int32 → Int32 → Int32 → Int32 → Int32 → MS → Prop} (C : mC p m c cX5_areBeside 6 s args meth (Option.some Jvm.ClassFile.FieldType.boolean) A) (hT6 : ∀ (x1 : Int32) (x2 : Int32) (x3 : Int32) (x4 : Int32) (x5 : Int32) (S : MS), T6 x1 x2 x3 x4 x5 S → ∀ (H : Heap) (locs : List Loc) (ls : Array Slot), lv_has ls 6 [(0, .ref (o 0)), (1, .int x1), (2, .int x2), (3, .int x3), (4, .int x4), (5, .int x5)] → mw D dA o A s S H locs → W p l e rM_areBeside s m args below meth c H locs 0 0 (mQi below args s D dA o A post) (F0 m 6 ls [])) {x1 : Int32} {x2 : Int32} {x3 : Int32} {x5 : Int32} {S : MS} (h : M_areBeside_w45 post T6 x1 x2 x3 x5 S) {H : Heap} {locs : List Loc} {ls : Array Slot} (hl : lv_has ls 6 [(0, .ref (o 0)), (1, .int x1), (2, .int x2), (3, .int x3), (5, .int x5)]) (w : mw D dA o A s S H locs) : W p l e rM_areBeside s m args below meth c H locs 0 0 (mQi below args s D dA o A post) (F0 m 45 ls []) := by
  unfold M_areBeside_w45 at h
  obtain ⟨⟨hx, hb, hml, hown, hts⟩, hr, hlk, hA⟩ := id C
  refine lv_iconst (v := 1) hx hb dX5_areBeside_45 (by decide) ?_
  refine lv_goto (tgt := 50) hx hb dX5_areBeside_46 (by decide) ?_
  exact M_areBeside_a50 C hT6 h (lv_sub hl [0, 1, 2, 3, 4] rfl) w
def M_areBeside_w6 (post : Int32 → MS → Prop) (T6 : Int32 → Int32 → Int32 → Int32 → Int32 → MS → Prop) (x1 : Int32) (x2 : Int32) (x3 : Int32) (x4 : Int32) (x5 : Int32) (S : MS) : Prop :=
  (((gF S 14) ≤ x5 → M_areBeside_w58 post T6 x4 S) ∧ (¬ (gF S 14) ≤ x5 → ((x4 = 0 → M_areBeside_w58 post T6 x4 S) ∧ (¬ x4 = 0 → ((x5 = x1 → M_areBeside_w45 post T6 x1 x2 x3 x5 S) ∧ (¬ x5 = x1 → ((x5 = x2 → M_areBeside_w45 post T6 x1 x2 x3 x5 S) ∧ (¬ x5 = x2 → M_supportOf x5 S (fun (r1 : Int32) (S1 : MS) => (((r1 &&& (x3 ^^^ (-1 : Int32))) = 0 → M_areBeside_w50 post T6 (0 : Int32) x1 x2 x3 x5 S1) ∧ (¬ (r1 &&& (x3 ^^^ (-1 : Int32))) = 0 → M_areBeside_w45 post T6 x1 x2 x3 x5 S1)))))))))))
set_option maxHeartbeats 4000000 in
set_option maxRecDepth 100000 in
theorem M_areBeside_a6 {p : Program} {l : Launch} {e : Env} {s : State} {m : MethodId} {args : Array Value} {below : List Frame} {meth : Method} {c : Code} {D : va_G} {dA : Nat → ClassId} {o : Nat → Nat} {A : Nat → Prop} {post : Int32 → MS → Prop} {T6 : Int32 → Int32 → Int32 → Int32 → Int32 → MS → Prop} (C : mC p m c cX5_areBeside 6 s args meth (Option.some Jvm.ClassFile.FieldType.boolean) A) (hT6 : ∀ (x1 : Int32) (x2 : Int32) (x3 : Int32) (x4 : Int32) (x5 : Int32) (S : MS), T6 x1 x2 x3 x4 x5 S → ∀ (H : Heap) (locs : List Loc) (ls : Array Slot), lv_has ls 6 [(0, .ref (o 0)), (1, .int x1), (2, .int x2), (3, .int x3), (4, .int x4), (5, .int x5)] → mw D dA o A s S H locs → W p l e rM_areBeside s m args below meth c H locs 0 0 (mQi below args s D dA o A post) (F0 m 6 ls [])) {x1 : Int32} {x2 : Int32} {x3 : Int32} {x4 : Int32} {x5 : Int32} {S : MS} (h : M_areBeside_w6 post T6 x1 x2 x3 x4 x5 S) {H : Heap} {locs : List Loc} {ls : Array Slot} (hl : lv_has ls 6 [(0, .ref (o 0)), (1, .int x1), (2, .int x2), (3, .int x3), (4, .int x4), (5, .int x5)]) (w : mw D dA o A s S H locs) : W p l e rM_areBeside s m args below meth c H locs 0 0 (mQi below args s D dA o A post) (F0 m 6 ls []) := by
  unfold M_areBeside_w6 at h
  obtain ⟨⟨hx, hb, hml, hown, hts⟩, hr, hlk, hA⟩ := id C
  refine lv_iload hx hb dX5_areBeside_6 (lv_at hl 5 rfl) ?_
  refine lv_aload_n hx hb dX5_areBeside_8 rfl (lv_at hl 0 rfl) ?_
  refine mr_get C w 14 (by decide) q591 rfl rfl dX5_areBeside_9 ?_
  obtain ⟨h1, h2⟩ := h
  refine lv_icmp_ge (tgt := 58) hx hb dX5_areBeside_12 (by decide) (fun c1 => ?_) (fun c1 => ?_)
  · have h := h1 c1
    exact M_areBeside_a58 C hT6 h (lv_sub hl [0, 4] rfl) w
  · have h := h2 c1
    refine lv_iload hx hb dX5_areBeside_15 (lv_at hl 4 rfl) ?_
    obtain ⟨h1, h2⟩ := h
    refine lv_if_eq (tgt := 58) hx hb dX5_areBeside_17 (by decide) (fun c1 => ?_) (fun c1 => ?_)
    · have h := h1 c1
      exact M_areBeside_a58 C hT6 h (lv_sub hl [0, 4] rfl) w
    · have h := h2 c1
      refine lv_iload hx hb dX5_areBeside_20 (lv_at hl 5 rfl) ?_
      refine lv_iload_n hx hb dX5_areBeside_22 rfl (lv_at hl 1 rfl) ?_
      obtain ⟨h1, h2⟩ := h
      refine lv_icmp_eq (tgt := 45) hx hb dX5_areBeside_23 (by decide) (fun c1 => ?_) (fun c1 => ?_)
      · have h := h1 c1
        exact M_areBeside_a45 C hT6 h (lv_sub hl [0, 1, 2, 3, 5] rfl) w
      · have h := h2 c1
        refine lv_iload hx hb dX5_areBeside_26 (lv_at hl 5 rfl) ?_
        refine lv_iload_n hx hb dX5_areBeside_28 rfl (lv_at hl 2 rfl) ?_
        obtain ⟨h1, h2⟩ := h
        refine lv_icmp_eq (tgt := 45) hx hb dX5_areBeside_29 (by decide) (fun c1 => ?_) (fun c1 => ?_)
        · have h := h1 c1
          exact M_areBeside_a45 C hT6 h (lv_sub hl [0, 1, 2, 3, 5] rfl) w
        · have h := h2 c1
          refine lv_aload_n hx hb dX5_areBeside_32 rfl (lv_at hl 0 rfl) ?_
          refine lv_iload hx hb dX5_areBeside_33 (lv_at hl 5 rfl) ?_
          refine mr_callVI (rest := []) C w h (lw_V q846 q848 qs67 q87 q849) M_supportOf_d rfl rfl ⟨Nat.le_of_ble_eq_true rfl, Nat.le_of_ble_eq_true rfl⟩ rfl hl.1 rfl (Nat.le_of_ble_eq_true rfl) ⟨Nat.zero_le _, Nat.zero_le _⟩ dX5_areBeside_35 (fun r1 S1 H locs h w => ?_)
          refine lv_iload_n hx hb dX5_areBeside_38 rfl (lv_at hl 3 rfl) ?_
          refine lv_iconst (v := -1) hx hb dX5_areBeside_39 (by decide) ?_
          refine lv_ixor hx hb dX5_areBeside_40 ?_
          refine lv_iand hx hb dX5_areBeside_41 ?_
          obtain ⟨h1, h2⟩ := h
          refine lv_if_eq (tgt := 49) hx hb dX5_areBeside_42 (by decide) (fun c1 => ?_) (fun c1 => ?_)
          · have h := h1 c1
            refine lv_iconst (v := 0) hx hb dX5_areBeside_49 (by decide) ?_
            exact M_areBeside_a50 C hT6 h (lv_sub hl [0, 1, 2, 3, 5] rfl) w
          · have h := h2 c1
            exact M_areBeside_a45 C hT6 h (lv_sub hl [0, 1, 2, 3, 5] rfl) w
def M_areBeside_w0 (post : Int32 → MS → Prop) (T6 : Int32 → Int32 → Int32 → Int32 → Int32 → MS → Prop) (x1 : Int32) (x2 : Int32) (x3 : Int32) (S : MS) : Prop :=
  T6 x1 x2 x3 (1 : Int32) (0 : Int32) S
set_option maxHeartbeats 4000000 in
set_option maxRecDepth 100000 in
theorem M_areBeside_a0 {p : Program} {l : Launch} {e : Env} {s : State} {m : MethodId} {args : Array Value} {below : List Frame} {meth : Method} {c : Code} {D : va_G} {dA : Nat → ClassId} {o : Nat → Nat} {A : Nat → Prop} {post : Int32 → MS → Prop} {T6 : Int32 → Int32 → Int32 → Int32 → Int32 → MS → Prop} (C : mC p m c cX5_areBeside 6 s args meth (Option.some Jvm.ClassFile.FieldType.boolean) A) (hT6 : ∀ (x1 : Int32) (x2 : Int32) (x3 : Int32) (x4 : Int32) (x5 : Int32) (S : MS), T6 x1 x2 x3 x4 x5 S → ∀ (H : Heap) (locs : List Loc) (ls : Array Slot), lv_has ls 6 [(0, .ref (o 0)), (1, .int x1), (2, .int x2), (3, .int x3), (4, .int x4), (5, .int x5)] → mw D dA o A s S H locs → W p l e rM_areBeside s m args below meth c H locs 0 0 (mQi below args s D dA o A post) (F0 m 6 ls [])) {x1 : Int32} {x2 : Int32} {x3 : Int32} {S : MS} (h : M_areBeside_w0 post T6 x1 x2 x3 S) {H : Heap} {locs : List Loc} {ls : Array Slot} (hl : lv_has ls 6 [(0, .ref (o 0)), (1, .int x1), (2, .int x2), (3, .int x3)]) (w : mw D dA o A s S H locs) : W p l e rM_areBeside s m args below meth c H locs 0 0 (mQi below args s D dA o A post) (F0 m 0 ls []) := by
  unfold M_areBeside_w0 at h
  obtain ⟨⟨hx, hb, hml, hown, hts⟩, hr, hlk, hA⟩ := id C
  refine lv_iconst (v := 1) hx hb dX5_areBeside_0 (by decide) ?_
  refine lv_istore (lv' := [(4, .int _), (0, .ref _), (1, .int _), (2, .int _), (3, .int _)]) hx hb dX5_areBeside_1 hl (by decide) rfl (fun ls hl => ?_)
  refine lv_iconst (v := 0) hx hb dX5_areBeside_3 (by decide) ?_
  refine lv_istore (lv' := [(5, .int _), (4, .int _), (0, .ref _), (1, .int _), (2, .int _), (3, .int _)]) hx hb dX5_areBeside_4 hl (by decide) rfl (fun ls hl => ?_)
  exact hT6 _ _ _ _ _ _ h _ _ _ (lv_sub hl [2, 3, 4, 5, 1, 0] rfl) w
def M_areBeside_VC (x1 : Int32) (x2 : Int32) (x3 : Int32) (S : MS) (post : Int32 → MS → Prop) : Prop := ∀ (T6 : Int32 → Int32 → Int32 → Int32 → Int32 → MS → Prop), (∀ (x1 : Int32) (x2 : Int32) (x3 : Int32) (x4 : Int32) (x5 : Int32) (S : MS), M_areBeside_w6 post T6 x1 x2 x3 x4 x5 S → T6 x1 x2 x3 x4 x5 S) → M_areBeside_w0 post T6 x1 x2 x3 S
theorem M_areBeside_ok {x1 : Int32} {x2 : Int32} {x3 : Int32} {S : MS} {post : Int32 → MS → Prop} (h : M_areBeside_VC x1 x2 x3 S post) : M_areBeside x1 x2 x3 S post := by
  intro l D dA o sz
  refine mr_start (fun A => va_Qi post (mB D dA o A) A) rfl (Nat.le_of_ble_eq_true rfl) (by decide) ?_
  intro p e s m args below meth c ls A C w hl
  have hl : lv_has ls 6 [(0, .ref (o 0)), (1, .int x1), (2, .int x2), (3, .int x3)] := hl
  have h := h (fun (x1 : Int32) (x2 : Int32) (x3 : Int32) (x4 : Int32) (x5 : Int32) S => ∀ (H : Heap) (locs : List Loc) (ls : Array Slot), lv_has ls 6 [(0, .ref (o 0)), (1, .int x1), (2, .int x2), (3, .int x3), (4, .int x4), (5, .int x5)] → mw D dA o A s S H locs → W p l e rM_areBeside s m args below meth c H locs 0 0 (mQi below args s D dA o A post) (F0 m 6 ls [])) (fun _ _ _ _ _ S h H locs ls hl w => M_areBeside_a6 C (fun _ _ _ _ _ _ h => h) h hl w)
  exact M_areBeside_a0 C (fun _ _ _ _ _ _ h => h) h (lv_sub hl [0, 1, 2, 3] rfl) w

/-! divisor(II)I -/
def M_divisor_w4 (post : Int32 → MS → Prop) (T4 : Int32 → Int32 → MS → Prop) (x2 : Int32) (x3 : Int32) (S : MS) : Prop :=
  ((x3 = 0 → post x2 S) ∧ (¬ x3 = 0 → (¬ x3 = 0 ∧ T4 x3 (x2 - x2 / x3 * x3) S)))
set_option maxHeartbeats 4000000 in
set_option maxRecDepth 100000 in
theorem M_divisor_a4 {p : Program} {l : Launch} {e : Env} {s : State} {m : MethodId} {args : Array Value} {below : List Frame} {meth : Method} {c : Code} {D : va_G} {dA : Nat → ClassId} {o : Nat → Nat} {A : Nat → Prop} {post : Int32 → MS → Prop} {T4 : Int32 → Int32 → MS → Prop} (C : mC p m c cX5_divisor 5 s args meth (Option.some Jvm.ClassFile.FieldType.int) A) (hT4 : ∀ (x2 : Int32) (x3 : Int32) (S : MS), T4 x2 x3 S → ∀ (H : Heap) (locs : List Loc) (ls : Array Slot), lv_has ls 5 [(2, .int x2), (3, .int x3)] → mw D dA o A s S H locs → W p l e rM_divisor s m args below meth c H locs 0 0 (mQi below args s D dA o A post) (F0 m 4 ls [])) {x2 : Int32} {x3 : Int32} {S : MS} (h : M_divisor_w4 post T4 x2 x3 S) {H : Heap} {locs : List Loc} {ls : Array Slot} (hl : lv_has ls 5 [(2, .int x2), (3, .int x3)]) (w : mw D dA o A s S H locs) : W p l e rM_divisor s m args below meth c H locs 0 0 (mQi below args s D dA o A post) (F0 m 4 ls []) := by
  unfold M_divisor_w4 at h
  obtain ⟨⟨hx, hb, hml, hown, hts⟩, hr, hlk, hA⟩ := id C
  refine lv_iload_n hx hb dX5_divisor_4 rfl (lv_at hl 1 rfl) ?_
  obtain ⟨h1, h2⟩ := h
  refine lv_if_eq (tgt := 21) hx hb dX5_divisor_5 (by decide) (fun c1 => ?_) (fun c1 => ?_)
  · have h := h1 c1
    refine lv_iload_n hx hb dX5_divisor_21 rfl (lv_at hl 0 rfl) ?_
    exact mr_iret C w h dX5_divisor_22
  · have h := h2 c1
    refine lv_iload_n hx hb dX5_divisor_8 rfl (lv_at hl 0 rfl) ?_
    refine lv_iload_n hx hb dX5_divisor_9 rfl (lv_at hl 1 rfl) ?_
    obtain ⟨hne, h⟩ := h
    refine lv_irem hx hb dX5_divisor_10 hne ?_
    refine lv_istore (lv' := [(4, .int _), (2, .int _), (3, .int _)]) hx hb dX5_divisor_11 hl (by decide) rfl (fun ls hl => ?_)
    refine lv_iload_n hx hb dX5_divisor_13 rfl (lv_at hl 2 rfl) ?_
    refine lv_istore_n (lv' := [(2, .int _), (4, .int _), (3, .int _)]) hx hb dX5_divisor_14 rfl hl (by decide) rfl (fun ls hl => ?_)
    refine lv_iload hx hb dX5_divisor_15 (lv_at hl 1 rfl) ?_
    refine lv_istore_n (lv' := [(3, .int _), (2, .int _), (4, .int _)]) hx hb dX5_divisor_17 rfl hl (by decide) rfl (fun ls hl => ?_)
    refine lv_goto (tgt := 4) hx hb dX5_divisor_18 (by decide) ?_
    exact hT4 _ _ _ h _ _ _ (lv_sub hl [1, 0] rfl) w
def M_divisor_w0 (post : Int32 → MS → Prop) (T4 : Int32 → Int32 → MS → Prop) (x0 : Int32) (x1 : Int32) (S : MS) : Prop :=
  T4 x0 x1 S
set_option maxHeartbeats 4000000 in
set_option maxRecDepth 100000 in
theorem M_divisor_a0 {p : Program} {l : Launch} {e : Env} {s : State} {m : MethodId} {args : Array Value} {below : List Frame} {meth : Method} {c : Code} {D : va_G} {dA : Nat → ClassId} {o : Nat → Nat} {A : Nat → Prop} {post : Int32 → MS → Prop} {T4 : Int32 → Int32 → MS → Prop} (C : mC p m c cX5_divisor 5 s args meth (Option.some Jvm.ClassFile.FieldType.int) A) (hT4 : ∀ (x2 : Int32) (x3 : Int32) (S : MS), T4 x2 x3 S → ∀ (H : Heap) (locs : List Loc) (ls : Array Slot), lv_has ls 5 [(2, .int x2), (3, .int x3)] → mw D dA o A s S H locs → W p l e rM_divisor s m args below meth c H locs 0 0 (mQi below args s D dA o A post) (F0 m 4 ls [])) {x0 : Int32} {x1 : Int32} {S : MS} (h : M_divisor_w0 post T4 x0 x1 S) {H : Heap} {locs : List Loc} {ls : Array Slot} (hl : lv_has ls 5 [(0, .int x0), (1, .int x1)]) (w : mw D dA o A s S H locs) : W p l e rM_divisor s m args below meth c H locs 0 0 (mQi below args s D dA o A post) (F0 m 0 ls []) := by
  unfold M_divisor_w0 at h
  obtain ⟨⟨hx, hb, hml, hown, hts⟩, hr, hlk, hA⟩ := id C
  refine lv_iload_n hx hb dX5_divisor_0 rfl (lv_at hl 0 rfl) ?_
  refine lv_istore_n (lv' := [(2, .int _), (0, .int _), (1, .int _)]) hx hb dX5_divisor_1 rfl hl (by decide) rfl (fun ls hl => ?_)
  refine lv_iload_n hx hb dX5_divisor_2 rfl (lv_at hl 2 rfl) ?_
  refine lv_istore_n (lv' := [(3, .int _), (2, .int _), (0, .int _), (1, .int _)]) hx hb dX5_divisor_3 rfl hl (by decide) rfl (fun ls hl => ?_)
  exact hT4 _ _ _ h _ _ _ (lv_sub hl [1, 0] rfl) w
def M_divisor_VC (x0 : Int32) (x1 : Int32) (S : MS) (post : Int32 → MS → Prop) : Prop := ∀ (T4 : Int32 → Int32 → MS → Prop), (∀ (x2 : Int32) (x3 : Int32) (S : MS), M_divisor_w4 post T4 x2 x3 S → T4 x2 x3 S) → M_divisor_w0 post T4 x0 x1 S
theorem M_divisor_ok {x0 : Int32} {x1 : Int32} {S : MS} {post : Int32 → MS → Prop} (h : M_divisor_VC x0 x1 S post) : M_divisor x0 x1 S post := by
  intro l D dA o sz
  refine mr_start (fun A => va_Qi post (mB D dA o A) A) rfl (Nat.le_of_ble_eq_true rfl) (by decide) ?_
  intro p e s m args below meth c ls A C w hl
  have hl : lv_has ls 5 [(0, .int x0), (1, .int x1)] := hl
  have h := h (fun (x2 : Int32) (x3 : Int32) S => ∀ (H : Heap) (locs : List Loc) (ls : Array Slot), lv_has ls 5 [(2, .int x2), (3, .int x3)] → mw D dA o A s S H locs → W p l e rM_divisor s m args below meth c H locs 0 0 (mQi below args s D dA o A post) (F0 m 4 ls [])) (fun _ _ S h H locs ls hl w => M_divisor_a4 C (fun _ _ _ h => h) h hl w)
  exact M_divisor_a0 C (fun _ _ _ h => h) h (lv_sub hl [0, 1] rfl) w

/-! layRay(IIII)V -/
def M_layRay_w85 (post : MS → Prop) (T6 : Int32 → Int32 → Int32 → Int32 → Int32 → Int32 → MS → Prop) (T85 : Int32 → Int32 → MS → Prop) (x5 : Int32) (x6 : Int32) (S : MS) : Prop :=
  ((((7 : Int32) * (gF S 0)) ≤ x6 → (fun (S1 : MS) => post S1) (sF S 18 ((gF S 18) + (1 : Int32)))) ∧ (¬ ((7 : Int32) * (gF S 0)) ≤ x6 → (vp_in (((21 : Int32) * (gF S 18)) + x6) 42000 ∧ (¬ x5 = 0 ∧ (vp_in (((21 : Int32) * (gF S 18)) + x6) 42000 ∧ (fun (S2 : MS) => T85 x5 (x6 + (1 : Int32)) S2) (sI S 16 ((((21 : Int32) * (gF S 18)) + x6)).toNatClampNeg ((gI S 16 ((((21 : Int32) * (gF S 18)) + x6)).toNatClampNeg) / x5)))))))
set_option maxHeartbeats 4000000 in
set_option maxRecDepth 100000 in
theorem M_layRay_a85 {p : Program} {l : Launch} {e : Env} {s : State} {m : MethodId} {args : Array Value} {below : List Frame} {meth : Method} {c : Code} {D : va_G} {dA : Nat → ClassId} {o : Nat → Nat} {A : Nat → Prop} {post : MS → Prop} {T6 : Int32 → Int32 → Int32 → Int32 → Int32 → Int32 → MS → Prop} {T85 : Int32 → Int32 → MS → Prop} (C : mC p m c cX5_layRay 8 s args meth (Option.none : Option Jvm.ClassFile.FieldType) A) (hT6 : ∀ (x1 : Int32) (x2 : Int32) (x3 : Int32) (x4 : Int32) (x5 : Int32) (x6 : Int32) (S : MS), T6 x1 x2 x3 x4 x5 x6 S → ∀ (H : Heap) (locs : List Loc) (ls : Array Slot), lv_has ls 8 [(0, .ref (o 0)), (1, .int x1), (2, .int x2), (3, .int x3), (4, .int x4), (5, .int x5), (6, .int x6)] → mw D dA o A s S H locs → W p l e rM_layRay s m args below meth c H locs 0 0 (mQv below args s D dA o A post) (F0 m 6 ls [])) (hT85 : ∀ (x5 : Int32) (x6 : Int32) (S : MS), T85 x5 x6 S → ∀ (H : Heap) (locs : List Loc) (ls : Array Slot), lv_has ls 8 [(0, .ref (o 0)), (5, .int x5), (6, .int x6)] → mw D dA o A s S H locs → W p l e rM_layRay s m args below meth c H locs 0 0 (mQv below args s D dA o A post) (F0 m 85 ls [])) {x5 : Int32} {x6 : Int32} {S : MS} (h : M_layRay_w85 post T6 T85 x5 x6 S) {H : Heap} {locs : List Loc} {ls : Array Slot} (hl : lv_has ls 8 [(0, .ref (o 0)), (5, .int x5), (6, .int x6)]) (w : mw D dA o A s S H locs) : W p l e rM_layRay s m args below meth c H locs 0 0 (mQv below args s D dA o A post) (F0 m 85 ls []) := by
  unfold M_layRay_w85 at h
  obtain ⟨⟨hx, hb, hml, hown, hts⟩, hr, hlk, hA⟩ := id C
  refine lv_iload hx hb dX5_layRay_85 (lv_at hl 2 rfl) ?_
  refine lv_bipush (v := 7) hx hb dX5_layRay_87 (by decide) ?_
  refine lv_aload_n hx hb dX5_layRay_89 rfl (lv_at hl 0 rfl) ?_
  refine mr_get C w 0 (by decide) q577 rfl rfl dX5_layRay_90 ?_
  refine lv_imul hx hb dX5_layRay_93 ?_
  obtain ⟨h1, h2⟩ := h
  refine lv_icmp_ge (tgt := 123) hx hb dX5_layRay_94 (by decide) (fun c1 => ?_) (fun c1 => ?_)
  · have h := h1 c1
    refine lv_aload_n hx hb dX5_layRay_123 rfl (lv_at hl 0 rfl) ?_
    refine lv_dup hx hb dX5_layRay_124 rfl ?_
    refine mr_get C w 18 (by decide) q595 rfl rfl dX5_layRay_125 ?_
    refine lv_iconst (v := 1) hx hb dX5_layRay_128 (by decide) ?_
    refine lv_iadd hx hb dX5_layRay_129 ?_
    refine mr_put (ty := .int) C w 18 (by decide) q595 rfl rfl (by decide +kernel) rfl rfl MWf_18 dX5_layRay_130 (fun H locs w => ?_)
    exact mr_vret C w h dX5_layRay_133
  · have h := h2 c1
    refine lv_aload_n hx hb dX5_layRay_97 rfl (lv_at hl 0 rfl) ?_
    refine mr_get C w 16 (by decide) q593 rfl rfl dX5_layRay_98 ?_
    refine lv_bipush (v := 21) hx hb dX5_layRay_101 (by decide) ?_
    refine lv_aload_n hx hb dX5_layRay_103 rfl (lv_at hl 0 rfl) ?_
    refine mr_get C w 18 (by decide) q595 rfl rfl dX5_layRay_104 ?_
    refine lv_imul hx hb dX5_layRay_107 ?_
    refine lv_iload hx hb dX5_layRay_108 (lv_at hl 2 rfl) ?_
    refine lv_iadd hx hb dX5_layRay_110 ?_
    refine lv_dup2_11 hx hb dX5_layRay_111 rfl rfl ?_
    obtain ⟨hi, h⟩ := h
    refine mr_iald C w 12 11 rfl rfl hi dX5_layRay_112 ?_
    refine lv_iload hx hb dX5_layRay_113 (lv_at hl 1 rfl) ?_
    obtain ⟨hne, h⟩ := h
    refine lv_idiv hx hb dX5_layRay_115 hne ?_
    obtain ⟨hi, h⟩ := h
    refine mr_iast C w 12 11 rfl rfl hi MWs_16 dX5_layRay_116 (fun H locs w => ?_)
    refine lv_iinc (v := _ + (1 : Int32)) (lv' := [(6, .int _), (0, .ref _), (5, .int _)]) hx hb dX5_layRay_117 hl (k := 2) rfl rfl (by decide) rfl (fun ls hl => ?_)
    refine lv_goto (tgt := 85) hx hb dX5_layRay_120 (by decide) ?_
    exact hT85 _ _ _ h _ _ _ (lv_sub hl [1, 2, 0] rfl) w
def M_layRay_w6 (post : MS → Prop) (T6 : Int32 → Int32 → Int32 → Int32 → Int32 → Int32 → MS → Prop) (T85 : Int32 → Int32 → MS → Prop) (x1 : Int32) (x2 : Int32) (x3 : Int32) (x4 : Int32) (x5 : Int32) (x6 : Int32) (S : MS) : Prop :=
  ((((7 : Int32) * (gF S 0)) ≤ x6 → T85 x5 (0 : Int32) S) ∧ (¬ ((7 : Int32) * (gF S 0)) ≤ x6 → (vp_in (((21 : Int32) * x1) + x6) 42000 ∧ (vp_in (((21 : Int32) * x2) + x6) 42000 ∧ (vp_in (((21 : Int32) * (gF S 18)) + x6) 42000 ∧ (fun (S1 : MS) => M_divisor x5 ((x3 * (gI S 15 ((((21 : Int32) * x1) + x6)).toNatClampNeg)) + (x4 * (gI S 15 ((((21 : Int32) * x2) + x6)).toNatClampNeg))) S1 (fun (r2 : Int32) (S2 : MS) => T6 x1 x2 x3 x4 r2 (x6 + (1 : Int32)) S2)) (sI S 16 ((((21 : Int32) * (gF S 18)) + x6)).toNatClampNeg ((x3 * (gI S 15 ((((21 : Int32) * x1) + x6)).toNatClampNeg)) + (x4 * (gI S 15 ((((21 : Int32) * x2) + x6)).toNatClampNeg)))))))))
set_option maxHeartbeats 4000000 in
set_option maxRecDepth 100000 in
theorem M_layRay_a6 {p : Program} {l : Launch} {e : Env} {s : State} {m : MethodId} {args : Array Value} {below : List Frame} {meth : Method} {c : Code} {D : va_G} {dA : Nat → ClassId} {o : Nat → Nat} {A : Nat → Prop} {post : MS → Prop} {T6 : Int32 → Int32 → Int32 → Int32 → Int32 → Int32 → MS → Prop} {T85 : Int32 → Int32 → MS → Prop} (C : mC p m c cX5_layRay 8 s args meth (Option.none : Option Jvm.ClassFile.FieldType) A) (hT6 : ∀ (x1 : Int32) (x2 : Int32) (x3 : Int32) (x4 : Int32) (x5 : Int32) (x6 : Int32) (S : MS), T6 x1 x2 x3 x4 x5 x6 S → ∀ (H : Heap) (locs : List Loc) (ls : Array Slot), lv_has ls 8 [(0, .ref (o 0)), (1, .int x1), (2, .int x2), (3, .int x3), (4, .int x4), (5, .int x5), (6, .int x6)] → mw D dA o A s S H locs → W p l e rM_layRay s m args below meth c H locs 0 0 (mQv below args s D dA o A post) (F0 m 6 ls [])) (hT85 : ∀ (x5 : Int32) (x6 : Int32) (S : MS), T85 x5 x6 S → ∀ (H : Heap) (locs : List Loc) (ls : Array Slot), lv_has ls 8 [(0, .ref (o 0)), (5, .int x5), (6, .int x6)] → mw D dA o A s S H locs → W p l e rM_layRay s m args below meth c H locs 0 0 (mQv below args s D dA o A post) (F0 m 85 ls [])) {x1 : Int32} {x2 : Int32} {x3 : Int32} {x4 : Int32} {x5 : Int32} {x6 : Int32} {S : MS} (h : M_layRay_w6 post T6 T85 x1 x2 x3 x4 x5 x6 S) {H : Heap} {locs : List Loc} {ls : Array Slot} (hl : lv_has ls 8 [(0, .ref (o 0)), (1, .int x1), (2, .int x2), (3, .int x3), (4, .int x4), (5, .int x5), (6, .int x6)]) (w : mw D dA o A s S H locs) : W p l e rM_layRay s m args below meth c H locs 0 0 (mQv below args s D dA o A post) (F0 m 6 ls []) := by
  unfold M_layRay_w6 at h
  obtain ⟨⟨hx, hb, hml, hown, hts⟩, hr, hlk, hA⟩ := id C
  refine lv_iload hx hb dX5_layRay_6 (lv_at hl 6 rfl) ?_
  refine lv_bipush (v := 7) hx hb dX5_layRay_8 (by decide) ?_
  refine lv_aload_n hx hb dX5_layRay_10 rfl (lv_at hl 0 rfl) ?_
  refine mr_get C w 0 (by decide) q577 rfl rfl dX5_layRay_11 ?_
  refine lv_imul hx hb dX5_layRay_14 ?_
  obtain ⟨h1, h2⟩ := h
  refine lv_icmp_ge (tgt := 82) hx hb dX5_layRay_15 (by decide) (fun c1 => ?_) (fun c1 => ?_)
  · have h := h1 c1
    refine lv_iconst (v := 0) hx hb dX5_layRay_82 (by decide) ?_
    refine lv_istore (lv' := [(6, .int _), (0, .ref _), (1, .int _), (2, .int _), (3, .int _), (4, .int _), (5, .int _)]) hx hb dX5_layRay_83 hl (by decide) rfl (fun ls hl => ?_)
    exact hT85 _ _ _ h _ _ _ (lv_sub hl [1, 6, 0] rfl) w
  · have h := h2 c1
    refine lv_iload_n hx hb dX5_layRay_18 rfl (lv_at hl 3 rfl) ?_
    refine lv_aload_n hx hb dX5_layRay_19 rfl (lv_at hl 0 rfl) ?_
    refine mr_get C w 15 (by decide) q592 rfl rfl dX5_layRay_20 ?_
    refine lv_bipush (v := 21) hx hb dX5_layRay_23 (by decide) ?_
    refine lv_iload_n hx hb dX5_layRay_25 rfl (lv_at hl 1 rfl) ?_
    refine lv_imul hx hb dX5_layRay_26 ?_
    refine lv_iload hx hb dX5_layRay_27 (lv_at hl 6 rfl) ?_
    refine lv_iadd hx hb dX5_layRay_29 ?_
    obtain ⟨hi, h⟩ := h
    refine mr_iald C w 11 10 rfl rfl hi dX5_layRay_30 ?_
    refine lv_imul hx hb dX5_layRay_31 ?_
    refine lv_iload hx hb dX5_layRay_32 (lv_at hl 4 rfl) ?_
    refine lv_aload_n hx hb dX5_layRay_34 rfl (lv_at hl 0 rfl) ?_
    refine mr_get C w 15 (by decide) q592 rfl rfl dX5_layRay_35 ?_
    refine lv_bipush (v := 21) hx hb dX5_layRay_38 (by decide) ?_
    refine lv_iload_n hx hb dX5_layRay_40 rfl (lv_at hl 2 rfl) ?_
    refine lv_imul hx hb dX5_layRay_41 ?_
    refine lv_iload hx hb dX5_layRay_42 (lv_at hl 6 rfl) ?_
    refine lv_iadd hx hb dX5_layRay_44 ?_
    obtain ⟨hi, h⟩ := h
    refine mr_iald C w 11 10 rfl rfl hi dX5_layRay_45 ?_
    refine lv_imul hx hb dX5_layRay_46 ?_
    refine lv_iadd hx hb dX5_layRay_47 ?_
    refine lv_istore (lv' := [(7, .int _), (0, .ref _), (1, .int _), (2, .int _), (3, .int _), (4, .int _), (5, .int _), (6, .int _)]) hx hb dX5_layRay_48 hl (by decide) rfl (fun ls hl => ?_)
    refine lv_aload_n hx hb dX5_layRay_50 rfl (lv_at hl 1 rfl) ?_
    refine mr_get C w 16 (by decide) q593 rfl rfl dX5_layRay_51 ?_
    refine lv_bipush (v := 21) hx hb dX5_layRay_54 (by decide) ?_
    refine lv_aload_n hx hb dX5_layRay_56 rfl (lv_at hl 1 rfl) ?_
    refine mr_get C w 18 (by decide) q595 rfl rfl dX5_layRay_57 ?_
    refine lv_imul hx hb dX5_layRay_60 ?_
    refine lv_iload hx hb dX5_layRay_61 (lv_at hl 7 rfl) ?_
    refine lv_iadd hx hb dX5_layRay_63 ?_
    refine lv_iload hx hb dX5_layRay_64 (lv_at hl 0 rfl) ?_
    obtain ⟨hi, h⟩ := h
    refine mr_iast C w 12 11 rfl rfl hi MWs_16 dX5_layRay_66 (fun H locs w => ?_)
    refine lv_iload hx hb dX5_layRay_67 (lv_at hl 6 rfl) ?_
    refine lv_iload hx hb dX5_layRay_69 (lv_at hl 0 rfl) ?_
    refine mr_callSI (rest := []) C w h (lw_S q843 q844 q87 q845) M_divisor_d rfl rfl ⟨Nat.le_of_ble_eq_true rfl, Nat.le_of_ble_eq_true rfl⟩ rfl hl.1 rfl (Nat.le_of_ble_eq_true rfl) ⟨Nat.zero_le _, Nat.zero_le _⟩ dX5_layRay_71 (fun r2 S2 H locs h w => ?_)
    refine lv_istore (lv' := [(5, .int _), (7, .int _), (0, .ref _), (1, .int _), (2, .int _), (3, .int _), (4, .int _), (6, .int _)]) hx hb dX5_layRay_74 hl (by decide) rfl (fun ls hl => ?_)
    refine lv_iinc (v := _ + (1 : Int32)) (lv' := [(6, .int _), (5, .int _), (7, .int _), (0, .ref _), (1, .int _), (2, .int _), (3, .int _), (4, .int _)]) hx hb dX5_layRay_76 hl (k := 7) rfl rfl (by decide) rfl (fun ls hl => ?_)
    refine lv_goto (tgt := 6) hx hb dX5_layRay_79 (by decide) ?_
    exact hT6 _ _ _ _ _ _ _ h _ _ _ (lv_sub hl [3, 4, 5, 6, 7, 1, 0] rfl) w
def M_layRay_w0 (post : MS → Prop) (T6 : Int32 → Int32 → Int32 → Int32 → Int32 → Int32 → MS → Prop) (T85 : Int32 → Int32 → MS → Prop) (x1 : Int32) (x2 : Int32) (x3 : Int32) (x4 : Int32) (S : MS) : Prop :=
  T6 x1 x2 x3 x4 (0 : Int32) (0 : Int32) S
set_option maxHeartbeats 4000000 in
set_option maxRecDepth 100000 in
theorem M_layRay_a0 {p : Program} {l : Launch} {e : Env} {s : State} {m : MethodId} {args : Array Value} {below : List Frame} {meth : Method} {c : Code} {D : va_G} {dA : Nat → ClassId} {o : Nat → Nat} {A : Nat → Prop} {post : MS → Prop} {T6 : Int32 → Int32 → Int32 → Int32 → Int32 → Int32 → MS → Prop} {T85 : Int32 → Int32 → MS → Prop} (C : mC p m c cX5_layRay 8 s args meth (Option.none : Option Jvm.ClassFile.FieldType) A) (hT6 : ∀ (x1 : Int32) (x2 : Int32) (x3 : Int32) (x4 : Int32) (x5 : Int32) (x6 : Int32) (S : MS), T6 x1 x2 x3 x4 x5 x6 S → ∀ (H : Heap) (locs : List Loc) (ls : Array Slot), lv_has ls 8 [(0, .ref (o 0)), (1, .int x1), (2, .int x2), (3, .int x3), (4, .int x4), (5, .int x5), (6, .int x6)] → mw D dA o A s S H locs → W p l e rM_layRay s m args below meth c H locs 0 0 (mQv below args s D dA o A post) (F0 m 6 ls [])) (hT85 : ∀ (x5 : Int32) (x6 : Int32) (S : MS), T85 x5 x6 S → ∀ (H : Heap) (locs : List Loc) (ls : Array Slot), lv_has ls 8 [(0, .ref (o 0)), (5, .int x5), (6, .int x6)] → mw D dA o A s S H locs → W p l e rM_layRay s m args below meth c H locs 0 0 (mQv below args s D dA o A post) (F0 m 85 ls [])) {x1 : Int32} {x2 : Int32} {x3 : Int32} {x4 : Int32} {S : MS} (h : M_layRay_w0 post T6 T85 x1 x2 x3 x4 S) {H : Heap} {locs : List Loc} {ls : Array Slot} (hl : lv_has ls 8 [(0, .ref (o 0)), (1, .int x1), (2, .int x2), (3, .int x3), (4, .int x4)]) (w : mw D dA o A s S H locs) : W p l e rM_layRay s m args below meth c H locs 0 0 (mQv below args s D dA o A post) (F0 m 0 ls []) := by
  unfold M_layRay_w0 at h
  obtain ⟨⟨hx, hb, hml, hown, hts⟩, hr, hlk, hA⟩ := id C
  refine lv_iconst (v := 0) hx hb dX5_layRay_0 (by decide) ?_
  refine lv_istore (lv' := [(5, .int _), (0, .ref _), (1, .int _), (2, .int _), (3, .int _), (4, .int _)]) hx hb dX5_layRay_1 hl (by decide) rfl (fun ls hl => ?_)
  refine lv_iconst (v := 0) hx hb dX5_layRay_3 (by decide) ?_
  refine lv_istore (lv' := [(6, .int _), (5, .int _), (0, .ref _), (1, .int _), (2, .int _), (3, .int _), (4, .int _)]) hx hb dX5_layRay_4 hl (by decide) rfl (fun ls hl => ?_)
  exact hT6 _ _ _ _ _ _ _ h _ _ _ (lv_sub hl [2, 3, 4, 5, 6, 1, 0] rfl) w
def M_layRay_VC (x1 : Int32) (x2 : Int32) (x3 : Int32) (x4 : Int32) (S : MS) (post : MS → Prop) : Prop := ∀ (T6 : Int32 → Int32 → Int32 → Int32 → Int32 → Int32 → MS → Prop) (T85 : Int32 → Int32 → MS → Prop), (∀ (x1 : Int32) (x2 : Int32) (x3 : Int32) (x4 : Int32) (x5 : Int32) (x6 : Int32) (S : MS), M_layRay_w6 post T6 T85 x1 x2 x3 x4 x5 x6 S → T6 x1 x2 x3 x4 x5 x6 S) → (∀ (x5 : Int32) (x6 : Int32) (S : MS), M_layRay_w85 post T6 T85 x5 x6 S → T85 x5 x6 S) → M_layRay_w0 post T6 T85 x1 x2 x3 x4 S
theorem M_layRay_ok {x1 : Int32} {x2 : Int32} {x3 : Int32} {x4 : Int32} {S : MS} {post : MS → Prop} (h : M_layRay_VC x1 x2 x3 x4 S post) : M_layRay x1 x2 x3 x4 S post := by
  intro l D dA o sz
  refine mr_start (fun A => va_Qv post (mB D dA o A) A) rfl (Nat.le_of_ble_eq_true rfl) (by decide) ?_
  intro p e s m args below meth c ls A C w hl
  have hl : lv_has ls 8 [(0, .ref (o 0)), (1, .int x1), (2, .int x2), (3, .int x3), (4, .int x4)] := hl
  have h := h (fun (x1 : Int32) (x2 : Int32) (x3 : Int32) (x4 : Int32) (x5 : Int32) (x6 : Int32) S => ∀ (H : Heap) (locs : List Loc) (ls : Array Slot), lv_has ls 8 [(0, .ref (o 0)), (1, .int x1), (2, .int x2), (3, .int x3), (4, .int x4), (5, .int x5), (6, .int x6)] → mw D dA o A s S H locs → W p l e rM_layRay s m args below meth c H locs 0 0 (mQv below args s D dA o A post) (F0 m 6 ls [])) (fun (x5 : Int32) (x6 : Int32) S => ∀ (H : Heap) (locs : List Loc) (ls : Array Slot), lv_has ls 8 [(0, .ref (o 0)), (5, .int x5), (6, .int x6)] → mw D dA o A s S H locs → W p l e rM_layRay s m args below meth c H locs 0 0 (mQv below args s D dA o A post) (F0 m 85 ls [])) (fun _ _ _ _ _ _ S h H locs ls hl w => M_layRay_a6 C (fun _ _ _ _ _ _ _ h => h) (fun _ _ _ h => h) h hl w) (fun _ _ S h H locs ls hl w => M_layRay_a85 C (fun _ _ _ _ _ _ _ h => h) (fun _ _ _ h => h) h hl w)
  exact M_layRay_a0 C (fun _ _ _ _ _ _ _ h => h) (fun _ _ _ h => h) h (lv_sub hl [0, 1, 2, 3, 4] rfl) w

/-! meet()V -/
def M_meet_w124 (post : MS → Prop) (T7 : Int32 → MS → Prop) (T35 : Int32 → Int32 → Int32 → MS → Prop) (T124 : Int32 → MS → Prop) (x1 : Int32) (S : MS) : Prop :=
  ((((21 : Int32) * (gF S 14)) ≤ x1 → post S) ∧ (¬ ((21 : Int32) * (gF S 14)) ≤ x1 → (vp_in x1 42000 ∧ (vp_in x1 42000 ∧ (fun (S1 : MS) => T124 (x1 + (1 : Int32)) S1) (sI S 15 (x1).toNatClampNeg (gI S 16 (x1).toNatClampNeg))))))
set_option maxHeartbeats 4000000 in
set_option maxRecDepth 100000 in
theorem M_meet_a124 {p : Program} {l : Launch} {e : Env} {s : State} {m : MethodId} {args : Array Value} {below : List Frame} {meth : Method} {c : Code} {D : va_G} {dA : Nat → ClassId} {o : Nat → Nat} {A : Nat → Prop} {post : MS → Prop} {T7 : Int32 → MS → Prop} {T35 : Int32 → Int32 → Int32 → MS → Prop} {T124 : Int32 → MS → Prop} (C : mC p m c cX5_meet 6 s args meth (Option.none : Option Jvm.ClassFile.FieldType) A) (hT7 : ∀ (x1 : Int32) (S : MS), T7 x1 S → ∀ (H : Heap) (locs : List Loc) (ls : Array Slot), lv_has ls 6 [(0, .ref (o 0)), (1, .int x1)] → mw D dA o A s S H locs → W p l e rM_meet s m args below meth c H locs 0 0 (mQv below args s D dA o A post) (F0 m 7 ls [])) (hT35 : ∀ (x1 : Int32) (x2 : Int32) (x3 : Int32) (S : MS), T35 x1 x2 x3 S → ∀ (H : Heap) (locs : List Loc) (ls : Array Slot), lv_has ls 6 [(0, .ref (o 0)), (1, .int x1), (2, .int x2), (3, .int x3)] → mw D dA o A s S H locs → W p l e rM_meet s m args below meth c H locs 0 0 (mQv below args s D dA o A post) (F0 m 35 ls [])) (hT124 : ∀ (x1 : Int32) (S : MS), T124 x1 S → ∀ (H : Heap) (locs : List Loc) (ls : Array Slot), lv_has ls 6 [(0, .ref (o 0)), (1, .int x1)] → mw D dA o A s S H locs → W p l e rM_meet s m args below meth c H locs 0 0 (mQv below args s D dA o A post) (F0 m 124 ls [])) {x1 : Int32} {S : MS} (h : M_meet_w124 post T7 T35 T124 x1 S) {H : Heap} {locs : List Loc} {ls : Array Slot} (hl : lv_has ls 6 [(0, .ref (o 0)), (1, .int x1)]) (w : mw D dA o A s S H locs) : W p l e rM_meet s m args below meth c H locs 0 0 (mQv below args s D dA o A post) (F0 m 124 ls []) := by
  unfold M_meet_w124 at h
  obtain ⟨⟨hx, hb, hml, hown, hts⟩, hr, hlk, hA⟩ := id C
  refine lv_iload_n hx hb dX5_meet_124 rfl (lv_at hl 1 rfl) ?_
  refine lv_bipush (v := 21) hx hb dX5_meet_125 (by decide) ?_
  refine lv_aload_n hx hb dX5_meet_127 rfl (lv_at hl 0 rfl) ?_
  refine mr_get C w 14 (by decide) q591 rfl rfl dX5_meet_128 ?_
  refine lv_imul hx hb dX5_meet_131 ?_
  obtain ⟨h1, h2⟩ := h
  refine lv_icmp_ge (tgt := 153) hx hb dX5_meet_132 (by decide) (fun c1 => ?_) (fun c1 => ?_)
  · have h := h1 c1
    exact mr_vret C w h dX5_meet_153
  · have h := h2 c1
    refine lv_aload_n hx hb dX5_meet_135 rfl (lv_at hl 0 rfl) ?_
    refine mr_get C w 15 (by decide) q592 rfl rfl dX5_meet_136 ?_
    refine lv_iload_n hx hb dX5_meet_139 rfl (lv_at hl 1 rfl) ?_
    refine lv_aload_n hx hb dX5_meet_140 rfl (lv_at hl 0 rfl) ?_
    refine mr_get C w 16 (by decide) q593 rfl rfl dX5_meet_141 ?_
    refine lv_iload_n hx hb dX5_meet_144 rfl (lv_at hl 1 rfl) ?_
    obtain ⟨hi, h⟩ := h
    refine mr_iald C w 12 11 rfl rfl hi dX5_meet_145 ?_
    obtain ⟨hi, h⟩ := h
    refine mr_iast C w 11 10 rfl rfl hi MWs_15 dX5_meet_146 (fun H locs w => ?_)
    refine lv_iinc (v := _ + (1 : Int32)) (lv' := [(1, .int _), (0, .ref _)]) hx hb dX5_meet_147 hl (k := 1) rfl rfl (by decide) rfl (fun ls hl => ?_)
    refine lv_goto (tgt := 124) hx hb dX5_meet_150 (by decide) ?_
    exact hT124 _ _ h _ _ _ (lv_sub hl [1, 0] rfl) w
def M_meet_w108 (post : MS → Prop) (T7 : Int32 → MS → Prop) (T35 : Int32 → Int32 → Int32 → MS → Prop) (T124 : Int32 → MS → Prop) (x1 : Int32) (S : MS) : Prop :=
  T7 (x1 + (1 : Int32)) S
set_option maxHeartbeats 4000000 in
set_option maxRecDepth 100000 in
theorem M_meet_a108 {p : Program} {l : Launch} {e : Env} {s : State} {m : MethodId} {args : Array Value} {below : List Frame} {meth : Method} {c : Code} {D : va_G} {dA : Nat → ClassId} {o : Nat → Nat} {A : Nat → Prop} {post : MS → Prop} {T7 : Int32 → MS → Prop} {T35 : Int32 → Int32 → Int32 → MS → Prop} {T124 : Int32 → MS → Prop} (C : mC p m c cX5_meet 6 s args meth (Option.none : Option Jvm.ClassFile.FieldType) A) (hT7 : ∀ (x1 : Int32) (S : MS), T7 x1 S → ∀ (H : Heap) (locs : List Loc) (ls : Array Slot), lv_has ls 6 [(0, .ref (o 0)), (1, .int x1)] → mw D dA o A s S H locs → W p l e rM_meet s m args below meth c H locs 0 0 (mQv below args s D dA o A post) (F0 m 7 ls [])) (hT35 : ∀ (x1 : Int32) (x2 : Int32) (x3 : Int32) (S : MS), T35 x1 x2 x3 S → ∀ (H : Heap) (locs : List Loc) (ls : Array Slot), lv_has ls 6 [(0, .ref (o 0)), (1, .int x1), (2, .int x2), (3, .int x3)] → mw D dA o A s S H locs → W p l e rM_meet s m args below meth c H locs 0 0 (mQv below args s D dA o A post) (F0 m 35 ls [])) (hT124 : ∀ (x1 : Int32) (S : MS), T124 x1 S → ∀ (H : Heap) (locs : List Loc) (ls : Array Slot), lv_has ls 6 [(0, .ref (o 0)), (1, .int x1)] → mw D dA o A s S H locs → W p l e rM_meet s m args below meth c H locs 0 0 (mQv below args s D dA o A post) (F0 m 124 ls [])) {x1 : Int32} {S : MS} (h : M_meet_w108 post T7 T35 T124 x1 S) {H : Heap} {locs : List Loc} {ls : Array Slot} (hl : lv_has ls 6 [(0, .ref (o 0)), (1, .int x1)]) (w : mw D dA o A s S H locs) : W p l e rM_meet s m args below meth c H locs 0 0 (mQv below args s D dA o A post) (F0 m 108 ls []) := by
  unfold M_meet_w108 at h
  obtain ⟨⟨hx, hb, hml, hown, hts⟩, hr, hlk, hA⟩ := id C
  refine lv_iinc (v := _ + (1 : Int32)) (lv' := [(1, .int _), (0, .ref _)]) hx hb dX5_meet_108 hl (k := 1) rfl rfl (by decide) rfl (fun ls hl => ?_)
  refine lv_goto (tgt := 7) hx hb dX5_meet_111 (by decide) ?_
  exact hT7 _ _ h _ _ _ (lv_sub hl [1, 0] rfl) w
def M_meet_w102 (post : MS → Prop) (T7 : Int32 → MS → Prop) (T35 : Int32 → Int32 → Int32 → MS → Prop) (T124 : Int32 → MS → Prop) (x1 : Int32) (x2 : Int32) (x3 : Int32) (S : MS) : Prop :=
  T35 x1 x2 (x3 + (1 : Int32)) S
set_option maxHeartbeats 4000000 in
set_option maxRecDepth 100000 in
theorem M_meet_a102 {p : Program} {l : Launch} {e : Env} {s : State} {m : MethodId} {args : Array Value} {below : List Frame} {meth : Method} {c : Code} {D : va_G} {dA : Nat → ClassId} {o : Nat → Nat} {A : Nat → Prop} {post : MS → Prop} {T7 : Int32 → MS → Prop} {T35 : Int32 → Int32 → Int32 → MS → Prop} {T124 : Int32 → MS → Prop} (C : mC p m c cX5_meet 6 s args meth (Option.none : Option Jvm.ClassFile.FieldType) A) (hT7 : ∀ (x1 : Int32) (S : MS), T7 x1 S → ∀ (H : Heap) (locs : List Loc) (ls : Array Slot), lv_has ls 6 [(0, .ref (o 0)), (1, .int x1)] → mw D dA o A s S H locs → W p l e rM_meet s m args below meth c H locs 0 0 (mQv below args s D dA o A post) (F0 m 7 ls [])) (hT35 : ∀ (x1 : Int32) (x2 : Int32) (x3 : Int32) (S : MS), T35 x1 x2 x3 S → ∀ (H : Heap) (locs : List Loc) (ls : Array Slot), lv_has ls 6 [(0, .ref (o 0)), (1, .int x1), (2, .int x2), (3, .int x3)] → mw D dA o A s S H locs → W p l e rM_meet s m args below meth c H locs 0 0 (mQv below args s D dA o A post) (F0 m 35 ls [])) (hT124 : ∀ (x1 : Int32) (S : MS), T124 x1 S → ∀ (H : Heap) (locs : List Loc) (ls : Array Slot), lv_has ls 6 [(0, .ref (o 0)), (1, .int x1)] → mw D dA o A s S H locs → W p l e rM_meet s m args below meth c H locs 0 0 (mQv below args s D dA o A post) (F0 m 124 ls [])) {x1 : Int32} {x2 : Int32} {x3 : Int32} {S : MS} (h : M_meet_w102 post T7 T35 T124 x1 x2 x3 S) {H : Heap} {locs : List Loc} {ls : Array Slot} (hl : lv_has ls 6 [(0, .ref (o 0)), (1, .int x1), (2, .int x2), (3, .int x3)]) (w : mw D dA o A s S H locs) : W p l e rM_meet s m args below meth c H locs 0 0 (mQv below args s D dA o A post) (F0 m 102 ls []) := by
  unfold M_meet_w102 at h
  obtain ⟨⟨hx, hb, hml, hown, hts⟩, hr, hlk, hA⟩ := id C
  refine lv_iinc (v := _ + (1 : Int32)) (lv' := [(3, .int _), (0, .ref _), (1, .int _), (2, .int _)]) hx hb dX5_meet_102 hl (k := 3) rfl rfl (by decide) rfl (fun ls hl => ?_)
  refine lv_goto (tgt := 35) hx hb dX5_meet_105 (by decide) ?_
  exact hT35 _ _ _ _ h _ _ _ (lv_sub hl [1, 2, 3, 0] rfl) w
def M_meet_w35 (post : MS → Prop) (T7 : Int32 → MS → Prop) (T35 : Int32 → Int32 → Int32 → MS → Prop) (T124 : Int32 → MS → Prop) (x1 : Int32) (x2 : Int32) (x3 : Int32) (S : MS) : Prop :=
  (((gF S 14) ≤ x3 → M_meet_w108 post T7 T35 T124 x1 S) ∧ (¬ (gF S 14) ≤ x3 → ((x2 ≤ 0 → M_meet_w108 post T7 T35 T124 x1 S) ∧ (¬ x2 ≤ 0 → M_side x3 S (fun (r1 : Int32) (S1 : MS) => M_supportOf x1 S1 (fun (r2 : Int32) (S2 : MS) => M_supportOf x3 S2 (fun (r3 : Int32) (S3 : MS) => ((0 ≤ r1 → M_meet_w102 post T7 T35 T124 x1 x2 x3 S3) ∧ (¬ 0 ≤ r1 → M_hasOneKind (r2 ||| r3) S3 (fun (r4 : Int32) (S4 : MS) => ((r4 = 0 → M_meet_w102 post T7 T35 T124 x1 x2 x3 S4) ∧ (¬ r4 = 0 → M_areBeside x1 x3 (r2 ||| r3) S4 (fun (r5 : Int32) (S5 : MS) => ((r5 = 0 → M_meet_w102 post T7 T35 T124 x1 x2 x3 S5) ∧ (¬ r5 = 0 → M_layRay x1 x3 (-r1) x2 S5 (fun (S6 : MS) => M_meet_w102 post T7 T35 T124 x1 x2 x3 S6))))))))))))))))
set_option maxHeartbeats 4000000 in
set_option maxRecDepth 100000 in
theorem M_meet_a35 {p : Program} {l : Launch} {e : Env} {s : State} {m : MethodId} {args : Array Value} {below : List Frame} {meth : Method} {c : Code} {D : va_G} {dA : Nat → ClassId} {o : Nat → Nat} {A : Nat → Prop} {post : MS → Prop} {T7 : Int32 → MS → Prop} {T35 : Int32 → Int32 → Int32 → MS → Prop} {T124 : Int32 → MS → Prop} (C : mC p m c cX5_meet 6 s args meth (Option.none : Option Jvm.ClassFile.FieldType) A) (hT7 : ∀ (x1 : Int32) (S : MS), T7 x1 S → ∀ (H : Heap) (locs : List Loc) (ls : Array Slot), lv_has ls 6 [(0, .ref (o 0)), (1, .int x1)] → mw D dA o A s S H locs → W p l e rM_meet s m args below meth c H locs 0 0 (mQv below args s D dA o A post) (F0 m 7 ls [])) (hT35 : ∀ (x1 : Int32) (x2 : Int32) (x3 : Int32) (S : MS), T35 x1 x2 x3 S → ∀ (H : Heap) (locs : List Loc) (ls : Array Slot), lv_has ls 6 [(0, .ref (o 0)), (1, .int x1), (2, .int x2), (3, .int x3)] → mw D dA o A s S H locs → W p l e rM_meet s m args below meth c H locs 0 0 (mQv below args s D dA o A post) (F0 m 35 ls [])) (hT124 : ∀ (x1 : Int32) (S : MS), T124 x1 S → ∀ (H : Heap) (locs : List Loc) (ls : Array Slot), lv_has ls 6 [(0, .ref (o 0)), (1, .int x1)] → mw D dA o A s S H locs → W p l e rM_meet s m args below meth c H locs 0 0 (mQv below args s D dA o A post) (F0 m 124 ls [])) {x1 : Int32} {x2 : Int32} {x3 : Int32} {S : MS} (h : M_meet_w35 post T7 T35 T124 x1 x2 x3 S) {H : Heap} {locs : List Loc} {ls : Array Slot} (hl : lv_has ls 6 [(0, .ref (o 0)), (1, .int x1), (2, .int x2), (3, .int x3)]) (w : mw D dA o A s S H locs) : W p l e rM_meet s m args below meth c H locs 0 0 (mQv below args s D dA o A post) (F0 m 35 ls []) := by
  unfold M_meet_w35 at h
  obtain ⟨⟨hx, hb, hml, hown, hts⟩, hr, hlk, hA⟩ := id C
  refine lv_iload_n hx hb dX5_meet_35 rfl (lv_at hl 3 rfl) ?_
  refine lv_aload_n hx hb dX5_meet_36 rfl (lv_at hl 0 rfl) ?_
  refine mr_get C w 14 (by decide) q591 rfl rfl dX5_meet_37 ?_
  obtain ⟨h1, h2⟩ := h
  refine lv_icmp_ge (tgt := 108) hx hb dX5_meet_40 (by decide) (fun c1 => ?_) (fun c1 => ?_)
  · have h := h1 c1
    exact M_meet_a108 C hT7 hT35 hT124 h (lv_sub hl [0, 1] rfl) w
  · have h := h2 c1
    refine lv_iload_n hx hb dX5_meet_43 rfl (lv_at hl 2 rfl) ?_
    obtain ⟨h1, h2⟩ := h
    refine lv_if_le (tgt := 108) hx hb dX5_meet_44 (by decide) (fun c1 => ?_) (fun c1 => ?_)
    · have h := h1 c1
      exact M_meet_a108 C hT7 hT35 hT124 h (lv_sub hl [0, 1] rfl) w
    · have h := h2 c1
      refine lv_aload_n hx hb dX5_meet_47 rfl (lv_at hl 0 rfl) ?_
      refine lv_iload_n hx hb dX5_meet_48 rfl (lv_at hl 3 rfl) ?_
      refine mr_callVI (rest := []) C w h (lw_V q835 q837 qs65 q87 q838) M_side_d rfl rfl ⟨Nat.le_of_ble_eq_true rfl, Nat.le_of_ble_eq_true rfl⟩ rfl hl.1 rfl (Nat.le_of_ble_eq_true rfl) ⟨Nat.zero_le _, Nat.zero_le _⟩ dX5_meet_49 (fun r1 S1 H locs h w => ?_)
      refine lv_istore (lv' := [(4, .int _), (0, .ref _), (1, .int _), (2, .int _), (3, .int _)]) hx hb dX5_meet_52 hl (by decide) rfl (fun ls hl => ?_)
      refine lv_aload_n hx hb dX5_meet_54 rfl (lv_at hl 1 rfl) ?_
      refine lv_iload_n hx hb dX5_meet_55 rfl (lv_at hl 2 rfl) ?_
      refine mr_callVI (rest := []) C w h (lw_V q846 q848 qs67 q87 q849) M_supportOf_d rfl rfl ⟨Nat.le_of_ble_eq_true rfl, Nat.le_of_ble_eq_true rfl⟩ rfl hl.1 rfl (Nat.le_of_ble_eq_true rfl) ⟨Nat.zero_le _, Nat.zero_le _⟩ dX5_meet_56 (fun r2 S2 H locs h w => ?_)
      refine lv_aload_n hx hb dX5_meet_59 rfl (lv_at hl 1 rfl) ?_
      refine lv_iload_n hx hb dX5_meet_60 rfl (lv_at hl 4 rfl) ?_
      refine mr_callVI (rest := [.int _]) C w h (lw_V q846 q848 qs67 q87 q849) M_supportOf_d rfl rfl ⟨Nat.le_of_ble_eq_true rfl, Nat.le_of_ble_eq_true rfl⟩ rfl hl.1 rfl (Nat.le_of_ble_eq_true rfl) ⟨Nat.zero_le _, Nat.zero_le _⟩ dX5_meet_61 (fun r3 S3 H locs h w => ?_)
      refine lv_ior hx hb dX5_meet_64 ?_
      refine lv_istore (lv' := [(5, .int _), (4, .int _), (0, .ref _), (1, .int _), (2, .int _), (3, .int _)]) hx hb dX5_meet_65 hl (by decide) rfl (fun ls hl => ?_)
      refine lv_iload hx hb dX5_meet_67 (lv_at hl 1 rfl) ?_
      obtain ⟨h1, h2⟩ := h
      refine lv_if_ge (tgt := 102) hx hb dX5_meet_69 (by decide) (fun c1 => ?_) (fun c1 => ?_)
      · have h := h1 c1
        exact M_meet_a102 C hT7 hT35 hT124 h (lv_sub hl [2, 3, 4, 5] rfl) w
      · have h := h2 c1
        refine lv_aload_n hx hb dX5_meet_72 rfl (lv_at hl 2 rfl) ?_
        refine lv_iload hx hb dX5_meet_73 (lv_at hl 0 rfl) ?_
        refine mr_callVI (rest := []) C w h (lw_V q850 q852 qs68 q87 q853) M_hasOneKind_d rfl rfl ⟨Nat.le_of_ble_eq_true rfl, Nat.le_of_ble_eq_true rfl⟩ rfl hl.1 rfl (Nat.le_of_ble_eq_true rfl) ⟨Nat.zero_le _, Nat.zero_le _⟩ dX5_meet_75 (fun r4 S4 H locs h w => ?_)
        obtain ⟨h1, h2⟩ := h
        refine lv_if_eq (tgt := 102) hx hb dX5_meet_78 (by decide) (fun c1 => ?_) (fun c1 => ?_)
        · have h := h1 c1
          exact M_meet_a102 C hT7 hT35 hT124 h (lv_sub hl [2, 3, 4, 5] rfl) w
        · have h := h2 c1
          refine lv_aload_n hx hb dX5_meet_81 rfl (lv_at hl 2 rfl) ?_
          refine lv_iload_n hx hb dX5_meet_82 rfl (lv_at hl 3 rfl) ?_
          refine lv_iload_n hx hb dX5_meet_83 rfl (lv_at hl 5 rfl) ?_
          refine lv_iload hx hb dX5_meet_84 (lv_at hl 0 rfl) ?_
          refine mr_callVI (rest := []) C w h (lw_V q854 q856 qs69 q87 q857) M_areBeside_d rfl rfl ⟨Nat.le_of_ble_eq_true rfl, Nat.le_of_ble_eq_true rfl⟩ rfl hl.1 rfl (Nat.le_of_ble_eq_true rfl) ⟨Nat.zero_le _, Nat.zero_le _⟩ dX5_meet_86 (fun r5 S5 H locs h w => ?_)
          obtain ⟨h1, h2⟩ := h
          refine lv_if_eq (tgt := 102) hx hb dX5_meet_89 (by decide) (fun c1 => ?_) (fun c1 => ?_)
          · have h := h1 c1
            exact M_meet_a102 C hT7 hT35 hT124 h (lv_sub hl [2, 3, 4, 5] rfl) w
          · have h := h2 c1
            refine lv_aload_n hx hb dX5_meet_92 rfl (lv_at hl 2 rfl) ?_
            refine lv_iload_n hx hb dX5_meet_93 rfl (lv_at hl 3 rfl) ?_
            refine lv_iload_n hx hb dX5_meet_94 rfl (lv_at hl 5 rfl) ?_
            refine lv_iload hx hb dX5_meet_95 (lv_at hl 1 rfl) ?_
            refine lv_ineg hx hb dX5_meet_97 ?_
            refine lv_iload_n hx hb dX5_meet_98 rfl (lv_at hl 4 rfl) ?_
            refine mr_callVV (rest := []) C w h (lw_V q839 q841 qs66 q87 q842) M_layRay_d rfl rfl ⟨Nat.le_of_ble_eq_true rfl, Nat.le_of_ble_eq_true rfl⟩ rfl hl.1 rfl (Nat.le_of_ble_eq_true rfl) ⟨Nat.zero_le _, Nat.zero_le _⟩ dX5_meet_99 (fun S6 H locs h w => ?_)
            exact M_meet_a102 C hT7 hT35 hT124 h (lv_sub hl [2, 3, 4, 5] rfl) w
def M_meet_w33 (post : MS → Prop) (T7 : Int32 → MS → Prop) (T35 : Int32 → Int32 → Int32 → MS → Prop) (T124 : Int32 → MS → Prop) (x1 : Int32) (x2 : Int32) (S : MS) : Prop :=
  T35 x1 x2 (0 : Int32) S
set_option maxHeartbeats 4000000 in
set_option maxRecDepth 100000 in
theorem M_meet_a33 {p : Program} {l : Launch} {e : Env} {s : State} {m : MethodId} {args : Array Value} {below : List Frame} {meth : Method} {c : Code} {D : va_G} {dA : Nat → ClassId} {o : Nat → Nat} {A : Nat → Prop} {post : MS → Prop} {T7 : Int32 → MS → Prop} {T35 : Int32 → Int32 → Int32 → MS → Prop} {T124 : Int32 → MS → Prop} (C : mC p m c cX5_meet 6 s args meth (Option.none : Option Jvm.ClassFile.FieldType) A) (hT7 : ∀ (x1 : Int32) (S : MS), T7 x1 S → ∀ (H : Heap) (locs : List Loc) (ls : Array Slot), lv_has ls 6 [(0, .ref (o 0)), (1, .int x1)] → mw D dA o A s S H locs → W p l e rM_meet s m args below meth c H locs 0 0 (mQv below args s D dA o A post) (F0 m 7 ls [])) (hT35 : ∀ (x1 : Int32) (x2 : Int32) (x3 : Int32) (S : MS), T35 x1 x2 x3 S → ∀ (H : Heap) (locs : List Loc) (ls : Array Slot), lv_has ls 6 [(0, .ref (o 0)), (1, .int x1), (2, .int x2), (3, .int x3)] → mw D dA o A s S H locs → W p l e rM_meet s m args below meth c H locs 0 0 (mQv below args s D dA o A post) (F0 m 35 ls [])) (hT124 : ∀ (x1 : Int32) (S : MS), T124 x1 S → ∀ (H : Heap) (locs : List Loc) (ls : Array Slot), lv_has ls 6 [(0, .ref (o 0)), (1, .int x1)] → mw D dA o A s S H locs → W p l e rM_meet s m args below meth c H locs 0 0 (mQv below args s D dA o A post) (F0 m 124 ls [])) {x1 : Int32} {x2 : Int32} {S : MS} (h : M_meet_w33 post T7 T35 T124 x1 x2 S) {H : Heap} {locs : List Loc} {ls : Array Slot} (hl : lv_has ls 6 [(0, .ref (o 0)), (1, .int x1), (2, .int x2)]) (w : mw D dA o A s S H locs) : W p l e rM_meet s m args below meth c H locs 0 0 (mQv below args s D dA o A post) (F0 m 33 ls []) := by
  unfold M_meet_w33 at h
  obtain ⟨⟨hx, hb, hml, hown, hts⟩, hr, hlk, hA⟩ := id C
  refine lv_iconst (v := 0) hx hb dX5_meet_33 (by decide) ?_
  refine lv_istore_n (lv' := [(3, .int _), (0, .ref _), (1, .int _), (2, .int _)]) hx hb dX5_meet_34 rfl hl (by decide) rfl (fun ls hl => ?_)
  exact hT35 _ _ _ _ h _ _ _ (lv_sub hl [1, 2, 3, 0] rfl) w
def M_meet_w7 (post : MS → Prop) (T7 : Int32 → MS → Prop) (T35 : Int32 → Int32 → Int32 → MS → Prop) (T124 : Int32 → MS → Prop) (x1 : Int32) (S : MS) : Prop :=
  (((gF S 14) ≤ x1 → (fun (S1 : MS) => T124 (0 : Int32) S1) (sF S 14 (gF S 18))) ∧ (¬ (gF S 14) ≤ x1 → M_side x1 S (fun (r2 : Int32) (S2 : MS) => ((¬ r2 = 0 → M_meet_w33 post T7 T35 T124 x1 r2 S2) ∧ (r2 = 0 → M_layRay x1 x1 (1 : Int32) (0 : Int32) S2 (fun (S3 : MS) => M_meet_w33 post T7 T35 T124 x1 r2 S3))))))
set_option maxHeartbeats 4000000 in
set_option maxRecDepth 100000 in
theorem M_meet_a7 {p : Program} {l : Launch} {e : Env} {s : State} {m : MethodId} {args : Array Value} {below : List Frame} {meth : Method} {c : Code} {D : va_G} {dA : Nat → ClassId} {o : Nat → Nat} {A : Nat → Prop} {post : MS → Prop} {T7 : Int32 → MS → Prop} {T35 : Int32 → Int32 → Int32 → MS → Prop} {T124 : Int32 → MS → Prop} (C : mC p m c cX5_meet 6 s args meth (Option.none : Option Jvm.ClassFile.FieldType) A) (hT7 : ∀ (x1 : Int32) (S : MS), T7 x1 S → ∀ (H : Heap) (locs : List Loc) (ls : Array Slot), lv_has ls 6 [(0, .ref (o 0)), (1, .int x1)] → mw D dA o A s S H locs → W p l e rM_meet s m args below meth c H locs 0 0 (mQv below args s D dA o A post) (F0 m 7 ls [])) (hT35 : ∀ (x1 : Int32) (x2 : Int32) (x3 : Int32) (S : MS), T35 x1 x2 x3 S → ∀ (H : Heap) (locs : List Loc) (ls : Array Slot), lv_has ls 6 [(0, .ref (o 0)), (1, .int x1), (2, .int x2), (3, .int x3)] → mw D dA o A s S H locs → W p l e rM_meet s m args below meth c H locs 0 0 (mQv below args s D dA o A post) (F0 m 35 ls [])) (hT124 : ∀ (x1 : Int32) (S : MS), T124 x1 S → ∀ (H : Heap) (locs : List Loc) (ls : Array Slot), lv_has ls 6 [(0, .ref (o 0)), (1, .int x1)] → mw D dA o A s S H locs → W p l e rM_meet s m args below meth c H locs 0 0 (mQv below args s D dA o A post) (F0 m 124 ls [])) {x1 : Int32} {S : MS} (h : M_meet_w7 post T7 T35 T124 x1 S) {H : Heap} {locs : List Loc} {ls : Array Slot} (hl : lv_has ls 6 [(0, .ref (o 0)), (1, .int x1)]) (w : mw D dA o A s S H locs) : W p l e rM_meet s m args below meth c H locs 0 0 (mQv below args s D dA o A post) (F0 m 7 ls []) := by
  unfold M_meet_w7 at h
  obtain ⟨⟨hx, hb, hml, hown, hts⟩, hr, hlk, hA⟩ := id C
  refine lv_iload_n hx hb dX5_meet_7 rfl (lv_at hl 1 rfl) ?_
  refine lv_aload_n hx hb dX5_meet_8 rfl (lv_at hl 0 rfl) ?_
  refine mr_get C w 14 (by decide) q591 rfl rfl dX5_meet_9 ?_
  obtain ⟨h1, h2⟩ := h
  refine lv_icmp_ge (tgt := 114) hx hb dX5_meet_12 (by decide) (fun c1 => ?_) (fun c1 => ?_)
  · have h := h1 c1
    refine lv_aload_n hx hb dX5_meet_114 rfl (lv_at hl 0 rfl) ?_
    refine lv_aload_n hx hb dX5_meet_115 rfl (lv_at hl 0 rfl) ?_
    refine mr_get C w 18 (by decide) q595 rfl rfl dX5_meet_116 ?_
    refine mr_put (ty := .int) C w 14 (by decide) q591 rfl rfl (by decide +kernel) rfl rfl MWf_14 dX5_meet_119 (fun H locs w => ?_)
    refine lv_iconst (v := 0) hx hb dX5_meet_122 (by decide) ?_
    refine lv_istore_n (lv' := [(1, .int _), (0, .ref _)]) hx hb dX5_meet_123 rfl hl (by decide) rfl (fun ls hl => ?_)
    exact hT124 _ _ h _ _ _ (lv_sub hl [1, 0] rfl) w
  · have h := h2 c1
    refine lv_aload_n hx hb dX5_meet_15 rfl (lv_at hl 0 rfl) ?_
    refine lv_iload_n hx hb dX5_meet_16 rfl (lv_at hl 1 rfl) ?_
    refine mr_callVI (rest := []) C w h (lw_V q835 q837 qs65 q87 q838) M_side_d rfl rfl ⟨Nat.le_of_ble_eq_true rfl, Nat.le_of_ble_eq_true rfl⟩ rfl hl.1 rfl (Nat.le_of_ble_eq_true rfl) ⟨Nat.zero_le _, Nat.zero_le _⟩ dX5_meet_17 (fun r2 S2 H locs h w => ?_)
    refine lv_istore_n (lv' := [(2, .int _), (0, .ref _), (1, .int _)]) hx hb dX5_meet_20 rfl hl (by decide) rfl (fun ls hl => ?_)
    refine lv_iload_n hx hb dX5_meet_21 rfl (lv_at hl 0 rfl) ?_
    obtain ⟨h1, h2⟩ := h
    refine lv_if_ne (tgt := 33) hx hb dX5_meet_22 (by decide) (fun c1 => ?_) (fun c1 => ?_)
    · have h := h1 c1
      exact M_meet_a33 C hT7 hT35 hT124 h (lv_sub hl [1, 2, 0] rfl) w
    · have h := h2 c1
      refine lv_aload_n hx hb dX5_meet_25 rfl (lv_at hl 1 rfl) ?_
      refine lv_iload_n hx hb dX5_meet_26 rfl (lv_at hl 2 rfl) ?_
      refine lv_iload_n hx hb dX5_meet_27 rfl (lv_at hl 2 rfl) ?_
      refine lv_iconst (v := 1) hx hb dX5_meet_28 (by decide) ?_
      refine lv_iconst (v := 0) hx hb dX5_meet_29 (by decide) ?_
      refine mr_callVV (rest := []) C w h (lw_V q839 q841 qs66 q87 q842) M_layRay_d rfl rfl ⟨Nat.le_of_ble_eq_true rfl, Nat.le_of_ble_eq_true rfl⟩ rfl hl.1 rfl (Nat.le_of_ble_eq_true rfl) ⟨Nat.zero_le _, Nat.zero_le _⟩ dX5_meet_30 (fun S3 H locs h w => ?_)
      exact M_meet_a33 C hT7 hT35 hT124 h (lv_sub hl [1, 2, 0] rfl) w
def M_meet_w0 (post : MS → Prop) (T7 : Int32 → MS → Prop) (T35 : Int32 → Int32 → Int32 → MS → Prop) (T124 : Int32 → MS → Prop) (S : MS) : Prop :=
  (fun (S1 : MS) => T7 (0 : Int32) S1) (sF S 18 (0 : Int32))
set_option maxHeartbeats 4000000 in
set_option maxRecDepth 100000 in
theorem M_meet_a0 {p : Program} {l : Launch} {e : Env} {s : State} {m : MethodId} {args : Array Value} {below : List Frame} {meth : Method} {c : Code} {D : va_G} {dA : Nat → ClassId} {o : Nat → Nat} {A : Nat → Prop} {post : MS → Prop} {T7 : Int32 → MS → Prop} {T35 : Int32 → Int32 → Int32 → MS → Prop} {T124 : Int32 → MS → Prop} (C : mC p m c cX5_meet 6 s args meth (Option.none : Option Jvm.ClassFile.FieldType) A) (hT7 : ∀ (x1 : Int32) (S : MS), T7 x1 S → ∀ (H : Heap) (locs : List Loc) (ls : Array Slot), lv_has ls 6 [(0, .ref (o 0)), (1, .int x1)] → mw D dA o A s S H locs → W p l e rM_meet s m args below meth c H locs 0 0 (mQv below args s D dA o A post) (F0 m 7 ls [])) (hT35 : ∀ (x1 : Int32) (x2 : Int32) (x3 : Int32) (S : MS), T35 x1 x2 x3 S → ∀ (H : Heap) (locs : List Loc) (ls : Array Slot), lv_has ls 6 [(0, .ref (o 0)), (1, .int x1), (2, .int x2), (3, .int x3)] → mw D dA o A s S H locs → W p l e rM_meet s m args below meth c H locs 0 0 (mQv below args s D dA o A post) (F0 m 35 ls [])) (hT124 : ∀ (x1 : Int32) (S : MS), T124 x1 S → ∀ (H : Heap) (locs : List Loc) (ls : Array Slot), lv_has ls 6 [(0, .ref (o 0)), (1, .int x1)] → mw D dA o A s S H locs → W p l e rM_meet s m args below meth c H locs 0 0 (mQv below args s D dA o A post) (F0 m 124 ls [])) {S : MS} (h : M_meet_w0 post T7 T35 T124 S) {H : Heap} {locs : List Loc} {ls : Array Slot} (hl : lv_has ls 6 [(0, .ref (o 0))]) (w : mw D dA o A s S H locs) : W p l e rM_meet s m args below meth c H locs 0 0 (mQv below args s D dA o A post) (F0 m 0 ls []) := by
  unfold M_meet_w0 at h
  obtain ⟨⟨hx, hb, hml, hown, hts⟩, hr, hlk, hA⟩ := id C
  refine lv_aload_n hx hb dX5_meet_0 rfl (lv_at hl 0 rfl) ?_
  refine lv_iconst (v := 0) hx hb dX5_meet_1 (by decide) ?_
  refine mr_put (ty := .int) C w 18 (by decide) q595 rfl rfl (by decide +kernel) rfl rfl MWf_18 dX5_meet_2 (fun H locs w => ?_)
  refine lv_iconst (v := 0) hx hb dX5_meet_5 (by decide) ?_
  refine lv_istore_n (lv' := [(1, .int _), (0, .ref _)]) hx hb dX5_meet_6 rfl hl (by decide) rfl (fun ls hl => ?_)
  exact hT7 _ _ h _ _ _ (lv_sub hl [1, 0] rfl) w
def M_meet_VC (S : MS) (post : MS → Prop) : Prop := ∀ (T7 : Int32 → MS → Prop) (T35 : Int32 → Int32 → Int32 → MS → Prop) (T124 : Int32 → MS → Prop), (∀ (x1 : Int32) (S : MS), M_meet_w7 post T7 T35 T124 x1 S → T7 x1 S) → (∀ (x1 : Int32) (x2 : Int32) (x3 : Int32) (S : MS), M_meet_w35 post T7 T35 T124 x1 x2 x3 S → T35 x1 x2 x3 S) → (∀ (x1 : Int32) (S : MS), M_meet_w124 post T7 T35 T124 x1 S → T124 x1 S) → M_meet_w0 post T7 T35 T124 S
theorem M_meet_ok {S : MS} {post : MS → Prop} (h : M_meet_VC S post) : M_meet S post := by
  intro l D dA o sz
  refine mr_start (fun A => va_Qv post (mB D dA o A) A) rfl (Nat.le_of_ble_eq_true rfl) (by decide) ?_
  intro p e s m args below meth c ls A C w hl
  have hl : lv_has ls 6 [(0, .ref (o 0))] := hl
  have h := h (fun (x1 : Int32) S => ∀ (H : Heap) (locs : List Loc) (ls : Array Slot), lv_has ls 6 [(0, .ref (o 0)), (1, .int x1)] → mw D dA o A s S H locs → W p l e rM_meet s m args below meth c H locs 0 0 (mQv below args s D dA o A post) (F0 m 7 ls [])) (fun (x1 : Int32) (x2 : Int32) (x3 : Int32) S => ∀ (H : Heap) (locs : List Loc) (ls : Array Slot), lv_has ls 6 [(0, .ref (o 0)), (1, .int x1), (2, .int x2), (3, .int x3)] → mw D dA o A s S H locs → W p l e rM_meet s m args below meth c H locs 0 0 (mQv below args s D dA o A post) (F0 m 35 ls [])) (fun (x1 : Int32) S => ∀ (H : Heap) (locs : List Loc) (ls : Array Slot), lv_has ls 6 [(0, .ref (o 0)), (1, .int x1)] → mw D dA o A s S H locs → W p l e rM_meet s m args below meth c H locs 0 0 (mQv below args s D dA o A post) (F0 m 124 ls [])) (fun _ S h H locs ls hl w => M_meet_a7 C (fun _ _ h => h) (fun _ _ _ _ h => h) (fun _ _ h => h) h hl w) (fun _ _ _ S h H locs ls hl w => M_meet_a35 C (fun _ _ h => h) (fun _ _ _ _ h => h) (fun _ _ h => h) h hl w) (fun _ S h H locs ls hl w => M_meet_a124 C (fun _ _ h => h) (fun _ _ _ _ h => h) (fun _ _ h => h) h hl w)
  exact M_meet_a0 C (fun _ _ h => h) (fun _ _ _ _ h => h) (fun _ _ h => h) h (lv_sub hl [0] rfl) w
