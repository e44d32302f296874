/-! parts()I -/
def M_parts_w31 (post : Int32 → MS → Prop) (v0 : Int32) (S : MS) : Prop :=
  post v0 S
set_option maxHeartbeats 4000000 in
set_option maxRecDepth 100000 in
theorem M_parts_a31 {p : Program} {l : Launch} {e : Env} {s : State} {m : MethodId} {args : Array Value} {below : List Frame} {meth : Method} {c : Code} {D : va_G} {dA : Nat → ClassId} {o : Nat → Nat} {A : Nat → Prop} {post : Int32 → MS → Prop} (C : mC p m c cX5_parts 2 s args meth (Option.some Jvm.ClassFile.FieldType.int) A) {v0 : Int32} {S : MS} (h : M_parts_w31 post v0 S) {H : Heap} {locs : List Loc} {ls : Array Slot} (hl : lv_has ls 2 [(0, .ref (o 0))]) (w : mw D dA o A s S H locs) : W p l e rM_parts s m args below meth c H locs 0 0 (mQi below args s D dA o A post) (F0 m 31 ls [.int v0]) := by
  unfold M_parts_w31 at h
  obtain ⟨⟨hx, hb, hml, hown, hts⟩, hr, hlk, hA⟩ := id C
  exact mr_iret C w h dX5_parts_31
def M_parts_w0 (post : Int32 → MS → Prop) (S : MS) : Prop :=
  M_legal S (fun (r1 : Int32) (S1 : MS) => ((r1 = 0 → M_findParts S1 (fun (r2 : Int32) (S2 : MS) => (((gF S2 19) ≤ (400 : Int32) → M_parts_w31 post r2 S2) ∧ (¬ (gF S2 19) ≤ (400 : Int32) → M_parts_w31 post (-4 : Int32) S2)))) ∧ (¬ r1 = 0 → post (-3 : Int32) S1)))
set_option maxHeartbeats 4000000 in
set_option maxRecDepth 100000 in
theorem M_parts_a0 {p : Program} {l : Launch} {e : Env} {s : State} {m : MethodId} {args : Array Value} {below : List Frame} {meth : Method} {c : Code} {D : va_G} {dA : Nat → ClassId} {o : Nat → Nat} {A : Nat → Prop} {post : Int32 → MS → Prop} (C : mC p m c cX5_parts 2 s args meth (Option.some Jvm.ClassFile.FieldType.int) A) {S : MS} (h : M_parts_w0 post S) {H : Heap} {locs : List Loc} {ls : Array Slot} (hl : lv_has ls 2 [(0, .ref (o 0))]) (w : mw D dA o A s S H locs) : W p l e rM_parts s m args below meth c H locs 0 0 (mQi below args s D dA o A post) (F0 m 0 ls []) := by
  unfold M_parts_w0 at h
  obtain ⟨⟨hx, hb, hml, hown, hts⟩, hr, hlk, hA⟩ := id C
  refine lv_aload_n hx hb dX5_parts_0 rfl (lv_at hl 0 rfl) ?_
  refine mr_callVI (rest := []) C w h (lw_V q894 q883 q884 q87 q885) M_legal_d rfl rfl ⟨Nat.le_of_ble_eq_true rfl, Nat.le_of_ble_eq_true rfl⟩ rfl hl.1 rfl (Nat.le_of_ble_eq_true rfl) ⟨Nat.zero_le _, Nat.zero_le _⟩ dX5_parts_1 (fun r1 S1 H locs h w => ?_)
  obtain ⟨h1, h2⟩ := h
  refine lv_if_eq (tgt := 10) hx hb dX5_parts_4 (by decide) (fun c1 => ?_) (fun c1 => ?_)
  · have h := h1 c1
    refine lv_aload_n hx hb dX5_parts_10 rfl (lv_at hl 0 rfl) ?_
    refine mr_callVI (rest := []) C w h (lw_V q903 q905 qs74 q87 q906) M_findParts_d rfl rfl ⟨Nat.le_of_ble_eq_true rfl, Nat.le_of_ble_eq_true rfl⟩ rfl hl.1 rfl (Nat.le_of_ble_eq_true rfl) ⟨Nat.zero_le _, Nat.zero_le _⟩ dX5_parts_11 (fun r2 S2 H locs h w => ?_)
    refine lv_istore_n (lv' := [(1, .int _), (0, .ref _)]) hx hb dX5_parts_14 rfl hl (by decide) rfl (fun ls hl => ?_)
    refine lv_aload_n hx hb dX5_parts_15 rfl (lv_at hl 1 rfl) ?_
    refine mr_get C w 19 (by decide) q596 rfl rfl dX5_parts_16 ?_
    refine lv_sipush (v := 400) hx hb dX5_parts_19 (by decide) ?_
    obtain ⟨h1, h2⟩ := h
    refine lv_icmp_le (tgt := 30) hx hb dX5_parts_22 (by decide) (fun c1 => ?_) (fun c1 => ?_)
    · have h := h1 c1
      refine lv_iload_n hx hb dX5_parts_30 rfl (lv_at hl 0 rfl) ?_
      exact M_parts_a31 C h (lv_sub hl [1] rfl) w
    · have h := h2 c1
      refine lv_bipush (v := -4) hx hb dX5_parts_25 (by decide) ?_
      refine lv_goto (tgt := 31) hx hb dX5_parts_27 (by decide) ?_
      exact M_parts_a31 C h (lv_sub hl [1] rfl) w
  · have h := h2 c1
    refine lv_bipush (v := -3) hx hb dX5_parts_7 (by decide) ?_
    exact mr_iret C w h dX5_parts_9
def M_parts_VC (S : MS) (post : Int32 → MS → Prop) : Prop := M_parts_w0 post S
theorem M_parts_ok {S : MS} {post : Int32 → MS → Prop} (h : M_parts_VC S post) : M_parts S post := by
  intro l D dA o sz
  refine mr_start (fun A => va_Qi post (mB D dA o A) A) rfl (Nat.le_of_ble_eq_true rfl) (by decide) ?_
  intro p e s m args below meth c ls A C w hl
  have hl : lv_has ls 2 [(0, .ref (o 0))] := hl
  exact M_parts_a0 C h (lv_sub hl [0] rfl) w

/-! cutsOf(I)I -/
def M_cutsOf_w28 (post : Int32 → MS → Prop) (T4 : Int32 → Int32 → Int32 → MS → Prop) (v0 : Int32) (v1 : Int32) (x1 : Int32) (x3 : Int32) (S : MS) : Prop :=
  T4 x1 (v1 + v0) (x3 + (1 : Int32)) S
set_option maxHeartbeats 4000000 in
set_option maxRecDepth 100000 in
theorem M_cutsOf_a28 {p : Program} {l : Launch} {e : Env} {s : State} {m : MethodId} {args : Array Value} {below : List Frame} {meth : Method} {c : Code} {D : va_G} {dA : Nat → ClassId} {o : Nat → Nat} {A : Nat → Prop} {post : Int32 → MS → Prop} {T4 : Int32 → Int32 → Int32 → MS → Prop} (C : mC p m c cX5_cutsOf 4 s args meth (Option.some Jvm.ClassFile.FieldType.int) A) (hT4 : ∀ (x1 : Int32) (x2 : Int32) (x3 : Int32) (S : MS), T4 x1 x2 x3 S → ∀ (H : Heap) (locs : List Loc) (ls : Array Slot), lv_has ls 4 [(0, .ref (o 0)), (1, .int x1), (2, .int x2), (3, .int x3)] → mw D dA o A s S H locs → W p l e rM_cutsOf s m args below meth c H locs 0 0 (mQi below args s D dA o A post) (F0 m 4 ls [])) {v0 : Int32} {v1 : Int32} {x1 : Int32} {x3 : Int32} {S : MS} (h : M_cutsOf_w28 post T4 v0 v1 x1 x3 S) {H : Heap} {locs : List Loc} {ls : Array Slot} (hl : lv_has ls 4 [(0, .ref (o 0)), (1, .int x1), (3, .int x3)]) (w : mw D dA o A s S H locs) : W p l e rM_cutsOf s m args below meth c H locs 0 0 (mQi below args s D dA o A post) (F0 m 28 ls [.int v0, .int v1]) := by
  unfold M_cutsOf_w28 at h
  obtain ⟨⟨hx, hb, hml, hown, hts⟩, hr, hlk, hA⟩ := id C
  refine lv_iadd hx hb dX5_cutsOf_28 ?_
  refine lv_istore_n (lv' := [(2, .int _), (0, .ref _), (1, .int _), (3, .int _)]) hx hb dX5_cutsOf_29 rfl hl (by decide) rfl (fun ls hl => ?_)
  refine lv_iinc (v := _ + (1 : Int32)) (lv' := [(3, .int _), (2, .int _), (0, .ref _), (1, .int _)]) hx hb dX5_cutsOf_30 hl (k := 3) rfl rfl (by decide) rfl (fun ls hl => ?_)
  refine lv_goto (tgt := 4) hx hb dX5_cutsOf_33 (by decide) ?_
  exact hT4 _ _ _ _ h _ _ _ (lv_sub hl [2, 3, 1, 0] rfl) w
def M_cutsOf_w4 (post : Int32 → MS → Prop) (T4 : Int32 → Int32 → Int32 → MS → Prop) (x1 : Int32) (x2 : Int32) (x3 : Int32) (S : MS) : Prop :=
  (((gF S 19) ≤ x3 → post x2 S) ∧ (¬ (gF S 19) ≤ x3 → (vp_in x3 400 ∧ ((¬ (gI S 21 (x3).toNatClampNeg) = x1 → M_cutsOf_w28 post T4 (0 : Int32) x2 x1 x3 S) ∧ ((gI S 21 (x3).toNatClampNeg) = x1 → M_cutsOf_w28 post T4 (1 : Int32) x2 x1 x3 S)))))
set_option maxHeartbeats 4000000 in
set_option maxRecDepth 100000 in
theorem M_cutsOf_a4 {p : Program} {l : Launch} {e : Env} {s : State} {m : MethodId} {args : Array Value} {below : List Frame} {meth : Method} {c : Code} {D : va_G} {dA : Nat → ClassId} {o : Nat → Nat} {A : Nat → Prop} {post : Int32 → MS → Prop} {T4 : Int32 → Int32 → Int32 → MS → Prop} (C : mC p m c cX5_cutsOf 4 s args meth (Option.some Jvm.ClassFile.FieldType.int) A) (hT4 : ∀ (x1 : Int32) (x2 : Int32) (x3 : Int32) (S : MS), T4 x1 x2 x3 S → ∀ (H : Heap) (locs : List Loc) (ls : Array Slot), lv_has ls 4 [(0, .ref (o 0)), (1, .int x1), (2, .int x2), (3, .int x3)] → mw D dA o A s S H locs → W p l e rM_cutsOf s m args below meth c H locs 0 0 (mQi below args s D dA o A post) (F0 m 4 ls [])) {x1 : Int32} {x2 : Int32} {x3 : Int32} {S : MS} (h : M_cutsOf_w4 post T4 x1 x2 x3 S) {H : Heap} {locs : List Loc} {ls : Array Slot} (hl : lv_has ls 4 [(0, .ref (o 0)), (1, .int x1), (2, .int x2), (3, .int x3)]) (w : mw D dA o A s S H locs) : W p l e rM_cutsOf s m args below meth c H locs 0 0 (mQi below args s D dA o A post) (F0 m 4 ls []) := by
  unfold M_cutsOf_w4 at h
  obtain ⟨⟨hx, hb, hml, hown, hts⟩, hr, hlk, hA⟩ := id C
  refine lv_iload_n hx hb dX5_cutsOf_4 rfl (lv_at hl 3 rfl) ?_
  refine lv_aload_n hx hb dX5_cutsOf_5 rfl (lv_at hl 0 rfl) ?_
  refine mr_get C w 19 (by decide) q596 rfl rfl dX5_cutsOf_6 ?_
  obtain ⟨h1, h2⟩ := h
  refine lv_icmp_ge (tgt := 36) hx hb dX5_cutsOf_9 (by decide) (fun c1 => ?_) (fun c1 => ?_)
  · have h := h1 c1
    refine lv_iload_n hx hb dX5_cutsOf_36 rfl (lv_at hl 2 rfl) ?_
    exact mr_iret C w h dX5_cutsOf_37
  · have h := h2 c1
    refine lv_iload_n hx hb dX5_cutsOf_12 rfl (lv_at hl 2 rfl) ?_
    refine lv_aload_n hx hb dX5_cutsOf_13 rfl (lv_at hl 0 rfl) ?_
    refine mr_get C w 21 (by decide) q598 rfl rfl dX5_cutsOf_14 ?_
    refine lv_iload_n hx hb dX5_cutsOf_17 rfl (lv_at hl 3 rfl) ?_
    obtain ⟨hi, h⟩ := h
    refine mr_iald C w 15 14 rfl rfl hi dX5_cutsOf_18 ?_
    refine lv_iload_n hx hb dX5_cutsOf_19 rfl (lv_at hl 1 rfl) ?_
    obtain ⟨h1, h2⟩ := h
    refine lv_icmp_ne (tgt := 27) hx hb dX5_cutsOf_20 (by decide) (fun c1 => ?_) (fun c1 => ?_)
    · have h := h1 c1
      refine lv_iconst (v := 0) hx hb dX5_cutsOf_27 (by decide) ?_
      exact M_cutsOf_a28 C hT4 h (lv_sub hl [0, 1, 3] rfl) w
    · have h := h2 c1
      refine lv_iconst (v := 1) hx hb dX5_cutsOf_23 (by decide) ?_
      refine lv_goto (tgt := 28) hx hb dX5_cutsOf_24 (by decide) ?_
      exact M_cutsOf_a28 C hT4 h (lv_sub hl [0, 1, 3] rfl) w
def M_cutsOf_w0 (post : Int32 → MS → Prop) (T4 : Int32 → Int32 → Int32 → MS → Prop) (x1 : Int32) (S : MS) : Prop :=
  T4 x1 (0 : Int32) (0 : Int32) S
set_option maxHeartbeats 4000000 in
set_option maxRecDepth 100000 in
theorem M_cutsOf_a0 {p : Program} {l : Launch} {e : Env} {s : State} {m : MethodId} {args : Array Value} {below : List Frame} {meth : Method} {c : Code} {D : va_G} {dA : Nat → ClassId} {o : Nat → Nat} {A : Nat → Prop} {post : Int32 → MS → Prop} {T4 : Int32 → Int32 → Int32 → MS → Prop} (C : mC p m c cX5_cutsOf 4 s args meth (Option.some Jvm.ClassFile.FieldType.int) A) (hT4 : ∀ (x1 : Int32) (x2 : Int32) (x3 : Int32) (S : MS), T4 x1 x2 x3 S → ∀ (H : Heap) (locs : List Loc) (ls : Array Slot), lv_has ls 4 [(0, .ref (o 0)), (1, .int x1), (2, .int x2), (3, .int x3)] → mw D dA o A s S H locs → W p l e rM_cutsOf s m args below meth c H locs 0 0 (mQi below args s D dA o A post) (F0 m 4 ls [])) {x1 : Int32} {S : MS} (h : M_cutsOf_w0 post T4 x1 S) {H : Heap} {locs : List Loc} {ls : Array Slot} (hl : lv_has ls 4 [(0, .ref (o 0)), (1, .int x1)]) (w : mw D dA o A s S H locs) : W p l e rM_cutsOf s m args below meth c H locs 0 0 (mQi below args s D dA o A post) (F0 m 0 ls []) := by
  unfold M_cutsOf_w0 at h
  obtain ⟨⟨hx, hb, hml, hown, hts⟩, hr, hlk, hA⟩ := id C
  refine lv_iconst (v := 0) hx hb dX5_cutsOf_0 (by decide) ?_
  refine lv_istore_n (lv' := [(2, .int _), (0, .ref _), (1, .int _)]) hx hb dX5_cutsOf_1 rfl hl (by decide) rfl (fun ls hl => ?_)
  refine lv_iconst (v := 0) hx hb dX5_cutsOf_2 (by decide) ?_
  refine lv_istore_n (lv' := [(3, .int _), (2, .int _), (0, .ref _), (1, .int _)]) hx hb dX5_cutsOf_3 rfl hl (by decide) rfl (fun ls hl => ?_)
  exact hT4 _ _ _ _ h _ _ _ (lv_sub hl [2, 3, 1, 0] rfl) w
def M_cutsOf_VC (x1 : Int32) (S : MS) (post : Int32 → MS → Prop) : Prop := ∀ (T4 : Int32 → Int32 → Int32 → MS → Prop), (∀ (x1 : Int32) (x2 : Int32) (x3 : Int32) (S : MS), M_cutsOf_w4 post T4 x1 x2 x3 S → T4 x1 x2 x3 S) → M_cutsOf_w0 post T4 x1 S
theorem M_cutsOf_ok {x1 : Int32} {S : MS} {post : Int32 → MS → Prop} (h : M_cutsOf_VC x1 S post) : M_cutsOf x1 S post := by
  intro l D dA o sz
  refine mr_start (fun A => va_Qi post (mB D dA o A) A) rfl (Nat.le_of_ble_eq_true rfl) (by decide) ?_
  intro p e s m args below meth c ls A C w hl
  have hl : lv_has ls 4 [(0, .ref (o 0)), (1, .int x1)] := hl
  have h := h (fun (x1 : Int32) (x2 : Int32) (x3 : Int32) S => ∀ (H : Heap) (locs : List Loc) (ls : Array Slot), lv_has ls 4 [(0, .ref (o 0)), (1, .int x1), (2, .int x2), (3, .int x3)] → mw D dA o A s S H locs → W p l e rM_cutsOf s m args below meth c H locs 0 0 (mQi below args s D dA o A post) (F0 m 4 ls [])) (fun _ _ _ S h H locs ls hl w => M_cutsOf_a4 C (fun _ _ _ _ h => h) h hl w)
  exact M_cutsOf_a0 C (fun _ _ _ _ h => h) h (lv_sub hl [0, 1] rfl) w

/-! worth(I)I -/
def M_worth_w143 (post : Int32 → MS → Prop) (T17 : Int32 → Int32 → Int32 → Int32 → MS → Prop) (T72 : Int32 → Int32 → Int32 → Int32 → MS → Prop) (v0 : Int32) (v1 : Int32) (x2 : Int32) (x3 : Int32) (x5 : Int32) (S : MS) : Prop :=
  T72 x2 x3 (v1 - v0) (x5 + (1 : Int32)) S
set_option maxHeartbeats 4000000 in
set_option maxRecDepth 100000 in
theorem M_worth_a143 {p : Program} {l : Launch} {e : Env} {s : State} {m : MethodId} {args : Array Value} {below : List Frame} {meth : Method} {c : Code} {D : va_G} {dA : Nat → ClassId} {o : Nat → Nat} {A : Nat → Prop} {post : Int32 → MS → Prop} {T17 : Int32 → Int32 → Int32 → Int32 → MS → Prop} {T72 : Int32 → Int32 → Int32 → Int32 → MS → Prop} (C : mC p m c cX5_worth 7 s args meth (Option.some Jvm.ClassFile.FieldType.int) A) (hT17 : ∀ (x2 : Int32) (x3 : Int32) (x4 : Int32) (x5 : Int32) (S : MS), T17 x2 x3 x4 x5 S → ∀ (H : Heap) (locs : List Loc) (ls : Array Slot), lv_has ls 7 [(0, .ref (o 0)), (2, .int x2), (3, .int x3), (4, .int x4), (5, .int x5)] → mw D dA o A s S H locs → W p l e rM_worth s m args below meth c H locs 0 0 (mQi below args s D dA o A post) (F0 m 17 ls [])) (hT72 : ∀ (x2 : Int32) (x3 : Int32) (x4 : Int32) (x5 : Int32) (S : MS), T72 x2 x3 x4 x5 S → ∀ (H : Heap) (locs : List Loc) (ls : Array Slot), lv_has ls 7 [(0, .ref (o 0)), (2, .int x2), (3, .int x3), (4, .int x4), (5, .int x5)] → mw D dA o A s S H locs → W p l e rM_worth s m args below meth c H locs 0 0 (mQi below args s D dA o A post) (F0 m 72 ls [])) {v0 : Int32} {v1 : Int32} {x2 : Int32} {x3 : Int32} {x5 : Int32} {S : MS} (h : M_worth_w143 post T17 T72 v0 v1 x2 x3 x5 S) {H : Heap} {locs : List Loc} {ls : Array Slot} (hl : lv_has ls 7 [(0, .ref (o 0)), (2, .int x2), (3, .int x3), (5, .int x5)]) (w : mw D dA o A s S H locs) : W p l e rM_worth s m args below meth c H locs 0 0 (mQi below args s D dA o A post) (F0 m 143 ls [.int v0, .int v1]) := by
  unfold M_worth_w143 at h
  obtain ⟨⟨hx, hb, hml, hown, hts⟩, hr, hlk, hA⟩ := id C
  refine lv_isub hx hb dX5_worth_143 ?_
  refine lv_istore (lv' := [(4, .int _), (0, .ref _), (2, .int _), (3, .int _), (5, .int _)]) hx hb dX5_worth_144 hl (by decide) rfl (fun ls hl => ?_)
  refine lv_iinc (v := _ + (1 : Int32)) (lv' := [(5, .int _), (4, .int _), (0, .ref _), (2, .int _), (3, .int _)]) hx hb dX5_worth_146 hl (k := 4) rfl rfl (by decide) rfl (fun ls hl => ?_)
  refine lv_goto (tgt := 72) hx hb dX5_worth_149 (by decide) ?_
  exact hT72 _ _ _ _ _ h _ _ _ (lv_sub hl [2, 3, 4, 1, 0] rfl) w
def M_worth_w142 (post : Int32 → MS → Prop) (T17 : Int32 → Int32 → Int32 → Int32 → MS → Prop) (T72 : Int32 → Int32 → Int32 → Int32 → MS → Prop) (v0 : Int32) (x2 : Int32) (x3 : Int32) (x5 : Int32) (S : MS) : Prop :=
  M_worth_w143 post T17 T72 (0 : Int32) v0 x2 x3 x5 S
set_option maxHeartbeats 4000000 in
set_option maxRecDepth 100000 in
theorem M_worth_a142 {p : Program} {l : Launch} {e : Env} {s : State} {m : MethodId} {args : Array Value} {below : List Frame} {meth : Method} {c : Code} {D : va_G} {dA : Nat → ClassId} {o : Nat → Nat} {A : Nat → Prop} {post : Int32 → MS → Prop} {T17 : Int32 → Int32 → Int32 → Int32 → MS → Prop} {T72 : Int32 → Int32 → Int32 → Int32 → MS → Prop} (C : mC p m c cX5_worth 7 s args meth (Option.some Jvm.ClassFile.FieldType.int) A) (hT17 : ∀ (x2 : Int32) (x3 : Int32) (x4 : Int32) (x5 : Int32) (S : MS), T17 x2 x3 x4 x5 S → ∀ (H : Heap) (locs : List Loc) (ls : Array Slot), lv_has ls 7 [(0, .ref (o 0)), (2, .int x2), (3, .int x3), (4, .int x4), (5, .int x5)] → mw D dA o A s S H locs → W p l e rM_worth s m args below meth c H locs 0 0 (mQi below args s D dA o A post) (F0 m 17 ls [])) (hT72 : ∀ (x2 : Int32) (x3 : Int32) (x4 : Int32) (x5 : Int32) (S : MS), T72 x2 x3 x4 x5 S → ∀ (H : Heap) (locs : List Loc) (ls : Array Slot), lv_has ls 7 [(0, .ref (o 0)), (2, .int x2), (3, .int x3), (4, .int x4), (5, .int x5)] → mw D dA o A s S H locs → W p l e rM_worth s m args below meth c H locs 0 0 (mQi below args s D dA o A post) (F0 m 72 ls [])) {v0 : Int32} {x2 : Int32} {x3 : Int32} {x5 : Int32} {S : MS} (h : M_worth_w142 post T17 T72 v0 x2 x3 x5 S) {H : Heap} {locs : List Loc} {ls : Array Slot} (hl : lv_has ls 7 [(0, .ref (o 0)), (2, .int x2), (3, .int x3), (5, .int x5)]) (w : mw D dA o A s S H locs) : W p l e rM_worth s m args below meth c H locs 0 0 (mQi below args s D dA o A post) (F0 m 142 ls [.int v0]) := by
  unfold M_worth_w142 at h
  obtain ⟨⟨hx, hb, hml, hown, hts⟩, hr, hlk, hA⟩ := id C
  refine lv_iconst (v := 0) hx hb dX5_worth_142 (by decide) ?_
  exact M_worth_a143 C hT17 hT72 h (lv_sub hl [0, 1, 2, 3] rfl) w
def M_worth_w138 (post : Int32 → MS → Prop) (T17 : Int32 → Int32 → Int32 → Int32 → MS → Prop) (T72 : Int32 → Int32 → Int32 → Int32 → MS → Prop) (v0 : Int32) (x2 : Int32) (x3 : Int32) (x5 : Int32) (S : MS) : Prop :=
  M_worth_w143 post T17 T72 (1 : Int32) v0 x2 x3 x5 S
set_option maxHeartbeats 4000000 in
set_option maxRecDepth 100000 in
theorem M_worth_a138 {p : Program} {l : Launch} {e : Env} {s : State} {m : MethodId} {args : Array Value} {below : List Frame} {meth : Method} {c : Code} {D : va_G} {dA : Nat → ClassId} {o : Nat → Nat} {A : Nat → Prop} {post : Int32 → MS → Prop} {T17 : Int32 → Int32 → Int32 → Int32 → MS → Prop} {T72 : Int32 → Int32 → Int32 → Int32 → MS → Prop} (C : mC p m c cX5_worth 7 s args meth (Option.some Jvm.ClassFile.FieldType.int) A) (hT17 : ∀ (x2 : Int32) (x3 : Int32) (x4 : Int32) (x5 : Int32) (S : MS), T17 x2 x3 x4 x5 S → ∀ (H : Heap) (locs : List Loc) (ls : Array Slot), lv_has ls 7 [(0, .ref (o 0)), (2, .int x2), (3, .int x3), (4, .int x4), (5, .int x5)] → mw D dA o A s S H locs → W p l e rM_worth s m args below meth c H locs 0 0 (mQi below args s D dA o A post) (F0 m 17 ls [])) (hT72 : ∀ (x2 : Int32) (x3 : Int32) (x4 : Int32) (x5 : Int32) (S : MS), T72 x2 x3 x4 x5 S → ∀ (H : Heap) (locs : List Loc) (ls : Array Slot), lv_has ls 7 [(0, .ref (o 0)), (2, .int x2), (3, .int x3), (4, .int x4), (5, .int x5)] → mw D dA o A s S H locs → W p l e rM_worth s m args below meth c H locs 0 0 (mQi below args s D dA o A post) (F0 m 72 ls [])) {v0 : Int32} {x2 : Int32} {x3 : Int32} {x5 : Int32} {S : MS} (h : M_worth_w138 post T17 T72 v0 x2 x3 x5 S) {H : Heap} {locs : List Loc} {ls : Array Slot} (hl : lv_has ls 7 [(0, .ref (o 0)), (2, .int x2), (3, .int x3), (5, .int x5)]) (w : mw D dA o A s S H locs) : W p l e rM_worth s m args below meth c H locs 0 0 (mQi below args s D dA o A post) (F0 m 138 ls [.int v0]) := by
  unfold M_worth_w138 at h
  obtain ⟨⟨hx, hb, hml, hown, hts⟩, hr, hlk, hA⟩ := id C
  refine lv_iconst (v := 1) hx hb dX5_worth_138 (by decide) ?_
  refine lv_goto (tgt := 143) hx hb dX5_worth_139 (by decide) ?_
  exact M_worth_a143 C hT17 hT72 h (lv_sub hl [0, 1, 2, 3] rfl) w
def M_worth_w106 (post : Int32 → MS → Prop) (T17 : Int32 → Int32 → Int32 → Int32 → MS → Prop) (T72 : Int32 → Int32 → Int32 → Int32 → MS → Prop) (v0 : Int32) (x2 : Int32) (x3 : Int32) (x4 : Int32) (x5 : Int32) (S : MS) : Prop :=
  ((v0 = 0 → M_worth_w142 post T17 T72 x4 x2 x3 x5 S) ∧ (¬ v0 = 0 → (vp_in x5 12 ∧ (((gI S 1 (x5).toNatClampNeg) = (-1 : Int32) → M_worth_w138 post T17 T72 x4 x2 x3 x5 S) ∧ (¬ (gI S 1 (x5).toNatClampNeg) = (-1 : Int32) → (vp_in x5 12 ∧ (((gI S 1 (x5).toNatClampNeg) ≤ x5 → M_worth_w142 post T17 T72 x4 x2 x3 x5 S) ∧ (¬ (gI S 1 (x5).toNatClampNeg) ≤ x5 → M_worth_w138 post T17 T72 x4 x2 x3 x5 S))))))))
set_option maxHeartbeats 4000000 in
set_option maxRecDepth 100000 in
theorem M_worth_a106 {p : Program} {l : Launch} {e : Env} {s : State} {m : MethodId} {args : Array Value} {below : List Frame} {meth : Method} {c : Code} {D : va_G} {dA : Nat → ClassId} {o : Nat → Nat} {A : Nat → Prop} {post : Int32 → MS → Prop} {T17 : Int32 → Int32 → Int32 → Int32 → MS → Prop} {T72 : Int32 → Int32 → Int32 → Int32 → MS → Prop} (C : mC p m c cX5_worth 7 s args meth (Option.some Jvm.ClassFile.FieldType.int) A) (hT17 : ∀ (x2 : Int32) (x3 : Int32) (x4 : Int32) (x5 : Int32) (S : MS), T17 x2 x3 x4 x5 S → ∀ (H : Heap) (locs : List Loc) (ls : Array Slot), lv_has ls 7 [(0, .ref (o 0)), (2, .int x2), (3, .int x3), (4, .int x4), (5, .int x5)] → mw D dA o A s S H locs → W p l e rM_worth s m args below meth c H locs 0 0 (mQi below args s D dA o A post) (F0 m 17 ls [])) (hT72 : ∀ (x2 : Int32) (x3 : Int32) (x4 : Int32) (x5 : Int32) (S : MS), T72 x2 x3 x4 x5 S → ∀ (H : Heap) (locs : List Loc) (ls : Array Slot), lv_has ls 7 [(0, .ref (o 0)), (2, .int x2), (3, .int x3), (4, .int x4), (5, .int x5)] → mw D dA o A s S H locs → W p l e rM_worth s m args below meth c H locs 0 0 (mQi below args s D dA o A post) (F0 m 72 ls [])) {v0 : Int32} {x2 : Int32} {x3 : Int32} {x4 : Int32} {x5 : Int32} {S : MS} (h : M_worth_w106 post T17 T72 v0 x2 x3 x4 x5 S) {H : Heap} {locs : List Loc} {ls : Array Slot} (hl : lv_has ls 7 [(0, .ref (o 0)), (2, .int x2), (3, .int x3), (4, .int x4), (5, .int x5)]) (w : mw D dA o A s S H locs) : W p l e rM_worth s m args below meth c H locs 0 0 (mQi below args s D dA o A post) (F0 m 106 ls [.int v0]) := by
  unfold M_worth_w106 at h
  obtain ⟨⟨hx, hb, hml, hown, hts⟩, hr, hlk, hA⟩ := id C
  refine lv_istore (lv' := [(6, .int _), (0, .ref _), (2, .int _), (3, .int _), (4, .int _), (5, .int _)]) hx hb dX5_worth_106 hl (by decide) rfl (fun ls hl => ?_)
  refine lv_iload hx hb dX5_worth_108 (lv_at hl 4 rfl) ?_
  refine lv_iload hx hb dX5_worth_110 (lv_at hl 0 rfl) ?_
  obtain ⟨h1, h2⟩ := h
  refine lv_if_eq (tgt := 142) hx hb dX5_worth_112 (by decide) (fun c1 => ?_) (fun c1 => ?_)
  · have h := h1 c1
    exact M_worth_a142 C hT17 hT72 h (lv_sub hl [1, 2, 3, 5] rfl) w
  · have h := h2 c1
    refine lv_aload_n hx hb dX5_worth_115 rfl (lv_at hl 1 rfl) ?_
    refine mr_get C w 1 (by decide) q578 rfl rfl dX5_worth_116 ?_
    refine lv_iload hx hb dX5_worth_119 (lv_at hl 5 rfl) ?_
    obtain ⟨hi, h⟩ := h
    refine mr_iald C w 1 0 rfl rfl hi dX5_worth_121 ?_
    refine lv_iconst (v := -1) hx hb dX5_worth_122 (by decide) ?_
    obtain ⟨h1, h2⟩ := h
    refine lv_icmp_eq (tgt := 138) hx hb dX5_worth_123 (by decide) (fun c1 => ?_) (fun c1 => ?_)
    · have h := h1 c1
      exact M_worth_a138 C hT17 hT72 h (lv_sub hl [1, 2, 3, 5] rfl) w
    · have h := h2 c1
      refine lv_iload hx hb dX5_worth_126 (lv_at hl 5 rfl) ?_
      refine lv_aload_n hx hb dX5_worth_128 rfl (lv_at hl 1 rfl) ?_
      refine mr_get C w 1 (by decide) q578 rfl rfl dX5_worth_129 ?_
      refine lv_iload hx hb dX5_worth_132 (lv_at hl 5 rfl) ?_
      obtain ⟨hi, h⟩ := h
      refine mr_iald C w 1 0 rfl rfl hi dX5_worth_134 ?_
      obtain ⟨h1, h2⟩ := h
      refine lv_icmp_ge (tgt := 142) hx hb dX5_worth_135 (by decide) (fun c1 => ?_) (fun c1 => ?_)
      · have h := h1 c1
        exact M_worth_a142 C hT17 hT72 h (lv_sub hl [1, 2, 3, 5] rfl) w
      · have h := h2 c1
        exact M_worth_a138 C hT17 hT72 h (lv_sub hl [1, 2, 3, 5] rfl) w
def M_worth_w101 (post : Int32 → MS → Prop) (T17 : Int32 → Int32 → Int32 → Int32 → MS → Prop) (T72 : Int32 → Int32 → Int32 → Int32 → MS → Prop) (x2 : Int32) (x3 : Int32) (x4 : Int32) (x5 : Int32) (S : MS) : Prop :=
  M_worth_w106 post T17 T72 (1 : Int32) x2 x3 x4 x5 S
set_option maxHeartbeats 4000000 in
set_option maxRecDepth 100000 in
theorem M_worth_a101 {p : Program} {l : Launch} {e : Env} {s : State} {m : MethodId} {args : Array Value} {below : List Frame} {meth : Method} {c : Code} {D : va_G} {dA : Nat → ClassId} {o : Nat → Nat} {A : Nat → Prop} {post : Int32 → MS → Prop} {T17 : Int32 → Int32 → Int32 → Int32 → MS → Prop} {T72 : Int32 → Int32 → Int32 → Int32 → MS → Prop} (C : mC p m c cX5_worth 7 s args meth (Option.some Jvm.ClassFile.FieldType.int) A) (hT17 : ∀ (x2 : Int32) (x3 : Int32) (x4 : Int32) (x5 : Int32) (S : MS), T17 x2 x3 x4 x5 S → ∀ (H : Heap) (locs : List Loc) (ls : Array Slot), lv_has ls 7 [(0, .ref (o 0)), (2, .int x2), (3, .int x3), (4, .int x4), (5, .int x5)] → mw D dA o A s S H locs → W p l e rM_worth s m args below meth c H locs 0 0 (mQi below args s D dA o A post) (F0 m 17 ls [])) (hT72 : ∀ (x2 : Int32) (x3 : Int32) (x4 : Int32) (x5 : Int32) (S : MS), T72 x2 x3 x4 x5 S → ∀ (H : Heap) (locs : List Loc) (ls : Array Slot), lv_has ls 7 [(0, .ref (o 0)), (2, .int x2), (3, .int x3), (4, .int x4), (5, .int x5)] → mw D dA o A s S H locs → W p l e rM_worth s m args below meth c H locs 0 0 (mQi below args s D dA o A post) (F0 m 72 ls [])) {x2 : Int32} {x3 : Int32} {x4 : Int32} {x5 : Int32} {S : MS} (h : M_worth_w101 post T17 T72 x2 x3 x4 x5 S) {H : Heap} {locs : List Loc} {ls : Array Slot} (hl : lv_has ls 7 [(0, .ref (o 0)), (2, .int x2), (3, .int x3), (4, .int x4), (5, .int x5)]) (w : mw D dA o A s S H locs) : W p l e rM_worth s m args below meth c H locs 0 0 (mQi below args s D dA o A post) (F0 m 101 ls []) := by
  unfold M_worth_w101 at h
  obtain ⟨⟨hx, hb, hml, hown, hts⟩, hr, hlk, hA⟩ := id C
  refine lv_iconst (v := 1) hx hb dX5_worth_101 (by decide) ?_
  refine lv_goto (tgt := 106) hx hb dX5_worth_102 (by decide) ?_
  exact M_worth_a106 C hT17 hT72 h (lv_sub hl [0, 1, 2, 3, 4] rfl) w
def M_worth_w72 (post : Int32 → MS → Prop) (T17 : Int32 → Int32 → Int32 → Int32 → MS → Prop) (T72 : Int32 → Int32 → Int32 → Int32 → MS → Prop) (x2 : Int32) (x3 : Int32) (x4 : Int32) (x5 : Int32) (S : MS) : Prop :=
  (((((4 : Int32) * x3) + (4 : Int32)) ≤ x5 → post x4 S) ∧ (¬ (((4 : Int32) * x3) + (4 : Int32)) ≤ x5 → (((3 : Int32) < (x2 - x2 / (7 : Int32) * (7 : Int32)) → M_worth_w101 post T17 T72 x2 x3 x4 x5 S) ∧ (¬ (3 : Int32) < (x2 - x2 / (7 : Int32) * (7 : Int32)) → (((x5 - x5 / (4 : Int32) * (4 : Int32)) = (x2 - x2 / (7 : Int32) * (7 : Int32)) → M_worth_w106 post T17 T72 (0 : Int32) x2 x3 x4 x5 S) ∧ (¬ (x5 - x5 / (4 : Int32) * (4 : Int32)) = (x2 - x2 / (7 : Int32) * (7 : Int32)) → M_worth_w101 post T17 T72 x2 x3 x4 x5 S))))))
set_option maxHeartbeats 4000000 in
set_option maxRecDepth 100000 in
theorem M_worth_a72 {p : Program} {l : Launch} {e : Env} {s : State} {m : MethodId} {args : Array Value} {below : List Frame} {meth : Method} {c : Code} {D : va_G} {dA : Nat → ClassId} {o : Nat → Nat} {A : Nat → Prop} {post : Int32 → MS → Prop} {T17 : Int32 → Int32 → Int32 → Int32 → MS → Prop} {T72 : Int32 → Int32 → Int32 → Int32 → MS → Prop} (C : mC p m c cX5_worth 7 s args meth (Option.some Jvm.ClassFile.FieldType.int) A) (hT17 : ∀ (x2 : Int32) (x3 : Int32) (x4 : Int32) (x5 : Int32) (S : MS), T17 x2 x3 x4 x5 S → ∀ (H : Heap) (locs : List Loc) (ls : Array Slot), lv_has ls 7 [(0, .ref (o 0)), (2, .int x2), (3, .int x3), (4, .int x4), (5, .int x5)] → mw D dA o A s S H locs → W p l e rM_worth s m args below meth c H locs 0 0 (mQi below args s D dA o A post) (F0 m 17 ls [])) (hT72 : ∀ (x2 : Int32) (x3 : Int32) (x4 : Int32) (x5 : Int32) (S : MS), T72 x2 x3 x4 x5 S → ∀ (H : Heap) (locs : List Loc) (ls : Array Slot), lv_has ls 7 [(0, .ref (o 0)), (2, .int x2), (3, .int x3), (4, .int x4), (5, .int x5)] → mw D dA o A s S H locs → W p l e rM_worth s m args below meth c H locs 0 0 (mQi below args s D dA o A post) (F0 m 72 ls [])) {x2 : Int32} {x3 : Int32} {x4 : Int32} {x5 : Int32} {S : MS} (h : M_worth_w72 post T17 T72 x2 x3 x4 x5 S) {H : Heap} {locs : List Loc} {ls : Array Slot} (hl : lv_has ls 7 [(0, .ref (o 0)), (2, .int x2), (3, .int x3), (4, .int x4), (5, .int x5)]) (w : mw D dA o A s S H locs) : W p l e rM_worth s m args below meth c H locs 0 0 (mQi below args s D dA o A post) (F0 m 72 ls []) := by
  unfold M_worth_w72 at h
  obtain ⟨⟨hx, hb, hml, hown, hts⟩, hr, hlk, hA⟩ := id C
  refine lv_iload hx hb dX5_worth_72 (lv_at hl 4 rfl) ?_
  refine lv_iconst (v := 4) hx hb dX5_worth_74 (by decide) ?_
  refine lv_iload_n hx hb dX5_worth_75 rfl (lv_at hl 2 rfl) ?_
  refine lv_imul hx hb dX5_worth_76 ?_
  refine lv_iconst (v := 4) hx hb dX5_worth_77 (by decide) ?_
  refine lv_iadd hx hb dX5_worth_78 ?_
  obtain ⟨h1, h2⟩ := h
  refine lv_icmp_ge (tgt := 152) hx hb dX5_worth_79 (by decide) (fun c1 => ?_) (fun c1 => ?_)
  · have h := h1 c1
    refine lv_iload hx hb dX5_worth_152 (lv_at hl 3 rfl) ?_
    exact mr_iret C w h dX5_worth_154
  · have h := h2 c1
    refine lv_iload_n hx hb dX5_worth_82 rfl (lv_at hl 1 rfl) ?_
    refine lv_bipush (v := 7) hx hb dX5_worth_83 (by decide) ?_
    refine lv_irem hx hb dX5_worth_85 (by decide) ?_
    refine lv_iconst (v := 3) hx hb dX5_worth_86 (by decide) ?_
    obtain ⟨h1, h2⟩ := h
    refine lv_icmp_gt (tgt := 101) hx hb dX5_worth_87 (by decide) (fun c1 => ?_) (fun c1 => ?_)
    · have h := h1 c1
      exact M_worth_a101 C hT17 hT72 h (lv_sub hl [0, 1, 2, 3, 4] rfl) w
    · have h := h2 c1
      refine lv_iload hx hb dX5_worth_90 (lv_at hl 4 rfl) ?_
      refine lv_iconst (v := 4) hx hb dX5_worth_92 (by decide) ?_
      refine lv_irem hx hb dX5_worth_93 (by decide) ?_
      refine lv_iload_n hx hb dX5_worth_94 rfl (lv_at hl 1 rfl) ?_
      refine lv_bipush (v := 7) hx hb dX5_worth_95 (by decide) ?_
      refine lv_irem hx hb dX5_worth_97 (by decide) ?_
      obtain ⟨h1, h2⟩ := h
      refine lv_icmp_eq (tgt := 105) hx hb dX5_worth_98 (by decide) (fun c1 => ?_) (fun c1 => ?_)
      · have h := h1 c1
        refine lv_iconst (v := 0) hx hb dX5_worth_105 (by decide) ?_
        exact M_worth_a106 C hT17 hT72 h (lv_sub hl [0, 1, 2, 3, 4] rfl) w
      · have h := h2 c1
        exact M_worth_a101 C hT17 hT72 h (lv_sub hl [0, 1, 2, 3, 4] rfl) w
def M_worth_w58 (post : Int32 → MS → Prop) (T17 : Int32 → Int32 → Int32 → Int32 → MS → Prop) (T72 : Int32 → Int32 → Int32 → Int32 → MS → Prop) (v0 : Int32) (v1 : Int32) (x2 : Int32) (x3 : Int32) (x5 : Int32) (S : MS) : Prop :=
  T17 x2 x3 (v1 + v0) (x5 + (1 : Int32)) S
set_option maxHeartbeats 4000000 in
set_option maxRecDepth 100000 in
theorem M_worth_a58 {p : Program} {l : Launch} {e : Env} {s : State} {m : MethodId} {args : Array Value} {below : List Frame} {meth : Method} {c : Code} {D : va_G} {dA : Nat → ClassId} {o : Nat → Nat} {A : Nat → Prop} {post : Int32 → MS → Prop} {T17 : Int32 → Int32 → Int32 → Int32 → MS → Prop} {T72 : Int32 → Int32 → Int32 → Int32 → MS → Prop} (C : mC p m c cX5_worth 7 s args meth (Option.some Jvm.ClassFile.FieldType.int) A) (hT17 : ∀ (x2 : Int32) (x3 : Int32) (x4 : Int32) (x5 : Int32) (S : MS), T17 x2 x3 x4 x5 S → ∀ (H : Heap) (locs : List Loc) (ls : Array Slot), lv_has ls 7 [(0, .ref (o 0)), (2, .int x2), (3, .int x3), (4, .int x4), (5, .int x5)] → mw D dA o A s S H locs → W p l e rM_worth s m args below meth c H locs 0 0 (mQi below args s D dA o A post) (F0 m 17 ls [])) (hT72 : ∀ (x2 : Int32) (x3 : Int32) (x4 : Int32) (x5 : Int32) (S : MS), T72 x2 x3 x4 x5 S → ∀ (H : Heap) (locs : List Loc) (ls : Array Slot), lv_has ls 7 [(0, .ref (o 0)), (2, .int x2), (3, .int x3), (4, .int x4), (5, .int x5)] → mw D dA o A s S H locs → W p l e rM_worth s m args below meth c H locs 0 0 (mQi below args s D dA o A post) (F0 m 72 ls [])) {v0 : Int32} {v1 : Int32} {x2 : Int32} {x3 : Int32} {x5 : Int32} {S : MS} (h : M_worth_w58 post T17 T72 v0 v1 x2 x3 x5 S) {H : Heap} {locs : List Loc} {ls : Array Slot} (hl : lv_has ls 7 [(0, .ref (o 0)), (2, .int x2), (3, .int x3), (5, .int x5)]) (w : mw D dA o A s S H locs) : W p l e rM_worth s m args below meth c H locs 0 0 (mQi below args s D dA o A post) (F0 m 58 ls [.int v0, .int v1]) := by
  unfold M_worth_w58 at h
  obtain ⟨⟨hx, hb, hml, hown, hts⟩, hr, hlk, hA⟩ := id C
  refine lv_iadd hx hb dX5_worth_58 ?_
  refine lv_istore (lv' := [(4, .int _), (0, .ref _), (2, .int _), (3, .int _), (5, .int _)]) hx hb dX5_worth_59 hl (by decide) rfl (fun ls hl => ?_)
  refine lv_iinc (v := _ + (1 : Int32)) (lv' := [(5, .int _), (4, .int _), (0, .ref _), (2, .int _), (3, .int _)]) hx hb dX5_worth_61 hl (k := 4) rfl rfl (by decide) rfl (fun ls hl => ?_)
  refine lv_goto (tgt := 17) hx hb dX5_worth_64 (by decide) ?_
  exact hT17 _ _ _ _ _ h _ _ _ (lv_sub hl [2, 3, 4, 1, 0] rfl) w
def M_worth_w57 (post : Int32 → MS → Prop) (T17 : Int32 → Int32 → Int32 → Int32 → MS → Prop) (T72 : Int32 → Int32 → Int32 → Int32 → MS → Prop) (v0 : Int32) (x2 : Int32) (x3 : Int32) (x5 : Int32) (S : MS) : Prop :=
  M_worth_w58 post T17 T72 (0 : Int32) v0 x2 x3 x5 S
set_option maxHeartbeats 4000000 in
set_option maxRecDepth 100000 in
theorem M_worth_a57 {p : Program} {l : Launch} {e : Env} {s : State} {m : MethodId} {args : Array Value} {below : List Frame} {meth : Method} {c : Code} {D : va_G} {dA : Nat → ClassId} {o : Nat → Nat} {A : Nat → Prop} {post : Int32 → MS → Prop} {T17 : Int32 → Int32 → Int32 → Int32 → MS → Prop} {T72 : Int32 → Int32 → Int32 → Int32 → MS → Prop} (C : mC p m c cX5_worth 7 s args meth (Option.some Jvm.ClassFile.FieldType.int) A) (hT17 : ∀ (x2 : Int32) (x3 : Int32) (x4 : Int32) (x5 : Int32) (S : MS), T17 x2 x3 x4 x5 S → ∀ (H : Heap) (locs : List Loc) (ls : Array Slot), lv_has ls 7 [(0, .ref (o 0)), (2, .int x2), (3, .int x3), (4, .int x4), (5, .int x5)] → mw D dA o A s S H locs → W p l e rM_worth s m args below meth c H locs 0 0 (mQi below args s D dA o A post) (F0 m 17 ls [])) (hT72 : ∀ (x2 : Int32) (x3 : Int32) (x4 : Int32) (x5 : Int32) (S : MS), T72 x2 x3 x4 x5 S → ∀ (H : Heap) (locs : List Loc) (ls : Array Slot), lv_has ls 7 [(0, .ref (o 0)), (2, .int x2), (3, .int x3), (4, .int x4), (5, .int x5)] → mw D dA o A s S H locs → W p l e rM_worth s m args below meth c H locs 0 0 (mQi below args s D dA o A post) (F0 m 72 ls [])) {v0 : Int32} {x2 : Int32} {x3 : Int32} {x5 : Int32} {S : MS} (h : M_worth_w57 post T17 T72 v0 x2 x3 x5 S) {H : Heap} {locs : List Loc} {ls : Array Slot} (hl : lv_has ls 7 [(0, .ref (o 0)), (2, .int x2), (3, .int x3), (5, .int x5)]) (w : mw D dA o A s S H locs) : W p l e rM_worth s m args below meth c H locs 0 0 (mQi below args s D dA o A post) (F0 m 57 ls [.int v0]) := by
  unfold M_worth_w57 at h
  obtain ⟨⟨hx, hb, hml, hown, hts⟩, hr, hlk, hA⟩ := id C
  refine lv_iconst (v := 0) hx hb dX5_worth_57 (by decide) ?_
  exact M_worth_a58 C hT17 hT72 h (lv_sub hl [0, 1, 2, 3] rfl) w
def M_worth_w17 (post : Int32 → MS → Prop) (T17 : Int32 → Int32 → Int32 → Int32 → MS → Prop) (T72 : Int32 → Int32 → Int32 → Int32 → MS → Prop) (x2 : Int32) (x3 : Int32) (x4 : Int32) (x5 : Int32) (S : MS) : Prop :=
  (((6 : Int32) ≤ x5 → T72 x2 x3 x4 ((4 : Int32) * x3) S) ∧ (¬ (6 : Int32) ≤ x5 → M_isFirstEdge (((6 : Int32) * x3) + x5) S (fun (r1 : Int32) (S1 : MS) => ((r1 = 0 → M_worth_w57 post T17 T72 x4 x2 x3 x5 S1) ∧ (¬ r1 = 0 → M_meets (x2 - x2 / (7 : Int32) * (7 : Int32)) x5 S1 (fun (r2 : Int32) (S2 : MS) => ((r2 = 0 → M_worth_w57 post T17 T72 x4 x2 x3 x5 S2) ∧ (¬ r2 = 0 → M_worth_w58 post T17 T72 (1 : Int32) x4 x2 x3 x5 S2))))))))
set_option maxHeartbeats 4000000 in
set_option maxRecDepth 100000 in
theorem M_worth_a17 {p : Program} {l : Launch} {e : Env} {s : State} {m : MethodId} {args : Array Value} {below : List Frame} {meth : Method} {c : Code} {D : va_G} {dA : Nat → ClassId} {o : Nat → Nat} {A : Nat → Prop} {post : Int32 → MS → Prop} {T17 : Int32 → Int32 → Int32 → Int32 → MS → Prop} {T72 : Int32 → Int32 → Int32 → Int32 → MS → Prop} (C : mC p m c cX5_worth 7 s args meth (Option.some Jvm.ClassFile.FieldType.int) A) (hT17 : ∀ (x2 : Int32) (x3 : Int32) (x4 : Int32) (x5 : Int32) (S : MS), T17 x2 x3 x4 x5 S → ∀ (H : Heap) (locs : List Loc) (ls : Array Slot), lv_has ls 7 [(0, .ref (o 0)), (2, .int x2), (3, .int x3), (4, .int x4), (5, .int x5)] → mw D dA o A s S H locs → W p l e rM_worth s m args below meth c H locs 0 0 (mQi below args s D dA o A post) (F0 m 17 ls [])) (hT72 : ∀ (x2 : Int32) (x3 : Int32) (x4 : Int32) (x5 : Int32) (S : MS), T72 x2 x3 x4 x5 S → ∀ (H : Heap) (locs : List Loc) (ls : Array Slot), lv_has ls 7 [(0, .ref (o 0)), (2, .int x2), (3, .int x3), (4, .int x4), (5, .int x5)] → mw D dA o A s S H locs → W p l e rM_worth s m args below meth c H locs 0 0 (mQi below args s D dA o A post) (F0 m 72 ls [])) {x2 : Int32} {x3 : Int32} {x4 : Int32} {x5 : Int32} {S : MS} (h : M_worth_w17 post T17 T72 x2 x3 x4 x5 S) {H : Heap} {locs : List Loc} {ls : Array Slot} (hl : lv_has ls 7 [(0, .ref (o 0)), (2, .int x2), (3, .int x3), (4, .int x4), (5, .int x5)]) (w : mw D dA o A s S H locs) : W p l e rM_worth s m args below meth c H locs 0 0 (mQi below args s D dA o A post) (F0 m 17 ls []) := by
  unfold M_worth_w17 at h
  obtain ⟨⟨hx, hb, hml, hown, hts⟩, hr, hlk, hA⟩ := id C
  refine lv_iload hx hb dX5_worth_17 (lv_at hl 4 rfl) ?_
  refine lv_bipush (v := 6) hx hb dX5_worth_19 (by decide) ?_
  obtain ⟨h1, h2⟩ := h
  refine lv_icmp_ge (tgt := 67) hx hb dX5_worth_21 (by decide) (fun c1 => ?_) (fun c1 => ?_)
  · have h := h1 c1
    refine lv_iconst (v := 4) hx hb dX5_worth_67 (by decide) ?_
    refine lv_iload_n hx hb dX5_worth_68 rfl (lv_at hl 2 rfl) ?_
    refine lv_imul hx hb dX5_worth_69 ?_
    refine lv_istore (lv' := [(5, .int _), (0, .ref _), (2, .int _), (3, .int _), (4, .int _)]) hx hb dX5_worth_70 hl (by decide) rfl (fun ls hl => ?_)
    exact hT72 _ _ _ _ _ h _ _ _ (lv_sub hl [1, 2, 3, 4, 0] rfl) w
  · have h := h2 c1
    refine lv_iload hx hb dX5_worth_24 (lv_at hl 3 rfl) ?_
    refine lv_aload_n hx hb dX5_worth_26 rfl (lv_at hl 0 rfl) ?_
    refine lv_bipush (v := 6) hx hb dX5_worth_27 (by decide) ?_
    refine lv_iload_n hx hb dX5_worth_29 rfl (lv_at hl 2 rfl) ?_
    refine lv_imul hx hb dX5_worth_30 ?_
    refine lv_iload hx hb dX5_worth_31 (lv_at hl 4 rfl) ?_
    refine lv_iadd hx hb dX5_worth_33 ?_
    refine mr_callVI (rest := [.int _]) C w h (lw_V q722 q724 qs43 q87 q725) M_isFirstEdge_d rfl rfl ⟨Nat.le_of_ble_eq_true rfl, Nat.le_of_ble_eq_true rfl⟩ rfl hl.1 rfl (Nat.le_of_ble_eq_true rfl) ⟨Nat.zero_le _, Nat.zero_le _⟩ dX5_worth_34 (fun r1 S1 H locs h w => ?_)
    obtain ⟨h1, h2⟩ := h
    refine lv_if_eq (tgt := 57) hx hb dX5_worth_37 (by decide) (fun c1 => ?_) (fun c1 => ?_)
    · have h := h1 c1
      exact M_worth_a57 C hT17 hT72 h (lv_sub hl [0, 1, 2, 4] rfl) w
    · have h := h2 c1
      refine lv_aload_n hx hb dX5_worth_40 rfl (lv_at hl 0 rfl) ?_
      refine lv_iload_n hx hb dX5_worth_41 rfl (lv_at hl 1 rfl) ?_
      refine lv_bipush (v := 7) hx hb dX5_worth_42 (by decide) ?_
      refine lv_irem hx hb dX5_worth_44 (by decide) ?_
      refine lv_iload hx hb dX5_worth_45 (lv_at hl 4 rfl) ?_
      refine mr_callVI (rest := [.int _]) C w h (lw_V q895 q897 qs73 q87 q898) M_meets_d rfl rfl ⟨Nat.le_of_ble_eq_true rfl, Nat.le_of_ble_eq_true rfl⟩ rfl hl.1 rfl (Nat.le_of_ble_eq_true rfl) ⟨Nat.zero_le _, Nat.zero_le _⟩ dX5_worth_47 (fun r2 S2 H locs h w => ?_)
      obtain ⟨h1, h2⟩ := h
      refine lv_if_eq (tgt := 57) hx hb dX5_worth_50 (by decide) (fun c1 => ?_) (fun c1 => ?_)
      · have h := h1 c1
        exact M_worth_a57 C hT17 hT72 h (lv_sub hl [0, 1, 2, 4] rfl) w
      · have h := h2 c1
        refine lv_iconst (v := 1) hx hb dX5_worth_53 (by decide) ?_
        refine lv_goto (tgt := 58) hx hb dX5_worth_54 (by decide) ?_
        exact M_worth_a58 C hT17 hT72 h (lv_sub hl [0, 1, 2, 4] rfl) w
def M_worth_w0 (post : Int32 → MS → Prop) (T17 : Int32 → Int32 → Int32 → Int32 → MS → Prop) (T72 : Int32 → Int32 → Int32 → Int32 → MS → Prop) (x1 : Int32) (S : MS) : Prop :=
  M_sortOf x1 S (fun (r1 : Int32) (S1 : MS) => T17 r1 (r1 / (7 : Int32)) (1 : Int32) (0 : Int32) S1)
set_option maxHeartbeats 4000000 in
set_option maxRecDepth 100000 in
theorem M_worth_a0 {p : Program} {l : Launch} {e : Env} {s : State} {m : MethodId} {args : Array Value} {below : List Frame} {meth : Method} {c : Code} {D : va_G} {dA : Nat → ClassId} {o : Nat → Nat} {A : Nat → Prop} {post : Int32 → MS → Prop} {T17 : Int32 → Int32 → Int32 → Int32 → MS → Prop} {T72 : Int32 → Int32 → Int32 → Int32 → MS → Prop} (C : mC p m c cX5_worth 7 s args meth (Option.some Jvm.ClassFile.FieldType.int) A) (hT17 : ∀ (x2 : Int32) (x3 : Int32) (x4 : Int32) (x5 : Int32) (S : MS), T17 x2 x3 x4 x5 S → ∀ (H : Heap) (locs : List Loc) (ls : Array Slot), lv_has ls 7 [(0, .ref (o 0)), (2, .int x2), (3, .int x3), (4, .int x4), (5, .int x5)] → mw D dA o A s S H locs → W p l e rM_worth s m args below meth c H locs 0 0 (mQi below args s D dA o A post) (F0 m 17 ls [])) (hT72 : ∀ (x2 : Int32) (x3 : Int32) (x4 : Int32) (x5 : Int32) (S : MS), T72 x2 x3 x4 x5 S → ∀ (H : Heap) (locs : List Loc) (ls : Array Slot), lv_has ls 7 [(0, .ref (o 0)), (2, .int x2), (3, .int x3), (4, .int x4), (5, .int x5)] → mw D dA o A s S H locs → W p l e rM_worth s m args below meth c H locs 0 0 (mQi below args s D dA o A post) (F0 m 72 ls [])) {x1 : Int32} {S : MS} (h : M_worth_w0 post T17 T72 x1 S) {H : Heap} {locs : List Loc} {ls : Array Slot} (hl : lv_has ls 7 [(0, .ref (o 0)), (1, .int x1)]) (w : mw D dA o A s S H locs) : W p l e rM_worth s m args below meth c H locs 0 0 (mQi below args s D dA o A post) (F0 m 0 ls []) := by
  unfold M_worth_w0 at h
  obtain ⟨⟨hx, hb, hml, hown, hts⟩, hr, hlk, hA⟩ := id C
  refine lv_aload_n hx hb dX5_worth_0 rfl (lv_at hl 0 rfl) ?_
  refine lv_iload_n hx hb dX5_worth_1 rfl (lv_at hl 1 rfl) ?_
  refine mr_callVI (rest := []) C w h (lw_V q911 q913 qs76 q87 q914) M_sortOf_d rfl rfl ⟨Nat.le_of_ble_eq_true rfl, Nat.le_of_ble_eq_true rfl⟩ rfl hl.1 rfl (Nat.le_of_ble_eq_true rfl) ⟨Nat.zero_le _, Nat.zero_le _⟩ dX5_worth_2 (fun r1 S1 H locs h w => ?_)
  refine lv_istore_n (lv' := [(2, .int _), (0, .ref _), (1, .int _)]) hx hb dX5_worth_5 rfl hl (by decide) rfl (fun ls hl => ?_)
  refine lv_iload_n hx hb dX5_worth_6 rfl (lv_at hl 0 rfl) ?_
  refine lv_bipush (v := 7) hx hb dX5_worth_7 (by decide) ?_
  refine lv_idiv hx hb dX5_worth_9 (by decide) ?_
  refine lv_istore_n (lv' := [(3, .int _), (2, .int _), (0, .ref _), (1, .int _)]) hx hb dX5_worth_10 rfl hl (by decide) rfl (fun ls hl => ?_)
  refine lv_iconst (v := 1) hx hb dX5_worth_11 (by decide) ?_
  refine lv_istore (lv' := [(4, .int _), (3, .int _), (2, .int _), (0, .ref _), (1, .int _)]) hx hb dX5_worth_12 hl (by decide) rfl (fun ls hl => ?_)
  refine lv_iconst (v := 0) hx hb dX5_worth_14 (by decide) ?_
  refine lv_istore (lv' := [(5, .int _), (4, .int _), (3, .int _), (2, .int _), (0, .ref _), (1, .int _)]) hx hb dX5_worth_15 hl (by decide) rfl (fun ls hl => ?_)
  exact hT17 _ _ _ _ _ h _ _ _ (lv_sub hl [4, 3, 2, 1, 0] rfl) w
def M_worth_VC (x1 : Int32) (S : MS) (post : Int32 → MS → Prop) : Prop := ∀ (T17 : Int32 → Int32 → Int32 → Int32 → MS → Prop) (T72 : Int32 → Int32 → Int32 → Int32 → MS → Prop), (∀ (x2 : Int32) (x3 : Int32) (x4 : Int32) (x5 : Int32) (S : MS), M_worth_w17 post T17 T72 x2 x3 x4 x5 S → T17 x2 x3 x4 x5 S) → (∀ (x2 : Int32) (x3 : Int32) (x4 : Int32) (x5 : Int32) (S : MS), M_worth_w72 post T17 T72 x2 x3 x4 x5 S → T72 x2 x3 x4 x5 S) → M_worth_w0 post T17 T72 x1 S
theorem M_worth_ok {x1 : Int32} {S : MS} {post : Int32 → MS → Prop} (h : M_worth_VC x1 S post) : M_worth x1 S post := by
  intro l D dA o sz
  refine mr_start (fun A => va_Qi post (mB D dA o A) A) rfl (Nat.le_of_ble_eq_true rfl) (by decide) ?_
  intro p e s m args below meth c ls A C w hl
  have hl : lv_has ls 7 [(0, .ref (o 0)), (1, .int x1)] := hl
  have h := h (fun (x2 : Int32) (x3 : Int32) (x4 : Int32) (x5 : Int32) S => ∀ (H : Heap) (locs : List Loc) (ls : Array Slot), lv_has ls 7 [(0, .ref (o 0)), (2, .int x2), (3, .int x3), (4, .int x4), (5, .int x5)] → mw D dA o A s S H locs → W p l e rM_worth s m args below meth c H locs 0 0 (mQi below args s D dA o A post) (F0 m 17 ls [])) (fun (x2 : Int32) (x3 : Int32) (x4 : Int32) (x5 : Int32) S => ∀ (H : Heap) (locs : List Loc) (ls : Array Slot), lv_has ls 7 [(0, .ref (o 0)), (2, .int x2), (3, .int x3), (4, .int x4), (5, .int x5)] → mw D dA o A s S H locs → W p l e rM_worth s m args below meth c H locs 0 0 (mQi below args s D dA o A post) (F0 m 72 ls [])) (fun _ _ _ _ S h H locs ls hl w => M_worth_a17 C (fun _ _ _ _ _ h => h) (fun _ _ _ _ _ h => h) h hl w) (fun _ _ _ _ S h H locs ls hl w => M_worth_a72 C (fun _ _ _ _ _ h => h) (fun _ _ _ _ _ h => h) h hl w)
  exact M_worth_a0 C (fun _ _ _ _ _ h => h) (fun _ _ _ _ _ h => h) h (lv_sub hl [0, 1] rfl) w

/-! part(II)I -/
def M_part_w116 (post : Int32 → MS → Prop) (T84 : Int32 → Int32 → Int32 → MS → Prop) (v0 : Int32) (v1 : Int32) (x1 : Int32) (x5 : Int32) (S : MS) : Prop :=
  T84 x1 (v1 + v0) (x5 + (1 : Int32)) S
set_option maxHeartbeats 4000000 in
set_option maxRecDepth 100000 in
theorem M_part_a116 {p : Program} {l : Launch} {e : Env} {s : State} {m : MethodId} {args : Array Value} {below : List Frame} {meth : Method} {c : Code} {D : va_G} {dA : Nat → ClassId} {o : Nat → Nat} {A : Nat → Prop} {post : Int32 → MS → Prop} {T84 : Int32 → Int32 → Int32 → MS → Prop} (C : mC p m c cX5_part 6 s args meth (Option.some Jvm.ClassFile.FieldType.int) A) (hT84 : ∀ (x1 : Int32) (x4 : Int32) (x5 : Int32) (S : MS), T84 x1 x4 x5 S → ∀ (H : Heap) (locs : List Loc) (ls : Array Slot), lv_has ls 6 [(0, .ref (o 0)), (1, .int x1), (4, .int x4), (5, .int x5)] → mw D dA o A s S H locs → W p l e rM_part s m args below meth c H locs 0 0 (mQi below args s D dA o A post) (F0 m 84 ls [])) {v0 : Int32} {v1 : Int32} {x1 : Int32} {x5 : Int32} {S : MS} (h : M_part_w116 post T84 v0 v1 x1 x5 S) {H : Heap} {locs : List Loc} {ls : Array Slot} (hl : lv_has ls 6 [(0, .ref (o 0)), (1, .int x1), (5, .int x5)]) (w : mw D dA o A s S H locs) : W p l e rM_part s m args below meth c H locs 0 0 (mQi below args s D dA o A post) (F0 m 116 ls [.int v0, .int v1]) := by
  unfold M_part_w116 at h
  obtain ⟨⟨hx, hb, hml, hown, hts⟩, hr, hlk, hA⟩ := id C
  refine lv_iadd hx hb dX5_part_116 ?_
  refine lv_istore (lv' := [(4, .int _), (0, .ref _), (1, .int _), (5, .int _)]) hx hb dX5_part_117 hl (by decide) rfl (fun ls hl => ?_)
  refine lv_iinc (v := _ + (1 : Int32)) (lv' := [(5, .int _), (4, .int _), (0, .ref _), (1, .int _)]) hx hb dX5_part_119 hl (k := 3) rfl rfl (by decide) rfl (fun ls hl => ?_)
  refine lv_goto (tgt := 84) hx hb dX5_part_122 (by decide) ?_
  exact hT84 _ _ _ _ h _ _ _ (lv_sub hl [2, 3, 1, 0] rfl) w
def M_part_w84 (post : Int32 → MS → Prop) (T84 : Int32 → Int32 → Int32 → MS → Prop) (x1 : Int32) (x4 : Int32) (x5 : Int32) (S : MS) : Prop :=
  (((gF S 19) ≤ x5 → post x4 S) ∧ (¬ (gF S 19) ≤ x5 → (vp_in x5 400 ∧ ((¬ (gI S 21 (x5).toNatClampNeg) = x1 → M_part_w116 post T84 (0 : Int32) x4 x1 x5 S) ∧ ((gI S 21 (x5).toNatClampNeg) = x1 → M_worth x5 S (fun (r1 : Int32) (S1 : MS) => M_part_w116 post T84 r1 x4 x1 x5 S1))))))
set_option maxHeartbeats 4000000 in
set_option maxRecDepth 100000 in
theorem M_part_a84 {p : Program} {l : Launch} {e : Env} {s : State} {m : MethodId} {args : Array Value} {below : List Frame} {meth : Method} {c : Code} {D : va_G} {dA : Nat → ClassId} {o : Nat → Nat} {A : Nat → Prop} {post : Int32 → MS → Prop} {T84 : Int32 → Int32 → Int32 → MS → Prop} (C : mC p m c cX5_part 6 s args meth (Option.some Jvm.ClassFile.FieldType.int) A) (hT84 : ∀ (x1 : Int32) (x4 : Int32) (x5 : Int32) (S : MS), T84 x1 x4 x5 S → ∀ (H : Heap) (locs : List Loc) (ls : Array Slot), lv_has ls 6 [(0, .ref (o 0)), (1, .int x1), (4, .int x4), (5, .int x5)] → mw D dA o A s S H locs → W p l e rM_part s m args below meth c H locs 0 0 (mQi below args s D dA o A post) (F0 m 84 ls [])) {x1 : Int32} {x4 : Int32} {x5 : Int32} {S : MS} (h : M_part_w84 post T84 x1 x4 x5 S) {H : Heap} {locs : List Loc} {ls : Array Slot} (hl : lv_has ls 6 [(0, .ref (o 0)), (1, .int x1), (4, .int x4), (5, .int x5)]) (w : mw D dA o A s S H locs) : W p l e rM_part s m args below meth c H locs 0 0 (mQi below args s D dA o A post) (F0 m 84 ls []) := by
  unfold M_part_w84 at h
  obtain ⟨⟨hx, hb, hml, hown, hts⟩, hr, hlk, hA⟩ := id C
  refine lv_iload hx hb dX5_part_84 (lv_at hl 3 rfl) ?_
  refine lv_aload_n hx hb dX5_part_86 rfl (lv_at hl 0 rfl) ?_
  refine mr_get C w 19 (by decide) q596 rfl rfl dX5_part_87 ?_
  obtain ⟨h1, h2⟩ := h
  refine lv_icmp_ge (tgt := 125) hx hb dX5_part_90 (by decide) (fun c1 => ?_) (fun c1 => ?_)
  · have h := h1 c1
    refine lv_iload hx hb dX5_part_125 (lv_at hl 2 rfl) ?_
    exact mr_iret C w h dX5_part_127
  · have h := h2 c1
    refine lv_iload hx hb dX5_part_93 (lv_at hl 2 rfl) ?_
    refine lv_aload_n hx hb dX5_part_95 rfl (lv_at hl 0 rfl) ?_
    refine mr_get C w 21 (by decide) q598 rfl rfl dX5_part_96 ?_
    refine lv_iload hx hb dX5_part_99 (lv_at hl 3 rfl) ?_
    obtain ⟨hi, h⟩ := h
    refine mr_iald C w 15 14 rfl rfl hi dX5_part_101 ?_
    refine lv_iload_n hx hb dX5_part_102 rfl (lv_at hl 1 rfl) ?_
    obtain ⟨h1, h2⟩ := h
    refine lv_icmp_ne (tgt := 115) hx hb dX5_part_103 (by decide) (fun c1 => ?_) (fun c1 => ?_)
    · have h := h1 c1
      refine lv_iconst (v := 0) hx hb dX5_part_115 (by decide) ?_
      exact M_part_a116 C hT84 h (lv_sub hl [0, 1, 3] rfl) w
    · have h := h2 c1
      refine lv_aload_n hx hb dX5_part_106 rfl (lv_at hl 0 rfl) ?_
      refine lv_iload hx hb dX5_part_107 (lv_at hl 3 rfl) ?_
      refine mr_callVI (rest := [.int _]) C w h (lw_V q931 q933 qs80 q87 q934) M_worth_d rfl rfl ⟨Nat.le_of_ble_eq_true rfl, Nat.le_of_ble_eq_true rfl⟩ rfl hl.1 rfl (Nat.le_of_ble_eq_true rfl) ⟨Nat.zero_le _, Nat.zero_le _⟩ dX5_part_109 (fun r1 S1 H locs h w => ?_)
      refine lv_goto (tgt := 116) hx hb dX5_part_112 (by decide) ?_
      exact M_part_a116 C hT84 h (lv_sub hl [0, 1, 3] rfl) w
def M_part_w77 (post : Int32 → MS → Prop) (T84 : Int32 → Int32 → Int32 → MS → Prop) (v0 : Int32) (S : MS) : Prop :=
  post v0 S
set_option maxHeartbeats 4000000 in
set_option maxRecDepth 100000 in
theorem M_part_a77 {p : Program} {l : Launch} {e : Env} {s : State} {m : MethodId} {args : Array Value} {below : List Frame} {meth : Method} {c : Code} {D : va_G} {dA : Nat → ClassId} {o : Nat → Nat} {A : Nat → Prop} {post : Int32 → MS → Prop} {T84 : Int32 → Int32 → Int32 → MS → Prop} (C : mC p m c cX5_part 6 s args meth (Option.some Jvm.ClassFile.FieldType.int) A) (hT84 : ∀ (x1 : Int32) (x4 : Int32) (x5 : Int32) (S : MS), T84 x1 x4 x5 S → ∀ (H : Heap) (locs : List Loc) (ls : Array Slot), lv_has ls 6 [(0, .ref (o 0)), (1, .int x1), (4, .int x4), (5, .int x5)] → mw D dA o A s S H locs → W p l e rM_part s m args below meth c H locs 0 0 (mQi below args s D dA o A post) (F0 m 84 ls [])) {v0 : Int32} {S : MS} (h : M_part_w77 post T84 v0 S) {H : Heap} {locs : List Loc} {ls : Array Slot} (hl : lv_has ls 6 [(0, .ref (o 0))]) (w : mw D dA o A s S H locs) : W p l e rM_part s m args below meth c H locs 0 0 (mQi below args s D dA o A post) (F0 m 77 ls [.int v0]) := by
  unfold M_part_w77 at h
  obtain ⟨⟨hx, hb, hml, hown, hts⟩, hr, hlk, hA⟩ := id C
  exact mr_iret C w h dX5_part_77
def M_part_w45 (post : Int32 → MS → Prop) (T84 : Int32 → Int32 → Int32 → MS → Prop) (S : MS) : Prop :=
  post (-2147483648 : Int32) S
set_option maxHeartbeats 4000000 in
set_option maxRecDepth 100000 in
theorem M_part_a45 {p : Program} {l : Launch} {e : Env} {s : State} {m : MethodId} {args : Array Value} {below : List Frame} {meth : Method} {c : Code} {D : va_G} {dA : Nat → ClassId} {o : Nat → Nat} {A : Nat → Prop} {post : Int32 → MS → Prop} {T84 : Int32 → Int32 → Int32 → MS → Prop} (C : mC p m c cX5_part 6 s args meth (Option.some Jvm.ClassFile.FieldType.int) A) (hT84 : ∀ (x1 : Int32) (x4 : Int32) (x5 : Int32) (S : MS), T84 x1 x4 x5 S → ∀ (H : Heap) (locs : List Loc) (ls : Array Slot), lv_has ls 6 [(0, .ref (o 0)), (1, .int x1), (4, .int x4), (5, .int x5)] → mw D dA o A s S H locs → W p l e rM_part s m args below meth c H locs 0 0 (mQi below args s D dA o A post) (F0 m 84 ls [])) {S : MS} (h : M_part_w45 post T84 S) {H : Heap} {locs : List Loc} {ls : Array Slot} (hl : lv_has ls 6 [(0, .ref (o 0))]) (w : mw D dA o A s S H locs) : W p l e rM_part s m args below meth c H locs 0 0 (mQi below args s D dA o A post) (F0 m 45 ls []) := by
  unfold M_part_w45 at h
  obtain ⟨⟨hx, hb, hml, hown, hts⟩, hr, hlk, hA⟩ := id C
  refine lv_ldc hx hb hown (hts _ q746) dX5_part_45 ?_
  exact mr_iret C w h dX5_part_47
def M_part_w16 (post : Int32 → MS → Prop) (T84 : Int32 → Int32 → Int32 → MS → Prop) (S : MS) : Prop :=
  post (-2147483648 : Int32) S
set_option maxHeartbeats 4000000 in
set_option maxRecDepth 100000 in
theorem M_part_a16 {p : Program} {l : Launch} {e : Env} {s : State} {m : MethodId} {args : Array Value} {below : List Frame} {meth : Method} {c : Code} {D : va_G} {dA : Nat → ClassId} {o : Nat → Nat} {A : Nat → Prop} {post : Int32 → MS → Prop} {T84 : Int32 → Int32 → Int32 → MS → Prop} (C : mC p m c cX5_part 6 s args meth (Option.some Jvm.ClassFile.FieldType.int) A) (hT84 : ∀ (x1 : Int32) (x4 : Int32) (x5 : Int32) (S : MS), T84 x1 x4 x5 S → ∀ (H : Heap) (locs : List Loc) (ls : Array Slot), lv_has ls 6 [(0, .ref (o 0)), (1, .int x1), (4, .int x4), (5, .int x5)] → mw D dA o A s S H locs → W p l e rM_part s m args below meth c H locs 0 0 (mQi below args s D dA o A post) (F0 m 84 ls [])) {S : MS} (h : M_part_w16 post T84 S) {H : Heap} {locs : List Loc} {ls : Array Slot} (hl : lv_has ls 6 [(0, .ref (o 0))]) (w : mw D dA o A s S H locs) : W p l e rM_part s m args below meth c H locs 0 0 (mQi below args s D dA o A post) (F0 m 16 ls []) := by
  unfold M_part_w16 at h
  obtain ⟨⟨hx, hb, hml, hown, hts⟩, hr, hlk, hA⟩ := id C
  refine lv_ldc hx hb hown (hts _ q746) dX5_part_16 ?_
  exact mr_iret C w h dX5_part_18
def M_part_w0 (post : Int32 → MS → Prop) (T84 : Int32 → Int32 → Int32 → MS → Prop) (x1 : Int32) (x2 : Int32) (S : MS) : Prop :=
  M_in x2 (0 : Int32) (2 : Int32) S (fun (r1 : Int32) (S1 : MS) => ((r1 = 0 → M_part_w16 post T84 S1) ∧ (¬ r1 = 0 → M_legal S1 (fun (r2 : Int32) (S2 : MS) => ((r2 = 0 → M_findParts S2 (fun (r3 : Int32) (S3 : MS) => (((400 : Int32) < (gF S3 19) → M_part_w45 post T84 S3) ∧ (¬ (400 : Int32) < (gF S3 19) → M_in x1 (0 : Int32) (r3 - (1 : Int32)) S3 (fun (r4 : Int32) (S4 : MS) => ((¬ r4 = 0 → ((¬ x2 = 0 → ((¬ x2 = (2 : Int32) → T84 x1 (0 : Int32) (0 : Int32) S4) ∧ (x2 = (2 : Int32) → (vp_in x1 400 ∧ (((gI S4 25 (x1).toNatClampNeg) = 0 → M_part_w77 post T84 (1 : Int32) S4) ∧ (¬ (gI S4 25 (x1).toNatClampNeg) = 0 → M_part_w77 post T84 (0 : Int32) S4)))))) ∧ (x2 = 0 → M_cutsOf x1 S4 (fun (r5 : Int32) (S5 : MS) => post r5 S5)))) ∧ (r4 = 0 → M_part_w45 post T84 S4))))))) ∧ (¬ r2 = 0 → M_part_w16 post T84 S2))))))
set_option maxHeartbeats 4000000 in
set_option maxRecDepth 100000 in
theorem M_part_a0 {p : Program} {l : Launch} {e : Env} {s : State} {m : MethodId} {args : Array Value} {below : List Frame} {meth : Method} {c : Code} {D : va_G} {dA : Nat → ClassId} {o : Nat → Nat} {A : Nat → Prop} {post : Int32 → MS → Prop} {T84 : Int32 → Int32 → Int32 → MS → Prop} (C : mC p m c cX5_part 6 s args meth (Option.some Jvm.ClassFile.FieldType.int) A) (hT84 : ∀ (x1 : Int32) (x4 : Int32) (x5 : Int32) (S : MS), T84 x1 x4 x5 S → ∀ (H : Heap) (locs : List Loc) (ls : Array Slot), lv_has ls 6 [(0, .ref (o 0)), (1, .int x1), (4, .int x4), (5, .int x5)] → mw D dA o A s S H locs → W p l e rM_part s m args below meth c H locs 0 0 (mQi below args s D dA o A post) (F0 m 84 ls [])) {x1 : Int32} {x2 : Int32} {S : MS} (h : M_part_w0 post T84 x1 x2 S) {H : Heap} {locs : List Loc} {ls : Array Slot} (hl : lv_has ls 6 [(0, .ref (o 0)), (1, .int x1), (2, .int x2)]) (w : mw D dA o A s S H locs) : W p l e rM_part s m args below meth c H locs 0 0 (mQi below args s D dA o A post) (F0 m 0 ls []) := by
  unfold M_part_w0 at h
  obtain ⟨⟨hx, hb, hml, hown, hts⟩, hr, hlk, hA⟩ := id C
  refine lv_iload_n hx hb dX5_part_0 rfl (lv_at hl 2 rfl) ?_
  refine lv_iconst (v := 0) hx hb dX5_part_1 (by decide) ?_
  refine lv_iconst (v := 2) hx hb dX5_part_2 (by decide) ?_
  refine mr_callSI (rest := []) C w h (lw_S q676 q677 q87 q678) M_in_d rfl rfl ⟨Nat.le_of_ble_eq_true rfl, Nat.le_of_ble_eq_true rfl⟩ rfl hl.1 rfl (Nat.le_of_ble_eq_true rfl) ⟨Nat.zero_le _, Nat.zero_le _⟩ dX5_part_3 (fun r1 S1 H locs h w => ?_)
  obtain ⟨h1, h2⟩ := h
  refine lv_if_eq (tgt := 16) hx hb dX5_part_6 (by decide) (fun c1 => ?_) (fun c1 => ?_)
  · have h := h1 c1
    exact M_part_a16 C hT84 h (lv_sub hl [0] rfl) w
  · have h := h2 c1
    refine lv_aload_n hx hb dX5_part_9 rfl (lv_at hl 0 rfl) ?_
    refine mr_callVI (rest := []) C w h (lw_V q894 q883 q884 q87 q885) M_legal_d rfl rfl ⟨Nat.le_of_ble_eq_true rfl, Nat.le_of_ble_eq_true rfl⟩ rfl hl.1 rfl (Nat.le_of_ble_eq_true rfl) ⟨Nat.zero_le _, Nat.zero_le _⟩ dX5_part_10 (fun r2 S2 H locs h w => ?_)
    obtain ⟨h1, h2⟩ := h
    refine lv_if_eq (tgt := 19) hx hb dX5_part_13 (by decide) (fun c1 => ?_) (fun c1 => ?_)
    · have h := h1 c1
      refine lv_aload_n hx hb dX5_part_19 rfl (lv_at hl 0 rfl) ?_
      refine mr_callVI (rest := []) C w h (lw_V q903 q905 qs74 q87 q906) M_findParts_d rfl rfl ⟨Nat.le_of_ble_eq_true rfl, Nat.le_of_ble_eq_true rfl⟩ rfl hl.1 rfl (Nat.le_of_ble_eq_true rfl) ⟨Nat.zero_le _, Nat.zero_le _⟩ dX5_part_20 (fun r3 S3 H locs h w => ?_)
      refine lv_istore_n (lv' := [(3, .int _), (0, .ref _), (1, .int _), (2, .int _)]) hx hb dX5_part_23 rfl hl (by decide) rfl (fun ls hl => ?_)
      refine lv_aload_n hx hb dX5_part_24 rfl (lv_at hl 1 rfl) ?_
      refine mr_get C w 19 (by decide) q596 rfl rfl dX5_part_25 ?_
      refine lv_sipush (v := 400) hx hb dX5_part_28 (by decide) ?_
      obtain ⟨h1, h2⟩ := h
      refine lv_icmp_gt (tgt := 45) hx hb dX5_part_31 (by decide) (fun c1 => ?_) (fun c1 => ?_)
      · have h := h1 c1
        exact M_part_a45 C hT84 h (lv_sub hl [1] rfl) w
      · have h := h2 c1
        refine lv_iload_n hx hb dX5_part_34 rfl (lv_at hl 2 rfl) ?_
        refine lv_iconst (v := 0) hx hb dX5_part_35 (by decide) ?_
        refine lv_iload_n hx hb dX5_part_36 rfl (lv_at hl 0 rfl) ?_
        refine lv_iconst (v := 1) hx hb dX5_part_37 (by decide) ?_
        refine lv_isub hx hb dX5_part_38 ?_
        refine mr_callSI (rest := []) C w h (lw_S q676 q677 q87 q678) M_in_d rfl rfl ⟨Nat.le_of_ble_eq_true rfl, Nat.le_of_ble_eq_true rfl⟩ rfl hl.1 rfl (Nat.le_of_ble_eq_true rfl) ⟨Nat.zero_le _, Nat.zero_le _⟩ dX5_part_39 (fun r4 S4 H locs h w => ?_)
        obtain ⟨h1, h2⟩ := h
        refine lv_if_ne (tgt := 48) hx hb dX5_part_42 (by decide) (fun c1 => ?_) (fun c1 => ?_)
        · have h := h1 c1
          refine lv_iload_n hx hb dX5_part_48 rfl (lv_at hl 3 rfl) ?_
          obtain ⟨h1, h2⟩ := h
          refine lv_if_ne (tgt := 58) hx hb dX5_part_49 (by decide) (fun c1 => ?_) (fun c1 => ?_)
          · have h := h1 c1
            refine lv_iload_n hx hb dX5_part_58 rfl (lv_at hl 3 rfl) ?_
            refine lv_iconst (v := 2) hx hb dX5_part_59 (by decide) ?_
            obtain ⟨h1, h2⟩ := h
            refine lv_icmp_ne (tgt := 78) hx hb dX5_part_60 (by decide) (fun c1 => ?_) (fun c1 => ?_)
            · have h := h1 c1
              refine lv_iconst (v := 0) hx hb dX5_part_78 (by decide) ?_
              refine lv_istore (lv' := [(4, .int _), (3, .int _), (0, .ref _), (1, .int _), (2, .int _)]) hx hb dX5_part_79 hl (by decide) rfl (fun ls hl => ?_)
              refine lv_iconst (v := 0) hx hb dX5_part_81 (by decide) ?_
              refine lv_istore (lv' := [(5, .int _), (4, .int _), (3, .int _), (0, .ref _), (1, .int _), (2, .int _)]) hx hb dX5_part_82 hl (by decide) rfl (fun ls hl => ?_)
              exact hT84 _ _ _ _ h _ _ _ (lv_sub hl [3, 4, 1, 0] rfl) w
            · have h := h2 c1
              refine lv_aload_n hx hb dX5_part_63 rfl (lv_at hl 1 rfl) ?_
              refine mr_get C w 25 (by decide) q602 rfl rfl dX5_part_64 ?_
              refine lv_iload_n hx hb dX5_part_67 rfl (lv_at hl 2 rfl) ?_
              obtain ⟨hi, h⟩ := h
              refine mr_zald C w 18 17 rfl rfl hi dX5_part_68 ?_
              obtain ⟨h1, h2⟩ := h
              refine lv_if_eq (tgt := 76) hx hb dX5_part_69 (by decide) (fun c1 => ?_) (fun c1 => ?_)
              · have h := h1 c1
                refine lv_iconst (v := 1) hx hb dX5_part_76 (by decide) ?_
                exact M_part_a77 C hT84 h (lv_sub hl [1] rfl) w
              · have h := h2 c1
                refine lv_iconst (v := 0) hx hb dX5_part_72 (by decide) ?_
                refine lv_goto (tgt := 77) hx hb dX5_part_73 (by decide) ?_
                exact M_part_a77 C hT84 h (lv_sub hl [1] rfl) w
          · have h := h2 c1
            refine lv_aload_n hx hb dX5_part_52 rfl (lv_at hl 1 rfl) ?_
            refine lv_iload_n hx hb dX5_part_53 rfl (lv_at hl 2 rfl) ?_
            refine mr_callVI (rest := []) C w h (lw_V q927 q929 qs79 q87 q930) M_cutsOf_d rfl rfl ⟨Nat.le_of_ble_eq_true rfl, Nat.le_of_ble_eq_true rfl⟩ rfl hl.1 rfl (Nat.le_of_ble_eq_true rfl) ⟨Nat.zero_le _, Nat.zero_le _⟩ dX5_part_54 (fun r5 S5 H locs h w => ?_)
            exact mr_iret C w h dX5_part_57
        · have h := h2 c1
          exact M_part_a45 C hT84 h (lv_sub hl [1] rfl) w
    · have h := h2 c1
      exact M_part_a16 C hT84 h (lv_sub hl [0] rfl) w
def M_part_VC (x1 : Int32) (x2 : Int32) (S : MS) (post : Int32 → MS → Prop) : Prop := ∀ (T84 : Int32 → Int32 → Int32 → MS → Prop), (∀ (x1 : Int32) (x4 : Int32) (x5 : Int32) (S : MS), M_part_w84 post T84 x1 x4 x5 S → T84 x1 x4 x5 S) → M_part_w0 post T84 x1 x2 S
theorem M_part_ok {x1 : Int32} {x2 : Int32} {S : MS} {post : Int32 → MS → Prop} (h : M_part_VC x1 x2 S post) : M_part x1 x2 S post := by
  intro l D dA o sz
  refine mr_start (fun A => va_Qi post (mB D dA o A) A) rfl (Nat.le_of_ble_eq_true rfl) (by decide) ?_
  intro p e s m args below meth c ls A C w hl
  have hl : lv_has ls 6 [(0, .ref (o 0)), (1, .int x1), (2, .int x2)] := hl
  have h := h (fun (x1 : Int32) (x4 : Int32) (x5 : Int32) S => ∀ (H : Heap) (locs : List Loc) (ls : Array Slot), lv_has ls 6 [(0, .ref (o 0)), (1, .int x1), (4, .int x4), (5, .int x5)] → mw D dA o A s S H locs → W p l e rM_part s m args below meth c H locs 0 0 (mQi below args s D dA o A post) (F0 m 84 ls [])) (fun _ _ _ S h H locs ls hl w => M_part_a84 C (fun _ _ _ _ h => h) h hl w)
  exact M_part_a0 C (fun _ _ _ _ h => h) h (lv_sub hl [0, 1, 2] rfl) w
