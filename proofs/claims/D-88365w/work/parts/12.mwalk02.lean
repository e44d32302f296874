/-! isBent(I)Z -/
def M_isBent_w26 (post : Int32 → MS → Prop) (v0 : Int32) (S : MS) : Prop :=
  (zok v0 ∧ post v0 S)
set_option maxHeartbeats 4000000 in
set_option maxRecDepth 100000 in
theorem M_isBent_a26 {p : Program} {l : Launch} {e : Env} {s : State} {m : MethodId} {args : Array Value} {below : List Frame} {meth : Method} {c : Code} {D : va_G} {dA : Nat → ClassId} {o : Nat → Nat} {A : Nat → Prop} {post : Int32 → MS → Prop} (C : mC p m c cX5_isBent 2 s args meth (Option.some Jvm.ClassFile.FieldType.boolean) A) {v0 : Int32} {S : MS} (h : M_isBent_w26 post v0 S) {H : Heap} {locs : List Loc} {ls : Array Slot} (hl : lv_has ls 2 [(0, .ref (o 0))]) (w : mw D dA o A s S H locs) : W p l e rM_isBent s m args below meth c H locs 0 0 (mQi below args s D dA o A post) (F0 m 26 ls [.int v0]) := by
  unfold M_isBent_w26 at h
  obtain ⟨⟨hx, hb, hml, hown, hts⟩, hr, hlk, hA⟩ := id C
  exact mr_zret C w (zok_n h.1) h.2 dX5_isBent_26
def M_isBent_w0 (post : Int32 → MS → Prop) (x1 : Int32) (S : MS) : Prop :=
  (vp_in ((2 : Int32) * x1) 36 ∧ (vp_in (((2 : Int32) * x1) + (1 : Int32)) 36 ∧ ((¬ (gI S 6 (((2 : Int32) * x1)).toNatClampNeg) = (gI S 6 ((((2 : Int32) * x1) + (1 : Int32))).toNatClampNeg) → M_isBent_w26 post (0 : Int32) S) ∧ ((gI S 6 (((2 : Int32) * x1)).toNatClampNeg) = (gI S 6 ((((2 : Int32) * x1) + (1 : Int32))).toNatClampNeg) → M_isBent_w26 post (1 : Int32) S))))
set_option maxHeartbeats 4000000 in
set_option maxRecDepth 100000 in
theorem M_isBent_a0 {p : Program} {l : Launch} {e : Env} {s : State} {m : MethodId} {args : Array Value} {below : List Frame} {meth : Method} {c : Code} {D : va_G} {dA : Nat → ClassId} {o : Nat → Nat} {A : Nat → Prop} {post : Int32 → MS → Prop} (C : mC p m c cX5_isBent 2 s args meth (Option.some Jvm.ClassFile.FieldType.boolean) A) {x1 : Int32} {S : MS} (h : M_isBent_w0 post x1 S) {H : Heap} {locs : List Loc} {ls : Array Slot} (hl : lv_has ls 2 [(0, .ref (o 0)), (1, .int x1)]) (w : mw D dA o A s S H locs) : W p l e rM_isBent s m args below meth c H locs 0 0 (mQi below args s D dA o A post) (F0 m 0 ls []) := by
  unfold M_isBent_w0 at h
  obtain ⟨⟨hx, hb, hml, hown, hts⟩, hr, hlk, hA⟩ := id C
  refine lv_aload_n hx hb dX5_isBent_0 rfl (lv_at hl 0 rfl) ?_
  refine mr_get C w 6 (by decide) q583 rfl rfl dX5_isBent_1 ?_
  refine lv_iconst (v := 2) hx hb dX5_isBent_4 (by decide) ?_
  refine lv_iload_n hx hb dX5_isBent_5 rfl (lv_at hl 1 rfl) ?_
  refine lv_imul hx hb dX5_isBent_6 ?_
  obtain ⟨hi, h⟩ := h
  refine mr_iald C w 6 5 rfl rfl hi dX5_isBent_7 ?_
  refine lv_aload_n hx hb dX5_isBent_8 rfl (lv_at hl 0 rfl) ?_
  refine mr_get C w 6 (by decide) q583 rfl rfl dX5_isBent_9 ?_
  refine lv_iconst (v := 2) hx hb dX5_isBent_12 (by decide) ?_
  refine lv_iload_n hx hb dX5_isBent_13 rfl (lv_at hl 1 rfl) ?_
  refine lv_imul hx hb dX5_isBent_14 ?_
  refine lv_iconst (v := 1) hx hb dX5_isBent_15 (by decide) ?_
  refine lv_iadd hx hb dX5_isBent_16 ?_
  obtain ⟨hi, h⟩ := h
  refine mr_iald C w 6 5 rfl rfl hi dX5_isBent_17 ?_
  obtain ⟨h1, h2⟩ := h
  refine lv_icmp_ne (tgt := 25) hx hb dX5_isBent_18 (by decide) (fun c1 => ?_) (fun c1 => ?_)
  · have h := h1 c1
    refine lv_iconst (v := 0) hx hb dX5_isBent_25 (by decide) ?_
    exact M_isBent_a26 C h (lv_sub hl [0] rfl) w
  · have h := h2 c1
    refine lv_iconst (v := 1) hx hb dX5_isBent_21 (by decide) ?_
    refine lv_goto (tgt := 26) hx hb dX5_isBent_22 (by decide) ?_
    exact M_isBent_a26 C h (lv_sub hl [0] rfl) w
def M_isBent_VC (x1 : Int32) (S : MS) (post : Int32 → MS → Prop) : Prop := M_isBent_w0 post x1 S
theorem M_isBent_ok {x1 : Int32} {S : MS} {post : Int32 → MS → Prop} (h : M_isBent_VC x1 S post) : M_isBent x1 S post := by
  intro l D dA o sz
  refine mr_start (fun A => va_Qi post (mB D dA o A) A) rfl (Nat.le_of_ble_eq_true rfl) (by decide) ?_
  intro p e s m args below meth c ls A C w hl
  have hl : lv_has ls 2 [(0, .ref (o 0)), (1, .int x1)] := hl
  exact M_isBent_a0 C h (lv_sub hl [0, 1] rfl) w

/-! anyBent()Z -/
def M_anyBent_w32 (post : Int32 → MS → Prop) (T4 : Int32 → Int32 → MS → Prop) (v0 : Int32) (x2 : Int32) (S : MS) : Prop :=
  T4 v0 (x2 + (1 : Int32)) S
set_option maxHeartbeats 4000000 in
set_option maxRecDepth 100000 in
theorem M_anyBent_a32 {p : Program} {l : Launch} {e : Env} {s : State} {m : MethodId} {args : Array Value} {below : List Frame} {meth : Method} {c : Code} {D : va_G} {dA : Nat → ClassId} {o : Nat → Nat} {A : Nat → Prop} {post : Int32 → MS → Prop} {T4 : Int32 → Int32 → MS → Prop} (C : mC p m c cX5_anyBent 3 s args meth (Option.some Jvm.ClassFile.FieldType.boolean) A) (hT4 : ∀ (x1 : Int32) (x2 : Int32) (S : MS), T4 x1 x2 S → ∀ (H : Heap) (locs : List Loc) (ls : Array Slot), lv_has ls 3 [(0, .ref (o 0)), (1, .int x1), (2, .int x2)] → mw D dA o A s S H locs → W p l e rM_anyBent s m args below meth c H locs 0 0 (mQi below args s D dA o A post) (F0 m 4 ls [])) {v0 : Int32} {x2 : Int32} {S : MS} (h : M_anyBent_w32 post T4 v0 x2 S) {H : Heap} {locs : List Loc} {ls : Array Slot} (hl : lv_has ls 3 [(0, .ref (o 0)), (2, .int x2)]) (w : mw D dA o A s S H locs) : W p l e rM_anyBent s m args below meth c H locs 0 0 (mQi below args s D dA o A post) (F0 m 32 ls [.int v0]) := by
  unfold M_anyBent_w32 at h
  obtain ⟨⟨hx, hb, hml, hown, hts⟩, hr, hlk, hA⟩ := id C
  refine lv_istore_n (lv' := [(1, .int _), (0, .ref _), (2, .int _)]) hx hb dX5_anyBent_32 rfl hl (by decide) rfl (fun ls hl => ?_)
  refine lv_iinc (v := _ + (1 : Int32)) (lv' := [(2, .int _), (1, .int _), (0, .ref _)]) hx hb dX5_anyBent_33 hl (k := 2) rfl rfl (by decide) rfl (fun ls hl => ?_)
  refine lv_goto (tgt := 4) hx hb dX5_anyBent_36 (by decide) ?_
  exact hT4 _ _ _ h _ _ _ (lv_sub hl [2, 1, 0] rfl) w
def M_anyBent_w27 (post : Int32 → MS → Prop) (T4 : Int32 → Int32 → MS → Prop) (x2 : Int32) (S : MS) : Prop :=
  M_anyBent_w32 post T4 (1 : Int32) x2 S
set_option maxHeartbeats 4000000 in
set_option maxRecDepth 100000 in
theorem M_anyBent_a27 {p : Program} {l : Launch} {e : Env} {s : State} {m : MethodId} {args : Array Value} {below : List Frame} {meth : Method} {c : Code} {D : va_G} {dA : Nat → ClassId} {o : Nat → Nat} {A : Nat → Prop} {post : Int32 → MS → Prop} {T4 : Int32 → Int32 → MS → Prop} (C : mC p m c cX5_anyBent 3 s args meth (Option.some Jvm.ClassFile.FieldType.boolean) A) (hT4 : ∀ (x1 : Int32) (x2 : Int32) (S : MS), T4 x1 x2 S → ∀ (H : Heap) (locs : List Loc) (ls : Array Slot), lv_has ls 3 [(0, .ref (o 0)), (1, .int x1), (2, .int x2)] → mw D dA o A s S H locs → W p l e rM_anyBent s m args below meth c H locs 0 0 (mQi below args s D dA o A post) (F0 m 4 ls [])) {x2 : Int32} {S : MS} (h : M_anyBent_w27 post T4 x2 S) {H : Heap} {locs : List Loc} {ls : Array Slot} (hl : lv_has ls 3 [(0, .ref (o 0)), (2, .int x2)]) (w : mw D dA o A s S H locs) : W p l e rM_anyBent s m args below meth c H locs 0 0 (mQi below args s D dA o A post) (F0 m 27 ls []) := by
  unfold M_anyBent_w27 at h
  obtain ⟨⟨hx, hb, hml, hown, hts⟩, hr, hlk, hA⟩ := id C
  refine lv_iconst (v := 1) hx hb dX5_anyBent_27 (by decide) ?_
  refine lv_goto (tgt := 32) hx hb dX5_anyBent_28 (by decide) ?_
  exact M_anyBent_a32 C hT4 h (lv_sub hl [0, 1] rfl) w
def M_anyBent_w4 (post : Int32 → MS → Prop) (T4 : Int32 → Int32 → MS → Prop) (x1 : Int32) (x2 : Int32) (S : MS) : Prop :=
  ((((6 : Int32) * (gF S 0)) ≤ x2 → (zok x1 ∧ post x1 S)) ∧ (¬ ((6 : Int32) * (gF S 0)) ≤ x2 → ((¬ x1 = 0 → M_anyBent_w27 post T4 x2 S) ∧ (x1 = 0 → M_isBent x2 S (fun (r1 : Int32) (S1 : MS) => ((r1 = 0 → M_anyBent_w32 post T4 (0 : Int32) x2 S1) ∧ (¬ r1 = 0 → M_anyBent_w27 post T4 x2 S1)))))))
set_option maxHeartbeats 4000000 in
set_option maxRecDepth 100000 in
theorem M_anyBent_a4 {p : Program} {l : Launch} {e : Env} {s : State} {m : MethodId} {args : Array Value} {below : List Frame} {meth : Method} {c : Code} {D : va_G} {dA : Nat → ClassId} {o : Nat → Nat} {A : Nat → Prop} {post : Int32 → MS → Prop} {T4 : Int32 → Int32 → MS → Prop} (C : mC p m c cX5_anyBent 3 s args meth (Option.some Jvm.ClassFile.FieldType.boolean) A) (hT4 : ∀ (x1 : Int32) (x2 : Int32) (S : MS), T4 x1 x2 S → ∀ (H : Heap) (locs : List Loc) (ls : Array Slot), lv_has ls 3 [(0, .ref (o 0)), (1, .int x1), (2, .int x2)] → mw D dA o A s S H locs → W p l e rM_anyBent s m args below meth c H locs 0 0 (mQi below args s D dA o A post) (F0 m 4 ls [])) {x1 : Int32} {x2 : Int32} {S : MS} (h : M_anyBent_w4 post T4 x1 x2 S) {H : Heap} {locs : List Loc} {ls : Array Slot} (hl : lv_has ls 3 [(0, .ref (o 0)), (1, .int x1), (2, .int x2)]) (w : mw D dA o A s S H locs) : W p l e rM_anyBent s m args below meth c H locs 0 0 (mQi below args s D dA o A post) (F0 m 4 ls []) := by
  unfold M_anyBent_w4 at h
  obtain ⟨⟨hx, hb, hml, hown, hts⟩, hr, hlk, hA⟩ := id C
  refine lv_iload_n hx hb dX5_anyBent_4 rfl (lv_at hl 2 rfl) ?_
  refine lv_bipush (v := 6) hx hb dX5_anyBent_5 (by decide) ?_
  refine lv_aload_n hx hb dX5_anyBent_7 rfl (lv_at hl 0 rfl) ?_
  refine mr_get C w 0 (by decide) q577 rfl rfl dX5_anyBent_8 ?_
  refine lv_imul hx hb dX5_anyBent_11 ?_
  obtain ⟨h1, h2⟩ := h
  refine lv_icmp_ge (tgt := 39) hx hb dX5_anyBent_12 (by decide) (fun c1 => ?_) (fun c1 => ?_)
  · have h := h1 c1
    refine lv_iload_n hx hb dX5_anyBent_39 rfl (lv_at hl 1 rfl) ?_
    exact mr_zret C w (zok_n h.1) h.2 dX5_anyBent_40
  · have h := h2 c1
    refine lv_iload_n hx hb dX5_anyBent_15 rfl (lv_at hl 1 rfl) ?_
    obtain ⟨h1, h2⟩ := h
    refine lv_if_ne (tgt := 27) hx hb dX5_anyBent_16 (by decide) (fun c1 => ?_) (fun c1 => ?_)
    · have h := h1 c1
      exact M_anyBent_a27 C hT4 h (lv_sub hl [0, 2] rfl) w
    · have h := h2 c1
      refine lv_aload_n hx hb dX5_anyBent_19 rfl (lv_at hl 0 rfl) ?_
      refine lv_iload_n hx hb dX5_anyBent_20 rfl (lv_at hl 2 rfl) ?_
      refine mr_callVI (rest := []) C w h (lw_V q734 q736 qs45 q87 q737) M_isBent_d rfl rfl ⟨Nat.le_of_ble_eq_true rfl, Nat.le_of_ble_eq_true rfl⟩ rfl hl.1 rfl (Nat.le_of_ble_eq_true rfl) ⟨Nat.zero_le _, Nat.zero_le _⟩ dX5_anyBent_21 (fun r1 S1 H locs h w => ?_)
      obtain ⟨h1, h2⟩ := h
      refine lv_if_eq (tgt := 31) hx hb dX5_anyBent_24 (by decide) (fun c1 => ?_) (fun c1 => ?_)
      · have h := h1 c1
        refine lv_iconst (v := 0) hx hb dX5_anyBent_31 (by decide) ?_
        exact M_anyBent_a32 C hT4 h (lv_sub hl [0, 2] rfl) w
      · have h := h2 c1
        exact M_anyBent_a27 C hT4 h (lv_sub hl [0, 2] rfl) w
def M_anyBent_w0 (post : Int32 → MS → Prop) (T4 : Int32 → Int32 → MS → Prop) (S : MS) : Prop :=
  T4 (0 : Int32) (0 : Int32) S
set_option maxHeartbeats 4000000 in
set_option maxRecDepth 100000 in
theorem M_anyBent_a0 {p : Program} {l : Launch} {e : Env} {s : State} {m : MethodId} {args : Array Value} {below : List Frame} {meth : Method} {c : Code} {D : va_G} {dA : Nat → ClassId} {o : Nat → Nat} {A : Nat → Prop} {post : Int32 → MS → Prop} {T4 : Int32 → Int32 → MS → Prop} (C : mC p m c cX5_anyBent 3 s args meth (Option.some Jvm.ClassFile.FieldType.boolean) A) (hT4 : ∀ (x1 : Int32) (x2 : Int32) (S : MS), T4 x1 x2 S → ∀ (H : Heap) (locs : List Loc) (ls : Array Slot), lv_has ls 3 [(0, .ref (o 0)), (1, .int x1), (2, .int x2)] → mw D dA o A s S H locs → W p l e rM_anyBent s m args below meth c H locs 0 0 (mQi below args s D dA o A post) (F0 m 4 ls [])) {S : MS} (h : M_anyBent_w0 post T4 S) {H : Heap} {locs : List Loc} {ls : Array Slot} (hl : lv_has ls 3 [(0, .ref (o 0))]) (w : mw D dA o A s S H locs) : W p l e rM_anyBent s m args below meth c H locs 0 0 (mQi below args s D dA o A post) (F0 m 0 ls []) := by
  unfold M_anyBent_w0 at h
  obtain ⟨⟨hx, hb, hml, hown, hts⟩, hr, hlk, hA⟩ := id C
  refine lv_iconst (v := 0) hx hb dX5_anyBent_0 (by decide) ?_
  refine lv_istore_n (lv' := [(1, .int _), (0, .ref _)]) hx hb dX5_anyBent_1 rfl hl (by decide) rfl (fun ls hl => ?_)
  refine lv_iconst (v := 0) hx hb dX5_anyBent_2 (by decide) ?_
  refine lv_istore_n (lv' := [(2, .int _), (1, .int _), (0, .ref _)]) hx hb dX5_anyBent_3 rfl hl (by decide) rfl (fun ls hl => ?_)
  exact hT4 _ _ _ h _ _ _ (lv_sub hl [2, 1, 0] rfl) w
def M_anyBent_VC (S : MS) (post : Int32 → MS → Prop) : Prop := ∀ (T4 : Int32 → Int32 → MS → Prop), (∀ (x1 : Int32) (x2 : Int32) (S : MS), M_anyBent_w4 post T4 x1 x2 S → T4 x1 x2 S) → M_anyBent_w0 post T4 S
theorem M_anyBent_ok {S : MS} {post : Int32 → MS → Prop} (h : M_anyBent_VC S post) : M_anyBent S post := by
  intro l D dA o sz
  refine mr_start (fun A => va_Qi post (mB D dA o A) A) rfl (Nat.le_of_ble_eq_true rfl) (by decide) ?_
  intro p e s m args below meth c ls A C w hl
  have hl : lv_has ls 3 [(0, .ref (o 0))] := hl
  have h := h (fun (x1 : Int32) (x2 : Int32) S => ∀ (H : Heap) (locs : List Loc) (ls : Array Slot), lv_has ls 3 [(0, .ref (o 0)), (1, .int x1), (2, .int x2)] → mw D dA o A s S H locs → W p l e rM_anyBent s m args below meth c H locs 0 0 (mQi below args s D dA o A post) (F0 m 4 ls [])) (fun _ _ S h H locs ls hl w => M_anyBent_a4 C (fun _ _ _ h => h) h hl w)
  exact M_anyBent_a0 C (fun _ _ _ h => h) h (lv_sub hl [0] rfl) w

/-! empty()V -/
def M_empty_w2 (post : MS → Prop) (T2 : Int32 → MS → Prop) (x1 : Int32) (S : MS) : Prop :=
  (((21 : Int32) ≤ x1 → post S) ∧ (¬ (21 : Int32) ≤ x1 → (vp_in x1 21 ∧ (fun (S1 : MS) => T2 (x1 + (1 : Int32)) S1) (sI S 3 (x1).toNatClampNeg (0 : Int32)))))
set_option maxHeartbeats 4000000 in
set_option maxRecDepth 100000 in
theorem M_empty_a2 {p : Program} {l : Launch} {e : Env} {s : State} {m : MethodId} {args : Array Value} {below : List Frame} {meth : Method} {c : Code} {D : va_G} {dA : Nat → ClassId} {o : Nat → Nat} {A : Nat → Prop} {post : MS → Prop} {T2 : Int32 → MS → Prop} (C : mC p m c cX5_empty 2 s args meth (Option.none : Option Jvm.ClassFile.FieldType) A) (hT2 : ∀ (x1 : Int32) (S : MS), T2 x1 S → ∀ (H : Heap) (locs : List Loc) (ls : Array Slot), lv_has ls 2 [(0, .ref (o 0)), (1, .int x1)] → mw D dA o A s S H locs → W p l e rM_empty s m args below meth c H locs 0 0 (mQv below args s D dA o A post) (F0 m 2 ls [])) {x1 : Int32} {S : MS} (h : M_empty_w2 post T2 x1 S) {H : Heap} {locs : List Loc} {ls : Array Slot} (hl : lv_has ls 2 [(0, .ref (o 0)), (1, .int x1)]) (w : mw D dA o A s S H locs) : W p l e rM_empty s m args below meth c H locs 0 0 (mQv below args s D dA o A post) (F0 m 2 ls []) := by
  unfold M_empty_w2 at h
  obtain ⟨⟨hx, hb, hml, hown, hts⟩, hr, hlk, hA⟩ := id C
  refine lv_iload_n hx hb dX5_empty_2 rfl (lv_at hl 1 rfl) ?_
  refine lv_bipush (v := 21) hx hb dX5_empty_3 (by decide) ?_
  obtain ⟨h1, h2⟩ := h
  refine lv_icmp_ge (tgt := 21) hx hb dX5_empty_5 (by decide) (fun c1 => ?_) (fun c1 => ?_)
  · have h := h1 c1
    exact mr_vret C w h dX5_empty_21
  · have h := h2 c1
    refine lv_aload_n hx hb dX5_empty_8 rfl (lv_at hl 0 rfl) ?_
    refine mr_get C w 3 (by decide) q580 rfl rfl dX5_empty_9 ?_
    refine lv_iload_n hx hb dX5_empty_12 rfl (lv_at hl 1 rfl) ?_
    refine lv_iconst (v := 0) hx hb dX5_empty_13 (by decide) ?_
    obtain ⟨hi, h⟩ := h
    refine mr_iast C w 3 2 rfl rfl hi MWs_3 dX5_empty_14 (fun H locs w => ?_)
    refine lv_iinc (v := _ + (1 : Int32)) (lv' := [(1, .int _), (0, .ref _)]) hx hb dX5_empty_15 hl (k := 1) rfl rfl (by decide) rfl (fun ls hl => ?_)
    refine lv_goto (tgt := 2) hx hb dX5_empty_18 (by decide) ?_
    exact hT2 _ _ h _ _ _ (lv_sub hl [1, 0] rfl) w
def M_empty_w0 (post : MS → Prop) (T2 : Int32 → MS → Prop) (S : MS) : Prop :=
  T2 (0 : Int32) S
set_option maxHeartbeats 4000000 in
set_option maxRecDepth 100000 in
theorem M_empty_a0 {p : Program} {l : Launch} {e : Env} {s : State} {m : MethodId} {args : Array Value} {below : List Frame} {meth : Method} {c : Code} {D : va_G} {dA : Nat → ClassId} {o : Nat → Nat} {A : Nat → Prop} {post : MS → Prop} {T2 : Int32 → MS → Prop} (C : mC p m c cX5_empty 2 s args meth (Option.none : Option Jvm.ClassFile.FieldType) A) (hT2 : ∀ (x1 : Int32) (S : MS), T2 x1 S → ∀ (H : Heap) (locs : List Loc) (ls : Array Slot), lv_has ls 2 [(0, .ref (o 0)), (1, .int x1)] → mw D dA o A s S H locs → W p l e rM_empty s m args below meth c H locs 0 0 (mQv below args s D dA o A post) (F0 m 2 ls [])) {S : MS} (h : M_empty_w0 post T2 S) {H : Heap} {locs : List Loc} {ls : Array Slot} (hl : lv_has ls 2 [(0, .ref (o 0))]) (w : mw D dA o A s S H locs) : W p l e rM_empty s m args below meth c H locs 0 0 (mQv below args s D dA o A post) (F0 m 0 ls []) := by
  unfold M_empty_w0 at h
  obtain ⟨⟨hx, hb, hml, hown, hts⟩, hr, hlk, hA⟩ := id C
  refine lv_iconst (v := 0) hx hb dX5_empty_0 (by decide) ?_
  refine lv_istore_n (lv' := [(1, .int _), (0, .ref _)]) hx hb dX5_empty_1 rfl hl (by decide) rfl (fun ls hl => ?_)
  exact hT2 _ _ h _ _ _ (lv_sub hl [1, 0] rfl) w
def M_empty_VC (S : MS) (post : MS → Prop) : Prop := ∀ (T2 : Int32 → MS → Prop), (∀ (x1 : Int32) (S : MS), M_empty_w2 post T2 x1 S → T2 x1 S) → M_empty_w0 post T2 S
theorem M_empty_ok {S : MS} {post : MS → Prop} (h : M_empty_VC S post) : M_empty S post := by
  intro l D dA o sz
  refine mr_start (fun A => va_Qv post (mB D dA o A) A) rfl (Nat.le_of_ble_eq_true rfl) (by decide) ?_
  intro p e s m args below meth c ls A C w hl
  have hl : lv_has ls 2 [(0, .ref (o 0))] := hl
  have h := h (fun (x1 : Int32) S => ∀ (H : Heap) (locs : List Loc) (ls : Array Slot), lv_has ls 2 [(0, .ref (o 0)), (1, .int x1)] → mw D dA o A s S H locs → W p l e rM_empty s m args below meth c H locs 0 0 (mQv below args s D dA o A post) (F0 m 2 ls [])) (fun _ S h H locs ls hl w => M_empty_a2 C (fun _ _ h => h) h hl w)
  exact M_empty_a0 C (fun _ _ h => h) h (lv_sub hl [0] rfl) w

/-! piece()I -/
def M_piece_w13 (post : Int32 → MS → Prop) (T13 : Int32 → MS → Prop) (x1 : Int32) (S : MS) : Prop :=
  (((4 : Int32) ≤ x1 → (fun (S1 : MS) => M_empty S1 (fun (S2 : MS) => post ((gF S2 0) - (1 : Int32)) S2)) (sF S 0 ((gF S 0) + (1 : Int32)))) ∧ (¬ (4 : Int32) ≤ x1 → (vp_in (((4 : Int32) * (gF S 0)) + x1) 12 ∧ (fun (S3 : MS) => T13 (x1 + (1 : Int32)) S3) (sI S 1 ((((4 : Int32) * (gF S 0)) + x1)).toNatClampNeg (-1 : Int32)))))
set_option maxHeartbeats 4000000 in
set_option maxRecDepth 100000 in
theorem M_piece_a13 {p : Program} {l : Launch} {e : Env} {s : State} {m : MethodId} {args : Array Value} {below : List Frame} {meth : Method} {c : Code} {D : va_G} {dA : Nat → ClassId} {o : Nat → Nat} {A : Nat → Prop} {post : Int32 → MS → Prop} {T13 : Int32 → MS → Prop} (C : mC p m c cX5_piece 2 s args meth (Option.some Jvm.ClassFile.FieldType.int) A) (hT13 : ∀ (x1 : Int32) (S : MS), T13 x1 S → ∀ (H : Heap) (locs : List Loc) (ls : Array Slot), lv_has ls 2 [(0, .ref (o 0)), (1, .int x1)] → mw D dA o A s S H locs → W p l e rM_piece s m args below meth c H locs 0 0 (mQi below args s D dA o A post) (F0 m 13 ls [])) {x1 : Int32} {S : MS} (h : M_piece_w13 post T13 x1 S) {H : Heap} {locs : List Loc} {ls : Array Slot} (hl : lv_has ls 2 [(0, .ref (o 0)), (1, .int x1)]) (w : mw D dA o A s S H locs) : W p l e rM_piece s m args below meth c H locs 0 0 (mQi below args s D dA o A post) (F0 m 13 ls []) := by
  unfold M_piece_w13 at h
  obtain ⟨⟨hx, hb, hml, hown, hts⟩, hr, hlk, hA⟩ := id C
  refine lv_iload_n hx hb dX5_piece_13 rfl (lv_at hl 1 rfl) ?_
  refine lv_iconst (v := 4) hx hb dX5_piece_14 (by decide) ?_
  obtain ⟨h1, h2⟩ := h
  refine lv_icmp_ge (tgt := 38) hx hb dX5_piece_15 (by decide) (fun c1 => ?_) (fun c1 => ?_)
  · have h := h1 c1
    refine lv_aload_n hx hb dX5_piece_38 rfl (lv_at hl 0 rfl) ?_
    refine lv_dup hx hb dX5_piece_39 rfl ?_
    refine mr_get C w 0 (by decide) q577 rfl rfl dX5_piece_40 ?_
    refine lv_iconst (v := 1) hx hb dX5_piece_43 (by decide) ?_
    refine lv_iadd hx hb dX5_piece_44 ?_
    refine mr_put (ty := .int) C w 0 (by decide) q577 rfl rfl (by decide +kernel) rfl rfl MWf_0 dX5_piece_45 (fun H locs w => ?_)
    refine lv_aload_n hx hb dX5_piece_48 rfl (lv_at hl 0 rfl) ?_
    refine mr_callVV (rest := []) C w h (lw_V q660 q662 qs34 q87 q663) M_empty_d rfl rfl ⟨Nat.le_of_ble_eq_true rfl, Nat.le_of_ble_eq_true rfl⟩ rfl hl.1 rfl (Nat.le_of_ble_eq_true rfl) ⟨Nat.zero_le _, Nat.zero_le _⟩ dX5_piece_49 (fun S2 H locs h w => ?_)
    refine lv_aload_n hx hb dX5_piece_52 rfl (lv_at hl 0 rfl) ?_
    refine mr_get C w 0 (by decide) q577 rfl rfl dX5_piece_53 ?_
    refine lv_iconst (v := 1) hx hb dX5_piece_56 (by decide) ?_
    refine lv_isub hx hb dX5_piece_57 ?_
    exact mr_iret C w h dX5_piece_58
  · have h := h2 c1
    refine lv_aload_n hx hb dX5_piece_18 rfl (lv_at hl 0 rfl) ?_
    refine mr_get C w 1 (by decide) q578 rfl rfl dX5_piece_19 ?_
    refine lv_iconst (v := 4) hx hb dX5_piece_22 (by decide) ?_
    refine lv_aload_n hx hb dX5_piece_23 rfl (lv_at hl 0 rfl) ?_
    refine mr_get C w 0 (by decide) q577 rfl rfl dX5_piece_24 ?_
    refine lv_imul hx hb dX5_piece_27 ?_
    refine lv_iload_n hx hb dX5_piece_28 rfl (lv_at hl 1 rfl) ?_
    refine lv_iadd hx hb dX5_piece_29 ?_
    refine lv_iconst (v := -1) hx hb dX5_piece_30 (by decide) ?_
    obtain ⟨hi, h⟩ := h
    refine mr_iast C w 1 0 rfl rfl hi MWs_1 dX5_piece_31 (fun H locs w => ?_)
    refine lv_iinc (v := _ + (1 : Int32)) (lv' := [(1, .int _), (0, .ref _)]) hx hb dX5_piece_32 hl (k := 1) rfl rfl (by decide) rfl (fun ls hl => ?_)
    refine lv_goto (tgt := 13) hx hb dX5_piece_35 (by decide) ?_
    exact hT13 _ _ h _ _ _ (lv_sub hl [1, 0] rfl) w
def M_piece_w0 (post : Int32 → MS → Prop) (T13 : Int32 → MS → Prop) (S : MS) : Prop :=
  ((¬ (gF S 0) = (3 : Int32) → T13 (0 : Int32) S) ∧ ((gF S 0) = (3 : Int32) → post (-4 : Int32) S))
set_option maxHeartbeats 4000000 in
set_option maxRecDepth 100000 in
theorem M_piece_a0 {p : Program} {l : Launch} {e : Env} {s : State} {m : MethodId} {args : Array Value} {below : List Frame} {meth : Method} {c : Code} {D : va_G} {dA : Nat → ClassId} {o : Nat → Nat} {A : Nat → Prop} {post : Int32 → MS → Prop} {T13 : Int32 → MS → Prop} (C : mC p m c cX5_piece 2 s args meth (Option.some Jvm.ClassFile.FieldType.int) A) (hT13 : ∀ (x1 : Int32) (S : MS), T13 x1 S → ∀ (H : Heap) (locs : List Loc) (ls : Array Slot), lv_has ls 2 [(0, .ref (o 0)), (1, .int x1)] → mw D dA o A s S H locs → W p l e rM_piece s m args below meth c H locs 0 0 (mQi below args s D dA o A post) (F0 m 13 ls [])) {S : MS} (h : M_piece_w0 post T13 S) {H : Heap} {locs : List Loc} {ls : Array Slot} (hl : lv_has ls 2 [(0, .ref (o 0))]) (w : mw D dA o A s S H locs) : W p l e rM_piece s m args below meth c H locs 0 0 (mQi below args s D dA o A post) (F0 m 0 ls []) := by
  unfold M_piece_w0 at h
  obtain ⟨⟨hx, hb, hml, hown, hts⟩, hr, hlk, hA⟩ := id C
  refine lv_aload_n hx hb dX5_piece_0 rfl (lv_at hl 0 rfl) ?_
  refine mr_get C w 0 (by decide) q577 rfl rfl dX5_piece_1 ?_
  refine lv_iconst (v := 3) hx hb dX5_piece_4 (by decide) ?_
  obtain ⟨h1, h2⟩ := h
  refine lv_icmp_ne (tgt := 11) hx hb dX5_piece_5 (by decide) (fun c1 => ?_) (fun c1 => ?_)
  · have h := h1 c1
    refine lv_iconst (v := 0) hx hb dX5_piece_11 (by decide) ?_
    refine lv_istore_n (lv' := [(1, .int _), (0, .ref _)]) hx hb dX5_piece_12 rfl hl (by decide) rfl (fun ls hl => ?_)
    exact hT13 _ _ h _ _ _ (lv_sub hl [1, 0] rfl) w
  · have h := h2 c1
    refine lv_bipush (v := -4) hx hb dX5_piece_8 (by decide) ?_
    exact mr_iret C w h dX5_piece_10
def M_piece_VC (S : MS) (post : Int32 → MS → Prop) : Prop := ∀ (T13 : Int32 → MS → Prop), (∀ (x1 : Int32) (S : MS), M_piece_w13 post T13 x1 S → T13 x1 S) → M_piece_w0 post T13 S
theorem M_piece_ok {S : MS} {post : Int32 → MS → Prop} (h : M_piece_VC S post) : M_piece S post := by
  intro l D dA o sz
  refine mr_start (fun A => va_Qi post (mB D dA o A) A) rfl (Nat.le_of_ble_eq_true rfl) (by decide) ?_
  intro p e s m args below meth c ls A C w hl
  have hl : lv_has ls 2 [(0, .ref (o 0))] := hl
  have h := h (fun (x1 : Int32) S => ∀ (H : Heap) (locs : List Loc) (ls : Array Slot), lv_has ls 2 [(0, .ref (o 0)), (1, .int x1)] → mw D dA o A s S H locs → W p l e rM_piece s m args below meth c H locs 0 0 (mQi below args s D dA o A post) (F0 m 13 ls [])) (fun _ S h H locs ls hl w => M_piece_a13 C (fun _ _ h => h) h hl w)
  exact M_piece_a0 C (fun _ _ h => h) h (lv_sub hl [0] rfl) w

/-! glue(IIIII)I -/
def M_glue_w218 (post : Int32 → MS → Prop) (T174 : Int32 → Int32 → Int32 → Int32 → Int32 → Int32 → Int32 → Int32 → Int32 → MS → Prop) (x2 : Int32) (x4 : Int32) (x6 : Int32) (x7 : Int32) (x8 : Int32) (x9 : Int32) (x10 : Int32) (x11 : Int32) (x12 : Int32) (x13 : Int32) (S : MS) : Prop :=
  (vp_in (((4 : Int32) * x9) + x12) 48 ∧ (fun (S1 : MS) => (vp_in (((4 : Int32) * x10) + x13) 48 ∧ (fun (S2 : MS) => T174 x2 x4 x6 x7 x8 x9 x10 x11 (x12 + (1 : Int32)) S2) (sI S1 2 ((((4 : Int32) * x10) + x13)).toNatClampNeg x12))) (sI S 2 ((((4 : Int32) * x9) + x12)).toNatClampNeg x13))
set_option maxHeartbeats 4000000 in
set_option maxRecDepth 100000 in
theorem M_glue_a218 {p : Program} {l : Launch} {e : Env} {s : State} {m : MethodId} {args : Array Value} {below : List Frame} {meth : Method} {c : Code} {D : va_G} {dA : Nat → ClassId} {o : Nat → Nat} {A : Nat → Prop} {post : Int32 → MS → Prop} {T174 : Int32 → Int32 → Int32 → Int32 → Int32 → Int32 → Int32 → Int32 → Int32 → MS → Prop} (C : mC p m c cX5_glue 14 s args meth (Option.some Jvm.ClassFile.FieldType.int) A) (hT174 : ∀ (x2 : Int32) (x4 : Int32) (x6 : Int32) (x7 : Int32) (x8 : Int32) (x9 : Int32) (x10 : Int32) (x11 : Int32) (x12 : Int32) (S : MS), T174 x2 x4 x6 x7 x8 x9 x10 x11 x12 S → ∀ (H : Heap) (locs : List Loc) (ls : Array Slot), lv_has ls 14 [(0, .ref (o 0)), (2, .int x2), (4, .int x4), (6, .int x6), (7, .int x7), (8, .int x8), (9, .int x9), (10, .int x10), (11, .int x11), (12, .int x12)] → mw D dA o A s S H locs → W p l e rM_glue s m args below meth c H locs 0 0 (mQi below args s D dA o A post) (F0 m 174 ls [])) {x2 : Int32} {x4 : Int32} {x6 : Int32} {x7 : Int32} {x8 : Int32} {x9 : Int32} {x10 : Int32} {x11 : Int32} {x12 : Int32} {x13 : Int32} {S : MS} (h : M_glue_w218 post T174 x2 x4 x6 x7 x8 x9 x10 x11 x12 x13 S) {H : Heap} {locs : List Loc} {ls : Array Slot} (hl : lv_has ls 14 [(0, .ref (o 0)), (2, .int x2), (4, .int x4), (6, .int x6), (7, .int x7), (8, .int x8), (9, .int x9), (10, .int x10), (11, .int x11), (12, .int x12), (13, .int x13)]) (w : mw D dA o A s S H locs) : W p l e rM_glue s m args below meth c H locs 0 0 (mQi below args s D dA o A post) (F0 m 218 ls []) := by
  unfold M_glue_w218 at h
  obtain ⟨⟨hx, hb, hml, hown, hts⟩, hr, hlk, hA⟩ := id C
  refine lv_aload_n hx hb dX5_glue_218 rfl (lv_at hl 0 rfl) ?_
  refine mr_get C w 2 (by decide) q579 rfl rfl dX5_glue_219 ?_
  refine lv_iconst (v := 4) hx hb dX5_glue_222 (by decide) ?_
  refine lv_iload hx hb dX5_glue_223 (lv_at hl 6 rfl) ?_
  refine lv_imul hx hb dX5_glue_225 ?_
  refine lv_iload hx hb dX5_glue_226 (lv_at hl 9 rfl) ?_
  refine lv_iadd hx hb dX5_glue_228 ?_
  refine lv_iload hx hb dX5_glue_229 (lv_at hl 10 rfl) ?_
  obtain ⟨hi, h⟩ := h
  refine mr_iast C w 2 1 rfl rfl hi MWs_2 dX5_glue_231 (fun H locs w => ?_)
  refine lv_aload_n hx hb dX5_glue_232 rfl (lv_at hl 0 rfl) ?_
  refine mr_get C w 2 (by decide) q579 rfl rfl dX5_glue_233 ?_
  refine lv_iconst (v := 4) hx hb dX5_glue_236 (by decide) ?_
  refine lv_iload hx hb dX5_glue_237 (lv_at hl 7 rfl) ?_
  refine lv_imul hx hb dX5_glue_239 ?_
  refine lv_iload hx hb dX5_glue_240 (lv_at hl 10 rfl) ?_
  refine lv_iadd hx hb dX5_glue_242 ?_
  refine lv_iload hx hb dX5_glue_243 (lv_at hl 9 rfl) ?_
  obtain ⟨hi, h⟩ := h
  refine mr_iast C w 2 1 rfl rfl hi MWs_2 dX5_glue_245 (fun H locs w => ?_)
  refine lv_iinc (v := _ + (1 : Int32)) (lv' := [(12, .int _), (0, .ref _), (2, .int _), (4, .int _), (6, .int _), (7, .int _), (8, .int _), (9, .int _), (10, .int _), (11, .int _), (13, .int _)]) hx hb dX5_glue_246 hl (k := 9) rfl rfl (by decide) rfl (fun ls hl => ?_)
  refine lv_goto (tgt := 174) hx hb dX5_glue_249 (by decide) ?_
  exact hT174 _ _ _ _ _ _ _ _ _ _ h _ _ _ (lv_sub hl [1, 2, 3, 4, 5, 6, 7, 8, 9, 0] rfl) w
def M_glue_w213 (post : Int32 → MS → Prop) (T174 : Int32 → Int32 → Int32 → Int32 → Int32 → Int32 → Int32 → Int32 → Int32 → MS → Prop) (v0 : Int32) (x2 : Int32) (x4 : Int32) (x6 : Int32) (x7 : Int32) (x8 : Int32) (x9 : Int32) (x10 : Int32) (x11 : Int32) (x12 : Int32) (S : MS) : Prop :=
  M_glue_w218 post T174 x2 x4 x6 x7 x8 x9 x10 (x11 + (1 : Int32)) x12 v0 S
set_option maxHeartbeats 4000000 in
set_option maxRecDepth 100000 in
theorem M_glue_a213 {p : Program} {l : Launch} {e : Env} {s : State} {m : MethodId} {args : Array Value} {below : List Frame} {meth : Method} {c : Code} {D : va_G} {dA : Nat → ClassId} {o : Nat → Nat} {A : Nat → Prop} {post : Int32 → MS → Prop} {T174 : Int32 → Int32 → Int32 → Int32 → Int32 → Int32 → Int32 → Int32 → Int32 → MS → Prop} (C : mC p m c cX5_glue 14 s args meth (Option.some Jvm.ClassFile.FieldType.int) A) (hT174 : ∀ (x2 : Int32) (x4 : Int32) (x6 : Int32) (x7 : Int32) (x8 : Int32) (x9 : Int32) (x10 : Int32) (x11 : Int32) (x12 : Int32) (S : MS), T174 x2 x4 x6 x7 x8 x9 x10 x11 x12 S → ∀ (H : Heap) (locs : List Loc) (ls : Array Slot), lv_has ls 14 [(0, .ref (o 0)), (2, .int x2), (4, .int x4), (6, .int x6), (7, .int x7), (8, .int x8), (9, .int x9), (10, .int x10), (11, .int x11), (12, .int x12)] → mw D dA o A s S H locs → W p l e rM_glue s m args below meth c H locs 0 0 (mQi below args s D dA o A post) (F0 m 174 ls [])) {v0 : Int32} {x2 : Int32} {x4 : Int32} {x6 : Int32} {x7 : Int32} {x8 : Int32} {x9 : Int32} {x10 : Int32} {x11 : Int32} {x12 : Int32} {S : MS} (h : M_glue_w213 post T174 v0 x2 x4 x6 x7 x8 x9 x10 x11 x12 S) {H : Heap} {locs : List Loc} {ls : Array Slot} (hl : lv_has ls 14 [(0, .ref (o 0)), (2, .int x2), (4, .int x4), (6, .int x6), (7, .int x7), (8, .int x8), (9, .int x9), (10, .int x10), (11, .int x11), (12, .int x12)]) (w : mw D dA o A s S H locs) : W p l e rM_glue s m args below meth c H locs 0 0 (mQi below args s D dA o A post) (F0 m 213 ls [.int v0]) := by
  unfold M_glue_w213 at h
  obtain ⟨⟨hx, hb, hml, hown, hts⟩, hr, hlk, hA⟩ := id C
  refine lv_istore (lv' := [(13, .int _), (0, .ref _), (2, .int _), (4, .int _), (6, .int _), (7, .int _), (8, .int _), (9, .int _), (10, .int _), (11, .int _), (12, .int _)]) hx hb dX5_glue_213 hl (by decide) rfl (fun ls hl => ?_)
  refine lv_iinc (v := _ + (1 : Int32)) (lv' := [(11, .int _), (13, .int _), (0, .ref _), (2, .int _), (4, .int _), (6, .int _), (7, .int _), (8, .int _), (9, .int _), (10, .int _), (12, .int _)]) hx hb dX5_glue_215 hl (k := 9) rfl rfl (by decide) rfl (fun ls hl => ?_)
  exact M_glue_a218 C hT174 h (lv_sub hl [2, 3, 4, 5, 6, 7, 8, 9, 0, 10, 1] rfl) w
def M_glue_w174 (post : Int32 → MS → Prop) (T174 : Int32 → Int32 → Int32 → Int32 → Int32 → Int32 → Int32 → Int32 → Int32 → MS → Prop) (x2 : Int32) (x4 : Int32) (x6 : Int32) (x7 : Int32) (x8 : Int32) (x9 : Int32) (x10 : Int32) (x11 : Int32) (x12 : Int32) (S : MS) : Prop :=
  (((4 : Int32) ≤ x12 → post (1 : Int32) S) ∧ (¬ (4 : Int32) ≤ x12 → ((x12 = x2 → M_glue_w218 post T174 x2 x4 x6 x7 x8 x9 x10 x11 x12 x4 S) ∧ (¬ x12 = x2 → ((¬ x11 = 0 → ((¬ x11 = (1 : Int32) → M_glue_w213 post T174 x8 x2 x4 x6 x7 x8 x9 x10 x11 x12 S) ∧ (x11 = (1 : Int32) → M_glue_w213 post T174 x7 x2 x4 x6 x7 x8 x9 x10 x11 x12 S))) ∧ (x11 = 0 → M_glue_w213 post T174 x6 x2 x4 x6 x7 x8 x9 x10 x11 x12 S))))))
set_option maxHeartbeats 4000000 in
set_option maxRecDepth 100000 in
theorem M_glue_a174 {p : Program} {l : Launch} {e : Env} {s : State} {m : MethodId} {args : Array Value} {below : List Frame} {meth : Method} {c : Code} {D : va_G} {dA : Nat → ClassId} {o : Nat → Nat} {A : Nat → Prop} {post : Int32 → MS → Prop} {T174 : Int32 → Int32 → Int32 → Int32 → Int32 → Int32 → Int32 → Int32 → Int32 → MS → Prop} (C : mC p m c cX5_glue 14 s args meth (Option.some Jvm.ClassFile.FieldType.int) A) (hT174 : ∀ (x2 : Int32) (x4 : Int32) (x6 : Int32) (x7 : Int32) (x8 : Int32) (x9 : Int32) (x10 : Int32) (x11 : Int32) (x12 : Int32) (S : MS), T174 x2 x4 x6 x7 x8 x9 x10 x11 x12 S → ∀ (H : Heap) (locs : List Loc) (ls : Array Slot), lv_has ls 14 [(0, .ref (o 0)), (2, .int x2), (4, .int x4), (6, .int x6), (7, .int x7), (8, .int x8), (9, .int x9), (10, .int x10), (11, .int x11), (12, .int x12)] → mw D dA o A s S H locs → W p l e rM_glue s m args below meth c H locs 0 0 (mQi below args s D dA o A post) (F0 m 174 ls [])) {x2 : Int32} {x4 : Int32} {x6 : Int32} {x7 : Int32} {x8 : Int32} {x9 : Int32} {x10 : Int32} {x11 : Int32} {x12 : Int32} {S : MS} (h : M_glue_w174 post T174 x2 x4 x6 x7 x8 x9 x10 x11 x12 S) {H : Heap} {locs : List Loc} {ls : Array Slot} (hl : lv_has ls 14 [(0, .ref (o 0)), (2, .int x2), (4, .int x4), (6, .int x6), (7, .int x7), (8, .int x8), (9, .int x9), (10, .int x10), (11, .int x11), (12, .int x12)]) (w : mw D dA o A s S H locs) : W p l e rM_glue s m args below meth c H locs 0 0 (mQi below args s D dA o A post) (F0 m 174 ls []) := by
  unfold M_glue_w174 at h
  obtain ⟨⟨hx, hb, hml, hown, hts⟩, hr, hlk, hA⟩ := id C
  refine lv_iload hx hb dX5_glue_174 (lv_at hl 9 rfl) ?_
  refine lv_iconst (v := 4) hx hb dX5_glue_176 (by decide) ?_
  obtain ⟨h1, h2⟩ := h
  refine lv_icmp_ge (tgt := 252) hx hb dX5_glue_177 (by decide) (fun c1 => ?_) (fun c1 => ?_)
  · have h := h1 c1
    refine lv_iconst (v := 1) hx hb dX5_glue_252 (by decide) ?_
    exact mr_iret C w h dX5_glue_253
  · have h := h2 c1
    refine lv_iload hx hb dX5_glue_180 (lv_at hl 2 rfl) ?_
    refine lv_istore (lv' := [(13, .int _), (0, .ref _), (2, .int _), (4, .int _), (6, .int _), (7, .int _), (8, .int _), (9, .int _), (10, .int _), (11, .int _), (12, .int _)]) hx hb dX5_glue_182 hl (by decide) rfl (fun ls hl => ?_)
    refine lv_iload hx hb dX5_glue_184 (lv_at hl 10 rfl) ?_
    refine lv_iload_n hx hb dX5_glue_186 rfl (lv_at hl 2 rfl) ?_
    obtain ⟨h1, h2⟩ := h
    refine lv_icmp_eq (tgt := 218) hx hb dX5_glue_187 (by decide) (fun c1 => ?_) (fun c1 => ?_)
    · have h := h1 c1
      exact M_glue_a218 C hT174 h (lv_sub hl [1, 2, 3, 4, 5, 6, 7, 8, 9, 10, 0] rfl) w
    · have h := h2 c1
      refine lv_iload hx hb dX5_glue_190 (lv_at hl 9 rfl) ?_
      obtain ⟨h1, h2⟩ := h
      refine lv_if_ne (tgt := 200) hx hb dX5_glue_192 (by decide) (fun c1 => ?_) (fun c1 => ?_)
      · have h := h1 c1
        refine lv_iload hx hb dX5_glue_200 (lv_at hl 9 rfl) ?_
        refine lv_iconst (v := 1) hx hb dX5_glue_202 (by decide) ?_
        obtain ⟨h1, h2⟩ := h
        refine lv_icmp_ne (tgt := 211) hx hb dX5_glue_203 (by decide) (fun c1 => ?_) (fun c1 => ?_)
        · have h := h1 c1
          refine lv_iload hx hb dX5_glue_211 (lv_at hl 6 rfl) ?_
          exact M_glue_a213 C hT174 h (lv_sub hl [1, 2, 3, 4, 5, 6, 7, 8, 9, 10] rfl) w
        · have h := h2 c1
          refine lv_iload hx hb dX5_glue_206 (lv_at hl 5 rfl) ?_
          refine lv_goto (tgt := 213) hx hb dX5_glue_208 (by decide) ?_
          exact M_glue_a213 C hT174 h (lv_sub hl [1, 2, 3, 4, 5, 6, 7, 8, 9, 10] rfl) w
      · have h := h2 c1
        refine lv_iload hx hb dX5_glue_195 (lv_at hl 4 rfl) ?_
        refine lv_goto (tgt := 213) hx hb dX5_glue_197 (by decide) ?_
        exact M_glue_a213 C hT174 h (lv_sub hl [1, 2, 3, 4, 5, 6, 7, 8, 9, 10] rfl) w
def M_glue_w147 (post : Int32 → MS → Prop) (T174 : Int32 → Int32 → Int32 → Int32 → Int32 → Int32 → Int32 → Int32 → Int32 → MS → Prop) (S : MS) : Prop :=
  post (-3 : Int32) S
set_option maxHeartbeats 4000000 in
set_option maxRecDepth 100000 in
theorem M_glue_a147 {p : Program} {l : Launch} {e : Env} {s : State} {m : MethodId} {args : Array Value} {below : List Frame} {meth : Method} {c : Code} {D : va_G} {dA : Nat → ClassId} {o : Nat → Nat} {A : Nat → Prop} {post : Int32 → MS → Prop} {T174 : Int32 → Int32 → Int32 → Int32 → Int32 → Int32 → Int32 → Int32 → Int32 → MS → Prop} (C : mC p m c cX5_glue 14 s args meth (Option.some Jvm.ClassFile.FieldType.int) A) (hT174 : ∀ (x2 : Int32) (x4 : Int32) (x6 : Int32) (x7 : Int32) (x8 : Int32) (x9 : Int32) (x10 : Int32) (x11 : Int32) (x12 : Int32) (S : MS), T174 x2 x4 x6 x7 x8 x9 x10 x11 x12 S → ∀ (H : Heap) (locs : List Loc) (ls : Array Slot), lv_has ls 14 [(0, .ref (o 0)), (2, .int x2), (4, .int x4), (6, .int x6), (7, .int x7), (8, .int x8), (9, .int x9), (10, .int x10), (11, .int x11), (12, .int x12)] → mw D dA o A s S H locs → W p l e rM_glue s m args below meth c H locs 0 0 (mQi below args s D dA o A post) (F0 m 174 ls [])) {S : MS} (h : M_glue_w147 post T174 S) {H : Heap} {locs : List Loc} {ls : Array Slot} (hl : lv_has ls 14 [(0, .ref (o 0))]) (w : mw D dA o A s S H locs) : W p l e rM_glue s m args below meth c H locs 0 0 (mQi below args s D dA o A post) (F0 m 147 ls []) := by
  unfold M_glue_w147 at h
  obtain ⟨⟨hx, hb, hml, hown, hts⟩, hr, hlk, hA⟩ := id C
  refine lv_bipush (v := -3) hx hb dX5_glue_147 (by decide) ?_
  exact mr_iret C w h dX5_glue_149
def M_glue_w110 (post : Int32 → MS → Prop) (T174 : Int32 → Int32 → Int32 → Int32 → Int32 → Int32 → Int32 → Int32 → Int32 → MS → Prop) (x1 : Int32) (x2 : Int32) (x3 : Int32) (x4 : Int32) (x6 : Int32) (x7 : Int32) (x8 : Int32) (S : MS) : Prop :=
  (vp_in (((4 : Int32) * x1) + x2) 12 ∧ ((¬ (gI S 1 ((((4 : Int32) * x1) + x2)).toNatClampNeg) = (-1 : Int32) → M_glue_w147 post T174 S) ∧ ((gI S 1 ((((4 : Int32) * x1) + x2)).toNatClampNeg) = (-1 : Int32) → (vp_in (((4 : Int32) * x3) + x4) 12 ∧ (((gI S 1 ((((4 : Int32) * x3) + x4)).toNatClampNeg) = (-1 : Int32) → (vp_in (((4 : Int32) * x1) + x2) 12 ∧ (fun (S1 : MS) => (vp_in (((4 : Int32) * x3) + x4) 12 ∧ (fun (S2 : MS) => T174 x2 x4 x6 x7 x8 (((4 : Int32) * x1) + x2) (((4 : Int32) * x3) + x4) (0 : Int32) (0 : Int32) S2) (sI S1 1 ((((4 : Int32) * x3) + x4)).toNatClampNeg (((4 : Int32) * x1) + x2)))) (sI S 1 ((((4 : Int32) * x1) + x2)).toNatClampNeg (((4 : Int32) * x3) + x4)))) ∧ (¬ (gI S 1 ((((4 : Int32) * x3) + x4)).toNatClampNeg) = (-1 : Int32) → M_glue_w147 post T174 S))))))
set_option maxHeartbeats 4000000 in
set_option maxRecDepth 100000 in
theorem M_glue_a110 {p : Program} {l : Launch} {e : Env} {s : State} {m : MethodId} {args : Array Value} {below : List Frame} {meth : Method} {c : Code} {D : va_G} {dA : Nat → ClassId} {o : Nat → Nat} {A : Nat → Prop} {post : Int32 → MS → Prop} {T174 : Int32 → Int32 → Int32 → Int32 → Int32 → Int32 → Int32 → Int32 → Int32 → MS → Prop} (C : mC p m c cX5_glue 14 s args meth (Option.some Jvm.ClassFile.FieldType.int) A) (hT174 : ∀ (x2 : Int32) (x4 : Int32) (x6 : Int32) (x7 : Int32) (x8 : Int32) (x9 : Int32) (x10 : Int32) (x11 : Int32) (x12 : Int32) (S : MS), T174 x2 x4 x6 x7 x8 x9 x10 x11 x12 S → ∀ (H : Heap) (locs : List Loc) (ls : Array Slot), lv_has ls 14 [(0, .ref (o 0)), (2, .int x2), (4, .int x4), (6, .int x6), (7, .int x7), (8, .int x8), (9, .int x9), (10, .int x10), (11, .int x11), (12, .int x12)] → mw D dA o A s S H locs → W p l e rM_glue s m args below meth c H locs 0 0 (mQi below args s D dA o A post) (F0 m 174 ls [])) {x1 : Int32} {x2 : Int32} {x3 : Int32} {x4 : Int32} {x6 : Int32} {x7 : Int32} {x8 : Int32} {S : MS} (h : M_glue_w110 post T174 x1 x2 x3 x4 x6 x7 x8 S) {H : Heap} {locs : List Loc} {ls : Array Slot} (hl : lv_has ls 14 [(0, .ref (o 0)), (1, .int x1), (2, .int x2), (3, .int x3), (4, .int x4), (6, .int x6), (7, .int x7), (8, .int x8)]) (w : mw D dA o A s S H locs) : W p l e rM_glue s m args below meth c H locs 0 0 (mQi below args s D dA o A post) (F0 m 110 ls []) := by
  unfold M_glue_w110 at h
  obtain ⟨⟨hx, hb, hml, hown, hts⟩, hr, hlk, hA⟩ := id C
  refine lv_iconst (v := 4) hx hb dX5_glue_110 (by decide) ?_
  refine lv_iload_n hx hb dX5_glue_111 rfl (lv_at hl 1 rfl) ?_
  refine lv_imul hx hb dX5_glue_112 ?_
  refine lv_iload_n hx hb dX5_glue_113 rfl (lv_at hl 2 rfl) ?_
  refine lv_iadd hx hb dX5_glue_114 ?_
  refine lv_istore (lv' := [(9, .int _), (0, .ref _), (1, .int _), (2, .int _), (3, .int _), (4, .int _), (6, .int _), (7, .int _), (8, .int _)]) hx hb dX5_glue_115 hl (by decide) rfl (fun ls hl => ?_)
  refine lv_iconst (v := 4) hx hb dX5_glue_117 (by decide) ?_
  refine lv_iload_n hx hb dX5_glue_118 rfl (lv_at hl 4 rfl) ?_
  refine lv_imul hx hb dX5_glue_119 ?_
  refine lv_iload hx hb dX5_glue_120 (lv_at hl 5 rfl) ?_
  refine lv_iadd hx hb dX5_glue_122 ?_
  refine lv_istore (lv' := [(10, .int _), (9, .int _), (0, .ref _), (1, .int _), (2, .int _), (3, .int _), (4, .int _), (6, .int _), (7, .int _), (8, .int _)]) hx hb dX5_glue_123 hl (by decide) rfl (fun ls hl => ?_)
  refine lv_aload_n hx hb dX5_glue_125 rfl (lv_at hl 2 rfl) ?_
  refine mr_get C w 1 (by decide) q578 rfl rfl dX5_glue_126 ?_
  refine lv_iload hx hb dX5_glue_129 (lv_at hl 1 rfl) ?_
  obtain ⟨hi, h⟩ := h
  refine mr_iald C w 1 0 rfl rfl hi dX5_glue_131 ?_
  refine lv_iconst (v := -1) hx hb dX5_glue_132 (by decide) ?_
  obtain ⟨h1, h2⟩ := h
  refine lv_icmp_ne (tgt := 147) hx hb dX5_glue_133 (by decide) (fun c1 => ?_) (fun c1 => ?_)
  · have h := h1 c1
    exact M_glue_a147 C hT174 h (lv_sub hl [2] rfl) w
  · have h := h2 c1
    refine lv_aload_n hx hb dX5_glue_136 rfl (lv_at hl 2 rfl) ?_
    refine mr_get C w 1 (by decide) q578 rfl rfl dX5_glue_137 ?_
    refine lv_iload hx hb dX5_glue_140 (lv_at hl 0 rfl) ?_
    obtain ⟨hi, h⟩ := h
    refine mr_iald C w 1 0 rfl rfl hi dX5_glue_142 ?_
    refine lv_iconst (v := -1) hx hb dX5_glue_143 (by decide) ?_
    obtain ⟨h1, h2⟩ := h
    refine lv_icmp_eq (tgt := 150) hx hb dX5_glue_144 (by decide) (fun c1 => ?_) (fun c1 => ?_)
    · have h := h1 c1
      refine lv_aload_n hx hb dX5_glue_150 rfl (lv_at hl 2 rfl) ?_
      refine mr_get C w 1 (by decide) q578 rfl rfl dX5_glue_151 ?_
      refine lv_iload hx hb dX5_glue_154 (lv_at hl 1 rfl) ?_
      refine lv_iload hx hb dX5_glue_156 (lv_at hl 0 rfl) ?_
      obtain ⟨hi, h⟩ := h
      refine mr_iast C w 1 0 rfl rfl hi MWs_1 dX5_glue_158 (fun H locs w => ?_)
      refine lv_aload_n hx hb dX5_glue_159 rfl (lv_at hl 2 rfl) ?_
      refine mr_get C w 1 (by decide) q578 rfl rfl dX5_glue_160 ?_
      refine lv_iload hx hb dX5_glue_163 (lv_at hl 0 rfl) ?_
      refine lv_iload hx hb dX5_glue_165 (lv_at hl 1 rfl) ?_
      obtain ⟨hi, h⟩ := h
      refine mr_iast C w 1 0 rfl rfl hi MWs_1 dX5_glue_167 (fun H locs w => ?_)
      refine lv_iconst (v := 0) hx hb dX5_glue_168 (by decide) ?_
      refine lv_istore (lv' := [(11, .int _), (10, .int _), (9, .int _), (0, .ref _), (1, .int _), (2, .int _), (3, .int _), (4, .int _), (6, .int _), (7, .int _), (8, .int _)]) hx hb dX5_glue_169 hl (by decide) rfl (fun ls hl => ?_)
      refine lv_iconst (v := 0) hx hb dX5_glue_171 (by decide) ?_
      refine lv_istore (lv' := [(12, .int _), (11, .int _), (10, .int _), (9, .int _), (0, .ref _), (1, .int _), (2, .int _), (3, .int _), (4, .int _), (6, .int _), (7, .int _), (8, .int _)]) hx hb dX5_glue_172 hl (by decide) rfl (fun ls hl => ?_)
      exact hT174 _ _ _ _ _ _ _ _ _ _ h _ _ _ (lv_sub hl [4, 6, 8, 9, 10, 11, 3, 2, 1, 0] rfl) w
    · have h := h2 c1
      exact M_glue_a147 C hT174 h (lv_sub hl [2] rfl) w
def M_glue_w107 (post : Int32 → MS → Prop) (T174 : Int32 → Int32 → Int32 → Int32 → Int32 → Int32 → Int32 → Int32 → Int32 → MS → Prop) (S : MS) : Prop :=
  post (-2 : Int32) S
set_option maxHeartbeats 4000000 in
set_option maxRecDepth 100000 in
theorem M_glue_a107 {p : Program} {l : Launch} {e : Env} {s : State} {m : MethodId} {args : Array Value} {below : List Frame} {meth : Method} {c : Code} {D : va_G} {dA : Nat → ClassId} {o : Nat → Nat} {A : Nat → Prop} {post : Int32 → MS → Prop} {T174 : Int32 → Int32 → Int32 → Int32 → Int32 → Int32 → Int32 → Int32 → Int32 → MS → Prop} (C : mC p m c cX5_glue 14 s args meth (Option.some Jvm.ClassFile.FieldType.int) A) (hT174 : ∀ (x2 : Int32) (x4 : Int32) (x6 : Int32) (x7 : Int32) (x8 : Int32) (x9 : Int32) (x10 : Int32) (x11 : Int32) (x12 : Int32) (S : MS), T174 x2 x4 x6 x7 x8 x9 x10 x11 x12 S → ∀ (H : Heap) (locs : List Loc) (ls : Array Slot), lv_has ls 14 [(0, .ref (o 0)), (2, .int x2), (4, .int x4), (6, .int x6), (7, .int x7), (8, .int x8), (9, .int x9), (10, .int x10), (11, .int x11), (12, .int x12)] → mw D dA o A s S H locs → W p l e rM_glue s m args below meth c H locs 0 0 (mQi below args s D dA o A post) (F0 m 174 ls [])) {S : MS} (h : M_glue_w107 post T174 S) {H : Heap} {locs : List Loc} {ls : Array Slot} (hl : lv_has ls 14 [(0, .ref (o 0))]) (w : mw D dA o A s S H locs) : W p l e rM_glue s m args below meth c H locs 0 0 (mQi below args s D dA o A post) (F0 m 107 ls []) := by
  unfold M_glue_w107 at h
  obtain ⟨⟨hx, hb, hml, hown, hts⟩, hr, hlk, hA⟩ := id C
  refine lv_bipush (v := -2) hx hb dX5_glue_107 (by decide) ?_
  exact mr_iret C w h dX5_glue_109
def M_glue_w30 (post : Int32 → MS → Prop) (T174 : Int32 → Int32 → Int32 → Int32 → Int32 → Int32 → Int32 → Int32 → Int32 → MS → Prop) (S : MS) : Prop :=
  post (-2 : Int32) S
set_option maxHeartbeats 4000000 in
set_option maxRecDepth 100000 in
theorem M_glue_a30 {p : Program} {l : Launch} {e : Env} {s : State} {m : MethodId} {args : Array Value} {below : List Frame} {meth : Method} {c : Code} {D : va_G} {dA : Nat → ClassId} {o : Nat → Nat} {A : Nat → Prop} {post : Int32 → MS → Prop} {T174 : Int32 → Int32 → Int32 → Int32 → Int32 → Int32 → Int32 → Int32 → Int32 → MS → Prop} (C : mC p m c cX5_glue 14 s args meth (Option.some Jvm.ClassFile.FieldType.int) A) (hT174 : ∀ (x2 : Int32) (x4 : Int32) (x6 : Int32) (x7 : Int32) (x8 : Int32) (x9 : Int32) (x10 : Int32) (x11 : Int32) (x12 : Int32) (S : MS), T174 x2 x4 x6 x7 x8 x9 x10 x11 x12 S → ∀ (H : Heap) (locs : List Loc) (ls : Array Slot), lv_has ls 14 [(0, .ref (o 0)), (2, .int x2), (4, .int x4), (6, .int x6), (7, .int x7), (8, .int x8), (9, .int x9), (10, .int x10), (11, .int x11), (12, .int x12)] → mw D dA o A s S H locs → W p l e rM_glue s m args below meth c H locs 0 0 (mQi below args s D dA o A post) (F0 m 174 ls [])) {S : MS} (h : M_glue_w30 post T174 S) {H : Heap} {locs : List Loc} {ls : Array Slot} (hl : lv_has ls 14 [(0, .ref (o 0))]) (w : mw D dA o A s S H locs) : W p l e rM_glue s m args below meth c H locs 0 0 (mQi below args s D dA o A post) (F0 m 30 ls []) := by
  unfold M_glue_w30 at h
  obtain ⟨⟨hx, hb, hml, hown, hts⟩, hr, hlk, hA⟩ := id C
  refine lv_bipush (v := -2) hx hb dX5_glue_30 (by decide) ?_
  exact mr_iret C w h dX5_glue_32
def M_glue_w0 (post : Int32 → MS → Prop) (T174 : Int32 → Int32 → Int32 → Int32 → Int32 → Int32 → Int32 → Int32 → Int32 → MS → Prop) (x1 : Int32) (x2 : Int32) (x3 : Int32) (x4 : Int32) (x5 : Int32) (S : MS) : Prop :=
  M_isSide x1 x2 S (fun (r1 : Int32) (S1 : MS) => ((r1 = 0 → M_glue_w30 post T174 S1) ∧ (¬ r1 = 0 → M_isSide x3 x4 S1 (fun (r2 : Int32) (S2 : MS) => ((r2 = 0 → M_glue_w30 post T174 S2) ∧ (¬ r2 = 0 → M_in x5 (0 : Int32) (63 : Int32) S2 (fun (r3 : Int32) (S3 : MS) => ((¬ r3 = 0 → (((x5 - x5 / (4 : Int32) * (4 : Int32)) = ((x5 / (4 : Int32)) - (x5 / (4 : Int32)) / (4 : Int32) * (4 : Int32)) → M_glue_w107 post T174 S3) ∧ (¬ (x5 - x5 / (4 : Int32) * (4 : Int32)) = ((x5 / (4 : Int32)) - (x5 / (4 : Int32)) / (4 : Int32) * (4 : Int32)) → (((x5 - x5 / (4 : Int32) * (4 : Int32)) = (x5 / (16 : Int32)) → M_glue_w107 post T174 S3) ∧ (¬ (x5 - x5 / (4 : Int32) * (4 : Int32)) = (x5 / (16 : Int32)) → ((((x5 / (4 : Int32)) - (x5 / (4 : Int32)) / (4 : Int32) * (4 : Int32)) = (x5 / (16 : Int32)) → M_glue_w107 post T174 S3) ∧ (¬ ((x5 / (4 : Int32)) - (x5 / (4 : Int32)) / (4 : Int32) * (4 : Int32)) = (x5 / (16 : Int32)) → (((x5 - x5 / (4 : Int32) * (4 : Int32)) = x4 → M_glue_w107 post T174 S3) ∧ (¬ (x5 - x5 / (4 : Int32) * (4 : Int32)) = x4 → ((((x5 / (4 : Int32)) - (x5 / (4 : Int32)) / (4 : Int32) * (4 : Int32)) = x4 → M_glue_w107 post T174 S3) ∧ (¬ ((x5 / (4 : Int32)) - (x5 / (4 : Int32)) / (4 : Int32) * (4 : Int32)) = x4 → (((x5 / (16 : Int32)) = x4 → M_glue_w107 post T174 S3) ∧ (¬ (x5 / (16 : Int32)) = x4 → ((¬ x1 = x3 → M_glue_w110 post T174 x1 x2 x3 x4 (x5 - x5 / (4 : Int32) * (4 : Int32)) ((x5 / (4 : Int32)) - (x5 / (4 : Int32)) / (4 : Int32) * (4 : Int32)) (x5 / (16 : Int32)) S3) ∧ (x1 = x3 → ((¬ x2 = x4 → M_glue_w110 post T174 x1 x2 x3 x4 (x5 - x5 / (4 : Int32) * (4 : Int32)) ((x5 / (4 : Int32)) - (x5 / (4 : Int32)) / (4 : Int32) * (4 : Int32)) (x5 / (16 : Int32)) S3) ∧ (x2 = x4 → M_glue_w107 post T174 S3))))))))))))))))) ∧ (r3 = 0 → M_glue_w30 post T174 S3)))))))))
set_option maxHeartbeats 4000000 in
set_option maxRecDepth 100000 in
theorem M_glue_a0 {p : Program} {l : Launch} {e : Env} {s : State} {m : MethodId} {args : Array Value} {below : List Frame} {meth : Method} {c : Code} {D : va_G} {dA : Nat → ClassId} {o : Nat → Nat} {A : Nat → Prop} {post : Int32 → MS → Prop} {T174 : Int32 → Int32 → Int32 → Int32 → Int32 → Int32 → Int32 → Int32 → Int32 → MS → Prop} (C : mC p m c cX5_glue 14 s args meth (Option.some Jvm.ClassFile.FieldType.int) A) (hT174 : ∀ (x2 : Int32) (x4 : Int32) (x6 : Int32) (x7 : Int32) (x8 : Int32) (x9 : Int32) (x10 : Int32) (x11 : Int32) (x12 : Int32) (S : MS), T174 x2 x4 x6 x7 x8 x9 x10 x11 x12 S → ∀ (H : Heap) (locs : List Loc) (ls : Array Slot), lv_has ls 14 [(0, .ref (o 0)), (2, .int x2), (4, .int x4), (6, .int x6), (7, .int x7), (8, .int x8), (9, .int x9), (10, .int x10), (11, .int x11), (12, .int x12)] → mw D dA o A s S H locs → W p l e rM_glue s m args below meth c H locs 0 0 (mQi below args s D dA o A post) (F0 m 174 ls [])) {x1 : Int32} {x2 : Int32} {x3 : Int32} {x4 : Int32} {x5 : Int32} {S : MS} (h : M_glue_w0 post T174 x1 x2 x3 x4 x5 S) {H : Heap} {locs : List Loc} {ls : Array Slot} (hl : lv_has ls 14 [(0, .ref (o 0)), (1, .int x1), (2, .int x2), (3, .int x3), (4, .int x4), (5, .int x5)]) (w : mw D dA o A s S H locs) : W p l e rM_glue s m args below meth c H locs 0 0 (mQi below args s D dA o A post) (F0 m 0 ls []) := by
  unfold M_glue_w0 at h
  obtain ⟨⟨hx, hb, hml, hown, hts⟩, hr, hlk, hA⟩ := id C
  refine lv_aload_n hx hb dX5_glue_0 rfl (lv_at hl 0 rfl) ?_
  refine lv_iload_n hx hb dX5_glue_1 rfl (lv_at hl 1 rfl) ?_
  refine lv_iload_n hx hb dX5_glue_2 rfl (lv_at hl 2 rfl) ?_
  refine mr_callVI (rest := []) C w h (lw_V q668 q670 qs35 q87 q671) M_isSide_d rfl rfl ⟨Nat.le_of_ble_eq_true rfl, Nat.le_of_ble_eq_true rfl⟩ rfl hl.1 rfl (Nat.le_of_ble_eq_true rfl) ⟨Nat.zero_le _, Nat.zero_le _⟩ dX5_glue_3 (fun r1 S1 H locs h w => ?_)
  obtain ⟨h1, h2⟩ := h
  refine lv_if_eq (tgt := 30) hx hb dX5_glue_6 (by decide) (fun c1 => ?_) (fun c1 => ?_)
  · have h := h1 c1
    exact M_glue_a30 C hT174 h (lv_sub hl [0] rfl) w
  · have h := h2 c1
    refine lv_aload_n hx hb dX5_glue_9 rfl (lv_at hl 0 rfl) ?_
    refine lv_iload_n hx hb dX5_glue_10 rfl (lv_at hl 3 rfl) ?_
    refine lv_iload hx hb dX5_glue_11 (lv_at hl 4 rfl) ?_
    refine mr_callVI (rest := []) C w h (lw_V q668 q670 qs35 q87 q671) M_isSide_d rfl rfl ⟨Nat.le_of_ble_eq_true rfl, Nat.le_of_ble_eq_true rfl⟩ rfl hl.1 rfl (Nat.le_of_ble_eq_true rfl) ⟨Nat.zero_le _, Nat.zero_le _⟩ dX5_glue_13 (fun r2 S2 H locs h w => ?_)
    obtain ⟨h1, h2⟩ := h
    refine lv_if_eq (tgt := 30) hx hb dX5_glue_16 (by decide) (fun c1 => ?_) (fun c1 => ?_)
    · have h := h1 c1
      exact M_glue_a30 C hT174 h (lv_sub hl [0] rfl) w
    · have h := h2 c1
      refine lv_iload hx hb dX5_glue_19 (lv_at hl 5 rfl) ?_
      refine lv_iconst (v := 0) hx hb dX5_glue_21 (by decide) ?_
      refine lv_bipush (v := 63) hx hb dX5_glue_22 (by decide) ?_
      refine mr_callSI (rest := []) C w h (lw_S q676 q677 q87 q678) M_in_d rfl rfl ⟨Nat.le_of_ble_eq_true rfl, Nat.le_of_ble_eq_true rfl⟩ rfl hl.1 rfl (Nat.le_of_ble_eq_true rfl) ⟨Nat.zero_le _, Nat.zero_le _⟩ dX5_glue_24 (fun r3 S3 H locs h w => ?_)
      obtain ⟨h1, h2⟩ := h
      refine lv_if_ne (tgt := 33) hx hb dX5_glue_27 (by decide) (fun c1 => ?_) (fun c1 => ?_)
      · have h := h1 c1
        refine lv_iload hx hb dX5_glue_33 (lv_at hl 5 rfl) ?_
        refine lv_iconst (v := 4) hx hb dX5_glue_35 (by decide) ?_
        refine lv_irem hx hb dX5_glue_36 (by decide) ?_
        refine lv_istore (lv' := [(6, .int _), (0, .ref _), (1, .int _), (2, .int _), (3, .int _), (4, .int _), (5, .int _)]) hx hb dX5_glue_37 hl (by decide) rfl (fun ls hl => ?_)
        refine lv_iload hx hb dX5_glue_39 (lv_at hl 6 rfl) ?_
        refine lv_iconst (v := 4) hx hb dX5_glue_41 (by decide) ?_
        refine lv_idiv hx hb dX5_glue_42 (by decide) ?_
        refine lv_iconst (v := 4) hx hb dX5_glue_43 (by decide) ?_
        refine lv_irem hx hb dX5_glue_44 (by decide) ?_
        refine lv_istore (lv' := [(7, .int _), (6, .int _), (0, .ref _), (1, .int _), (2, .int _), (3, .int _), (4, .int _), (5, .int _)]) hx hb dX5_glue_45 hl (by decide) rfl (fun ls hl => ?_)
        refine lv_iload hx hb dX5_glue_47 (lv_at hl 7 rfl) ?_
        refine lv_bipush (v := 16) hx hb dX5_glue_49 (by decide) ?_
        refine lv_idiv hx hb dX5_glue_51 (by decide) ?_
        refine lv_istore (lv' := [(8, .int _), (7, .int _), (6, .int _), (0, .ref _), (1, .int _), (2, .int _), (3, .int _), (4, .int _), (5, .int _)]) hx hb dX5_glue_52 hl (by decide) rfl (fun ls hl => ?_)
        refine lv_iload hx hb dX5_glue_54 (lv_at hl 2 rfl) ?_
        refine lv_iload hx hb dX5_glue_56 (lv_at hl 1 rfl) ?_
        obtain ⟨h1, h2⟩ := h
        refine lv_icmp_eq (tgt := 107) hx hb dX5_glue_58 (by decide) (fun c1 => ?_) (fun c1 => ?_)
        · have h := h1 c1
          exact M_glue_a107 C hT174 h (lv_sub hl [3] rfl) w
        · have h := h2 c1
          refine lv_iload hx hb dX5_glue_61 (lv_at hl 2 rfl) ?_
          refine lv_iload hx hb dX5_glue_63 (lv_at hl 0 rfl) ?_
          obtain ⟨h1, h2⟩ := h
          refine lv_icmp_eq (tgt := 107) hx hb dX5_glue_65 (by decide) (fun c1 => ?_) (fun c1 => ?_)
          · have h := h1 c1
            exact M_glue_a107 C hT174 h (lv_sub hl [3] rfl) w
          · have h := h2 c1
            refine lv_iload hx hb dX5_glue_68 (lv_at hl 1 rfl) ?_
            refine lv_iload hx hb dX5_glue_70 (lv_at hl 0 rfl) ?_
            obtain ⟨h1, h2⟩ := h
            refine lv_icmp_eq (tgt := 107) hx hb dX5_glue_72 (by decide) (fun c1 => ?_) (fun c1 => ?_)
            · have h := h1 c1
              exact M_glue_a107 C hT174 h (lv_sub hl [3] rfl) w
            · have h := h2 c1
              refine lv_iload hx hb dX5_glue_75 (lv_at hl 2 rfl) ?_
              refine lv_iload hx hb dX5_glue_77 (lv_at hl 7 rfl) ?_
              obtain ⟨h1, h2⟩ := h
              refine lv_icmp_eq (tgt := 107) hx hb dX5_glue_79 (by decide) (fun c1 => ?_) (fun c1 => ?_)
              · have h := h1 c1
                exact M_glue_a107 C hT174 h (lv_sub hl [3] rfl) w
              · have h := h2 c1
                refine lv_iload hx hb dX5_glue_82 (lv_at hl 1 rfl) ?_
                refine lv_iload hx hb dX5_glue_84 (lv_at hl 7 rfl) ?_
                obtain ⟨h1, h2⟩ := h
                refine lv_icmp_eq (tgt := 107) hx hb dX5_glue_86 (by decide) (fun c1 => ?_) (fun c1 => ?_)
                · have h := h1 c1
                  exact M_glue_a107 C hT174 h (lv_sub hl [3] rfl) w
                · have h := h2 c1
                  refine lv_iload hx hb dX5_glue_89 (lv_at hl 0 rfl) ?_
                  refine lv_iload hx hb dX5_glue_91 (lv_at hl 7 rfl) ?_
                  obtain ⟨h1, h2⟩ := h
                  refine lv_icmp_eq (tgt := 107) hx hb dX5_glue_93 (by decide) (fun c1 => ?_) (fun c1 => ?_)
                  · have h := h1 c1
                    exact M_glue_a107 C hT174 h (lv_sub hl [3] rfl) w
                  · have h := h2 c1
                    refine lv_iload_n hx hb dX5_glue_96 rfl (lv_at hl 4 rfl) ?_
                    refine lv_iload_n hx hb dX5_glue_97 rfl (lv_at hl 6 rfl) ?_
                    obtain ⟨h1, h2⟩ := h
                    refine lv_icmp_ne (tgt := 110) hx hb dX5_glue_98 (by decide) (fun c1 => ?_) (fun c1 => ?_)
                    · have h := h1 c1
                      exact M_glue_a110 C hT174 h (lv_sub hl [3, 4, 5, 6, 7, 2, 1, 0] rfl) w
                    · have h := h2 c1
                      refine lv_iload_n hx hb dX5_glue_101 rfl (lv_at hl 5 rfl) ?_
                      refine lv_iload hx hb dX5_glue_102 (lv_at hl 7 rfl) ?_
                      obtain ⟨h1, h2⟩ := h
                      refine lv_icmp_ne (tgt := 110) hx hb dX5_glue_104 (by decide) (fun c1 => ?_) (fun c1 => ?_)
                      · have h := h1 c1
                        exact M_glue_a110 C hT174 h (lv_sub hl [3, 4, 5, 6, 7, 2, 1, 0] rfl) w
                      · have h := h2 c1
                        exact M_glue_a107 C hT174 h (lv_sub hl [3] rfl) w
      · have h := h2 c1
        exact M_glue_a30 C hT174 h (lv_sub hl [0] rfl) w
def M_glue_VC (x1 : Int32) (x2 : Int32) (x3 : Int32) (x4 : Int32) (x5 : Int32) (S : MS) (post : Int32 → MS → Prop) : Prop := ∀ (T174 : Int32 → Int32 → Int32 → Int32 → Int32 → Int32 → Int32 → Int32 → Int32 → MS → Prop), (∀ (x2 : Int32) (x4 : Int32) (x6 : Int32) (x7 : Int32) (x8 : Int32) (x9 : Int32) (x10 : Int32) (x11 : Int32) (x12 : Int32) (S : MS), M_glue_w174 post T174 x2 x4 x6 x7 x8 x9 x10 x11 x12 S → T174 x2 x4 x6 x7 x8 x9 x10 x11 x12 S) → M_glue_w0 post T174 x1 x2 x3 x4 x5 S
theorem M_glue_ok {x1 : Int32} {x2 : Int32} {x3 : Int32} {x4 : Int32} {x5 : Int32} {S : MS} {post : Int32 → MS → Prop} (h : M_glue_VC x1 x2 x3 x4 x5 S post) : M_glue x1 x2 x3 x4 x5 S post := by
  intro l D dA o sz
  refine mr_start (fun A => va_Qi post (mB D dA o A) A) rfl (Nat.le_of_ble_eq_true rfl) (by decide) ?_
  intro p e s m args below meth c ls A C w hl
  have hl : lv_has ls 14 [(0, .ref (o 0)), (1, .int x1), (2, .int x2), (3, .int x3), (4, .int x4), (5, .int x5)] := hl
  have h := h (fun (x2 : Int32) (x4 : Int32) (x6 : Int32) (x7 : Int32) (x8 : Int32) (x9 : Int32) (x10 : Int32) (x11 : Int32) (x12 : Int32) S => ∀ (H : Heap) (locs : List Loc) (ls : Array Slot), lv_has ls 14 [(0, .ref (o 0)), (2, .int x2), (4, .int x4), (6, .int x6), (7, .int x7), (8, .int x8), (9, .int x9), (10, .int x10), (11, .int x11), (12, .int x12)] → mw D dA o A s S H locs → W p l e rM_glue s m args below meth c H locs 0 0 (mQi below args s D dA o A post) (F0 m 174 ls [])) (fun _ _ _ _ _ _ _ _ _ S h H locs ls hl w => M_glue_a174 C (fun _ _ _ _ _ _ _ _ _ _ h => h) h hl w)
  exact M_glue_a0 C (fun _ _ _ _ _ _ _ _ _ _ h => h) h (lv_sub hl [0, 1, 2, 3, 4, 5] rfl) w

/-! open(II)I -/
def M_open_w0 (post : Int32 → MS → Prop) (x1 : Int32) (x2 : Int32) (S : MS) : Prop :=
  M_isSide x1 x2 S (fun (r1 : Int32) (S1 : MS) => ((¬ r1 = 0 → (vp_in (((4 : Int32) * x1) + x2) 12 ∧ ((¬ (gI S1 1 ((((4 : Int32) * x1) + x2)).toNatClampNeg) = (-1 : Int32) → (vp_in (((4 : Int32) * x1) + x2) 12 ∧ (vp_in (gI S1 1 ((((4 : Int32) * x1) + x2)).toNatClampNeg) 12 ∧ (fun (S2 : MS) => (vp_in (((4 : Int32) * x1) + x2) 12 ∧ (fun (S3 : MS) => post (1 : Int32) S3) (sI S2 1 ((((4 : Int32) * x1) + x2)).toNatClampNeg (-1 : Int32)))) (sI S1 1 ((gI S1 1 ((((4 : Int32) * x1) + x2)).toNatClampNeg)).toNatClampNeg (-1 : Int32))))) ∧ ((gI S1 1 ((((4 : Int32) * x1) + x2)).toNatClampNeg) = (-1 : Int32) → post (-3 : Int32) S1)))) ∧ (r1 = 0 → post (-2 : Int32) S1)))
set_option maxHeartbeats 4000000 in
set_option maxRecDepth 100000 in
theorem M_open_a0 {p : Program} {l : Launch} {e : Env} {s : State} {m : MethodId} {args : Array Value} {below : List Frame} {meth : Method} {c : Code} {D : va_G} {dA : Nat → ClassId} {o : Nat → Nat} {A : Nat → Prop} {post : Int32 → MS → Prop} (C : mC p m c cX5_open 4 s args meth (Option.some Jvm.ClassFile.FieldType.int) A) {x1 : Int32} {x2 : Int32} {S : MS} (h : M_open_w0 post x1 x2 S) {H : Heap} {locs : List Loc} {ls : Array Slot} (hl : lv_has ls 4 [(0, .ref (o 0)), (1, .int x1), (2, .int x2)]) (w : mw D dA o A s S H locs) : W p l e rM_open s m args below meth c H locs 0 0 (mQi below args s D dA o A post) (F0 m 0 ls []) := by
  unfold M_open_w0 at h
  obtain ⟨⟨hx, hb, hml, hown, hts⟩, hr, hlk, hA⟩ := id C
  refine lv_aload_n hx hb dX5_open_0 rfl (lv_at hl 0 rfl) ?_
  refine lv_iload_n hx hb dX5_open_1 rfl (lv_at hl 1 rfl) ?_
  refine lv_iload_n hx hb dX5_open_2 rfl (lv_at hl 2 rfl) ?_
  refine mr_callVI (rest := []) C w h (lw_V q668 q670 qs35 q87 q671) M_isSide_d rfl rfl ⟨Nat.le_of_ble_eq_true rfl, Nat.le_of_ble_eq_true rfl⟩ rfl hl.1 rfl (Nat.le_of_ble_eq_true rfl) ⟨Nat.zero_le _, Nat.zero_le _⟩ dX5_open_3 (fun r1 S1 H locs h w => ?_)
  obtain ⟨h1, h2⟩ := h
  refine lv_if_ne (tgt := 12) hx hb dX5_open_6 (by decide) (fun c1 => ?_) (fun c1 => ?_)
  · have h := h1 c1
    refine lv_iconst (v := 4) hx hb dX5_open_12 (by decide) ?_
    refine lv_iload_n hx hb dX5_open_13 rfl (lv_at hl 1 rfl) ?_
    refine lv_imul hx hb dX5_open_14 ?_
    refine lv_iload_n hx hb dX5_open_15 rfl (lv_at hl 2 rfl) ?_
    refine lv_iadd hx hb dX5_open_16 ?_
    refine lv_istore_n (lv' := [(3, .int _), (0, .ref _), (1, .int _), (2, .int _)]) hx hb dX5_open_17 rfl hl (by decide) rfl (fun ls hl => ?_)
    refine lv_aload_n hx hb dX5_open_18 rfl (lv_at hl 1 rfl) ?_
    refine mr_get C w 1 (by decide) q578 rfl rfl dX5_open_19 ?_
    refine lv_iload_n hx hb dX5_open_22 rfl (lv_at hl 0 rfl) ?_
    obtain ⟨hi, h⟩ := h
    refine mr_iald C w 1 0 rfl rfl hi dX5_open_23 ?_
    refine lv_iconst (v := -1) hx hb dX5_open_24 (by decide) ?_
    obtain ⟨h1, h2⟩ := h
    refine lv_icmp_ne (tgt := 31) hx hb dX5_open_25 (by decide) (fun c1 => ?_) (fun c1 => ?_)
    · have h := h1 c1
      refine lv_aload_n hx hb dX5_open_31 rfl (lv_at hl 1 rfl) ?_
      refine mr_get C w 1 (by decide) q578 rfl rfl dX5_open_32 ?_
      refine lv_aload_n hx hb dX5_open_35 rfl (lv_at hl 1 rfl) ?_
      refine mr_get C w 1 (by decide) q578 rfl rfl dX5_open_36 ?_
      refine lv_iload_n hx hb dX5_open_39 rfl (lv_at hl 0 rfl) ?_
      obtain ⟨hi, h⟩ := h
      refine mr_iald C w 1 0 rfl rfl hi dX5_open_40 ?_
      refine lv_iconst (v := -1) hx hb dX5_open_41 (by decide) ?_
      obtain ⟨hi, h⟩ := h
      refine mr_iast C w 1 0 rfl rfl hi MWs_1 dX5_open_42 (fun H locs w => ?_)
      refine lv_aload_n hx hb dX5_open_43 rfl (lv_at hl 1 rfl) ?_
      refine mr_get C w 1 (by decide) q578 rfl rfl dX5_open_44 ?_
      refine lv_iload_n hx hb dX5_open_47 rfl (lv_at hl 0 rfl) ?_
      refine lv_iconst (v := -1) hx hb dX5_open_48 (by decide) ?_
      obtain ⟨hi, h⟩ := h
      refine mr_iast C w 1 0 rfl rfl hi MWs_1 dX5_open_49 (fun H locs w => ?_)
      refine lv_iconst (v := 1) hx hb dX5_open_50 (by decide) ?_
      exact mr_iret C w h dX5_open_51
    · have h := h2 c1
      refine lv_bipush (v := -3) hx hb dX5_open_28 (by decide) ?_
      exact mr_iret C w h dX5_open_30
  · have h := h2 c1
    refine lv_bipush (v := -2) hx hb dX5_open_9 (by decide) ?_
    exact mr_iret C w h dX5_open_11
def M_open_VC (x1 : Int32) (x2 : Int32) (S : MS) (post : Int32 → MS → Prop) : Prop := M_open_w0 post x1 x2 S
theorem M_open_ok {x1 : Int32} {x2 : Int32} {S : MS} {post : Int32 → MS → Prop} (h : M_open_VC x1 x2 S post) : M_open x1 x2 S post := by
  intro l D dA o sz
  refine mr_start (fun A => va_Qi post (mB D dA o A) A) rfl (Nat.le_of_ble_eq_true rfl) (by decide) ?_
  intro p e s m args below meth c ls A C w hl
  have hl : lv_has ls 4 [(0, .ref (o 0)), (1, .int x1), (2, .int x2)] := hl
  exact M_open_a0 C h (lv_sub hl [0, 1, 2] rfl) w
