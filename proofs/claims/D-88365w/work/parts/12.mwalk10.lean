/-! isBefore(II)Z -/
def M_isBefore_w76 (post : Int32 → MS → Prop) (T2 : Int32 → Int32 → Int32 → MS → Prop) (v0 : Int32) (S : MS) : Prop :=
  (zok v0 ∧ post v0 S)
set_option maxHeartbeats 4000000 in
set_option maxRecDepth 100000 in
theorem M_isBefore_a76 {p : Program} {l : Launch} {e : Env} {s : State} {m : MethodId} {args : Array Value} {below : List Frame} {meth : Method} {c : Code} {D : va_G} {dA : Nat → ClassId} {o : Nat → Nat} {A : Nat → Prop} {post : Int32 → MS → Prop} {T2 : Int32 → Int32 → Int32 → MS → Prop} (C : mC p m c cX5_isBefore 4 s args meth (Option.some Jvm.ClassFile.FieldType.boolean) A) (hT2 : ∀ (x1 : Int32) (x2 : Int32) (x3 : Int32) (S : MS), T2 x1 x2 x3 S → ∀ (H : Heap) (locs : List Loc) (ls : Array Slot), lv_has ls 4 [(0, .ref (o 0)), (1, .int x1), (2, .int x2), (3, .int x3)] → mw D dA o A s S H locs → W p l e rM_isBefore s m args below meth c H locs 0 0 (mQi below args s D dA o A post) (F0 m 2 ls [])) {v0 : Int32} {S : MS} (h : M_isBefore_w76 post T2 v0 S) {H : Heap} {locs : List Loc} {ls : Array Slot} (hl : lv_has ls 4 [(0, .ref (o 0))]) (w : mw D dA o A s S H locs) : W p l e rM_isBefore s m args below meth c H locs 0 0 (mQi below args s D dA o A post) (F0 m 76 ls [.int v0]) := by
  unfold M_isBefore_w76 at h
  obtain ⟨⟨hx, hb, hml, hown, hts⟩, hr, hlk, hA⟩ := id C
  exact mr_zret C w (zok_n h.1) h.2 dX5_isBefore_76
def M_isBefore_w46 (post : Int32 → MS → Prop) (T2 : Int32 → Int32 → Int32 → MS → Prop) (x1 : Int32) (x2 : Int32) (x3 : Int32) (S : MS) : Prop :=
  (vp_in (((21 : Int32) * x1) + x3) 42000 ∧ (vp_in (((21 : Int32) * x2) + x3) 42000 ∧ (((gI S 15 ((((21 : Int32) * x2) + x3)).toNatClampNeg) ≤ (gI S 15 ((((21 : Int32) * x1) + x3)).toNatClampNeg) → M_isBefore_w76 post T2 (0 : Int32) S) ∧ (¬ (gI S 15 ((((21 : Int32) * x2) + x3)).toNatClampNeg) ≤ (gI S 15 ((((21 : Int32) * x1) + x3)).toNatClampNeg) → M_isBefore_w76 post T2 (1 : Int32) S))))
set_option maxHeartbeats 4000000 in
set_option maxRecDepth 100000 in
theorem M_isBefore_a46 {p : Program} {l : Launch} {e : Env} {s : State} {m : MethodId} {args : Array Value} {below : List Frame} {meth : Method} {c : Code} {D : va_G} {dA : Nat → ClassId} {o : Nat → Nat} {A : Nat → Prop} {post : Int32 → MS → Prop} {T2 : Int32 → Int32 → Int32 → MS → Prop} (C : mC p m c cX5_isBefore 4 s args meth (Option.some Jvm.ClassFile.FieldType.boolean) A) (hT2 : ∀ (x1 : Int32) (x2 : Int32) (x3 : Int32) (S : MS), T2 x1 x2 x3 S → ∀ (H : Heap) (locs : List Loc) (ls : Array Slot), lv_has ls 4 [(0, .ref (o 0)), (1, .int x1), (2, .int x2), (3, .int x3)] → mw D dA o A s S H locs → W p l e rM_isBefore s m args below meth c H locs 0 0 (mQi below args s D dA o A post) (F0 m 2 ls [])) {x1 : Int32} {x2 : Int32} {x3 : Int32} {S : MS} (h : M_isBefore_w46 post T2 x1 x2 x3 S) {H : Heap} {locs : List Loc} {ls : Array Slot} (hl : lv_has ls 4 [(0, .ref (o 0)), (1, .int x1), (2, .int x2), (3, .int x3)]) (w : mw D dA o A s S H locs) : W p l e rM_isBefore s m args below meth c H locs 0 0 (mQi below args s D dA o A post) (F0 m 46 ls []) := by
  unfold M_isBefore_w46 at h
  obtain ⟨⟨hx, hb, hml, hown, hts⟩, hr, hlk, hA⟩ := id C
  refine lv_aload_n hx hb dX5_isBefore_46 rfl (lv_at hl 0 rfl) ?_
  refine mr_get C w 15 (by decide) q592 rfl rfl dX5_isBefore_47 ?_
  refine lv_bipush (v := 21) hx hb dX5_isBefore_50 (by decide) ?_
  refine lv_iload_n hx hb dX5_isBefore_52 rfl (lv_at hl 1 rfl) ?_
  refine lv_imul hx hb dX5_isBefore_53 ?_
  refine lv_iload_n hx hb dX5_isBefore_54 rfl (lv_at hl 3 rfl) ?_
  refine lv_iadd hx hb dX5_isBefore_55 ?_
  obtain ⟨hi, h⟩ := h
  refine mr_iald C w 11 10 rfl rfl hi dX5_isBefore_56 ?_
  refine lv_aload_n hx hb dX5_isBefore_57 rfl (lv_at hl 0 rfl) ?_
  refine mr_get C w 15 (by decide) q592 rfl rfl dX5_isBefore_58 ?_
  refine lv_bipush (v := 21) hx hb dX5_isBefore_61 (by decide) ?_
  refine lv_iload_n hx hb dX5_isBefore_63 rfl (lv_at hl 2 rfl) ?_
  refine lv_imul hx hb dX5_isBefore_64 ?_
  refine lv_iload_n hx hb dX5_isBefore_65 rfl (lv_at hl 3 rfl) ?_
  refine lv_iadd hx hb dX5_isBefore_66 ?_
  obtain ⟨hi, h⟩ := h
  refine mr_iald C w 11 10 rfl rfl hi dX5_isBefore_67 ?_
  obtain ⟨h1, h2⟩ := h
  refine lv_icmp_ge (tgt := 75) hx hb dX5_isBefore_68 (by decide) (fun c1 => ?_) (fun c1 => ?_)
  · have h := h1 c1
    refine lv_iconst (v := 0) hx hb dX5_isBefore_75 (by decide) ?_
    exact M_isBefore_a76 C hT2 h (lv_sub hl [0] rfl) w
  · have h := h2 c1
    refine lv_iconst (v := 1) hx hb dX5_isBefore_71 (by decide) ?_
    refine lv_goto (tgt := 76) hx hb dX5_isBefore_72 (by decide) ?_
    exact M_isBefore_a76 C hT2 h (lv_sub hl [0] rfl) w
def M_isBefore_w2 (post : Int32 → MS → Prop) (T2 : Int32 → Int32 → Int32 → MS → Prop) (x1 : Int32) (x2 : Int32) (x3 : Int32) (S : MS) : Prop :=
  (((((7 : Int32) * (gF S 0)) - (1 : Int32)) ≤ x3 → M_isBefore_w46 post T2 x1 x2 x3 S) ∧ (¬ (((7 : Int32) * (gF S 0)) - (1 : Int32)) ≤ x3 → (vp_in (((21 : Int32) * x1) + x3) 42000 ∧ (vp_in (((21 : Int32) * x2) + x3) 42000 ∧ ((¬ (gI S 15 ((((21 : Int32) * x1) + x3)).toNatClampNeg) = (gI S 15 ((((21 : Int32) * x2) + x3)).toNatClampNeg) → M_isBefore_w46 post T2 x1 x2 x3 S) ∧ ((gI S 15 ((((21 : Int32) * x1) + x3)).toNatClampNeg) = (gI S 15 ((((21 : Int32) * x2) + x3)).toNatClampNeg) → T2 x1 x2 (x3 + (1 : Int32)) S))))))
set_option maxHeartbeats 4000000 in
set_option maxRecDepth 100000 in
theorem M_isBefore_a2 {p : Program} {l : Launch} {e : Env} {s : State} {m : MethodId} {args : Array Value} {below : List Frame} {meth : Method} {c : Code} {D : va_G} {dA : Nat → ClassId} {o : Nat → Nat} {A : Nat → Prop} {post : Int32 → MS → Prop} {T2 : Int32 → Int32 → Int32 → MS → Prop} (C : mC p m c cX5_isBefore 4 s args meth (Option.some Jvm.ClassFile.FieldType.boolean) A) (hT2 : ∀ (x1 : Int32) (x2 : Int32) (x3 : Int32) (S : MS), T2 x1 x2 x3 S → ∀ (H : Heap) (locs : List Loc) (ls : Array Slot), lv_has ls 4 [(0, .ref (o 0)), (1, .int x1), (2, .int x2), (3, .int x3)] → mw D dA o A s S H locs → W p l e rM_isBefore s m args below meth c H locs 0 0 (mQi below args s D dA o A post) (F0 m 2 ls [])) {x1 : Int32} {x2 : Int32} {x3 : Int32} {S : MS} (h : M_isBefore_w2 post T2 x1 x2 x3 S) {H : Heap} {locs : List Loc} {ls : Array Slot} (hl : lv_has ls 4 [(0, .ref (o 0)), (1, .int x1), (2, .int x2), (3, .int x3)]) (w : mw D dA o A s S H locs) : W p l e rM_isBefore s m args below meth c H locs 0 0 (mQi below args s D dA o A post) (F0 m 2 ls []) := by
  unfold M_isBefore_w2 at h
  obtain ⟨⟨hx, hb, hml, hown, hts⟩, hr, hlk, hA⟩ := id C
  refine lv_iload_n hx hb dX5_isBefore_2 rfl (lv_at hl 3 rfl) ?_
  refine lv_bipush (v := 7) hx hb dX5_isBefore_3 (by decide) ?_
  refine lv_aload_n hx hb dX5_isBefore_5 rfl (lv_at hl 0 rfl) ?_
  refine mr_get C w 0 (by decide) q577 rfl rfl dX5_isBefore_6 ?_
  refine lv_imul hx hb dX5_isBefore_9 ?_
  refine lv_iconst (v := 1) hx hb dX5_isBefore_10 (by decide) ?_
  refine lv_isub hx hb dX5_isBefore_11 ?_
  obtain ⟨h1, h2⟩ := h
  refine lv_icmp_ge (tgt := 46) hx hb dX5_isBefore_12 (by decide) (fun c1 => ?_) (fun c1 => ?_)
  · have h := h1 c1
    exact M_isBefore_a46 C hT2 h (lv_sub hl [0, 1, 2, 3] rfl) w
  · have h := h2 c1
    refine lv_aload_n hx hb dX5_isBefore_15 rfl (lv_at hl 0 rfl) ?_
    refine mr_get C w 15 (by decide) q592 rfl rfl dX5_isBefore_16 ?_
    refine lv_bipush (v := 21) hx hb dX5_isBefore_19 (by decide) ?_
    refine lv_iload_n hx hb dX5_isBefore_21 rfl (lv_at hl 1 rfl) ?_
    refine lv_imul hx hb dX5_isBefore_22 ?_
    refine lv_iload_n hx hb dX5_isBefore_23 rfl (lv_at hl 3 rfl) ?_
    refine lv_iadd hx hb dX5_isBefore_24 ?_
    obtain ⟨hi, h⟩ := h
    refine mr_iald C w 11 10 rfl rfl hi dX5_isBefore_25 ?_
    refine lv_aload_n hx hb dX5_isBefore_26 rfl (lv_at hl 0 rfl) ?_
    refine mr_get C w 15 (by decide) q592 rfl rfl dX5_isBefore_27 ?_
    refine lv_bipush (v := 21) hx hb dX5_isBefore_30 (by decide) ?_
    refine lv_iload_n hx hb dX5_isBefore_32 rfl (lv_at hl 2 rfl) ?_
    refine lv_imul hx hb dX5_isBefore_33 ?_
    refine lv_iload_n hx hb dX5_isBefore_34 rfl (lv_at hl 3 rfl) ?_
    refine lv_iadd hx hb dX5_isBefore_35 ?_
    obtain ⟨hi, h⟩ := h
    refine mr_iald C w 11 10 rfl rfl hi dX5_isBefore_36 ?_
    obtain ⟨h1, h2⟩ := h
    refine lv_icmp_ne (tgt := 46) hx hb dX5_isBefore_37 (by decide) (fun c1 => ?_) (fun c1 => ?_)
    · have h := h1 c1
      exact M_isBefore_a46 C hT2 h (lv_sub hl [0, 1, 2, 3] rfl) w
    · have h := h2 c1
      refine lv_iinc (v := _ + (1 : Int32)) (lv' := [(3, .int _), (0, .ref _), (1, .int _), (2, .int _)]) hx hb dX5_isBefore_40 hl (k := 3) rfl rfl (by decide) rfl (fun ls hl => ?_)
      refine lv_goto (tgt := 2) hx hb dX5_isBefore_43 (by decide) ?_
      exact hT2 _ _ _ _ h _ _ _ (lv_sub hl [1, 2, 3, 0] rfl) w
def M_isBefore_w0 (post : Int32 → MS → Prop) (T2 : Int32 → Int32 → Int32 → MS → Prop) (x1 : Int32) (x2 : Int32) (S : MS) : Prop :=
  T2 x1 x2 (0 : Int32) S
set_option maxHeartbeats 4000000 in
set_option maxRecDepth 100000 in
theorem M_isBefore_a0 {p : Program} {l : Launch} {e : Env} {s : State} {m : MethodId} {args : Array Value} {below : List Frame} {meth : Method} {c : Code} {D : va_G} {dA : Nat → ClassId} {o : Nat → Nat} {A : Nat → Prop} {post : Int32 → MS → Prop} {T2 : Int32 → Int32 → Int32 → MS → Prop} (C : mC p m c cX5_isBefore 4 s args meth (Option.some Jvm.ClassFile.FieldType.boolean) A) (hT2 : ∀ (x1 : Int32) (x2 : Int32) (x3 : Int32) (S : MS), T2 x1 x2 x3 S → ∀ (H : Heap) (locs : List Loc) (ls : Array Slot), lv_has ls 4 [(0, .ref (o 0)), (1, .int x1), (2, .int x2), (3, .int x3)] → mw D dA o A s S H locs → W p l e rM_isBefore s m args below meth c H locs 0 0 (mQi below args s D dA o A post) (F0 m 2 ls [])) {x1 : Int32} {x2 : Int32} {S : MS} (h : M_isBefore_w0 post T2 x1 x2 S) {H : Heap} {locs : List Loc} {ls : Array Slot} (hl : lv_has ls 4 [(0, .ref (o 0)), (1, .int x1), (2, .int x2)]) (w : mw D dA o A s S H locs) : W p l e rM_isBefore s m args below meth c H locs 0 0 (mQi below args s D dA o A post) (F0 m 0 ls []) := by
  unfold M_isBefore_w0 at h
  obtain ⟨⟨hx, hb, hml, hown, hts⟩, hr, hlk, hA⟩ := id C
  refine lv_iconst (v := 0) hx hb dX5_isBefore_0 (by decide) ?_
  refine lv_istore_n (lv' := [(3, .int _), (0, .ref _), (1, .int _), (2, .int _)]) hx hb dX5_isBefore_1 rfl hl (by decide) rfl (fun ls hl => ?_)
  exact hT2 _ _ _ _ h _ _ _ (lv_sub hl [1, 2, 3, 0] rfl) w
def M_isBefore_VC (x1 : Int32) (x2 : Int32) (S : MS) (post : Int32 → MS → Prop) : Prop := ∀ (T2 : Int32 → Int32 → Int32 → MS → Prop), (∀ (x1 : Int32) (x2 : Int32) (x3 : Int32) (S : MS), M_isBefore_w2 post T2 x1 x2 x3 S → T2 x1 x2 x3 S) → M_isBefore_w0 post T2 x1 x2 S
theorem M_isBefore_ok {x1 : Int32} {x2 : Int32} {S : MS} {post : Int32 → MS → Prop} (h : M_isBefore_VC x1 x2 S post) : M_isBefore x1 x2 S post := by
  intro l D dA o sz
  refine mr_start (fun A => va_Qi post (mB D dA o A) A) rfl (Nat.le_of_ble_eq_true rfl) (by decide) ?_
  intro p e s m args below meth c ls A C w hl
  have hl : lv_has ls 4 [(0, .ref (o 0)), (1, .int x1), (2, .int x2)] := hl
  have h := h (fun (x1 : Int32) (x2 : Int32) (x3 : Int32) S => ∀ (H : Heap) (locs : List Loc) (ls : Array Slot), lv_has ls 4 [(0, .ref (o 0)), (1, .int x1), (2, .int x2), (3, .int x3)] → mw D dA o A s S H locs → W p l e rM_isBefore s m args below meth c H locs 0 0 (mQi below args s D dA o A post) (F0 m 2 ls [])) (fun _ _ _ S h H locs ls hl w => M_isBefore_a2 C (fun _ _ _ _ h => h) h hl w)
  exact M_isBefore_a0 C (fun _ _ _ _ h => h) h (lv_sub hl [0, 1, 2] rfl) w

/-! swap(II)V -/
def M_swap_w2 (post : MS → Prop) (T2 : Int32 → Int32 → Int32 → MS → Prop) (x1 : Int32) (x2 : Int32) (x3 : Int32) (S : MS) : Prop :=
  ((((7 : Int32) * (gF S 0)) ≤ x3 → post S) ∧ (¬ ((7 : Int32) * (gF S 0)) ≤ x3 → (vp_in (((21 : Int32) * x1) + x3) 42000 ∧ (vp_in (((21 : Int32) * x2) + x3) 42000 ∧ (vp_in (((21 : Int32) * x1) + x3) 42000 ∧ (fun (S1 : MS) => (vp_in (((21 : Int32) * x2) + x3) 42000 ∧ (fun (S2 : MS) => T2 x1 x2 (x3 + (1 : Int32)) S2) (sI S1 15 ((((21 : Int32) * x2) + x3)).toNatClampNeg (gI S 15 ((((21 : Int32) * x1) + x3)).toNatClampNeg)))) (sI S 15 ((((21 : Int32) * x1) + x3)).toNatClampNeg (gI S 15 ((((21 : Int32) * x2) + x3)).toNatClampNeg)))))))
set_option maxHeartbeats 4000000 in
set_option maxRecDepth 100000 in
theorem M_swap_a2 {p : Program} {l : Launch} {e : Env} {s : State} {m : MethodId} {args : Array Value} {below : List Frame} {meth : Method} {c : Code} {D : va_G} {dA : Nat → ClassId} {o : Nat → Nat} {A : Nat → Prop} {post : MS → Prop} {T2 : Int32 → Int32 → Int32 → MS → Prop} (C : mC p m c cX5_swap 5 s args meth (Option.none : Option Jvm.ClassFile.FieldType) A) (hT2 : ∀ (x1 : Int32) (x2 : Int32) (x3 : Int32) (S : MS), T2 x1 x2 x3 S → ∀ (H : Heap) (locs : List Loc) (ls : Array Slot), lv_has ls 5 [(0, .ref (o 0)), (1, .int x1), (2, .int x2), (3, .int x3)] → mw D dA o A s S H locs → W p l e rM_swap s m args below meth c H locs 0 0 (mQv below args s D dA o A post) (F0 m 2 ls [])) {x1 : Int32} {x2 : Int32} {x3 : Int32} {S : MS} (h : M_swap_w2 post T2 x1 x2 x3 S) {H : Heap} {locs : List Loc} {ls : Array Slot} (hl : lv_has ls 5 [(0, .ref (o 0)), (1, .int x1), (2, .int x2), (3, .int x3)]) (w : mw D dA o A s S H locs) : W p l e rM_swap s m args below meth c H locs 0 0 (mQv below args s D dA o A post) (F0 m 2 ls []) := by
  unfold M_swap_w2 at h
  obtain ⟨⟨hx, hb, hml, hown, hts⟩, hr, hlk, hA⟩ := id C
  refine lv_iload_n hx hb dX5_swap_2 rfl (lv_at hl 3 rfl) ?_
  refine lv_bipush (v := 7) hx hb dX5_swap_3 (by decide) ?_
  refine lv_aload_n hx hb dX5_swap_5 rfl (lv_at hl 0 rfl) ?_
  refine mr_get C w 0 (by decide) q577 rfl rfl dX5_swap_6 ?_
  refine lv_imul hx hb dX5_swap_9 ?_
  obtain ⟨h1, h2⟩ := h
  refine lv_icmp_ge (tgt := 67) hx hb dX5_swap_10 (by decide) (fun c1 => ?_) (fun c1 => ?_)
  · have h := h1 c1
    exact mr_vret C w h dX5_swap_67
  · have h := h2 c1
    refine lv_aload_n hx hb dX5_swap_13 rfl (lv_at hl 0 rfl) ?_
    refine mr_get C w 15 (by decide) q592 rfl rfl dX5_swap_14 ?_
    refine lv_bipush (v := 21) hx hb dX5_swap_17 (by decide) ?_
    refine lv_iload_n hx hb dX5_swap_19 rfl (lv_at hl 1 rfl) ?_
    refine lv_imul hx hb dX5_swap_20 ?_
    refine lv_iload_n hx hb dX5_swap_21 rfl (lv_at hl 3 rfl) ?_
    refine lv_iadd hx hb dX5_swap_22 ?_
    obtain ⟨hi, h⟩ := h
    refine mr_iald C w 11 10 rfl rfl hi dX5_swap_23 ?_
    refine lv_istore (lv' := [(4, .int _), (0, .ref _), (1, .int _), (2, .int _), (3, .int _)]) hx hb dX5_swap_24 hl (by decide) rfl (fun ls hl => ?_)
    refine lv_aload_n hx hb dX5_swap_26 rfl (lv_at hl 1 rfl) ?_
    refine mr_get C w 15 (by decide) q592 rfl rfl dX5_swap_27 ?_
    refine lv_bipush (v := 21) hx hb dX5_swap_30 (by decide) ?_
    refine lv_iload_n hx hb dX5_swap_32 rfl (lv_at hl 2 rfl) ?_
    refine lv_imul hx hb dX5_swap_33 ?_
    refine lv_iload_n hx hb dX5_swap_34 rfl (lv_at hl 4 rfl) ?_
    refine lv_iadd hx hb dX5_swap_35 ?_
    refine lv_aload_n hx hb dX5_swap_36 rfl (lv_at hl 1 rfl) ?_
    refine mr_get C w 15 (by decide) q592 rfl rfl dX5_swap_37 ?_
    refine lv_bipush (v := 21) hx hb dX5_swap_40 (by decide) ?_
    refine lv_iload_n hx hb dX5_swap_42 rfl (lv_at hl 3 rfl) ?_
    refine lv_imul hx hb dX5_swap_43 ?_
    refine lv_iload_n hx hb dX5_swap_44 rfl (lv_at hl 4 rfl) ?_
    refine lv_iadd hx hb dX5_swap_45 ?_
    obtain ⟨hi, h⟩ := h
    refine mr_iald C w 11 10 rfl rfl hi dX5_swap_46 ?_
    obtain ⟨hi, h⟩ := h
    refine mr_iast C w 11 10 rfl rfl hi MWs_15 dX5_swap_47 (fun H locs w => ?_)
    refine lv_aload_n hx hb dX5_swap_48 rfl (lv_at hl 1 rfl) ?_
    refine mr_get C w 15 (by decide) q592 rfl rfl dX5_swap_49 ?_
    refine lv_bipush (v := 21) hx hb dX5_swap_52 (by decide) ?_
    refine lv_iload_n hx hb dX5_swap_54 rfl (lv_at hl 3 rfl) ?_
    refine lv_imul hx hb dX5_swap_55 ?_
    refine lv_iload_n hx hb dX5_swap_56 rfl (lv_at hl 4 rfl) ?_
    refine lv_iadd hx hb dX5_swap_57 ?_
    refine lv_iload hx hb dX5_swap_58 (lv_at hl 0 rfl) ?_
    obtain ⟨hi, h⟩ := h
    refine mr_iast C w 11 10 rfl rfl hi MWs_15 dX5_swap_60 (fun H locs w => ?_)
    refine lv_iinc (v := _ + (1 : Int32)) (lv' := [(3, .int _), (4, .int _), (0, .ref _), (1, .int _), (2, .int _)]) hx hb dX5_swap_61 hl (k := 4) rfl rfl (by decide) rfl (fun ls hl => ?_)
    refine lv_goto (tgt := 2) hx hb dX5_swap_64 (by decide) ?_
    exact hT2 _ _ _ _ h _ _ _ (lv_sub hl [2, 3, 4, 0] rfl) w
def M_swap_w0 (post : MS → Prop) (T2 : Int32 → Int32 → Int32 → MS → Prop) (x1 : Int32) (x2 : Int32) (S : MS) : Prop :=
  T2 x1 x2 (0 : Int32) S
set_option maxHeartbeats 4000000 in
set_option maxRecDepth 100000 in
theorem M_swap_a0 {p : Program} {l : Launch} {e : Env} {s : State} {m : MethodId} {args : Array Value} {below : List Frame} {meth : Method} {c : Code} {D : va_G} {dA : Nat → ClassId} {o : Nat → Nat} {A : Nat → Prop} {post : MS → Prop} {T2 : Int32 → Int32 → Int32 → MS → Prop} (C : mC p m c cX5_swap 5 s args meth (Option.none : Option Jvm.ClassFile.FieldType) A) (hT2 : ∀ (x1 : Int32) (x2 : Int32) (x3 : Int32) (S : MS), T2 x1 x2 x3 S → ∀ (H : Heap) (locs : List Loc) (ls : Array Slot), lv_has ls 5 [(0, .ref (o 0)), (1, .int x1), (2, .int x2), (3, .int x3)] → mw D dA o A s S H locs → W p l e rM_swap s m args below meth c H locs 0 0 (mQv below args s D dA o A post) (F0 m 2 ls [])) {x1 : Int32} {x2 : Int32} {S : MS} (h : M_swap_w0 post T2 x1 x2 S) {H : Heap} {locs : List Loc} {ls : Array Slot} (hl : lv_has ls 5 [(0, .ref (o 0)), (1, .int x1), (2, .int x2)]) (w : mw D dA o A s S H locs) : W p l e rM_swap s m args below meth c H locs 0 0 (mQv below args s D dA o A post) (F0 m 0 ls []) := by
  unfold M_swap_w0 at h
  obtain ⟨⟨hx, hb, hml, hown, hts⟩, hr, hlk, hA⟩ := id C
  refine lv_iconst (v := 0) hx hb dX5_swap_0 (by decide) ?_
  refine lv_istore_n (lv' := [(3, .int _), (0, .ref _), (1, .int _), (2, .int _)]) hx hb dX5_swap_1 rfl hl (by decide) rfl (fun ls hl => ?_)
  exact hT2 _ _ _ _ h _ _ _ (lv_sub hl [1, 2, 3, 0] rfl) w
def M_swap_VC (x1 : Int32) (x2 : Int32) (S : MS) (post : MS → Prop) : Prop := ∀ (T2 : Int32 → Int32 → Int32 → MS → Prop), (∀ (x1 : Int32) (x2 : Int32) (x3 : Int32) (S : MS), M_swap_w2 post T2 x1 x2 x3 S → T2 x1 x2 x3 S) → M_swap_w0 post T2 x1 x2 S
theorem M_swap_ok {x1 : Int32} {x2 : Int32} {S : MS} {post : MS → Prop} (h : M_swap_VC x1 x2 S post) : M_swap x1 x2 S post := by
  intro l D dA o sz
  refine mr_start (fun A => va_Qv post (mB D dA o A) A) rfl (Nat.le_of_ble_eq_true rfl) (by decide) ?_
  intro p e s m args below meth c ls A C w hl
  have hl : lv_has ls 5 [(0, .ref (o 0)), (1, .int x1), (2, .int x2)] := hl
  have h := h (fun (x1 : Int32) (x2 : Int32) (x3 : Int32) S => ∀ (H : Heap) (locs : List Loc) (ls : Array Slot), lv_has ls 5 [(0, .ref (o 0)), (1, .int x1), (2, .int x2), (3, .int x3)] → mw D dA o A s S H locs → W p l e rM_swap s m args below meth c H locs 0 0 (mQv below args s D dA o A post) (F0 m 2 ls [])) (fun _ _ _ S h H locs ls hl w => M_swap_a2 C (fun _ _ _ _ h => h) h hl w)
  exact M_swap_a0 C (fun _ _ _ _ h => h) h (lv_sub hl [0, 1, 2] rfl) w

/-! findLeast()V -/
def M_findLeast_w171 (post : MS → Prop) (T13 : Int32 → MS → Prop) (T23 : Int32 → Int32 → MS → Prop) (T64 : Int32 → MS → Prop) (T76 : Int32 → Int32 → MS → Prop) (T132 : Int32 → MS → Prop) (T142 : Int32 → Int32 → MS → Prop) (x1 : Int32) (S : MS) : Prop :=
  T132 (x1 + (1 : Int32)) S
set_option maxHeartbeats 4000000 in
set_option maxRecDepth 100000 in
theorem M_findLeast_a171 {p : Program} {l : Launch} {e : Env} {s : State} {m : MethodId} {args : Array Value} {below : List Frame} {meth : Method} {c : Code} {D : va_G} {dA : Nat → ClassId} {o : Nat → Nat} {A : Nat → Prop} {post : MS → Prop} {T13 : Int32 → MS → Prop} {T23 : Int32 → Int32 → MS → Prop} {T64 : Int32 → MS → Prop} {T76 : Int32 → Int32 → MS → Prop} {T132 : Int32 → MS → Prop} {T142 : Int32 → Int32 → MS → Prop} (C : mC p m c cX5_findLeast 3 s args meth (Option.none : Option Jvm.ClassFile.FieldType) A) (hT13 : ∀ (x1 : Int32) (S : MS), T13 x1 S → ∀ (H : Heap) (locs : List Loc) (ls : Array Slot), lv_has ls 3 [(0, .ref (o 0)), (1, .int x1)] → mw D dA o A s S H locs → W p l e rM_findLeast s m args below meth c H locs 0 0 (mQv below args s D dA o A post) (F0 m 13 ls [])) (hT23 : ∀ (x1 : Int32) (x2 : Int32) (S : MS), T23 x1 x2 S → ∀ (H : Heap) (locs : List Loc) (ls : Array Slot), lv_has ls 3 [(0, .ref (o 0)), (1, .int x1), (2, .int x2)] → mw D dA o A s S H locs → W p l e rM_findLeast s m args below meth c H locs 0 0 (mQv below args s D dA o A post) (F0 m 23 ls [])) (hT64 : ∀ (x1 : Int32) (S : MS), T64 x1 S → ∀ (H : Heap) (locs : List Loc) (ls : Array Slot), lv_has ls 3 [(0, .ref (o 0)), (1, .int x1)] → mw D dA o A s S H locs → W p l e rM_findLeast s m args below meth c H locs 0 0 (mQv below args s D dA o A post) (F0 m 64 ls [])) (hT76 : ∀ (x1 : Int32) (x2 : Int32) (S : MS), T76 x1 x2 S → ∀ (H : Heap) (locs : List Loc) (ls : Array Slot), lv_has ls 3 [(0, .ref (o 0)), (1, .int x1), (2, .int x2)] → mw D dA o A s S H locs → W p l e rM_findLeast s m args below meth c H locs 0 0 (mQv below args s D dA o A post) (F0 m 76 ls [])) (hT132 : ∀ (x1 : Int32) (S : MS), T132 x1 S → ∀ (H : Heap) (locs : List Loc) (ls : Array Slot), lv_has ls 3 [(0, .ref (o 0)), (1, .int x1)] → mw D dA o A s S H locs → W p l e rM_findLeast s m args below meth c H locs 0 0 (mQv below args s D dA o A post) (F0 m 132 ls [])) (hT142 : ∀ (x1 : Int32) (x2 : Int32) (S : MS), T142 x1 x2 S → ∀ (H : Heap) (locs : List Loc) (ls : Array Slot), lv_has ls 3 [(0, .ref (o 0)), (1, .int x1), (2, .int x2)] → mw D dA o A s S H locs → W p l e rM_findLeast s m args below meth c H locs 0 0 (mQv below args s D dA o A post) (F0 m 142 ls [])) {x1 : Int32} {S : MS} (h : M_findLeast_w171 post T13 T23 T64 T76 T132 T142 x1 S) {H : Heap} {locs : List Loc} {ls : Array Slot} (hl : lv_has ls 3 [(0, .ref (o 0)), (1, .int x1)]) (w : mw D dA o A s S H locs) : W p l e rM_findLeast s m args below meth c H locs 0 0 (mQv below args s D dA o A post) (F0 m 171 ls []) := by
  unfold M_findLeast_w171 at h
  obtain ⟨⟨hx, hb, hml, hown, hts⟩, hr, hlk, hA⟩ := id C
  refine lv_iinc (v := _ + (1 : Int32)) (lv' := [(1, .int _), (0, .ref _)]) hx hb dX5_findLeast_171 hl (k := 1) rfl rfl (by decide) rfl (fun ls hl => ?_)
  refine lv_goto (tgt := 132) hx hb dX5_findLeast_174 (by decide) ?_
  exact hT132 _ _ h _ _ _ (lv_sub hl [1, 0] rfl) w
def M_findLeast_w142 (post : MS → Prop) (T13 : Int32 → MS → Prop) (T23 : Int32 → Int32 → MS → Prop) (T64 : Int32 → MS → Prop) (T76 : Int32 → Int32 → MS → Prop) (T132 : Int32 → MS → Prop) (T142 : Int32 → Int32 → MS → Prop) (x1 : Int32) (x2 : Int32) (S : MS) : Prop :=
  ((x2 ≤ 0 → M_findLeast_w171 post T13 T23 T64 T76 T132 T142 x1 S) ∧ (¬ x2 ≤ 0 → M_isBefore x2 (x2 - (1 : Int32)) S (fun (r1 : Int32) (S1 : MS) => ((r1 = 0 → M_findLeast_w171 post T13 T23 T64 T76 T132 T142 x1 S1) ∧ (¬ r1 = 0 → M_swap x2 (x2 - (1 : Int32)) S1 (fun (S2 : MS) => T142 x1 (x2 + (-1 : Int32)) S2))))))
set_option maxHeartbeats 4000000 in
set_option maxRecDepth 100000 in
theorem M_findLeast_a142 {p : Program} {l : Launch} {e : Env} {s : State} {m : MethodId} {args : Array Value} {below : List Frame} {meth : Method} {c : Code} {D : va_G} {dA : Nat → ClassId} {o : Nat → Nat} {A : Nat → Prop} {post : MS → Prop} {T13 : Int32 → MS → Prop} {T23 : Int32 → Int32 → MS → Prop} {T64 : Int32 → MS → Prop} {T76 : Int32 → Int32 → MS → Prop} {T132 : Int32 → MS → Prop} {T142 : Int32 → Int32 → MS → Prop} (C : mC p m c cX5_findLeast 3 s args meth (Option.none : Option Jvm.ClassFile.FieldType) A) (hT13 : ∀ (x1 : Int32) (S : MS), T13 x1 S → ∀ (H : Heap) (locs : List Loc) (ls : Array Slot), lv_has ls 3 [(0, .ref (o 0)), (1, .int x1)] → mw D dA o A s S H locs → W p l e rM_findLeast s m args below meth c H locs 0 0 (mQv below args s D dA o A post) (F0 m 13 ls [])) (hT23 : ∀ (x1 : Int32) (x2 : Int32) (S : MS), T23 x1 x2 S → ∀ (H : Heap) (locs : List Loc) (ls : Array Slot), lv_has ls 3 [(0, .ref (o 0)), (1, .int x1), (2, .int x2)] → mw D dA o A s S H locs → W p l e rM_findLeast s m args below meth c H locs 0 0 (mQv below args s D dA o A post) (F0 m 23 ls [])) (hT64 : ∀ (x1 : Int32) (S : MS), T64 x1 S → ∀ (H : Heap) (locs : List Loc) (ls : Array Slot), lv_has ls 3 [(0, .ref (o 0)), (1, .int x1)] → mw D dA o A s S H locs → W p l e rM_findLeast s m args below meth c H locs 0 0 (mQv below args s D dA o A post) (F0 m 64 ls [])) (hT76 : ∀ (x1 : Int32) (x2 : Int32) (S : MS), T76 x1 x2 S → ∀ (H : Heap) (locs : List Loc) (ls : Array Slot), lv_has ls 3 [(0, .ref (o 0)), (1, .int x1), (2, .int x2)] → mw D dA o A s S H locs → W p l e rM_findLeast s m args below meth c H locs 0 0 (mQv below args s D dA o A post) (F0 m 76 ls [])) (hT132 : ∀ (x1 : Int32) (S : MS), T132 x1 S → ∀ (H : Heap) (locs : List Loc) (ls : Array Slot), lv_has ls 3 [(0, .ref (o 0)), (1, .int x1)] → mw D dA o A s S H locs → W p l e rM_findLeast s m args below meth c H locs 0 0 (mQv below args s D dA o A post) (F0 m 132 ls [])) (hT142 : ∀ (x1 : Int32) (x2 : Int32) (S : MS), T142 x1 x2 S → ∀ (H : Heap) (locs : List Loc) (ls : Array Slot), lv_has ls 3 [(0, .ref (o 0)), (1, .int x1), (2, .int x2)] → mw D dA o A s S H locs → W p l e rM_findLeast s m args below meth c H locs 0 0 (mQv below args s D dA o A post) (F0 m 142 ls [])) {x1 : Int32} {x2 : Int32} {S : MS} (h : M_findLeast_w142 post T13 T23 T64 T76 T132 T142 x1 x2 S) {H : Heap} {locs : List Loc} {ls : Array Slot} (hl : lv_has ls 3 [(0, .ref (o 0)), (1, .int x1), (2, .int x2)]) (w : mw D dA o A s S H locs) : W p l e rM_findLeast s m args below meth c H locs 0 0 (mQv below args s D dA o A post) (F0 m 142 ls []) := by
  unfold M_findLeast_w142 at h
  obtain ⟨⟨hx, hb, hml, hown, hts⟩, hr, hlk, hA⟩ := id C
  refine lv_iload_n hx hb dX5_findLeast_142 rfl (lv_at hl 2 rfl) ?_
  obtain ⟨h1, h2⟩ := h
  refine lv_if_le (tgt := 171) hx hb dX5_findLeast_143 (by decide) (fun c1 => ?_) (fun c1 => ?_)
  · have h := h1 c1
    exact M_findLeast_a171 C hT13 hT23 hT64 hT76 hT132 hT142 h (lv_sub hl [0, 1] rfl) w
  · have h := h2 c1
    refine lv_aload_n hx hb dX5_findLeast_146 rfl (lv_at hl 0 rfl) ?_
    refine lv_iload_n hx hb dX5_findLeast_147 rfl (lv_at hl 2 rfl) ?_
    refine lv_iload_n hx hb dX5_findLeast_148 rfl (lv_at hl 2 rfl) ?_
    refine lv_iconst (v := 1) hx hb dX5_findLeast_149 (by decide) ?_
    refine lv_isub hx hb dX5_findLeast_150 ?_
    refine mr_callVI (rest := []) C w h (lw_V q858 q860 qs70 q87 q861) M_isBefore_d rfl rfl ⟨Nat.le_of_ble_eq_true rfl, Nat.le_of_ble_eq_true rfl⟩ rfl hl.1 rfl (Nat.le_of_ble_eq_true rfl) ⟨Nat.zero_le _, Nat.zero_le _⟩ dX5_findLeast_151 (fun r1 S1 H locs h w => ?_)
    obtain ⟨h1, h2⟩ := h
    refine lv_if_eq (tgt := 171) hx hb dX5_findLeast_154 (by decide) (fun c1 => ?_) (fun c1 => ?_)
    · have h := h1 c1
      exact M_findLeast_a171 C hT13 hT23 hT64 hT76 hT132 hT142 h (lv_sub hl [0, 1] rfl) w
    · have h := h2 c1
      refine lv_aload_n hx hb dX5_findLeast_157 rfl (lv_at hl 0 rfl) ?_
      refine lv_iload_n hx hb dX5_findLeast_158 rfl (lv_at hl 2 rfl) ?_
      refine lv_iload_n hx hb dX5_findLeast_159 rfl (lv_at hl 2 rfl) ?_
      refine lv_iconst (v := 1) hx hb dX5_findLeast_160 (by decide) ?_
      refine lv_isub hx hb dX5_findLeast_161 ?_
      refine mr_callVV (rest := []) C w h (lw_V q862 q864 qs71 q87 q865) M_swap_d rfl rfl ⟨Nat.le_of_ble_eq_true rfl, Nat.le_of_ble_eq_true rfl⟩ rfl hl.1 rfl (Nat.le_of_ble_eq_true rfl) ⟨Nat.zero_le _, Nat.zero_le _⟩ dX5_findLeast_162 (fun S2 H locs h w => ?_)
      refine lv_iinc (v := _ + (-1 : Int32)) (lv' := [(2, .int _), (0, .ref _), (1, .int _)]) hx hb dX5_findLeast_165 hl (k := 2) rfl rfl (by decide) rfl (fun ls hl => ?_)
      refine lv_goto (tgt := 142) hx hb dX5_findLeast_168 (by decide) ?_
      exact hT142 _ _ _ h _ _ _ (lv_sub hl [1, 2, 0] rfl) w
def M_findLeast_w132 (post : MS → Prop) (T13 : Int32 → MS → Prop) (T23 : Int32 → Int32 → MS → Prop) (T64 : Int32 → MS → Prop) (T76 : Int32 → Int32 → MS → Prop) (T132 : Int32 → MS → Prop) (T142 : Int32 → Int32 → MS → Prop) (x1 : Int32) (S : MS) : Prop :=
  (((gF S 14) ≤ x1 → post S) ∧ (¬ (gF S 14) ≤ x1 → T142 x1 x1 S))
set_option maxHeartbeats 4000000 in
set_option maxRecDepth 100000 in
theorem M_findLeast_a132 {p : Program} {l : Launch} {e : Env} {s : State} {m : MethodId} {args : Array Value} {below : List Frame} {meth : Method} {c : Code} {D : va_G} {dA : Nat → ClassId} {o : Nat → Nat} {A : Nat → Prop} {post : MS → Prop} {T13 : Int32 → MS → Prop} {T23 : Int32 → Int32 → MS → Prop} {T64 : Int32 → MS → Prop} {T76 : Int32 → Int32 → MS → Prop} {T132 : Int32 → MS → Prop} {T142 : Int32 → Int32 → MS → Prop} (C : mC p m c cX5_findLeast 3 s args meth (Option.none : Option Jvm.ClassFile.FieldType) A) (hT13 : ∀ (x1 : Int32) (S : MS), T13 x1 S → ∀ (H : Heap) (locs : List Loc) (ls : Array Slot), lv_has ls 3 [(0, .ref (o 0)), (1, .int x1)] → mw D dA o A s S H locs → W p l e rM_findLeast s m args below meth c H locs 0 0 (mQv below args s D dA o A post) (F0 m 13 ls [])) (hT23 : ∀ (x1 : Int32) (x2 : Int32) (S : MS), T23 x1 x2 S → ∀ (H : Heap) (locs : List Loc) (ls : Array Slot), lv_has ls 3 [(0, .ref (o 0)), (1, .int x1), (2, .int x2)] → mw D dA o A s S H locs → W p l e rM_findLeast s m args below meth c H locs 0 0 (mQv below args s D dA o A post) (F0 m 23 ls [])) (hT64 : ∀ (x1 : Int32) (S : MS), T64 x1 S → ∀ (H : Heap) (locs : List Loc) (ls : Array Slot), lv_has ls 3 [(0, .ref (o 0)), (1, .int x1)] → mw D dA o A s S H locs → W p l e rM_findLeast s m args below meth c H locs 0 0 (mQv below args s D dA o A post) (F0 m 64 ls [])) (hT76 : ∀ (x1 : Int32) (x2 : Int32) (S : MS), T76 x1 x2 S → ∀ (H : Heap) (locs : List Loc) (ls : Array Slot), lv_has ls 3 [(0, .ref (o 0)), (1, .int x1), (2, .int x2)] → mw D dA o A s S H locs → W p l e rM_findLeast s m args below meth c H locs 0 0 (mQv below args s D dA o A post) (F0 m 76 ls [])) (hT132 : ∀ (x1 : Int32) (S : MS), T132 x1 S → ∀ (H : Heap) (locs : List Loc) (ls : Array Slot), lv_has ls 3 [(0, .ref (o 0)), (1, .int x1)] → mw D dA o A s S H locs → W p l e rM_findLeast s m args below meth c H locs 0 0 (mQv below args s D dA o A post) (F0 m 132 ls [])) (hT142 : ∀ (x1 : Int32) (x2 : Int32) (S : MS), T142 x1 x2 S → ∀ (H : Heap) (locs : List Loc) (ls : Array Slot), lv_has ls 3 [(0, .ref (o 0)), (1, .int x1), (2, .int x2)] → mw D dA o A s S H locs → W p l e rM_findLeast s m args below meth c H locs 0 0 (mQv below args s D dA o A post) (F0 m 142 ls [])) {x1 : Int32} {S : MS} (h : M_findLeast_w132 post T13 T23 T64 T76 T132 T142 x1 S) {H : Heap} {locs : List Loc} {ls : Array Slot} (hl : lv_has ls 3 [(0, .ref (o 0)), (1, .int x1)]) (w : mw D dA o A s S H locs) : W p l e rM_findLeast s m args below meth c H locs 0 0 (mQv below args s D dA o A post) (F0 m 132 ls []) := by
  unfold M_findLeast_w132 at h
  obtain ⟨⟨hx, hb, hml, hown, hts⟩, hr, hlk, hA⟩ := id C
  refine lv_iload_n hx hb dX5_findLeast_132 rfl (lv_at hl 1 rfl) ?_
  refine lv_aload_n hx hb dX5_findLeast_133 rfl (lv_at hl 0 rfl) ?_
  refine mr_get C w 14 (by decide) q591 rfl rfl dX5_findLeast_134 ?_
  obtain ⟨h1, h2⟩ := h
  refine lv_icmp_ge (tgt := 177) hx hb dX5_findLeast_137 (by decide) (fun c1 => ?_) (fun c1 => ?_)
  · have h := h1 c1
    exact mr_vret C w h dX5_findLeast_177
  · have h := h2 c1
    refine lv_iload_n hx hb dX5_findLeast_140 rfl (lv_at hl 1 rfl) ?_
    refine lv_istore_n (lv' := [(2, .int _), (0, .ref _), (1, .int _)]) hx hb dX5_findLeast_141 rfl hl (by decide) rfl (fun ls hl => ?_)
    exact hT142 _ _ _ h _ _ _ (lv_sub hl [1, 2, 0] rfl) w
def M_findLeast_w124 (post : MS → Prop) (T13 : Int32 → MS → Prop) (T23 : Int32 → Int32 → MS → Prop) (T64 : Int32 → MS → Prop) (T76 : Int32 → Int32 → MS → Prop) (T132 : Int32 → MS → Prop) (T142 : Int32 → Int32 → MS → Prop) (x1 : Int32) (S : MS) : Prop :=
  T64 (x1 + (1 : Int32)) S
set_option maxHeartbeats 4000000 in
set_option maxRecDepth 100000 in
theorem M_findLeast_a124 {p : Program} {l : Launch} {e : Env} {s : State} {m : MethodId} {args : Array Value} {below : List Frame} {meth : Method} {c : Code} {D : va_G} {dA : Nat → ClassId} {o : Nat → Nat} {A : Nat → Prop} {post : MS → Prop} {T13 : Int32 → MS → Prop} {T23 : Int32 → Int32 → MS → Prop} {T64 : Int32 → MS → Prop} {T76 : Int32 → Int32 → MS → Prop} {T132 : Int32 → MS → Prop} {T142 : Int32 → Int32 → MS → Prop} (C : mC p m c cX5_findLeast 3 s args meth (Option.none : Option Jvm.ClassFile.FieldType) A) (hT13 : ∀ (x1 : Int32) (S : MS), T13 x1 S → ∀ (H : Heap) (locs : List Loc) (ls : Array Slot), lv_has ls 3 [(0, .ref (o 0)), (1, .int x1)] → mw D dA o A s S H locs → W p l e rM_findLeast s m args below meth c H locs 0 0 (mQv below args s D dA o A post) (F0 m 13 ls [])) (hT23 : ∀ (x1 : Int32) (x2 : Int32) (S : MS), T23 x1 x2 S → ∀ (H : Heap) (locs : List Loc) (ls : Array Slot), lv_has ls 3 [(0, .ref (o 0)), (1, .int x1), (2, .int x2)] → mw D dA o A s S H locs → W p l e rM_findLeast s m args below meth c H locs 0 0 (mQv below args s D dA o A post) (F0 m 23 ls [])) (hT64 : ∀ (x1 : Int32) (S : MS), T64 x1 S → ∀ (H : Heap) (locs : List Loc) (ls : Array Slot), lv_has ls 3 [(0, .ref (o 0)), (1, .int x1)] → mw D dA o A s S H locs → W p l e rM_findLeast s m args below meth c H locs 0 0 (mQv below args s D dA o A post) (F0 m 64 ls [])) (hT76 : ∀ (x1 : Int32) (x2 : Int32) (S : MS), T76 x1 x2 S → ∀ (H : Heap) (locs : List Loc) (ls : Array Slot), lv_has ls 3 [(0, .ref (o 0)), (1, .int x1), (2, .int x2)] → mw D dA o A s S H locs → W p l e rM_findLeast s m args below meth c H locs 0 0 (mQv below args s D dA o A post) (F0 m 76 ls [])) (hT132 : ∀ (x1 : Int32) (S : MS), T132 x1 S → ∀ (H : Heap) (locs : List Loc) (ls : Array Slot), lv_has ls 3 [(0, .ref (o 0)), (1, .int x1)] → mw D dA o A s S H locs → W p l e rM_findLeast s m args below meth c H locs 0 0 (mQv below args s D dA o A post) (F0 m 132 ls [])) (hT142 : ∀ (x1 : Int32) (x2 : Int32) (S : MS), T142 x1 x2 S → ∀ (H : Heap) (locs : List Loc) (ls : Array Slot), lv_has ls 3 [(0, .ref (o 0)), (1, .int x1), (2, .int x2)] → mw D dA o A s S H locs → W p l e rM_findLeast s m args below meth c H locs 0 0 (mQv below args s D dA o A post) (F0 m 142 ls [])) {x1 : Int32} {S : MS} (h : M_findLeast_w124 post T13 T23 T64 T76 T132 T142 x1 S) {H : Heap} {locs : List Loc} {ls : Array Slot} (hl : lv_has ls 3 [(0, .ref (o 0)), (1, .int x1)]) (w : mw D dA o A s S H locs) : W p l e rM_findLeast s m args below meth c H locs 0 0 (mQv below args s D dA o A post) (F0 m 124 ls []) := by
  unfold M_findLeast_w124 at h
  obtain ⟨⟨hx, hb, hml, hown, hts⟩, hr, hlk, hA⟩ := id C
  refine lv_iinc (v := _ + (1 : Int32)) (lv' := [(1, .int _), (0, .ref _)]) hx hb dX5_findLeast_124 hl (k := 1) rfl rfl (by decide) rfl (fun ls hl => ?_)
  refine lv_goto (tgt := 64) hx hb dX5_findLeast_127 (by decide) ?_
  exact hT64 _ _ h _ _ _ (lv_sub hl [1, 0] rfl) w
def M_findLeast_w118 (post : MS → Prop) (T13 : Int32 → MS → Prop) (T23 : Int32 → Int32 → MS → Prop) (T64 : Int32 → MS → Prop) (T76 : Int32 → Int32 → MS → Prop) (T132 : Int32 → MS → Prop) (T142 : Int32 → Int32 → MS → Prop) (x1 : Int32) (x2 : Int32) (S : MS) : Prop :=
  T76 x1 (x2 + (1 : Int32)) S
set_option maxHeartbeats 4000000 in
set_option maxRecDepth 100000 in
theorem M_findLeast_a118 {p : Program} {l : Launch} {e : Env} {s : State} {m : MethodId} {args : Array Value} {below : List Frame} {meth : Method} {c : Code} {D : va_G} {dA : Nat → ClassId} {o : Nat → Nat} {A : Nat → Prop} {post : MS → Prop} {T13 : Int32 → MS → Prop} {T23 : Int32 → Int32 → MS → Prop} {T64 : Int32 → MS → Prop} {T76 : Int32 → Int32 → MS → Prop} {T132 : Int32 → MS → Prop} {T142 : Int32 → Int32 → MS → Prop} (C : mC p m c cX5_findLeast 3 s args meth (Option.none : Option Jvm.ClassFile.FieldType) A) (hT13 : ∀ (x1 : Int32) (S : MS), T13 x1 S → ∀ (H : Heap) (locs : List Loc) (ls : Array Slot), lv_has ls 3 [(0, .ref (o 0)), (1, .int x1)] → mw D dA o A s S H locs → W p l e rM_findLeast s m args below meth c H locs 0 0 (mQv below args s D dA o A post) (F0 m 13 ls [])) (hT23 : ∀ (x1 : Int32) (x2 : Int32) (S : MS), T23 x1 x2 S → ∀ (H : Heap) (locs : List Loc) (ls : Array Slot), lv_has ls 3 [(0, .ref (o 0)), (1, .int x1), (2, .int x2)] → mw D dA o A s S H locs → W p l e rM_findLeast s m args below meth c H locs 0 0 (mQv below args s D dA o A post) (F0 m 23 ls [])) (hT64 : ∀ (x1 : Int32) (S : MS), T64 x1 S → ∀ (H : Heap) (locs : List Loc) (ls : Array Slot), lv_has ls 3 [(0, .ref (o 0)), (1, .int x1)] → mw D dA o A s S H locs → W p l e rM_findLeast s m args below meth c H locs 0 0 (mQv below args s D dA o A post) (F0 m 64 ls [])) (hT76 : ∀ (x1 : Int32) (x2 : Int32) (S : MS), T76 x1 x2 S → ∀ (H : Heap) (locs : List Loc) (ls : Array Slot), lv_has ls 3 [(0, .ref (o 0)), (1, .int x1), (2, .int x2)] → mw D dA o A s S H locs → W p l e rM_findLeast s m args below meth c H locs 0 0 (mQv below args s D dA o A post) (F0 m 76 ls [])) (hT132 : ∀ (x1 : Int32) (S : MS), T132 x1 S → ∀ (H : Heap) (locs : List Loc) (ls : Array Slot), lv_has ls 3 [(0, .ref (o 0)), (1, .int x1)] → mw D dA o A s S H locs → W p l e rM_findLeast s m args below meth c H locs 0 0 (mQv below args s D dA o A post) (F0 m 132 ls [])) (hT142 : ∀ (x1 : Int32) (x2 : Int32) (S : MS), T142 x1 x2 S → ∀ (H : Heap) (locs : List Loc) (ls : Array Slot), lv_has ls 3 [(0, .ref (o 0)), (1, .int x1), (2, .int x2)] → mw D dA o A s S H locs → W p l e rM_findLeast s m args below meth c H locs 0 0 (mQv below args s D dA o A post) (F0 m 142 ls [])) {x1 : Int32} {x2 : Int32} {S : MS} (h : M_findLeast_w118 post T13 T23 T64 T76 T132 T142 x1 x2 S) {H : Heap} {locs : List Loc} {ls : Array Slot} (hl : lv_has ls 3 [(0, .ref (o 0)), (1, .int x1), (2, .int x2)]) (w : mw D dA o A s S H locs) : W p l e rM_findLeast s m args below meth c H locs 0 0 (mQv below args s D dA o A post) (F0 m 118 ls []) := by
  unfold M_findLeast_w118 at h
  obtain ⟨⟨hx, hb, hml, hown, hts⟩, hr, hlk, hA⟩ := id C
  refine lv_iinc (v := _ + (1 : Int32)) (lv' := [(2, .int _), (0, .ref _), (1, .int _)]) hx hb dX5_findLeast_118 hl (k := 2) rfl rfl (by decide) rfl (fun ls hl => ?_)
  refine lv_goto (tgt := 76) hx hb dX5_findLeast_121 (by decide) ?_
  exact hT76 _ _ _ h _ _ _ (lv_sub hl [1, 2, 0] rfl) w
def M_findLeast_w76 (post : MS → Prop) (T13 : Int32 → MS → Prop) (T23 : Int32 → Int32 → MS → Prop) (T64 : Int32 → MS → Prop) (T76 : Int32 → Int32 → MS → Prop) (T132 : Int32 → MS → Prop) (T142 : Int32 → Int32 → MS → Prop) (x1 : Int32) (x2 : Int32) (S : MS) : Prop :=
  (((4 : Int32) ≤ x2 → M_findLeast_w124 post T13 T23 T64 T76 T132 T142 x1 S) ∧ (¬ (4 : Int32) ≤ x2 → (vp_in x1 12 ∧ (((gI S 1 (x1).toNatClampNeg) = (-1 : Int32) → M_findLeast_w124 post T13 T23 T64 T76 T132 T142 x1 S) ∧ (¬ (gI S 1 (x1).toNatClampNeg) = (-1 : Int32) → (vp_in x1 12 ∧ (((gI S 1 (x1).toNatClampNeg) ≤ x1 → M_findLeast_w124 post T13 T23 T64 T76 T132 T142 x1 S) ∧ (¬ (gI S 1 (x1).toNatClampNeg) ≤ x1 → ((x2 = (x1 - x1 / (4 : Int32) * (4 : Int32)) → M_findLeast_w118 post T13 T23 T64 T76 T132 T142 x1 x2 S) ∧ (¬ x2 = (x1 - x1 / (4 : Int32) * (4 : Int32)) → M_layEquation x1 x2 S (fun (S1 : MS) => M_meet S1 (fun (S2 : MS) => M_findLeast_w118 post T13 T23 T64 T76 T132 T142 x1 x2 S2))))))))))))
set_option maxHeartbeats 4000000 in
set_option maxRecDepth 100000 in
theorem M_findLeast_a76 {p : Program} {l : Launch} {e : Env} {s : State} {m : MethodId} {args : Array Value} {below : List Frame} {meth : Method} {c : Code} {D : va_G} {dA : Nat → ClassId} {o : Nat → Nat} {A : Nat → Prop} {post : MS → Prop} {T13 : Int32 → MS → Prop} {T23 : Int32 → Int32 → MS → Prop} {T64 : Int32 → MS → Prop} {T76 : Int32 → Int32 → MS → Prop} {T132 : Int32 → MS → Prop} {T142 : Int32 → Int32 → MS → Prop} (C : mC p m c cX5_findLeast 3 s args meth (Option.none : Option Jvm.ClassFile.FieldType) A) (hT13 : ∀ (x1 : Int32) (S : MS), T13 x1 S → ∀ (H : Heap) (locs : List Loc) (ls : Array Slot), lv_has ls 3 [(0, .ref (o 0)), (1, .int x1)] → mw D dA o A s S H locs → W p l e rM_findLeast s m args below meth c H locs 0 0 (mQv below args s D dA o A post) (F0 m 13 ls [])) (hT23 : ∀ (x1 : Int32) (x2 : Int32) (S : MS), T23 x1 x2 S → ∀ (H : Heap) (locs : List Loc) (ls : Array Slot), lv_has ls 3 [(0, .ref (o 0)), (1, .int x1), (2, .int x2)] → mw D dA o A s S H locs → W p l e rM_findLeast s m args below meth c H locs 0 0 (mQv below args s D dA o A post) (F0 m 23 ls [])) (hT64 : ∀ (x1 : Int32) (S : MS), T64 x1 S → ∀ (H : Heap) (locs : List Loc) (ls : Array Slot), lv_has ls 3 [(0, .ref (o 0)), (1, .int x1)] → mw D dA o A s S H locs → W p l e rM_findLeast s m args below meth c H locs 0 0 (mQv below args s D dA o A post) (F0 m 64 ls [])) (hT76 : ∀ (x1 : Int32) (x2 : Int32) (S : MS), T76 x1 x2 S → ∀ (H : Heap) (locs : List Loc) (ls : Array Slot), lv_has ls 3 [(0, .ref (o 0)), (1, .int x1), (2, .int x2)] → mw D dA o A s S H locs → W p l e rM_findLeast s m args below meth c H locs 0 0 (mQv below args s D dA o A post) (F0 m 76 ls [])) (hT132 : ∀ (x1 : Int32) (S : MS), T132 x1 S → ∀ (H : Heap) (locs : List Loc) (ls : Array Slot), lv_has ls 3 [(0, .ref (o 0)), (1, .int x1)] → mw D dA o A s S H locs → W p l e rM_findLeast s m args below meth c H locs 0 0 (mQv below args s D dA o A post) (F0 m 132 ls [])) (hT142 : ∀ (x1 : Int32) (x2 : Int32) (S : MS), T142 x1 x2 S → ∀ (H : Heap) (locs : List Loc) (ls : Array Slot), lv_has ls 3 [(0, .ref (o 0)), (1, .int x1), (2, .int x2)] → mw D dA o A s S H locs → W p l e rM_findLeast s m args below meth c H locs 0 0 (mQv below args s D dA o A post) (F0 m 142 ls [])) {x1 : Int32} {x2 : Int32} {S : MS} (h : M_findLeast_w76 post T13 T23 T64 T76 T132 T142 x1 x2 S) {H : Heap} {locs : List Loc} {ls : Array Slot} (hl : lv_has ls 3 [(0, .ref (o 0)), (1, .int x1), (2, .int x2)]) (w : mw D dA o A s S H locs) : W p l e rM_findLeast s m args below meth c H locs 0 0 (mQv below args s D dA o A post) (F0 m 76 ls []) := by
  unfold M_findLeast_w76 at h
  obtain ⟨⟨hx, hb, hml, hown, hts⟩, hr, hlk, hA⟩ := id C
  refine lv_iload_n hx hb dX5_findLeast_76 rfl (lv_at hl 2 rfl) ?_
  refine lv_iconst (v := 4) hx hb dX5_findLeast_77 (by decide) ?_
  obtain ⟨h1, h2⟩ := h
  refine lv_icmp_ge (tgt := 124) hx hb dX5_findLeast_78 (by decide) (fun c1 => ?_) (fun c1 => ?_)
  · have h := h1 c1
    exact M_findLeast_a124 C hT13 hT23 hT64 hT76 hT132 hT142 h (lv_sub hl [0, 1] rfl) w
  · have h := h2 c1
    refine lv_aload_n hx hb dX5_findLeast_81 rfl (lv_at hl 0 rfl) ?_
    refine mr_get C w 1 (by decide) q578 rfl rfl dX5_findLeast_82 ?_
    refine lv_iload_n hx hb dX5_findLeast_85 rfl (lv_at hl 1 rfl) ?_
    obtain ⟨hi, h⟩ := h
    refine mr_iald C w 1 0 rfl rfl hi dX5_findLeast_86 ?_
    refine lv_iconst (v := -1) hx hb dX5_findLeast_87 (by decide) ?_
    obtain ⟨h1, h2⟩ := h
    refine lv_icmp_eq (tgt := 124) hx hb dX5_findLeast_88 (by decide) (fun c1 => ?_) (fun c1 => ?_)
    · have h := h1 c1
      exact M_findLeast_a124 C hT13 hT23 hT64 hT76 hT132 hT142 h (lv_sub hl [0, 1] rfl) w
    · have h := h2 c1
      refine lv_iload_n hx hb dX5_findLeast_91 rfl (lv_at hl 1 rfl) ?_
      refine lv_aload_n hx hb dX5_findLeast_92 rfl (lv_at hl 0 rfl) ?_
      refine mr_get C w 1 (by decide) q578 rfl rfl dX5_findLeast_93 ?_
      refine lv_iload_n hx hb dX5_findLeast_96 rfl (lv_at hl 1 rfl) ?_
      obtain ⟨hi, h⟩ := h
      refine mr_iald C w 1 0 rfl rfl hi dX5_findLeast_97 ?_
      obtain ⟨h1, h2⟩ := h
      refine lv_icmp_ge (tgt := 124) hx hb dX5_findLeast_98 (by decide) (fun c1 => ?_) (fun c1 => ?_)
      · have h := h1 c1
        exact M_findLeast_a124 C hT13 hT23 hT64 hT76 hT132 hT142 h (lv_sub hl [0, 1] rfl) w
      · have h := h2 c1
        refine lv_iload_n hx hb dX5_findLeast_101 rfl (lv_at hl 2 rfl) ?_
        refine lv_iload_n hx hb dX5_findLeast_102 rfl (lv_at hl 1 rfl) ?_
        refine lv_iconst (v := 4) hx hb dX5_findLeast_103 (by decide) ?_
        refine lv_irem hx hb dX5_findLeast_104 (by decide) ?_
        obtain ⟨h1, h2⟩ := h
        refine lv_icmp_eq (tgt := 118) hx hb dX5_findLeast_105 (by decide) (fun c1 => ?_) (fun c1 => ?_)
        · have h := h1 c1
          exact M_findLeast_a118 C hT13 hT23 hT64 hT76 hT132 hT142 h (lv_sub hl [0, 1, 2] rfl) w
        · have h := h2 c1
          refine lv_aload_n hx hb dX5_findLeast_108 rfl (lv_at hl 0 rfl) ?_
          refine lv_iload_n hx hb dX5_findLeast_109 rfl (lv_at hl 1 rfl) ?_
          refine lv_iload_n hx hb dX5_findLeast_110 rfl (lv_at hl 2 rfl) ?_
          refine mr_callVV (rest := []) C w h (lw_V q824 q826 qs63 q87 q827) M_layEquation_d rfl rfl ⟨Nat.le_of_ble_eq_true rfl, Nat.le_of_ble_eq_true rfl⟩ rfl hl.1 rfl (Nat.le_of_ble_eq_true rfl) ⟨Nat.zero_le _, Nat.zero_le _⟩ dX5_findLeast_111 (fun S1 H locs h w => ?_)
          refine lv_aload_n hx hb dX5_findLeast_114 rfl (lv_at hl 0 rfl) ?_
          refine mr_callVV (rest := []) C w h (lw_V q831 q833 qs64 q87 q834) M_meet_d rfl rfl ⟨Nat.le_of_ble_eq_true rfl, Nat.le_of_ble_eq_true rfl⟩ rfl hl.1 rfl (Nat.le_of_ble_eq_true rfl) ⟨Nat.zero_le _, Nat.zero_le _⟩ dX5_findLeast_115 (fun S2 H locs h w => ?_)
          exact M_findLeast_a118 C hT13 hT23 hT64 hT76 hT132 hT142 h (lv_sub hl [0, 1, 2] rfl) w
def M_findLeast_w64 (post : MS → Prop) (T13 : Int32 → MS → Prop) (T23 : Int32 → Int32 → MS → Prop) (T64 : Int32 → MS → Prop) (T76 : Int32 → Int32 → MS → Prop) (T132 : Int32 → MS → Prop) (T142 : Int32 → Int32 → MS → Prop) (x1 : Int32) (S : MS) : Prop :=
  ((((4 : Int32) * (gF S 0)) ≤ x1 → T132 (1 : Int32) S) ∧ (¬ ((4 : Int32) * (gF S 0)) ≤ x1 → T76 x1 (0 : Int32) S))
set_option maxHeartbeats 4000000 in
set_option maxRecDepth 100000 in
theorem M_findLeast_a64 {p : Program} {l : Launch} {e : Env} {s : State} {m : MethodId} {args : Array Value} {below : List Frame} {meth : Method} {c : Code} {D : va_G} {dA : Nat → ClassId} {o : Nat → Nat} {A : Nat → Prop} {post : MS → Prop} {T13 : Int32 → MS → Prop} {T23 : Int32 → Int32 → MS → Prop} {T64 : Int32 → MS → Prop} {T76 : Int32 → Int32 → MS → Prop} {T132 : Int32 → MS → Prop} {T142 : Int32 → Int32 → MS → Prop} (C : mC p m c cX5_findLeast 3 s args meth (Option.none : Option Jvm.ClassFile.FieldType) A) (hT13 : ∀ (x1 : Int32) (S : MS), T13 x1 S → ∀ (H : Heap) (locs : List Loc) (ls : Array Slot), lv_has ls 3 [(0, .ref (o 0)), (1, .int x1)] → mw D dA o A s S H locs → W p l e rM_findLeast s m args below meth c H locs 0 0 (mQv below args s D dA o A post) (F0 m 13 ls [])) (hT23 : ∀ (x1 : Int32) (x2 : Int32) (S : MS), T23 x1 x2 S → ∀ (H : Heap) (locs : List Loc) (ls : Array Slot), lv_has ls 3 [(0, .ref (o 0)), (1, .int x1), (2, .int x2)] → mw D dA o A s S H locs → W p l e rM_findLeast s m args below meth c H locs 0 0 (mQv below args s D dA o A post) (F0 m 23 ls [])) (hT64 : ∀ (x1 : Int32) (S : MS), T64 x1 S → ∀ (H : Heap) (locs : List Loc) (ls : Array Slot), lv_has ls 3 [(0, .ref (o 0)), (1, .int x1)] → mw D dA o A s S H locs → W p l e rM_findLeast s m args below meth c H locs 0 0 (mQv below args s D dA o A post) (F0 m 64 ls [])) (hT76 : ∀ (x1 : Int32) (x2 : Int32) (S : MS), T76 x1 x2 S → ∀ (H : Heap) (locs : List Loc) (ls : Array Slot), lv_has ls 3 [(0, .ref (o 0)), (1, .int x1), (2, .int x2)] → mw D dA o A s S H locs → W p l e rM_findLeast s m args below meth c H locs 0 0 (mQv below args s D dA o A post) (F0 m 76 ls [])) (hT132 : ∀ (x1 : Int32) (S : MS), T132 x1 S → ∀ (H : Heap) (locs : List Loc) (ls : Array Slot), lv_has ls 3 [(0, .ref (o 0)), (1, .int x1)] → mw D dA o A s S H locs → W p l e rM_findLeast s m args below meth c H locs 0 0 (mQv below args s D dA o A post) (F0 m 132 ls [])) (hT142 : ∀ (x1 : Int32) (x2 : Int32) (S : MS), T142 x1 x2 S → ∀ (H : Heap) (locs : List Loc) (ls : Array Slot), lv_has ls 3 [(0, .ref (o 0)), (1, .int x1), (2, .int x2)] → mw D dA o A s S H locs → W p l e rM_findLeast s m args below meth c H locs 0 0 (mQv below args s D dA o A post) (F0 m 142 ls [])) {x1 : Int32} {S : MS} (h : M_findLeast_w64 post T13 T23 T64 T76 T132 T142 x1 S) {H : Heap} {locs : List Loc} {ls : Array Slot} (hl : lv_has ls 3 [(0, .ref (o 0)), (1, .int x1)]) (w : mw D dA o A s S H locs) : W p l e rM_findLeast s m args below meth c H locs 0 0 (mQv below args s D dA o A post) (F0 m 64 ls []) := by
  unfold M_findLeast_w64 at h
  obtain ⟨⟨hx, hb, hml, hown, hts⟩, hr, hlk, hA⟩ := id C
  refine lv_iload_n hx hb dX5_findLeast_64 rfl (lv_at hl 1 rfl) ?_
  refine lv_iconst (v := 4) hx hb dX5_findLeast_65 (by decide) ?_
  refine lv_aload_n hx hb dX5_findLeast_66 rfl (lv_at hl 0 rfl) ?_
  refine mr_get C w 0 (by decide) q577 rfl rfl dX5_findLeast_67 ?_
  refine lv_imul hx hb dX5_findLeast_70 ?_
  obtain ⟨h1, h2⟩ := h
  refine lv_icmp_ge (tgt := 130) hx hb dX5_findLeast_71 (by decide) (fun c1 => ?_) (fun c1 => ?_)
  · have h := h1 c1
    refine lv_iconst (v := 1) hx hb dX5_findLeast_130 (by decide) ?_
    refine lv_istore_n (lv' := [(1, .int _), (0, .ref _)]) hx hb dX5_findLeast_131 rfl hl (by decide) rfl (fun ls hl => ?_)
    exact hT132 _ _ h _ _ _ (lv_sub hl [1, 0] rfl) w
  · have h := h2 c1
    refine lv_iconst (v := 0) hx hb dX5_findLeast_74 (by decide) ?_
    refine lv_istore_n (lv' := [(2, .int _), (0, .ref _), (1, .int _)]) hx hb dX5_findLeast_75 rfl hl (by decide) rfl (fun ls hl => ?_)
    exact hT76 _ _ _ h _ _ _ (lv_sub hl [1, 2, 0] rfl) w
def M_findLeast_w49 (post : MS → Prop) (T13 : Int32 → MS → Prop) (T23 : Int32 → Int32 → MS → Prop) (T64 : Int32 → MS → Prop) (T76 : Int32 → Int32 → MS → Prop) (T132 : Int32 → MS → Prop) (T142 : Int32 → Int32 → MS → Prop) (v0 : Int32) (v1 : Int32) (x1 : Int32) (x2 : Int32) (S : MS) : Prop :=
  (vp_in v1 42000 ∧ (fun (S1 : MS) => T23 x1 (x2 + (1 : Int32)) S1) (sI S 15 (v1).toNatClampNeg v0))
set_option maxHeartbeats 4000000 in
set_option maxRecDepth 100000 in
theorem M_findLeast_a49 {p : Program} {l : Launch} {e : Env} {s : State} {m : MethodId} {args : Array Value} {below : List Frame} {meth : Method} {c : Code} {D : va_G} {dA : Nat → ClassId} {o : Nat → Nat} {A : Nat → Prop} {post : MS → Prop} {T13 : Int32 → MS → Prop} {T23 : Int32 → Int32 → MS → Prop} {T64 : Int32 → MS → Prop} {T76 : Int32 → Int32 → MS → Prop} {T132 : Int32 → MS → Prop} {T142 : Int32 → Int32 → MS → Prop} (C : mC p m c cX5_findLeast 3 s args meth (Option.none : Option Jvm.ClassFile.FieldType) A) (hT13 : ∀ (x1 : Int32) (S : MS), T13 x1 S → ∀ (H : Heap) (locs : List Loc) (ls : Array Slot), lv_has ls 3 [(0, .ref (o 0)), (1, .int x1)] → mw D dA o A s S H locs → W p l e rM_findLeast s m args below meth c H locs 0 0 (mQv below args s D dA o A post) (F0 m 13 ls [])) (hT23 : ∀ (x1 : Int32) (x2 : Int32) (S : MS), T23 x1 x2 S → ∀ (H : Heap) (locs : List Loc) (ls : Array Slot), lv_has ls 3 [(0, .ref (o 0)), (1, .int x1), (2, .int x2)] → mw D dA o A s S H locs → W p l e rM_findLeast s m args below meth c H locs 0 0 (mQv below args s D dA o A post) (F0 m 23 ls [])) (hT64 : ∀ (x1 : Int32) (S : MS), T64 x1 S → ∀ (H : Heap) (locs : List Loc) (ls : Array Slot), lv_has ls 3 [(0, .ref (o 0)), (1, .int x1)] → mw D dA o A s S H locs → W p l e rM_findLeast s m args below meth c H locs 0 0 (mQv below args s D dA o A post) (F0 m 64 ls [])) (hT76 : ∀ (x1 : Int32) (x2 : Int32) (S : MS), T76 x1 x2 S → ∀ (H : Heap) (locs : List Loc) (ls : Array Slot), lv_has ls 3 [(0, .ref (o 0)), (1, .int x1), (2, .int x2)] → mw D dA o A s S H locs → W p l e rM_findLeast s m args below meth c H locs 0 0 (mQv below args s D dA o A post) (F0 m 76 ls [])) (hT132 : ∀ (x1 : Int32) (S : MS), T132 x1 S → ∀ (H : Heap) (locs : List Loc) (ls : Array Slot), lv_has ls 3 [(0, .ref (o 0)), (1, .int x1)] → mw D dA o A s S H locs → W p l e rM_findLeast s m args below meth c H locs 0 0 (mQv below args s D dA o A post) (F0 m 132 ls [])) (hT142 : ∀ (x1 : Int32) (x2 : Int32) (S : MS), T142 x1 x2 S → ∀ (H : Heap) (locs : List Loc) (ls : Array Slot), lv_has ls 3 [(0, .ref (o 0)), (1, .int x1), (2, .int x2)] → mw D dA o A s S H locs → W p l e rM_findLeast s m args below meth c H locs 0 0 (mQv below args s D dA o A post) (F0 m 142 ls [])) {v0 : Int32} {v1 : Int32} {x1 : Int32} {x2 : Int32} {S : MS} (h : M_findLeast_w49 post T13 T23 T64 T76 T132 T142 v0 v1 x1 x2 S) {H : Heap} {locs : List Loc} {ls : Array Slot} (hl : lv_has ls 3 [(0, .ref (o 0)), (1, .int x1), (2, .int x2)]) (w : mw D dA o A s S H locs) : W p l e rM_findLeast s m args below meth c H locs 0 0 (mQv below args s D dA o A post) (F0 m 49 ls [.int v0, .int v1, .ref (o 15)]) := by
  unfold M_findLeast_w49 at h
  obtain ⟨⟨hx, hb, hml, hown, hts⟩, hr, hlk, hA⟩ := id C
  obtain ⟨hi, h⟩ := h
  refine mr_iast C w 11 10 rfl rfl hi MWs_15 dX5_findLeast_49 (fun H locs w => ?_)
  refine lv_iinc (v := _ + (1 : Int32)) (lv' := [(2, .int _), (0, .ref _), (1, .int _)]) hx hb dX5_findLeast_50 hl (k := 2) rfl rfl (by decide) rfl (fun ls hl => ?_)
  refine lv_goto (tgt := 23) hx hb dX5_findLeast_53 (by decide) ?_
  exact hT23 _ _ _ h _ _ _ (lv_sub hl [1, 2, 0] rfl) w
def M_findLeast_w23 (post : MS → Prop) (T13 : Int32 → MS → Prop) (T23 : Int32 → Int32 → MS → Prop) (T64 : Int32 → MS → Prop) (T76 : Int32 → Int32 → MS → Prop) (T132 : Int32 → MS → Prop) (T142 : Int32 → Int32 → MS → Prop) (x1 : Int32) (x2 : Int32) (S : MS) : Prop :=
  (((21 : Int32) ≤ x2 → T13 (x1 + (1 : Int32)) S) ∧ (¬ (21 : Int32) ≤ x2 → ((¬ x2 = x1 → M_findLeast_w49 post T13 T23 T64 T76 T132 T142 (0 : Int32) (((21 : Int32) * x1) + x2) x1 x2 S) ∧ (x2 = x1 → M_findLeast_w49 post T13 T23 T64 T76 T132 T142 (1 : Int32) (((21 : Int32) * x1) + x2) x1 x2 S))))
set_option maxHeartbeats 4000000 in
set_option maxRecDepth 100000 in
theorem M_findLeast_a23 {p : Program} {l : Launch} {e : Env} {s : State} {m : MethodId} {args : Array Value} {below : List Frame} {meth : Method} {c : Code} {D : va_G} {dA : Nat → ClassId} {o : Nat → Nat} {A : Nat → Prop} {post : MS → Prop} {T13 : Int32 → MS → Prop} {T23 : Int32 → Int32 → MS → Prop} {T64 : Int32 → MS → Prop} {T76 : Int32 → Int32 → MS → Prop} {T132 : Int32 → MS → Prop} {T142 : Int32 → Int32 → MS → Prop} (C : mC p m c cX5_findLeast 3 s args meth (Option.none : Option Jvm.ClassFile.FieldType) A) (hT13 : ∀ (x1 : Int32) (S : MS), T13 x1 S → ∀ (H : Heap) (locs : List Loc) (ls : Array Slot), lv_has ls 3 [(0, .ref (o 0)), (1, .int x1)] → mw D dA o A s S H locs → W p l e rM_findLeast s m args below meth c H locs 0 0 (mQv below args s D dA o A post) (F0 m 13 ls [])) (hT23 : ∀ (x1 : Int32) (x2 : Int32) (S : MS), T23 x1 x2 S → ∀ (H : Heap) (locs : List Loc) (ls : Array Slot), lv_has ls 3 [(0, .ref (o 0)), (1, .int x1), (2, .int x2)] → mw D dA o A s S H locs → W p l e rM_findLeast s m args below meth c H locs 0 0 (mQv below args s D dA o A post) (F0 m 23 ls [])) (hT64 : ∀ (x1 : Int32) (S : MS), T64 x1 S → ∀ (H : Heap) (locs : List Loc) (ls : Array Slot), lv_has ls 3 [(0, .ref (o 0)), (1, .int x1)] → mw D dA o A s S H locs → W p l e rM_findLeast s m args below meth c H locs 0 0 (mQv below args s D dA o A post) (F0 m 64 ls [])) (hT76 : ∀ (x1 : Int32) (x2 : Int32) (S : MS), T76 x1 x2 S → ∀ (H : Heap) (locs : List Loc) (ls : Array Slot), lv_has ls 3 [(0, .ref (o 0)), (1, .int x1), (2, .int x2)] → mw D dA o A s S H locs → W p l e rM_findLeast s m args below meth c H locs 0 0 (mQv below args s D dA o A post) (F0 m 76 ls [])) (hT132 : ∀ (x1 : Int32) (S : MS), T132 x1 S → ∀ (H : Heap) (locs : List Loc) (ls : Array Slot), lv_has ls 3 [(0, .ref (o 0)), (1, .int x1)] → mw D dA o A s S H locs → W p l e rM_findLeast s m args below meth c H locs 0 0 (mQv below args s D dA o A post) (F0 m 132 ls [])) (hT142 : ∀ (x1 : Int32) (x2 : Int32) (S : MS), T142 x1 x2 S → ∀ (H : Heap) (locs : List Loc) (ls : Array Slot), lv_has ls 3 [(0, .ref (o 0)), (1, .int x1), (2, .int x2)] → mw D dA o A s S H locs → W p l e rM_findLeast s m args below meth c H locs 0 0 (mQv below args s D dA o A post) (F0 m 142 ls [])) {x1 : Int32} {x2 : Int32} {S : MS} (h : M_findLeast_w23 post T13 T23 T64 T76 T132 T142 x1 x2 S) {H : Heap} {locs : List Loc} {ls : Array Slot} (hl : lv_has ls 3 [(0, .ref (o 0)), (1, .int x1), (2, .int x2)]) (w : mw D dA o A s S H locs) : W p l e rM_findLeast s m args below meth c H locs 0 0 (mQv below args s D dA o A post) (F0 m 23 ls []) := by
  unfold M_findLeast_w23 at h
  obtain ⟨⟨hx, hb, hml, hown, hts⟩, hr, hlk, hA⟩ := id C
  refine lv_iload_n hx hb dX5_findLeast_23 rfl (lv_at hl 2 rfl) ?_
  refine lv_bipush (v := 21) hx hb dX5_findLeast_24 (by decide) ?_
  obtain ⟨h1, h2⟩ := h
  refine lv_icmp_ge (tgt := 56) hx hb dX5_findLeast_26 (by decide) (fun c1 => ?_) (fun c1 => ?_)
  · have h := h1 c1
    refine lv_iinc (v := _ + (1 : Int32)) (lv' := [(1, .int _), (0, .ref _), (2, .int _)]) hx hb dX5_findLeast_56 hl (k := 1) rfl rfl (by decide) rfl (fun ls hl => ?_)
    refine lv_goto (tgt := 13) hx hb dX5_findLeast_59 (by decide) ?_
    exact hT13 _ _ h _ _ _ (lv_sub hl [1, 0] rfl) w
  · have h := h2 c1
    refine lv_aload_n hx hb dX5_findLeast_29 rfl (lv_at hl 0 rfl) ?_
    refine mr_get C w 15 (by decide) q592 rfl rfl dX5_findLeast_30 ?_
    refine lv_bipush (v := 21) hx hb dX5_findLeast_33 (by decide) ?_
    refine lv_iload_n hx hb dX5_findLeast_35 rfl (lv_at hl 1 rfl) ?_
    refine lv_imul hx hb dX5_findLeast_36 ?_
    refine lv_iload_n hx hb dX5_findLeast_37 rfl (lv_at hl 2 rfl) ?_
    refine lv_iadd hx hb dX5_findLeast_38 ?_
    refine lv_iload_n hx hb dX5_findLeast_39 rfl (lv_at hl 2 rfl) ?_
    refine lv_iload_n hx hb dX5_findLeast_40 rfl (lv_at hl 1 rfl) ?_
    obtain ⟨h1, h2⟩ := h
    refine lv_icmp_ne (tgt := 48) hx hb dX5_findLeast_41 (by decide) (fun c1 => ?_) (fun c1 => ?_)
    · have h := h1 c1
      refine lv_iconst (v := 0) hx hb dX5_findLeast_48 (by decide) ?_
      exact M_findLeast_a49 C hT13 hT23 hT64 hT76 hT132 hT142 h (lv_sub hl [0, 1, 2] rfl) w
    · have h := h2 c1
      refine lv_iconst (v := 1) hx hb dX5_findLeast_44 (by decide) ?_
      refine lv_goto (tgt := 49) hx hb dX5_findLeast_45 (by decide) ?_
      exact M_findLeast_a49 C hT13 hT23 hT64 hT76 hT132 hT142 h (lv_sub hl [0, 1, 2] rfl) w
def M_findLeast_w13 (post : MS → Prop) (T13 : Int32 → MS → Prop) (T23 : Int32 → Int32 → MS → Prop) (T64 : Int32 → MS → Prop) (T76 : Int32 → Int32 → MS → Prop) (T132 : Int32 → MS → Prop) (T142 : Int32 → Int32 → MS → Prop) (x1 : Int32) (S : MS) : Prop :=
  (((gF S 14) ≤ x1 → T64 (0 : Int32) S) ∧ (¬ (gF S 14) ≤ x1 → T23 x1 (0 : Int32) S))
set_option maxHeartbeats 4000000 in
set_option maxRecDepth 100000 in
theorem M_findLeast_a13 {p : Program} {l : Launch} {e : Env} {s : State} {m : MethodId} {args : Array Value} {below : List Frame} {meth : Method} {c : Code} {D : va_G} {dA : Nat → ClassId} {o : Nat → Nat} {A : Nat → Prop} {post : MS → Prop} {T13 : Int32 → MS → Prop} {T23 : Int32 → Int32 → MS → Prop} {T64 : Int32 → MS → Prop} {T76 : Int32 → Int32 → MS → Prop} {T132 : Int32 → MS → Prop} {T142 : Int32 → Int32 → MS → Prop} (C : mC p m c cX5_findLeast 3 s args meth (Option.none : Option Jvm.ClassFile.FieldType) A) (hT13 : ∀ (x1 : Int32) (S : MS), T13 x1 S → ∀ (H : Heap) (locs : List Loc) (ls : Array Slot), lv_has ls 3 [(0, .ref (o 0)), (1, .int x1)] → mw D dA o A s S H locs → W p l e rM_findLeast s m args below meth c H locs 0 0 (mQv below args s D dA o A post) (F0 m 13 ls [])) (hT23 : ∀ (x1 : Int32) (x2 : Int32) (S : MS), T23 x1 x2 S → ∀ (H : Heap) (locs : List Loc) (ls : Array Slot), lv_has ls 3 [(0, .ref (o 0)), (1, .int x1), (2, .int x2)] → mw D dA o A s S H locs → W p l e rM_findLeast s m args below meth c H locs 0 0 (mQv below args s D dA o A post) (F0 m 23 ls [])) (hT64 : ∀ (x1 : Int32) (S : MS), T64 x1 S → ∀ (H : Heap) (locs : List Loc) (ls : Array Slot), lv_has ls 3 [(0, .ref (o 0)), (1, .int x1)] → mw D dA o A s S H locs → W p l e rM_findLeast s m args below meth c H locs 0 0 (mQv below args s D dA o A post) (F0 m 64 ls [])) (hT76 : ∀ (x1 : Int32) (x2 : Int32) (S : MS), T76 x1 x2 S → ∀ (H : Heap) (locs : List Loc) (ls : Array Slot), lv_has ls 3 [(0, .ref (o 0)), (1, .int x1), (2, .int x2)] → mw D dA o A s S H locs → W p l e rM_findLeast s m args below meth c H locs 0 0 (mQv below args s D dA o A post) (F0 m 76 ls [])) (hT132 : ∀ (x1 : Int32) (S : MS), T132 x1 S → ∀ (H : Heap) (locs : List Loc) (ls : Array Slot), lv_has ls 3 [(0, .ref (o 0)), (1, .int x1)] → mw D dA o A s S H locs → W p l e rM_findLeast s m args below meth c H locs 0 0 (mQv below args s D dA o A post) (F0 m 132 ls [])) (hT142 : ∀ (x1 : Int32) (x2 : Int32) (S : MS), T142 x1 x2 S → ∀ (H : Heap) (locs : List Loc) (ls : Array Slot), lv_has ls 3 [(0, .ref (o 0)), (1, .int x1), (2, .int x2)] → mw D dA o A s S H locs → W p l e rM_findLeast s m args below meth c H locs 0 0 (mQv below args s D dA o A post) (F0 m 142 ls [])) {x1 : Int32} {S : MS} (h : M_findLeast_w13 post T13 T23 T64 T76 T132 T142 x1 S) {H : Heap} {locs : List Loc} {ls : Array Slot} (hl : lv_has ls 3 [(0, .ref (o 0)), (1, .int x1)]) (w : mw D dA o A s S H locs) : W p l e rM_findLeast s m args below meth c H locs 0 0 (mQv below args s D dA o A post) (F0 m 13 ls []) := by
  unfold M_findLeast_w13 at h
  obtain ⟨⟨hx, hb, hml, hown, hts⟩, hr, hlk, hA⟩ := id C
  refine lv_iload_n hx hb dX5_findLeast_13 rfl (lv_at hl 1 rfl) ?_
  refine lv_aload_n hx hb dX5_findLeast_14 rfl (lv_at hl 0 rfl) ?_
  refine mr_get C w 14 (by decide) q591 rfl rfl dX5_findLeast_15 ?_
  obtain ⟨h1, h2⟩ := h
  refine lv_icmp_ge (tgt := 62) hx hb dX5_findLeast_18 (by decide) (fun c1 => ?_) (fun c1 => ?_)
  · have h := h1 c1
    refine lv_iconst (v := 0) hx hb dX5_findLeast_62 (by decide) ?_
    refine lv_istore_n (lv' := [(1, .int _), (0, .ref _)]) hx hb dX5_findLeast_63 rfl hl (by decide) rfl (fun ls hl => ?_)
    exact hT64 _ _ h _ _ _ (lv_sub hl [1, 0] rfl) w
  · have h := h2 c1
    refine lv_iconst (v := 0) hx hb dX5_findLeast_21 (by decide) ?_
    refine lv_istore_n (lv' := [(2, .int _), (0, .ref _), (1, .int _)]) hx hb dX5_findLeast_22 rfl hl (by decide) rfl (fun ls hl => ?_)
    exact hT23 _ _ _ h _ _ _ (lv_sub hl [1, 2, 0] rfl) w
def M_findLeast_w0 (post : MS → Prop) (T13 : Int32 → MS → Prop) (T23 : Int32 → Int32 → MS → Prop) (T64 : Int32 → MS → Prop) (T76 : Int32 → Int32 → MS → Prop) (T132 : Int32 → MS → Prop) (T142 : Int32 → Int32 → MS → Prop) (S : MS) : Prop :=
  (fun (S1 : MS) => T13 (0 : Int32) S1) (sF S 14 ((7 : Int32) * (gF S 0)))
set_option maxHeartbeats 4000000 in
set_option maxRecDepth 100000 in
theorem M_findLeast_a0 {p : Program} {l : Launch} {e : Env} {s : State} {m : MethodId} {args : Array Value} {below : List Frame} {meth : Method} {c : Code} {D : va_G} {dA : Nat → ClassId} {o : Nat → Nat} {A : Nat → Prop} {post : MS → Prop} {T13 : Int32 → MS → Prop} {T23 : Int32 → Int32 → MS → Prop} {T64 : Int32 → MS → Prop} {T76 : Int32 → Int32 → MS → Prop} {T132 : Int32 → MS → Prop} {T142 : Int32 → Int32 → MS → Prop} (C : mC p m c cX5_findLeast 3 s args meth (Option.none : Option Jvm.ClassFile.FieldType) A) (hT13 : ∀ (x1 : Int32) (S : MS), T13 x1 S → ∀ (H : Heap) (locs : List Loc) (ls : Array Slot), lv_has ls 3 [(0, .ref (o 0)), (1, .int x1)] → mw D dA o A s S H locs → W p l e rM_findLeast s m args below meth c H locs 0 0 (mQv below args s D dA o A post) (F0 m 13 ls [])) (hT23 : ∀ (x1 : Int32) (x2 : Int32) (S : MS), T23 x1 x2 S → ∀ (H : Heap) (locs : List Loc) (ls : Array Slot), lv_has ls 3 [(0, .ref (o 0)), (1, .int x1), (2, .int x2)] → mw D dA o A s S H locs → W p l e rM_findLeast s m args below meth c H locs 0 0 (mQv below args s D dA o A post) (F0 m 23 ls [])) (hT64 : ∀ (x1 : Int32) (S : MS), T64 x1 S → ∀ (H : Heap) (locs : List Loc) (ls : Array Slot), lv_has ls 3 [(0, .ref (o 0)), (1, .int x1)] → mw D dA o A s S H locs → W p l e rM_findLeast s m args below meth c H locs 0 0 (mQv below args s D dA o A post) (F0 m 64 ls [])) (hT76 : ∀ (x1 : Int32) (x2 : Int32) (S : MS), T76 x1 x2 S → ∀ (H : Heap) (locs : List Loc) (ls : Array Slot), lv_has ls 3 [(0, .ref (o 0)), (1, .int x1), (2, .int x2)] → mw D dA o A s S H locs → W p l e rM_findLeast s m args below meth c H locs 0 0 (mQv below args s D dA o A post) (F0 m 76 ls [])) (hT132 : ∀ (x1 : Int32) (S : MS), T132 x1 S → ∀ (H : Heap) (locs : List Loc) (ls : Array Slot), lv_has ls 3 [(0, .ref (o 0)), (1, .int x1)] → mw D dA o A s S H locs → W p l e rM_findLeast s m args below meth c H locs 0 0 (mQv below args s D dA o A post) (F0 m 132 ls [])) (hT142 : ∀ (x1 : Int32) (x2 : Int32) (S : MS), T142 x1 x2 S → ∀ (H : Heap) (locs : List Loc) (ls : Array Slot), lv_has ls 3 [(0, .ref (o 0)), (1, .int x1), (2, .int x2)] → mw D dA o A s S H locs → W p l e rM_findLeast s m args below meth c H locs 0 0 (mQv below args s D dA o A post) (F0 m 142 ls [])) {S : MS} (h : M_findLeast_w0 post T13 T23 T64 T76 T132 T142 S) {H : Heap} {locs : List Loc} {ls : Array Slot} (hl : lv_has ls 3 [(0, .ref (o 0))]) (w : mw D dA o A s S H locs) : W p l e rM_findLeast s m args below meth c H locs 0 0 (mQv below args s D dA o A post) (F0 m 0 ls []) := by
  unfold M_findLeast_w0 at h
  obtain ⟨⟨hx, hb, hml, hown, hts⟩, hr, hlk, hA⟩ := id C
  refine lv_aload_n hx hb dX5_findLeast_0 rfl (lv_at hl 0 rfl) ?_
  refine lv_bipush (v := 7) hx hb dX5_findLeast_1 (by decide) ?_
  refine lv_aload_n hx hb dX5_findLeast_3 rfl (lv_at hl 0 rfl) ?_
  refine mr_get C w 0 (by decide) q577 rfl rfl dX5_findLeast_4 ?_
  refine lv_imul hx hb dX5_findLeast_7 ?_
  refine mr_put (ty := .int) C w 14 (by decide) q591 rfl rfl (by decide +kernel) rfl rfl MWf_14 dX5_findLeast_8 (fun H locs w => ?_)
  refine lv_iconst (v := 0) hx hb dX5_findLeast_11 (by decide) ?_
  refine lv_istore_n (lv' := [(1, .int _), (0, .ref _)]) hx hb dX5_findLeast_12 rfl hl (by decide) rfl (fun ls hl => ?_)
  exact hT13 _ _ h _ _ _ (lv_sub hl [1, 0] rfl) w
def M_findLeast_VC (S : MS) (post : MS → Prop) : Prop := ∀ (T13 : Int32 → MS → Prop) (T23 : Int32 → Int32 → MS → Prop) (T64 : Int32 → MS → Prop) (T76 : Int32 → Int32 → MS → Prop) (T132 : Int32 → MS → Prop) (T142 : Int32 → Int32 → MS → Prop), (∀ (x1 : Int32) (S : MS), M_findLeast_w13 post T13 T23 T64 T76 T132 T142 x1 S → T13 x1 S) → (∀ (x1 : Int32) (x2 : Int32) (S : MS), M_findLeast_w23 post T13 T23 T64 T76 T132 T142 x1 x2 S → T23 x1 x2 S) → (∀ (x1 : Int32) (S : MS), M_findLeast_w64 post T13 T23 T64 T76 T132 T142 x1 S → T64 x1 S) → (∀ (x1 : Int32) (x2 : Int32) (S : MS), M_findLeast_w76 post T13 T23 T64 T76 T132 T142 x1 x2 S → T76 x1 x2 S) → (∀ (x1 : Int32) (S : MS), M_findLeast_w132 post T13 T23 T64 T76 T132 T142 x1 S → T132 x1 S) → (∀ (x1 : Int32) (x2 : Int32) (S : MS), M_findLeast_w142 post T13 T23 T64 T76 T132 T142 x1 x2 S → T142 x1 x2 S) → M_findLeast_w0 post T13 T23 T64 T76 T132 T142 S
theorem M_findLeast_ok {S : MS} {post : MS → Prop} (h : M_findLeast_VC S post) : M_findLeast S post := by
  intro l D dA o sz
  refine mr_start (fun A => va_Qv post (mB D dA o A) A) rfl (Nat.le_of_ble_eq_true rfl) (by decide) ?_
  intro p e s m args below meth c ls A C w hl
  have hl : lv_has ls 3 [(0, .ref (o 0))] := hl
  have h := h (fun (x1 : Int32) S => ∀ (H : Heap) (locs : List Loc) (ls : Array Slot), lv_has ls 3 [(0, .ref (o 0)), (1, .int x1)] → mw D dA o A s S H locs → W p l e rM_findLeast s m args below meth c H locs 0 0 (mQv below args s D dA o A post) (F0 m 13 ls [])) (fun (x1 : Int32) (x2 : Int32) S => ∀ (H : Heap) (locs : List Loc) (ls : Array Slot), lv_has ls 3 [(0, .ref (o 0)), (1, .int x1), (2, .int x2)] → mw D dA o A s S H locs → W p l e rM_findLeast s m args below meth c H locs 0 0 (mQv below args s D dA o A post) (F0 m 23 ls [])) (fun (x1 : Int32) S => ∀ (H : Heap) (locs : List Loc) (ls : Array Slot), lv_has ls 3 [(0, .ref (o 0)), (1, .int x1)] → mw D dA o A s S H locs → W p l e rM_findLeast s m args below meth c H locs 0 0 (mQv below args s D dA o A post) (F0 m 64 ls [])) (fun (x1 : Int32) (x2 : Int32) S => ∀ (H : Heap) (locs : List Loc) (ls : Array Slot), lv_has ls 3 [(0, .ref (o 0)), (1, .int x1), (2, .int x2)] → mw D dA o A s S H locs → W p l e rM_findLeast s m args below meth c H locs 0 0 (mQv below args s D dA o A post) (F0 m 76 ls [])) (fun (x1 : Int32) S => ∀ (H : Heap) (locs : List Loc) (ls : Array Slot), lv_has ls 3 [(0, .ref (o 0)), (1, .int x1)] → mw D dA o A s S H locs → W p l e rM_findLeast s m args below meth c H locs 0 0 (mQv below args s D dA o A post) (F0 m 132 ls [])) (fun (x1 : Int32) (x2 : Int32) S => ∀ (H : Heap) (locs : List Loc) (ls : Array Slot), lv_has ls 3 [(0, .ref (o 0)), (1, .int x1), (2, .int x2)] → mw D dA o A s S H locs → W p l e rM_findLeast s m args below meth c H locs 0 0 (mQv below args s D dA o A post) (F0 m 142 ls [])) (fun _ S h H locs ls hl w => M_findLeast_a13 C (fun _ _ h => h) (fun _ _ _ h => h) (fun _ _ h => h) (fun _ _ _ h => h) (fun _ _ h => h) (fun _ _ _ h => h) h hl w) (fun _ _ S h H locs ls hl w => M_findLeast_a23 C (fun _ _ h => h) (fun _ _ _ h => h) (fun _ _ h => h) (fun _ _ _ h => h) (fun _ _ h => h) (fun _ _ _ h => h) h hl w) (fun _ S h H locs ls hl w => M_findLeast_a64 C (fun _ _ h => h) (fun _ _ _ h => h) (fun _ _ h => h) (fun _ _ _ h => h) (fun _ _ h => h) (fun _ _ _ h => h) h hl w) (fun _ _ S h H locs ls hl w => M_findLeast_a76 C (fun _ _ h => h) (fun _ _ _ h => h) (fun _ _ h => h) (fun _ _ _ h => h) (fun _ _ h => h) (fun _ _ _ h => h) h hl w) (fun _ S h H locs ls hl w => M_findLeast_a132 C (fun _ _ h => h) (fun _ _ _ h => h) (fun _ _ h => h) (fun _ _ _ h => h) (fun _ _ h => h) (fun _ _ _ h => h) h hl w) (fun _ _ S h H locs ls hl w => M_findLeast_a142 C (fun _ _ h => h) (fun _ _ _ h => h) (fun _ _ h => h) (fun _ _ _ h => h) (fun _ _ h => h) (fun _ _ _ h => h) h hl w)
  exact M_findLeast_a0 C (fun _ _ h => h) (fun _ _ _ h => h) (fun _ _ h => h) (fun _ _ _ h => h) (fun _ _ h => h) (fun _ _ _ h => h) h (lv_sub hl [0] rfl) w
